/-! GroupJournal -/
set_option maxRecDepth 100000
def RX0 : String := "GroupJournal"
def TX0 : u_T := fun k => match k with
  | 0 => ("GroupJournal", "keys", "[LGroupJournal$Key;", true)
  | 1 => ("GroupJournal", "soughtKey", "LGroupJournal$Key;", true)
  | 2 => ("GroupJournal", "soughtSpot", "LGroupJournal$Spot;", true)
  | 3 => ("GroupJournal", "journal", "LGroupJournal$Journal;", false)
  | 4 => ("GroupJournal", "tape", "[B", true)
  | 5 => ("GroupJournal", "taped", "I", false)
  | 6 => ("GroupJournal", "faultKind", "I", false)
  | 7 => ("GroupJournal", "faultPlace", "I", false)
  | 8 => ("GroupJournal", "reader", "LGroupJournal$Reader;", true)
  | 9 => ("GroupJournal", "moment", "LGroupJournal$Moment;", true)
  | 10 => ("GroupJournal", "asked", "LGroupJournal$Moment;", true)
  | 11 => ("GroupJournal", "refused", "[I", true)
  | 12 => ("GroupJournal", "layer", "LGroupJournal$Layer;", true)
  | 13 => ("GroupJournal", "reading", "LGroupJournal$Reading;", true)
  | 14 => ("GroupJournal", "recovery", "LGroupJournal$Recovery;", true)
  | 15 => ("GroupJournal", "freed", "[I", true)
  | 16 => ("GroupJournal", "now", "LGroupJournal$State;", false)
  | 17 => ("GroupJournal", "ahead", "LGroupJournal$State;", true)
  | 18 => ("GroupJournal", "rowKey", "[I", true)
  | 19 => ("GroupJournal", "rowValue", "[I", true)
  | 20 => ("GroupJournal", "rows", "I", false)
  | 21 => ("GroupJournal", "tables", "[[I", true)
  | 22 => ("GroupJournal", "canBe", "[Z", true)
  | 23 => ("GroupJournal", "counts", "[I", true)
  | 24 => ("GroupJournal", "kept", "Ljava/util/List;", true)
  | 25 => ("GroupJournal", "spare", "Ljava/util/List;", true)
  | 26 => ("GroupJournal", "seeds", "J", false)
  | 27 => ("GroupJournal", "askedSegment", "I", false)
  | 28 => ("GroupJournal", "written", "[B", true)
  | _ => ("GroupJournal", "outs", "I", false)
def tyX0 : Nat → FieldType := fun k => match k with
  | 0 => .array (.object "GroupJournal$Key")
  | 1 => .object "GroupJournal$Key"
  | 2 => .object "GroupJournal$Spot"
  | 3 => .object "GroupJournal$Journal"
  | 4 => .array .byte
  | 5 => .int
  | 6 => .int
  | 7 => .int
  | 8 => .object "GroupJournal$Reader"
  | 9 => .object "GroupJournal$Moment"
  | 10 => .object "GroupJournal$Moment"
  | 11 => .array .int
  | 12 => .object "GroupJournal$Layer"
  | 13 => .object "GroupJournal$Reading"
  | 14 => .object "GroupJournal$Recovery"
  | 15 => .array .int
  | 16 => .object "GroupJournal$State"
  | 17 => .object "GroupJournal$State"
  | 18 => .array .int
  | 19 => .array .int
  | 20 => .int
  | 21 => .array (.array .int)
  | 22 => .array .boolean
  | 23 => .array .int
  | 24 => .object "java/util/List"
  | 25 => .object "java/util/List"
  | 26 => .long
  | 27 => .int
  | 28 => .array .byte
  | _ => .int
abbrev wsX00 : List Cond := u_ws RX0 TX0 30
set_option maxRecDepth 100000 in
theorem nmX0 : ∀ a, a < 30 → ∀ b, b < 30 → a ≠ b → (TX0 a).2.1 ≠ (TX0 b).2.1 := by decide +kernel
set_option maxRecDepth 100000 in
theorem tyX0_ok : ∀ k, k < 30 → parseFieldDescriptor (TX0 k).2.2.1 = some (tyX0 k) := by decide +kernel
abbrev cX0_init : ByteArray := prog_1_method_7_code
def yX0_init : MethodName := ⟨RX0, "<init>", "()V"⟩
def dkwX0_init_12 : List UInt8 := [182, 0, 155, 83, 132, 1, 1, 167, 255, 230, 177]
abbrev dktX0_init_12 : List UInt8 := dkwX0_init_12 ++ []
def dkwX0_init_11 : List UInt8 := [181, 0, 152, 3, 60, 27, 16, 16, 162, 0, 26, 42, 180, 0, 30, 27, 187, 0, 28, 89, 183, 0, 34, 27]
abbrev dktX0_init_11 : List UInt8 := dkwX0_init_11 ++ dktX0_init_12
def dkwX0_init_10 : List UInt8 := [187, 0, 136, 89, 16, 22, 183, 0, 138, 181, 0, 145, 42, 10, 181, 0, 148, 42, 17, 2, 35, 188, 8]
abbrev dktX0_init_10 : List UInt8 := dkwX0_init_10 ++ dktX0_init_11
def dkwX0_init_9 : List UInt8 := [17, 3, 233, 188, 10, 181, 0, 133, 42, 187, 0, 136, 89, 16, 20, 183, 0, 138, 181, 0, 141, 42]
abbrev dktX0_init_9 : List UInt8 := dkwX0_init_9 ++ dktX0_init_10
def dkwX0_init_8 : List UInt8 := [17, 2, 1, 16, 16, 197, 0, 124, 2, 181, 0, 126, 42, 17, 2, 1, 188, 4, 181, 0, 129, 42]
abbrev dktX0_init_8 : List UInt8 := dkwX0_init_8 ++ dktX0_init_9
def dkwX0_init_7 : List UInt8 := [42, 183, 0, 110, 181, 0, 115, 42, 16, 16, 188, 10, 181, 0, 118, 42, 16, 16, 188, 10, 181, 0, 121, 42]
abbrev dktX0_init_7 : List UInt8 := dkwX0_init_7 ++ dktX0_init_8
def dkwX0_init_6 : List UInt8 := [16, 8, 188, 10, 181, 0, 105, 42, 187, 0, 108, 89, 42, 183, 0, 110, 181, 0, 111, 42, 187, 0, 108, 89]
abbrev dktX0_init_6 : List UInt8 := dkwX0_init_6 ++ dktX0_init_7
def dkwX0_init_5 : List UInt8 := [187, 0, 91, 89, 42, 183, 0, 93, 181, 0, 94, 42, 187, 0, 98, 89, 42, 183, 0, 100, 181, 0, 101, 42]
abbrev dktX0_init_5 : List UInt8 := dkwX0_init_5 ++ dktX0_init_6
def dkwX0_init_4 : List UInt8 := [181, 0, 77, 42, 16, 7, 188, 10, 181, 0, 80, 42, 187, 0, 84, 89, 42, 183, 0, 86, 181, 0, 87, 42]
abbrev dktX0_init_4 : List UInt8 := dkwX0_init_4 ++ dktX0_init_5
def dkwX0_init_3 : List UInt8 := [181, 0, 66, 42, 187, 0, 70, 89, 183, 0, 72, 181, 0, 73, 42, 187, 0, 70, 89, 183, 0, 72]
abbrev dktX0_init_3 : List UInt8 := dkwX0_init_3 ++ dktX0_init_4
def dkwX0_init_2 : List UInt8 := [17, 6, 64, 188, 8, 181, 0, 53, 42, 2, 181, 0, 57, 42, 187, 0, 61, 89, 42, 183, 0, 63]
abbrev dktX0_init_2 : List UInt8 := dkwX0_init_2 ++ dktX0_init_3
def dkwX0_init_1 : List UInt8 := [42, 187, 0, 39, 89, 183, 0, 41, 181, 0, 42, 42, 187, 0, 46, 89, 183, 0, 48, 181, 0, 49, 42]
abbrev dktX0_init_1 : List UInt8 := dkwX0_init_1 ++ dktX0_init_2
def dkwX0_init_0 : List UInt8 := [42, 183, 0, 22, 42, 16, 16, 189, 0, 28, 181, 0, 30, 42, 187, 0, 28, 89, 183, 0, 34, 181, 0, 35]
abbrev dktX0_init_0 : List UInt8 := dkwX0_init_0 ++ dktX0_init_1
theorem dksX0_init_0 : cX0_init.data.toList.drop 0 = dktX0_init_0 := by decide +kernel
theorem dksX0_init_1 : cX0_init.data.toList.drop 24 = dktX0_init_1 := dk_seg dksX0_init_0 24 rfl rfl
theorem dksX0_init_2 : cX0_init.data.toList.drop 47 = dktX0_init_2 := dk_seg dksX0_init_1 23 rfl rfl
theorem dksX0_init_3 : cX0_init.data.toList.drop 69 = dktX0_init_3 := dk_seg dksX0_init_2 22 rfl rfl
theorem dksX0_init_4 : cX0_init.data.toList.drop 91 = dktX0_init_4 := dk_seg dksX0_init_3 22 rfl rfl
theorem dksX0_init_5 : cX0_init.data.toList.drop 115 = dktX0_init_5 := dk_seg dksX0_init_4 24 rfl rfl
theorem dksX0_init_6 : cX0_init.data.toList.drop 139 = dktX0_init_6 := dk_seg dksX0_init_5 24 rfl rfl
theorem dksX0_init_7 : cX0_init.data.toList.drop 163 = dktX0_init_7 := dk_seg dksX0_init_6 24 rfl rfl
theorem dksX0_init_8 : cX0_init.data.toList.drop 187 = dktX0_init_8 := dk_seg dksX0_init_7 24 rfl rfl
theorem dksX0_init_9 : cX0_init.data.toList.drop 209 = dktX0_init_9 := dk_seg dksX0_init_8 22 rfl rfl
theorem dksX0_init_10 : cX0_init.data.toList.drop 231 = dktX0_init_10 := dk_seg dksX0_init_9 22 rfl rfl
theorem dksX0_init_11 : cX0_init.data.toList.drop 254 = dktX0_init_11 := dk_seg dksX0_init_10 23 rfl rfl
theorem dksX0_init_12 : cX0_init.data.toList.drop 278 = dktX0_init_12 := dk_seg dksX0_init_11 24 rfl rfl
theorem dX0_init_0 : decode cX0_init 0 = .ok (.aload_n 0, 1) := dk_42 (dk_at dksX0_init_0 0 rfl rfl)
theorem dX0_init_1 : decode cX0_init 1 = .ok (.invokespecial 22, 3) := dk_183 0 22 (dk_at dksX0_init_0 1 rfl rfl)
theorem dX0_init_4 : decode cX0_init 4 = .ok (.aload_n 0, 1) := dk_42 (dk_at dksX0_init_0 4 rfl rfl)
theorem dX0_init_5 : decode cX0_init 5 = .ok (.bipush 16, 2) := dk_16 16 (dk_at dksX0_init_0 5 rfl rfl)
theorem dX0_init_7 : decode cX0_init 7 = .ok (.anewarray 28, 3) := dk_189 0 28 (dk_at dksX0_init_0 7 rfl rfl)
theorem dX0_init_10 : decode cX0_init 10 = .ok (.putfield 30, 3) := dk_181 0 30 (dk_at dksX0_init_0 10 rfl rfl)
theorem dX0_init_13 : decode cX0_init 13 = .ok (.aload_n 0, 1) := dk_42 (dk_at dksX0_init_0 13 rfl rfl)
theorem dX0_init_14 : decode cX0_init 14 = .ok (.new 28, 3) := dk_187 0 28 (dk_at dksX0_init_0 14 rfl rfl)
theorem dX0_init_17 : decode cX0_init 17 = .ok (.dup, 1) := dk_89 (dk_at dksX0_init_0 17 rfl rfl)
theorem dX0_init_18 : decode cX0_init 18 = .ok (.invokespecial 34, 3) := dk_183 0 34 (dk_at dksX0_init_0 18 rfl rfl)
theorem dX0_init_21 : decode cX0_init 21 = .ok (.putfield 35, 3) := dk_181 0 35 (dk_at dksX0_init_0 21 rfl rfl)
theorem dX0_init_24 : decode cX0_init 24 = .ok (.aload_n 0, 1) := dk_42 (dk_at dksX0_init_1 0 rfl rfl)
theorem dX0_init_25 : decode cX0_init 25 = .ok (.new 39, 3) := dk_187 0 39 (dk_at dksX0_init_1 1 rfl rfl)
theorem dX0_init_28 : decode cX0_init 28 = .ok (.dup, 1) := dk_89 (dk_at dksX0_init_1 4 rfl rfl)
theorem dX0_init_29 : decode cX0_init 29 = .ok (.invokespecial 41, 3) := dk_183 0 41 (dk_at dksX0_init_1 5 rfl rfl)
theorem dX0_init_32 : decode cX0_init 32 = .ok (.putfield 42, 3) := dk_181 0 42 (dk_at dksX0_init_1 8 rfl rfl)
theorem dX0_init_35 : decode cX0_init 35 = .ok (.aload_n 0, 1) := dk_42 (dk_at dksX0_init_1 11 rfl rfl)
theorem dX0_init_36 : decode cX0_init 36 = .ok (.new 46, 3) := dk_187 0 46 (dk_at dksX0_init_1 12 rfl rfl)
theorem dX0_init_39 : decode cX0_init 39 = .ok (.dup, 1) := dk_89 (dk_at dksX0_init_1 15 rfl rfl)
theorem dX0_init_40 : decode cX0_init 40 = .ok (.invokespecial 48, 3) := dk_183 0 48 (dk_at dksX0_init_1 16 rfl rfl)
theorem dX0_init_43 : decode cX0_init 43 = .ok (.putfield 49, 3) := dk_181 0 49 (dk_at dksX0_init_1 19 rfl rfl)
theorem dX0_init_46 : decode cX0_init 46 = .ok (.aload_n 0, 1) := dk_42 (dk_at dksX0_init_1 22 rfl rfl)
theorem dX0_init_47 : decode cX0_init 47 = .ok (.sipush 1600, 3) := dk_17 6 64 (dk_at dksX0_init_2 0 rfl rfl)
theorem dX0_init_50 : decode cX0_init 50 = .ok (.newarray .byte, 2) := dk_188_8 (dk_at dksX0_init_2 3 rfl rfl)
theorem dX0_init_52 : decode cX0_init 52 = .ok (.putfield 53, 3) := dk_181 0 53 (dk_at dksX0_init_2 5 rfl rfl)
theorem dX0_init_55 : decode cX0_init 55 = .ok (.aload_n 0, 1) := dk_42 (dk_at dksX0_init_2 8 rfl rfl)
theorem dX0_init_56 : decode cX0_init 56 = .ok (.iconst (-1), 1) := dk_2 (dk_at dksX0_init_2 9 rfl rfl)
theorem dX0_init_57 : decode cX0_init 57 = .ok (.putfield 57, 3) := dk_181 0 57 (dk_at dksX0_init_2 10 rfl rfl)
theorem dX0_init_60 : decode cX0_init 60 = .ok (.aload_n 0, 1) := dk_42 (dk_at dksX0_init_2 13 rfl rfl)
theorem dX0_init_61 : decode cX0_init 61 = .ok (.new 61, 3) := dk_187 0 61 (dk_at dksX0_init_2 14 rfl rfl)
theorem dX0_init_64 : decode cX0_init 64 = .ok (.dup, 1) := dk_89 (dk_at dksX0_init_2 17 rfl rfl)
theorem dX0_init_65 : decode cX0_init 65 = .ok (.aload_n 0, 1) := dk_42 (dk_at dksX0_init_2 18 rfl rfl)
theorem dX0_init_66 : decode cX0_init 66 = .ok (.invokespecial 63, 3) := dk_183 0 63 (dk_at dksX0_init_2 19 rfl rfl)
theorem dX0_init_69 : decode cX0_init 69 = .ok (.putfield 66, 3) := dk_181 0 66 (dk_at dksX0_init_3 0 rfl rfl)
theorem dX0_init_72 : decode cX0_init 72 = .ok (.aload_n 0, 1) := dk_42 (dk_at dksX0_init_3 3 rfl rfl)
theorem dX0_init_73 : decode cX0_init 73 = .ok (.new 70, 3) := dk_187 0 70 (dk_at dksX0_init_3 4 rfl rfl)
theorem dX0_init_76 : decode cX0_init 76 = .ok (.dup, 1) := dk_89 (dk_at dksX0_init_3 7 rfl rfl)
theorem dX0_init_77 : decode cX0_init 77 = .ok (.invokespecial 72, 3) := dk_183 0 72 (dk_at dksX0_init_3 8 rfl rfl)
theorem dX0_init_80 : decode cX0_init 80 = .ok (.putfield 73, 3) := dk_181 0 73 (dk_at dksX0_init_3 11 rfl rfl)
theorem dX0_init_83 : decode cX0_init 83 = .ok (.aload_n 0, 1) := dk_42 (dk_at dksX0_init_3 14 rfl rfl)
theorem dX0_init_84 : decode cX0_init 84 = .ok (.new 70, 3) := dk_187 0 70 (dk_at dksX0_init_3 15 rfl rfl)
theorem dX0_init_87 : decode cX0_init 87 = .ok (.dup, 1) := dk_89 (dk_at dksX0_init_3 18 rfl rfl)
theorem dX0_init_88 : decode cX0_init 88 = .ok (.invokespecial 72, 3) := dk_183 0 72 (dk_at dksX0_init_3 19 rfl rfl)
theorem dX0_init_91 : decode cX0_init 91 = .ok (.putfield 77, 3) := dk_181 0 77 (dk_at dksX0_init_4 0 rfl rfl)
theorem dX0_init_94 : decode cX0_init 94 = .ok (.aload_n 0, 1) := dk_42 (dk_at dksX0_init_4 3 rfl rfl)
theorem dX0_init_95 : decode cX0_init 95 = .ok (.bipush 7, 2) := dk_16 7 (dk_at dksX0_init_4 4 rfl rfl)
theorem dX0_init_97 : decode cX0_init 97 = .ok (.newarray .int, 2) := dk_188_10 (dk_at dksX0_init_4 6 rfl rfl)
theorem dX0_init_99 : decode cX0_init 99 = .ok (.putfield 80, 3) := dk_181 0 80 (dk_at dksX0_init_4 8 rfl rfl)
theorem dX0_init_102 : decode cX0_init 102 = .ok (.aload_n 0, 1) := dk_42 (dk_at dksX0_init_4 11 rfl rfl)
theorem dX0_init_103 : decode cX0_init 103 = .ok (.new 84, 3) := dk_187 0 84 (dk_at dksX0_init_4 12 rfl rfl)
theorem dX0_init_106 : decode cX0_init 106 = .ok (.dup, 1) := dk_89 (dk_at dksX0_init_4 15 rfl rfl)
theorem dX0_init_107 : decode cX0_init 107 = .ok (.aload_n 0, 1) := dk_42 (dk_at dksX0_init_4 16 rfl rfl)
theorem dX0_init_108 : decode cX0_init 108 = .ok (.invokespecial 86, 3) := dk_183 0 86 (dk_at dksX0_init_4 17 rfl rfl)
theorem dX0_init_111 : decode cX0_init 111 = .ok (.putfield 87, 3) := dk_181 0 87 (dk_at dksX0_init_4 20 rfl rfl)
theorem dX0_init_114 : decode cX0_init 114 = .ok (.aload_n 0, 1) := dk_42 (dk_at dksX0_init_4 23 rfl rfl)
theorem dX0_init_115 : decode cX0_init 115 = .ok (.new 91, 3) := dk_187 0 91 (dk_at dksX0_init_5 0 rfl rfl)
theorem dX0_init_118 : decode cX0_init 118 = .ok (.dup, 1) := dk_89 (dk_at dksX0_init_5 3 rfl rfl)
theorem dX0_init_119 : decode cX0_init 119 = .ok (.aload_n 0, 1) := dk_42 (dk_at dksX0_init_5 4 rfl rfl)
theorem dX0_init_120 : decode cX0_init 120 = .ok (.invokespecial 93, 3) := dk_183 0 93 (dk_at dksX0_init_5 5 rfl rfl)
theorem dX0_init_123 : decode cX0_init 123 = .ok (.putfield 94, 3) := dk_181 0 94 (dk_at dksX0_init_5 8 rfl rfl)
theorem dX0_init_126 : decode cX0_init 126 = .ok (.aload_n 0, 1) := dk_42 (dk_at dksX0_init_5 11 rfl rfl)
theorem dX0_init_127 : decode cX0_init 127 = .ok (.new 98, 3) := dk_187 0 98 (dk_at dksX0_init_5 12 rfl rfl)
theorem dX0_init_130 : decode cX0_init 130 = .ok (.dup, 1) := dk_89 (dk_at dksX0_init_5 15 rfl rfl)
theorem dX0_init_131 : decode cX0_init 131 = .ok (.aload_n 0, 1) := dk_42 (dk_at dksX0_init_5 16 rfl rfl)
theorem dX0_init_132 : decode cX0_init 132 = .ok (.invokespecial 100, 3) := dk_183 0 100 (dk_at dksX0_init_5 17 rfl rfl)
theorem dX0_init_135 : decode cX0_init 135 = .ok (.putfield 101, 3) := dk_181 0 101 (dk_at dksX0_init_5 20 rfl rfl)
theorem dX0_init_138 : decode cX0_init 138 = .ok (.aload_n 0, 1) := dk_42 (dk_at dksX0_init_5 23 rfl rfl)
theorem dX0_init_139 : decode cX0_init 139 = .ok (.bipush 8, 2) := dk_16 8 (dk_at dksX0_init_6 0 rfl rfl)
theorem dX0_init_141 : decode cX0_init 141 = .ok (.newarray .int, 2) := dk_188_10 (dk_at dksX0_init_6 2 rfl rfl)
theorem dX0_init_143 : decode cX0_init 143 = .ok (.putfield 105, 3) := dk_181 0 105 (dk_at dksX0_init_6 4 rfl rfl)
theorem dX0_init_146 : decode cX0_init 146 = .ok (.aload_n 0, 1) := dk_42 (dk_at dksX0_init_6 7 rfl rfl)
theorem dX0_init_147 : decode cX0_init 147 = .ok (.new 108, 3) := dk_187 0 108 (dk_at dksX0_init_6 8 rfl rfl)
theorem dX0_init_150 : decode cX0_init 150 = .ok (.dup, 1) := dk_89 (dk_at dksX0_init_6 11 rfl rfl)
theorem dX0_init_151 : decode cX0_init 151 = .ok (.aload_n 0, 1) := dk_42 (dk_at dksX0_init_6 12 rfl rfl)
theorem dX0_init_152 : decode cX0_init 152 = .ok (.invokespecial 110, 3) := dk_183 0 110 (dk_at dksX0_init_6 13 rfl rfl)
theorem dX0_init_155 : decode cX0_init 155 = .ok (.putfield 111, 3) := dk_181 0 111 (dk_at dksX0_init_6 16 rfl rfl)
theorem dX0_init_158 : decode cX0_init 158 = .ok (.aload_n 0, 1) := dk_42 (dk_at dksX0_init_6 19 rfl rfl)
theorem dX0_init_159 : decode cX0_init 159 = .ok (.new 108, 3) := dk_187 0 108 (dk_at dksX0_init_6 20 rfl rfl)
theorem dX0_init_162 : decode cX0_init 162 = .ok (.dup, 1) := dk_89 (dk_at dksX0_init_6 23 rfl rfl)
theorem dX0_init_163 : decode cX0_init 163 = .ok (.aload_n 0, 1) := dk_42 (dk_at dksX0_init_7 0 rfl rfl)
theorem dX0_init_164 : decode cX0_init 164 = .ok (.invokespecial 110, 3) := dk_183 0 110 (dk_at dksX0_init_7 1 rfl rfl)
theorem dX0_init_167 : decode cX0_init 167 = .ok (.putfield 115, 3) := dk_181 0 115 (dk_at dksX0_init_7 4 rfl rfl)
theorem dX0_init_170 : decode cX0_init 170 = .ok (.aload_n 0, 1) := dk_42 (dk_at dksX0_init_7 7 rfl rfl)
theorem dX0_init_171 : decode cX0_init 171 = .ok (.bipush 16, 2) := dk_16 16 (dk_at dksX0_init_7 8 rfl rfl)
theorem dX0_init_173 : decode cX0_init 173 = .ok (.newarray .int, 2) := dk_188_10 (dk_at dksX0_init_7 10 rfl rfl)
theorem dX0_init_175 : decode cX0_init 175 = .ok (.putfield 118, 3) := dk_181 0 118 (dk_at dksX0_init_7 12 rfl rfl)
theorem dX0_init_178 : decode cX0_init 178 = .ok (.aload_n 0, 1) := dk_42 (dk_at dksX0_init_7 15 rfl rfl)
theorem dX0_init_179 : decode cX0_init 179 = .ok (.bipush 16, 2) := dk_16 16 (dk_at dksX0_init_7 16 rfl rfl)
theorem dX0_init_181 : decode cX0_init 181 = .ok (.newarray .int, 2) := dk_188_10 (dk_at dksX0_init_7 18 rfl rfl)
theorem dX0_init_183 : decode cX0_init 183 = .ok (.putfield 121, 3) := dk_181 0 121 (dk_at dksX0_init_7 20 rfl rfl)
theorem dX0_init_186 : decode cX0_init 186 = .ok (.aload_n 0, 1) := dk_42 (dk_at dksX0_init_7 23 rfl rfl)
theorem dX0_init_187 : decode cX0_init 187 = .ok (.sipush 513, 3) := dk_17 2 1 (dk_at dksX0_init_8 0 rfl rfl)
theorem dX0_init_190 : decode cX0_init 190 = .ok (.bipush 16, 2) := dk_16 16 (dk_at dksX0_init_8 3 rfl rfl)
theorem dX0_init_192 : decode cX0_init 192 = .ok (.multianewarray 124 2, 4) := by decide +kernel
theorem dX0_init_196 : decode cX0_init 196 = .ok (.putfield 126, 3) := dk_181 0 126 (dk_at dksX0_init_8 9 rfl rfl)
theorem dX0_init_199 : decode cX0_init 199 = .ok (.aload_n 0, 1) := dk_42 (dk_at dksX0_init_8 12 rfl rfl)
theorem dX0_init_200 : decode cX0_init 200 = .ok (.sipush 513, 3) := dk_17 2 1 (dk_at dksX0_init_8 13 rfl rfl)
theorem dX0_init_203 : decode cX0_init 203 = .ok (.newarray .boolean, 2) := dk_188_4 (dk_at dksX0_init_8 16 rfl rfl)
theorem dX0_init_205 : decode cX0_init 205 = .ok (.putfield 129, 3) := dk_181 0 129 (dk_at dksX0_init_8 18 rfl rfl)
theorem dX0_init_208 : decode cX0_init 208 = .ok (.aload_n 0, 1) := dk_42 (dk_at dksX0_init_8 21 rfl rfl)
theorem dX0_init_209 : decode cX0_init 209 = .ok (.sipush 1001, 3) := dk_17 3 233 (dk_at dksX0_init_9 0 rfl rfl)
theorem dX0_init_212 : decode cX0_init 212 = .ok (.newarray .int, 2) := dk_188_10 (dk_at dksX0_init_9 3 rfl rfl)
theorem dX0_init_214 : decode cX0_init 214 = .ok (.putfield 133, 3) := dk_181 0 133 (dk_at dksX0_init_9 5 rfl rfl)
theorem dX0_init_217 : decode cX0_init 217 = .ok (.aload_n 0, 1) := dk_42 (dk_at dksX0_init_9 8 rfl rfl)
theorem dX0_init_218 : decode cX0_init 218 = .ok (.new 136, 3) := dk_187 0 136 (dk_at dksX0_init_9 9 rfl rfl)
theorem dX0_init_221 : decode cX0_init 221 = .ok (.dup, 1) := dk_89 (dk_at dksX0_init_9 12 rfl rfl)
theorem dX0_init_222 : decode cX0_init 222 = .ok (.bipush 20, 2) := dk_16 20 (dk_at dksX0_init_9 13 rfl rfl)
theorem dX0_init_224 : decode cX0_init 224 = .ok (.invokespecial 138, 3) := dk_183 0 138 (dk_at dksX0_init_9 15 rfl rfl)
theorem dX0_init_227 : decode cX0_init 227 = .ok (.putfield 141, 3) := dk_181 0 141 (dk_at dksX0_init_9 18 rfl rfl)
theorem dX0_init_230 : decode cX0_init 230 = .ok (.aload_n 0, 1) := dk_42 (dk_at dksX0_init_9 21 rfl rfl)
theorem dX0_init_231 : decode cX0_init 231 = .ok (.new 136, 3) := dk_187 0 136 (dk_at dksX0_init_10 0 rfl rfl)
theorem dX0_init_234 : decode cX0_init 234 = .ok (.dup, 1) := dk_89 (dk_at dksX0_init_10 3 rfl rfl)
theorem dX0_init_235 : decode cX0_init 235 = .ok (.bipush 22, 2) := dk_16 22 (dk_at dksX0_init_10 4 rfl rfl)
theorem dX0_init_237 : decode cX0_init 237 = .ok (.invokespecial 138, 3) := dk_183 0 138 (dk_at dksX0_init_10 6 rfl rfl)
theorem dX0_init_240 : decode cX0_init 240 = .ok (.putfield 145, 3) := dk_181 0 145 (dk_at dksX0_init_10 9 rfl rfl)
theorem dX0_init_243 : decode cX0_init 243 = .ok (.aload_n 0, 1) := dk_42 (dk_at dksX0_init_10 12 rfl rfl)
theorem dX0_init_244 : decode cX0_init 244 = .ok (.lconst 1, 1) := dk_10 (dk_at dksX0_init_10 13 rfl rfl)
theorem dX0_init_245 : decode cX0_init 245 = .ok (.putfield 148, 3) := dk_181 0 148 (dk_at dksX0_init_10 14 rfl rfl)
theorem dX0_init_248 : decode cX0_init 248 = .ok (.aload_n 0, 1) := dk_42 (dk_at dksX0_init_10 17 rfl rfl)
theorem dX0_init_249 : decode cX0_init 249 = .ok (.sipush 547, 3) := dk_17 2 35 (dk_at dksX0_init_10 18 rfl rfl)
theorem dX0_init_252 : decode cX0_init 252 = .ok (.newarray .byte, 2) := dk_188_8 (dk_at dksX0_init_10 21 rfl rfl)
theorem dX0_init_254 : decode cX0_init 254 = .ok (.putfield 152, 3) := dk_181 0 152 (dk_at dksX0_init_11 0 rfl rfl)
theorem dX0_init_257 : decode cX0_init 257 = .ok (.iconst 0, 1) := dk_3 (dk_at dksX0_init_11 3 rfl rfl)
theorem dX0_init_258 : decode cX0_init 258 = .ok (.istore_n 1, 1) := dk_60 (dk_at dksX0_init_11 4 rfl rfl)
theorem dX0_init_259 : decode cX0_init 259 = .ok (.iload_n 1, 1) := dk_27 (dk_at dksX0_init_11 5 rfl rfl)
theorem dX0_init_260 : decode cX0_init 260 = .ok (.bipush 16, 2) := dk_16 16 (dk_at dksX0_init_11 6 rfl rfl)
theorem dX0_init_262 : decode cX0_init 262 = .ok (.if_icmp .ge 26, 3) := dk_162 0 26 (dk_at dksX0_init_11 8 rfl rfl)
theorem dX0_init_265 : decode cX0_init 265 = .ok (.aload_n 0, 1) := dk_42 (dk_at dksX0_init_11 11 rfl rfl)
theorem dX0_init_266 : decode cX0_init 266 = .ok (.getfield 30, 3) := dk_180 0 30 (dk_at dksX0_init_11 12 rfl rfl)
theorem dX0_init_269 : decode cX0_init 269 = .ok (.iload_n 1, 1) := dk_27 (dk_at dksX0_init_11 15 rfl rfl)
theorem dX0_init_270 : decode cX0_init 270 = .ok (.new 28, 3) := dk_187 0 28 (dk_at dksX0_init_11 16 rfl rfl)
theorem dX0_init_273 : decode cX0_init 273 = .ok (.dup, 1) := dk_89 (dk_at dksX0_init_11 19 rfl rfl)
theorem dX0_init_274 : decode cX0_init 274 = .ok (.invokespecial 34, 3) := dk_183 0 34 (dk_at dksX0_init_11 20 rfl rfl)
theorem dX0_init_277 : decode cX0_init 277 = .ok (.iload_n 1, 1) := dk_27 (dk_at dksX0_init_11 23 rfl rfl)
theorem dX0_init_278 : decode cX0_init 278 = .ok (.invokevirtual 155, 3) := dk_182 0 155 (dk_at dksX0_init_12 0 rfl rfl)
theorem dX0_init_281 : decode cX0_init 281 = .ok (.aastore, 1) := dk_83 (dk_at dksX0_init_12 3 rfl rfl)
theorem dX0_init_282 : decode cX0_init 282 = .ok (.iinc 1 1, 3) := dk_132 1 1 (dk_at dksX0_init_12 4 rfl rfl)
theorem dX0_init_285 : decode cX0_init 285 = .ok (.goto (-26), 3) := dk_167 255 230 (dk_at dksX0_init_12 7 rfl rfl)
theorem dX0_init_288 : decode cX0_init 288 = .ok (.return_, 1) := dk_177 (dk_at dksX0_init_12 10 rfl rfl)
abbrev cX0_feed : ByteArray := prog_1_method_10_code
def yX0_feed : MethodName := ⟨RX0, "feed", "(IIIII)I"⟩
def dkwX0_feed_2 : List UInt8 := [180, 0, 159, 172]
abbrev dktX0_feed_2 : List UInt8 := dkwX0_feed_2 ++ []
def dkwX0_feed_1 : List UInt8 := [42, 28, 182, 0, 166, 42, 29, 182, 0, 166, 42, 21, 4, 182, 0, 166, 42, 21, 5, 182, 0, 166, 42]
abbrev dktX0_feed_1 : List UInt8 := dkwX0_feed_1 ++ dktX0_feed_2
def dkwX0_feed_0 : List UInt8 := [42, 180, 0, 159, 16, 20, 96, 17, 6, 64, 164, 0, 9, 42, 3, 182, 0, 162, 172, 42, 27, 182, 0, 166]
abbrev dktX0_feed_0 : List UInt8 := dkwX0_feed_0 ++ dktX0_feed_1
theorem dksX0_feed_0 : cX0_feed.data.toList.drop 0 = dktX0_feed_0 := by decide +kernel
theorem dksX0_feed_1 : cX0_feed.data.toList.drop 24 = dktX0_feed_1 := dk_seg dksX0_feed_0 24 rfl rfl
theorem dksX0_feed_2 : cX0_feed.data.toList.drop 47 = dktX0_feed_2 := dk_seg dksX0_feed_1 23 rfl rfl
theorem dX0_feed_0 : decode cX0_feed 0 = .ok (.aload_n 0, 1) := dk_42 (dk_at dksX0_feed_0 0 rfl rfl)
theorem dX0_feed_1 : decode cX0_feed 1 = .ok (.getfield 159, 3) := dk_180 0 159 (dk_at dksX0_feed_0 1 rfl rfl)
theorem dX0_feed_4 : decode cX0_feed 4 = .ok (.bipush 20, 2) := dk_16 20 (dk_at dksX0_feed_0 4 rfl rfl)
theorem dX0_feed_6 : decode cX0_feed 6 = .ok (.iadd, 1) := dk_96 (dk_at dksX0_feed_0 6 rfl rfl)
theorem dX0_feed_7 : decode cX0_feed 7 = .ok (.sipush 1600, 3) := dk_17 6 64 (dk_at dksX0_feed_0 7 rfl rfl)
theorem dX0_feed_10 : decode cX0_feed 10 = .ok (.if_icmp .le 9, 3) := dk_164 0 9 (dk_at dksX0_feed_0 10 rfl rfl)
theorem dX0_feed_13 : decode cX0_feed 13 = .ok (.aload_n 0, 1) := dk_42 (dk_at dksX0_feed_0 13 rfl rfl)
theorem dX0_feed_14 : decode cX0_feed 14 = .ok (.iconst 0, 1) := dk_3 (dk_at dksX0_feed_0 14 rfl rfl)
theorem dX0_feed_15 : decode cX0_feed 15 = .ok (.invokevirtual 162, 3) := dk_182 0 162 (dk_at dksX0_feed_0 15 rfl rfl)
theorem dX0_feed_18 : decode cX0_feed 18 = .ok (.ireturn, 1) := dk_172 (dk_at dksX0_feed_0 18 rfl rfl)
theorem dX0_feed_19 : decode cX0_feed 19 = .ok (.aload_n 0, 1) := dk_42 (dk_at dksX0_feed_0 19 rfl rfl)
theorem dX0_feed_20 : decode cX0_feed 20 = .ok (.iload_n 1, 1) := dk_27 (dk_at dksX0_feed_0 20 rfl rfl)
theorem dX0_feed_21 : decode cX0_feed 21 = .ok (.invokevirtual 166, 3) := dk_182 0 166 (dk_at dksX0_feed_0 21 rfl rfl)
theorem dX0_feed_24 : decode cX0_feed 24 = .ok (.aload_n 0, 1) := dk_42 (dk_at dksX0_feed_1 0 rfl rfl)
theorem dX0_feed_25 : decode cX0_feed 25 = .ok (.iload_n 2, 1) := dk_28 (dk_at dksX0_feed_1 1 rfl rfl)
theorem dX0_feed_26 : decode cX0_feed 26 = .ok (.invokevirtual 166, 3) := dk_182 0 166 (dk_at dksX0_feed_1 2 rfl rfl)
theorem dX0_feed_29 : decode cX0_feed 29 = .ok (.aload_n 0, 1) := dk_42 (dk_at dksX0_feed_1 5 rfl rfl)
theorem dX0_feed_30 : decode cX0_feed 30 = .ok (.iload_n 3, 1) := dk_29 (dk_at dksX0_feed_1 6 rfl rfl)
theorem dX0_feed_31 : decode cX0_feed 31 = .ok (.invokevirtual 166, 3) := dk_182 0 166 (dk_at dksX0_feed_1 7 rfl rfl)
theorem dX0_feed_34 : decode cX0_feed 34 = .ok (.aload_n 0, 1) := dk_42 (dk_at dksX0_feed_1 10 rfl rfl)
theorem dX0_feed_35 : decode cX0_feed 35 = .ok (.iload 4, 2) := dk_21 4 (dk_at dksX0_feed_1 11 rfl rfl)
theorem dX0_feed_37 : decode cX0_feed 37 = .ok (.invokevirtual 166, 3) := dk_182 0 166 (dk_at dksX0_feed_1 13 rfl rfl)
theorem dX0_feed_40 : decode cX0_feed 40 = .ok (.aload_n 0, 1) := dk_42 (dk_at dksX0_feed_1 16 rfl rfl)
theorem dX0_feed_41 : decode cX0_feed 41 = .ok (.iload 5, 2) := dk_21 5 (dk_at dksX0_feed_1 17 rfl rfl)
theorem dX0_feed_43 : decode cX0_feed 43 = .ok (.invokevirtual 166, 3) := dk_182 0 166 (dk_at dksX0_feed_1 19 rfl rfl)
theorem dX0_feed_46 : decode cX0_feed 46 = .ok (.aload_n 0, 1) := dk_42 (dk_at dksX0_feed_1 22 rfl rfl)
theorem dX0_feed_47 : decode cX0_feed 47 = .ok (.getfield 159, 3) := dk_180 0 159 (dk_at dksX0_feed_2 0 rfl rfl)
theorem dX0_feed_50 : decode cX0_feed 50 = .ok (.ireturn, 1) := dk_172 (dk_at dksX0_feed_2 3 rfl rfl)
abbrev cX0_refuses : ByteArray := prog_1_method_8_code
def yX0_refuses : MethodName := ⟨RX0, "refuses", "(I)I"⟩
def dkwX0_refuses_0 : List UInt8 := [42, 180, 0, 80, 27, 92, 46, 4, 96, 79, 2, 172]
abbrev dktX0_refuses_0 : List UInt8 := dkwX0_refuses_0 ++ []
theorem dksX0_refuses_0 : cX0_refuses.data.toList.drop 0 = dktX0_refuses_0 := by decide +kernel
theorem dX0_refuses_0 : decode cX0_refuses 0 = .ok (.aload_n 0, 1) := dk_42 (dk_at dksX0_refuses_0 0 rfl rfl)
theorem dX0_refuses_1 : decode cX0_refuses 1 = .ok (.getfield 80, 3) := dk_180 0 80 (dk_at dksX0_refuses_0 1 rfl rfl)
theorem dX0_refuses_4 : decode cX0_refuses 4 = .ok (.iload_n 1, 1) := dk_27 (dk_at dksX0_refuses_0 4 rfl rfl)
theorem dX0_refuses_5 : decode cX0_refuses 5 = .ok (.dup2, 1) := dk_92 (dk_at dksX0_refuses_0 5 rfl rfl)
theorem dX0_refuses_6 : decode cX0_refuses 6 = .ok (.iaload, 1) := dk_46 (dk_at dksX0_refuses_0 6 rfl rfl)
theorem dX0_refuses_7 : decode cX0_refuses 7 = .ok (.iconst 1, 1) := dk_4 (dk_at dksX0_refuses_0 7 rfl rfl)
theorem dX0_refuses_8 : decode cX0_refuses 8 = .ok (.iadd, 1) := dk_96 (dk_at dksX0_refuses_0 8 rfl rfl)
theorem dX0_refuses_9 : decode cX0_refuses 9 = .ok (.iastore, 1) := dk_79 (dk_at dksX0_refuses_0 9 rfl rfl)
theorem dX0_refuses_10 : decode cX0_refuses 10 = .ok (.iconst (-1), 1) := dk_2 (dk_at dksX0_refuses_0 10 rfl rfl)
theorem dX0_refuses_11 : decode cX0_refuses 11 = .ok (.ireturn, 1) := dk_172 (dk_at dksX0_refuses_0 11 rfl rfl)
abbrev cX0_lays : ByteArray := prog_1_method_9_code
def yX0_lays : MethodName := ⟨RX0, "lays", "(I)V"⟩
def dkwX0_lays_1 : List UInt8 := [122, 145, 84, 132, 2, 248, 167, 255, 229, 177]
abbrev dktX0_lays_1 : List UInt8 := dkwX0_lays_1 ++ []
def dkwX0_lays_0 : List UInt8 := [16, 24, 61, 28, 155, 0, 29, 42, 180, 0, 53, 42, 89, 180, 0, 159, 90, 4, 96, 181, 0, 159, 27, 28]
abbrev dktX0_lays_0 : List UInt8 := dkwX0_lays_0 ++ dktX0_lays_1
theorem dksX0_lays_0 : cX0_lays.data.toList.drop 0 = dktX0_lays_0 := by decide +kernel
theorem dksX0_lays_1 : cX0_lays.data.toList.drop 24 = dktX0_lays_1 := dk_seg dksX0_lays_0 24 rfl rfl
theorem dX0_lays_0 : decode cX0_lays 0 = .ok (.bipush 24, 2) := dk_16 24 (dk_at dksX0_lays_0 0 rfl rfl)
theorem dX0_lays_2 : decode cX0_lays 2 = .ok (.istore_n 2, 1) := dk_61 (dk_at dksX0_lays_0 2 rfl rfl)
theorem dX0_lays_3 : decode cX0_lays 3 = .ok (.iload_n 2, 1) := dk_28 (dk_at dksX0_lays_0 3 rfl rfl)
theorem dX0_lays_4 : decode cX0_lays 4 = .ok (.ifCond .lt 29, 3) := dk_155 0 29 (dk_at dksX0_lays_0 4 rfl rfl)
theorem dX0_lays_7 : decode cX0_lays 7 = .ok (.aload_n 0, 1) := dk_42 (dk_at dksX0_lays_0 7 rfl rfl)
theorem dX0_lays_8 : decode cX0_lays 8 = .ok (.getfield 53, 3) := dk_180 0 53 (dk_at dksX0_lays_0 8 rfl rfl)
theorem dX0_lays_11 : decode cX0_lays 11 = .ok (.aload_n 0, 1) := dk_42 (dk_at dksX0_lays_0 11 rfl rfl)
theorem dX0_lays_12 : decode cX0_lays 12 = .ok (.dup, 1) := dk_89 (dk_at dksX0_lays_0 12 rfl rfl)
theorem dX0_lays_13 : decode cX0_lays 13 = .ok (.getfield 159, 3) := dk_180 0 159 (dk_at dksX0_lays_0 13 rfl rfl)
theorem dX0_lays_16 : decode cX0_lays 16 = .ok (.dup_x1, 1) := dk_90 (dk_at dksX0_lays_0 16 rfl rfl)
theorem dX0_lays_17 : decode cX0_lays 17 = .ok (.iconst 1, 1) := dk_4 (dk_at dksX0_lays_0 17 rfl rfl)
theorem dX0_lays_18 : decode cX0_lays 18 = .ok (.iadd, 1) := dk_96 (dk_at dksX0_lays_0 18 rfl rfl)
theorem dX0_lays_19 : decode cX0_lays 19 = .ok (.putfield 159, 3) := dk_181 0 159 (dk_at dksX0_lays_0 19 rfl rfl)
theorem dX0_lays_22 : decode cX0_lays 22 = .ok (.iload_n 1, 1) := dk_27 (dk_at dksX0_lays_0 22 rfl rfl)
theorem dX0_lays_23 : decode cX0_lays 23 = .ok (.iload_n 2, 1) := dk_28 (dk_at dksX0_lays_0 23 rfl rfl)
theorem dX0_lays_24 : decode cX0_lays 24 = .ok (.ishr, 1) := dk_122 (dk_at dksX0_lays_1 0 rfl rfl)
theorem dX0_lays_25 : decode cX0_lays 25 = .ok (.i2b, 1) := dk_145 (dk_at dksX0_lays_1 1 rfl rfl)
theorem dX0_lays_26 : decode cX0_lays 26 = .ok (.bastore, 1) := dk_84 (dk_at dksX0_lays_1 2 rfl rfl)
theorem dX0_lays_27 : decode cX0_lays 27 = .ok (.iinc 2 (-8), 3) := dk_132 2 248 (dk_at dksX0_lays_1 3 rfl rfl)
theorem dX0_lays_30 : decode cX0_lays 30 = .ok (.goto (-27), 3) := dk_167 255 229 (dk_at dksX0_lays_1 6 rfl rfl)
theorem dX0_lays_33 : decode cX0_lays 33 = .ok (.return_, 1) := dk_177 (dk_at dksX0_lays_1 9 rfl rfl)
abbrev cX0_end : ByteArray := prog_1_method_11_code
def yX0_end : MethodName := ⟨RX0, "end", "(I)Z"⟩
def dkwX0_end_1 : List UInt8 := [3, 172, 42, 27, 181, 0, 159, 4, 172]
abbrev dktX0_end_1 : List UInt8 := dkwX0_end_1 ++ []
def dkwX0_end_0 : List UInt8 := [27, 155, 0, 11, 27, 42, 180, 0, 159, 164, 0, 17, 42, 3, 182, 0, 162, 155, 0, 7, 4, 167, 0, 4]
abbrev dktX0_end_0 : List UInt8 := dkwX0_end_0 ++ dktX0_end_1
theorem dksX0_end_0 : cX0_end.data.toList.drop 0 = dktX0_end_0 := by decide +kernel
theorem dksX0_end_1 : cX0_end.data.toList.drop 24 = dktX0_end_1 := dk_seg dksX0_end_0 24 rfl rfl
theorem dX0_end_0 : decode cX0_end 0 = .ok (.iload_n 1, 1) := dk_27 (dk_at dksX0_end_0 0 rfl rfl)
theorem dX0_end_1 : decode cX0_end 1 = .ok (.ifCond .lt 11, 3) := dk_155 0 11 (dk_at dksX0_end_0 1 rfl rfl)
theorem dX0_end_4 : decode cX0_end 4 = .ok (.iload_n 1, 1) := dk_27 (dk_at dksX0_end_0 4 rfl rfl)
theorem dX0_end_5 : decode cX0_end 5 = .ok (.aload_n 0, 1) := dk_42 (dk_at dksX0_end_0 5 rfl rfl)
theorem dX0_end_6 : decode cX0_end 6 = .ok (.getfield 159, 3) := dk_180 0 159 (dk_at dksX0_end_0 6 rfl rfl)
theorem dX0_end_9 : decode cX0_end 9 = .ok (.if_icmp .le 17, 3) := dk_164 0 17 (dk_at dksX0_end_0 9 rfl rfl)
theorem dX0_end_12 : decode cX0_end 12 = .ok (.aload_n 0, 1) := dk_42 (dk_at dksX0_end_0 12 rfl rfl)
theorem dX0_end_13 : decode cX0_end 13 = .ok (.iconst 0, 1) := dk_3 (dk_at dksX0_end_0 13 rfl rfl)
theorem dX0_end_14 : decode cX0_end 14 = .ok (.invokevirtual 162, 3) := dk_182 0 162 (dk_at dksX0_end_0 14 rfl rfl)
theorem dX0_end_17 : decode cX0_end 17 = .ok (.ifCond .lt 7, 3) := dk_155 0 7 (dk_at dksX0_end_0 17 rfl rfl)
theorem dX0_end_20 : decode cX0_end 20 = .ok (.iconst 1, 1) := dk_4 (dk_at dksX0_end_0 20 rfl rfl)
theorem dX0_end_21 : decode cX0_end 21 = .ok (.goto 4, 3) := dk_167 0 4 (dk_at dksX0_end_0 21 rfl rfl)
theorem dX0_end_24 : decode cX0_end 24 = .ok (.iconst 0, 1) := dk_3 (dk_at dksX0_end_1 0 rfl rfl)
theorem dX0_end_25 : decode cX0_end 25 = .ok (.ireturn, 1) := dk_172 (dk_at dksX0_end_1 1 rfl rfl)
theorem dX0_end_26 : decode cX0_end 26 = .ok (.aload_n 0, 1) := dk_42 (dk_at dksX0_end_1 2 rfl rfl)
theorem dX0_end_27 : decode cX0_end 27 = .ok (.iload_n 1, 1) := dk_27 (dk_at dksX0_end_1 3 rfl rfl)
theorem dX0_end_28 : decode cX0_end 28 = .ok (.putfield 159, 3) := dk_181 0 159 (dk_at dksX0_end_1 4 rfl rfl)
theorem dX0_end_31 : decode cX0_end 31 = .ok (.iconst 1, 1) := dk_4 (dk_at dksX0_end_1 7 rfl rfl)
theorem dX0_end_32 : decode cX0_end 32 = .ok (.ireturn, 1) := dk_172 (dk_at dksX0_end_1 8 rfl rfl)
abbrev cX0_journal : ByteArray := prog_1_method_13_code
def yX0_journal : MethodName := ⟨RX0, "journal", "()I"⟩
def dkwX0_journal_7 : List UInt8 := [180, 0, 230, 172]
abbrev dktX0_journal_7 : List UInt8 := dkwX0_journal_7 ++ []
def dkwX0_journal_6 : List UInt8 := [182, 0, 220, 87, 132, 1, 1, 167, 255, 181, 42, 182, 0, 224, 42, 3, 181, 0, 227, 42, 180, 0, 49]
abbrev dktX0_journal_6 : List UInt8 := dkwX0_journal_6 ++ dktX0_journal_7
def dkwX0_journal_5 : List UInt8 := [182, 0, 216, 153, 0, 23, 42, 180, 0, 111, 44, 180, 0, 208, 44, 180, 0, 211, 44, 180, 0, 214]
abbrev dktX0_journal_5 : List UInt8 := dkwX0_journal_5 ++ dktX0_journal_6
def dkwX0_journal_4 : List UInt8 := [185, 0, 202, 2, 0, 192, 0, 206, 77, 42, 44, 180, 0, 208, 44, 180, 0, 211, 44, 180, 0, 214]
abbrev dktX0_journal_4 : List UInt8 := dkwX0_journal_4 ++ dktX0_journal_5
def dkwX0_journal_3 : List UInt8 := [180, 0, 49, 180, 0, 194, 185, 0, 197, 1, 0, 162, 0, 65, 42, 180, 0, 49, 180, 0, 194, 27]
abbrev dktX0_journal_3 : List UInt8 := dkwX0_journal_3 ++ dktX0_journal_4
def dkwX0_journal_2 : List UInt8 := [4, 182, 0, 162, 172, 42, 180, 0, 111, 182, 0, 188, 42, 180, 0, 111, 182, 0, 191, 3, 60, 27, 42]
abbrev dktX0_journal_2 : List UInt8 := dkwX0_journal_2 ++ dktX0_journal_3
def dkwX0_journal_1 : List UInt8 := [181, 0, 49, 167, 0, 26, 76, 42, 43, 180, 0, 182, 181, 0, 169, 42, 43, 180, 0, 185, 181, 0, 57, 42]
abbrev dktX0_journal_1 : List UInt8 := dkwX0_journal_1 ++ dktX0_journal_2
def dkwX0_journal_0 : List UInt8 := [42, 3, 181, 0, 169, 42, 2, 181, 0, 57, 42, 42, 180, 0, 66, 42, 182, 0, 172, 182, 0, 176]
abbrev dktX0_journal_0 : List UInt8 := dkwX0_journal_0 ++ dktX0_journal_1
theorem dksX0_journal_0 : cX0_journal.data.toList.drop 0 = dktX0_journal_0 := by decide +kernel
theorem dksX0_journal_1 : cX0_journal.data.toList.drop 22 = dktX0_journal_1 := dk_seg dksX0_journal_0 22 rfl rfl
theorem dksX0_journal_2 : cX0_journal.data.toList.drop 46 = dktX0_journal_2 := dk_seg dksX0_journal_1 24 rfl rfl
theorem dksX0_journal_3 : cX0_journal.data.toList.drop 69 = dktX0_journal_3 := dk_seg dksX0_journal_2 23 rfl rfl
theorem dksX0_journal_4 : cX0_journal.data.toList.drop 91 = dktX0_journal_4 := dk_seg dksX0_journal_3 22 rfl rfl
theorem dksX0_journal_5 : cX0_journal.data.toList.drop 113 = dktX0_journal_5 := dk_seg dksX0_journal_4 22 rfl rfl
theorem dksX0_journal_6 : cX0_journal.data.toList.drop 135 = dktX0_journal_6 := dk_seg dksX0_journal_5 22 rfl rfl
theorem dksX0_journal_7 : cX0_journal.data.toList.drop 158 = dktX0_journal_7 := dk_seg dksX0_journal_6 23 rfl rfl
theorem dX0_journal_0 : decode cX0_journal 0 = .ok (.aload_n 0, 1) := dk_42 (dk_at dksX0_journal_0 0 rfl rfl)
theorem dX0_journal_1 : decode cX0_journal 1 = .ok (.iconst 0, 1) := dk_3 (dk_at dksX0_journal_0 1 rfl rfl)
theorem dX0_journal_2 : decode cX0_journal 2 = .ok (.putfield 169, 3) := dk_181 0 169 (dk_at dksX0_journal_0 2 rfl rfl)
theorem dX0_journal_5 : decode cX0_journal 5 = .ok (.aload_n 0, 1) := dk_42 (dk_at dksX0_journal_0 5 rfl rfl)
theorem dX0_journal_6 : decode cX0_journal 6 = .ok (.iconst (-1), 1) := dk_2 (dk_at dksX0_journal_0 6 rfl rfl)
theorem dX0_journal_7 : decode cX0_journal 7 = .ok (.putfield 57, 3) := dk_181 0 57 (dk_at dksX0_journal_0 7 rfl rfl)
theorem dX0_journal_10 : decode cX0_journal 10 = .ok (.aload_n 0, 1) := dk_42 (dk_at dksX0_journal_0 10 rfl rfl)
theorem dX0_journal_11 : decode cX0_journal 11 = .ok (.aload_n 0, 1) := dk_42 (dk_at dksX0_journal_0 11 rfl rfl)
theorem dX0_journal_12 : decode cX0_journal 12 = .ok (.getfield 66, 3) := dk_180 0 66 (dk_at dksX0_journal_0 12 rfl rfl)
theorem dX0_journal_15 : decode cX0_journal 15 = .ok (.aload_n 0, 1) := dk_42 (dk_at dksX0_journal_0 15 rfl rfl)
theorem dX0_journal_16 : decode cX0_journal 16 = .ok (.invokevirtual 172, 3) := dk_182 0 172 (dk_at dksX0_journal_0 16 rfl rfl)
theorem dX0_journal_19 : decode cX0_journal 19 = .ok (.invokevirtual 176, 3) := dk_182 0 176 (dk_at dksX0_journal_0 19 rfl rfl)
theorem dX0_journal_22 : decode cX0_journal 22 = .ok (.putfield 49, 3) := dk_181 0 49 (dk_at dksX0_journal_1 0 rfl rfl)
theorem dX0_journal_25 : decode cX0_journal 25 = .ok (.goto 26, 3) := dk_167 0 26 (dk_at dksX0_journal_1 3 rfl rfl)
theorem dX0_journal_28 : decode cX0_journal 28 = .ok (.astore_n 1, 1) := dk_76 (dk_at dksX0_journal_1 6 rfl rfl)
theorem dX0_journal_29 : decode cX0_journal 29 = .ok (.aload_n 0, 1) := dk_42 (dk_at dksX0_journal_1 7 rfl rfl)
theorem dX0_journal_30 : decode cX0_journal 30 = .ok (.aload_n 1, 1) := dk_43 (dk_at dksX0_journal_1 8 rfl rfl)
theorem dX0_journal_31 : decode cX0_journal 31 = .ok (.getfield 182, 3) := dk_180 0 182 (dk_at dksX0_journal_1 9 rfl rfl)
theorem dX0_journal_34 : decode cX0_journal 34 = .ok (.putfield 169, 3) := dk_181 0 169 (dk_at dksX0_journal_1 12 rfl rfl)
theorem dX0_journal_37 : decode cX0_journal 37 = .ok (.aload_n 0, 1) := dk_42 (dk_at dksX0_journal_1 15 rfl rfl)
theorem dX0_journal_38 : decode cX0_journal 38 = .ok (.aload_n 1, 1) := dk_43 (dk_at dksX0_journal_1 16 rfl rfl)
theorem dX0_journal_39 : decode cX0_journal 39 = .ok (.getfield 185, 3) := dk_180 0 185 (dk_at dksX0_journal_1 17 rfl rfl)
theorem dX0_journal_42 : decode cX0_journal 42 = .ok (.putfield 57, 3) := dk_181 0 57 (dk_at dksX0_journal_1 20 rfl rfl)
theorem dX0_journal_45 : decode cX0_journal 45 = .ok (.aload_n 0, 1) := dk_42 (dk_at dksX0_journal_1 23 rfl rfl)
theorem dX0_journal_46 : decode cX0_journal 46 = .ok (.iconst 1, 1) := dk_4 (dk_at dksX0_journal_2 0 rfl rfl)
theorem dX0_journal_47 : decode cX0_journal 47 = .ok (.invokevirtual 162, 3) := dk_182 0 162 (dk_at dksX0_journal_2 1 rfl rfl)
theorem dX0_journal_50 : decode cX0_journal 50 = .ok (.ireturn, 1) := dk_172 (dk_at dksX0_journal_2 4 rfl rfl)
theorem dX0_journal_51 : decode cX0_journal 51 = .ok (.aload_n 0, 1) := dk_42 (dk_at dksX0_journal_2 5 rfl rfl)
theorem dX0_journal_52 : decode cX0_journal 52 = .ok (.getfield 111, 3) := dk_180 0 111 (dk_at dksX0_journal_2 6 rfl rfl)
theorem dX0_journal_55 : decode cX0_journal 55 = .ok (.invokevirtual 188, 3) := dk_182 0 188 (dk_at dksX0_journal_2 9 rfl rfl)
theorem dX0_journal_58 : decode cX0_journal 58 = .ok (.aload_n 0, 1) := dk_42 (dk_at dksX0_journal_2 12 rfl rfl)
theorem dX0_journal_59 : decode cX0_journal 59 = .ok (.getfield 111, 3) := dk_180 0 111 (dk_at dksX0_journal_2 13 rfl rfl)
theorem dX0_journal_62 : decode cX0_journal 62 = .ok (.invokevirtual 191, 3) := dk_182 0 191 (dk_at dksX0_journal_2 16 rfl rfl)
theorem dX0_journal_65 : decode cX0_journal 65 = .ok (.iconst 0, 1) := dk_3 (dk_at dksX0_journal_2 19 rfl rfl)
theorem dX0_journal_66 : decode cX0_journal 66 = .ok (.istore_n 1, 1) := dk_60 (dk_at dksX0_journal_2 20 rfl rfl)
theorem dX0_journal_67 : decode cX0_journal 67 = .ok (.iload_n 1, 1) := dk_27 (dk_at dksX0_journal_2 21 rfl rfl)
theorem dX0_journal_68 : decode cX0_journal 68 = .ok (.aload_n 0, 1) := dk_42 (dk_at dksX0_journal_2 22 rfl rfl)
theorem dX0_journal_69 : decode cX0_journal 69 = .ok (.getfield 49, 3) := dk_180 0 49 (dk_at dksX0_journal_3 0 rfl rfl)
theorem dX0_journal_72 : decode cX0_journal 72 = .ok (.getfield 194, 3) := dk_180 0 194 (dk_at dksX0_journal_3 3 rfl rfl)
theorem dX0_journal_75 : decode cX0_journal 75 = .ok (.invokeinterface 197 1, 5) := by decide +kernel
theorem dX0_journal_80 : decode cX0_journal 80 = .ok (.if_icmp .ge 65, 3) := dk_162 0 65 (dk_at dksX0_journal_3 11 rfl rfl)
theorem dX0_journal_83 : decode cX0_journal 83 = .ok (.aload_n 0, 1) := dk_42 (dk_at dksX0_journal_3 14 rfl rfl)
theorem dX0_journal_84 : decode cX0_journal 84 = .ok (.getfield 49, 3) := dk_180 0 49 (dk_at dksX0_journal_3 15 rfl rfl)
theorem dX0_journal_87 : decode cX0_journal 87 = .ok (.getfield 194, 3) := dk_180 0 194 (dk_at dksX0_journal_3 18 rfl rfl)
theorem dX0_journal_90 : decode cX0_journal 90 = .ok (.iload_n 1, 1) := dk_27 (dk_at dksX0_journal_3 21 rfl rfl)
theorem dX0_journal_91 : decode cX0_journal 91 = .ok (.invokeinterface 202 2, 5) := by decide +kernel
theorem dX0_journal_96 : decode cX0_journal 96 = .ok (.checkcast 206, 3) := dk_192 0 206 (dk_at dksX0_journal_4 5 rfl rfl)
theorem dX0_journal_99 : decode cX0_journal 99 = .ok (.astore_n 2, 1) := dk_77 (dk_at dksX0_journal_4 8 rfl rfl)
theorem dX0_journal_100 : decode cX0_journal 100 = .ok (.aload_n 0, 1) := dk_42 (dk_at dksX0_journal_4 9 rfl rfl)
theorem dX0_journal_101 : decode cX0_journal 101 = .ok (.aload_n 2, 1) := dk_44 (dk_at dksX0_journal_4 10 rfl rfl)
theorem dX0_journal_102 : decode cX0_journal 102 = .ok (.getfield 208, 3) := dk_180 0 208 (dk_at dksX0_journal_4 11 rfl rfl)
theorem dX0_journal_105 : decode cX0_journal 105 = .ok (.aload_n 2, 1) := dk_44 (dk_at dksX0_journal_4 14 rfl rfl)
theorem dX0_journal_106 : decode cX0_journal 106 = .ok (.getfield 211, 3) := dk_180 0 211 (dk_at dksX0_journal_4 15 rfl rfl)
theorem dX0_journal_109 : decode cX0_journal 109 = .ok (.aload_n 2, 1) := dk_44 (dk_at dksX0_journal_4 18 rfl rfl)
theorem dX0_journal_110 : decode cX0_journal 110 = .ok (.getfield 214, 3) := dk_180 0 214 (dk_at dksX0_journal_4 19 rfl rfl)
theorem dX0_journal_113 : decode cX0_journal 113 = .ok (.invokevirtual 216, 3) := dk_182 0 216 (dk_at dksX0_journal_5 0 rfl rfl)
theorem dX0_journal_116 : decode cX0_journal 116 = .ok (.ifCond .eq 23, 3) := dk_153 0 23 (dk_at dksX0_journal_5 3 rfl rfl)
theorem dX0_journal_119 : decode cX0_journal 119 = .ok (.aload_n 0, 1) := dk_42 (dk_at dksX0_journal_5 6 rfl rfl)
theorem dX0_journal_120 : decode cX0_journal 120 = .ok (.getfield 111, 3) := dk_180 0 111 (dk_at dksX0_journal_5 7 rfl rfl)
theorem dX0_journal_123 : decode cX0_journal 123 = .ok (.aload_n 2, 1) := dk_44 (dk_at dksX0_journal_5 10 rfl rfl)
theorem dX0_journal_124 : decode cX0_journal 124 = .ok (.getfield 208, 3) := dk_180 0 208 (dk_at dksX0_journal_5 11 rfl rfl)
theorem dX0_journal_127 : decode cX0_journal 127 = .ok (.aload_n 2, 1) := dk_44 (dk_at dksX0_journal_5 14 rfl rfl)
theorem dX0_journal_128 : decode cX0_journal 128 = .ok (.getfield 211, 3) := dk_180 0 211 (dk_at dksX0_journal_5 15 rfl rfl)
theorem dX0_journal_131 : decode cX0_journal 131 = .ok (.aload_n 2, 1) := dk_44 (dk_at dksX0_journal_5 18 rfl rfl)
theorem dX0_journal_132 : decode cX0_journal 132 = .ok (.getfield 214, 3) := dk_180 0 214 (dk_at dksX0_journal_5 19 rfl rfl)
theorem dX0_journal_135 : decode cX0_journal 135 = .ok (.invokevirtual 220, 3) := dk_182 0 220 (dk_at dksX0_journal_6 0 rfl rfl)
theorem dX0_journal_138 : decode cX0_journal 138 = .ok (.pop, 1) := dk_87 (dk_at dksX0_journal_6 3 rfl rfl)
theorem dX0_journal_139 : decode cX0_journal 139 = .ok (.iinc 1 1, 3) := dk_132 1 1 (dk_at dksX0_journal_6 4 rfl rfl)
theorem dX0_journal_142 : decode cX0_journal 142 = .ok (.goto (-75), 3) := dk_167 255 181 (dk_at dksX0_journal_6 7 rfl rfl)
theorem dX0_journal_145 : decode cX0_journal 145 = .ok (.aload_n 0, 1) := dk_42 (dk_at dksX0_journal_6 10 rfl rfl)
theorem dX0_journal_146 : decode cX0_journal 146 = .ok (.invokevirtual 224, 3) := dk_182 0 224 (dk_at dksX0_journal_6 11 rfl rfl)
theorem dX0_journal_149 : decode cX0_journal 149 = .ok (.aload_n 0, 1) := dk_42 (dk_at dksX0_journal_6 14 rfl rfl)
theorem dX0_journal_150 : decode cX0_journal 150 = .ok (.iconst 0, 1) := dk_3 (dk_at dksX0_journal_6 15 rfl rfl)
theorem dX0_journal_151 : decode cX0_journal 151 = .ok (.putfield 227, 3) := dk_181 0 227 (dk_at dksX0_journal_6 16 rfl rfl)
theorem dX0_journal_154 : decode cX0_journal 154 = .ok (.aload_n 0, 1) := dk_42 (dk_at dksX0_journal_6 19 rfl rfl)
theorem dX0_journal_155 : decode cX0_journal 155 = .ok (.getfield 49, 3) := dk_180 0 49 (dk_at dksX0_journal_6 20 rfl rfl)
theorem dX0_journal_158 : decode cX0_journal 158 = .ok (.getfield 230, 3) := dk_180 0 230 (dk_at dksX0_journal_7 0 rfl rfl)
theorem dX0_journal_161 : decode cX0_journal 161 = .ok (.ireturn, 1) := dk_172 (dk_at dksX0_journal_7 3 rfl rfl)
abbrev cX0_tapeTaken : ByteArray := prog_1_method_12_code
def yX0_tapeTaken : MethodName := ⟨RX0, "tapeTaken", "()I"⟩
def dkwX0_tapeTaken_0 : List UInt8 := [42, 180, 0, 159, 60, 42, 3, 181, 0, 159, 27, 172]
abbrev dktX0_tapeTaken_0 : List UInt8 := dkwX0_tapeTaken_0 ++ []
theorem dksX0_tapeTaken_0 : cX0_tapeTaken.data.toList.drop 0 = dktX0_tapeTaken_0 := by decide +kernel
theorem dX0_tapeTaken_0 : decode cX0_tapeTaken 0 = .ok (.aload_n 0, 1) := dk_42 (dk_at dksX0_tapeTaken_0 0 rfl rfl)
theorem dX0_tapeTaken_1 : decode cX0_tapeTaken 1 = .ok (.getfield 159, 3) := dk_180 0 159 (dk_at dksX0_tapeTaken_0 1 rfl rfl)
theorem dX0_tapeTaken_4 : decode cX0_tapeTaken 4 = .ok (.istore_n 1, 1) := dk_60 (dk_at dksX0_tapeTaken_0 4 rfl rfl)
theorem dX0_tapeTaken_5 : decode cX0_tapeTaken 5 = .ok (.aload_n 0, 1) := dk_42 (dk_at dksX0_tapeTaken_0 5 rfl rfl)
theorem dX0_tapeTaken_6 : decode cX0_tapeTaken 6 = .ok (.iconst 0, 1) := dk_3 (dk_at dksX0_tapeTaken_0 6 rfl rfl)
theorem dX0_tapeTaken_7 : decode cX0_tapeTaken 7 = .ok (.putfield 159, 3) := dk_181 0 159 (dk_at dksX0_tapeTaken_0 7 rfl rfl)
theorem dX0_tapeTaken_10 : decode cX0_tapeTaken 10 = .ok (.iload_n 1, 1) := dk_27 (dk_at dksX0_tapeTaken_0 10 rfl rfl)
theorem dX0_tapeTaken_11 : decode cX0_tapeTaken 11 = .ok (.ireturn, 1) := dk_172 (dk_at dksX0_tapeTaken_0 11 rfl rfl)
abbrev cX0_isLetter : ByteArray := prog_1_method_4_code
def yX0_isLetter : MethodName := ⟨RX0, "isLetter", "(I)Z"⟩
def dkwX0_isLetter_0 : List UInt8 := [26, 16, 97, 161, 0, 13, 26, 16, 122, 163, 0, 7, 4, 167, 0, 4, 3, 172]
abbrev dktX0_isLetter_0 : List UInt8 := dkwX0_isLetter_0 ++ []
theorem dksX0_isLetter_0 : cX0_isLetter.data.toList.drop 0 = dktX0_isLetter_0 := by decide +kernel
theorem dX0_isLetter_0 : decode cX0_isLetter 0 = .ok (.iload_n 0, 1) := dk_26 (dk_at dksX0_isLetter_0 0 rfl rfl)
theorem dX0_isLetter_1 : decode cX0_isLetter 1 = .ok (.bipush 97, 2) := dk_16 97 (dk_at dksX0_isLetter_0 1 rfl rfl)
theorem dX0_isLetter_3 : decode cX0_isLetter 3 = .ok (.if_icmp .lt 13, 3) := dk_161 0 13 (dk_at dksX0_isLetter_0 3 rfl rfl)
theorem dX0_isLetter_6 : decode cX0_isLetter 6 = .ok (.iload_n 0, 1) := dk_26 (dk_at dksX0_isLetter_0 6 rfl rfl)
theorem dX0_isLetter_7 : decode cX0_isLetter 7 = .ok (.bipush 122, 2) := dk_16 122 (dk_at dksX0_isLetter_0 7 rfl rfl)
theorem dX0_isLetter_9 : decode cX0_isLetter 9 = .ok (.if_icmp .gt 7, 3) := dk_163 0 7 (dk_at dksX0_isLetter_0 9 rfl rfl)
theorem dX0_isLetter_12 : decode cX0_isLetter 12 = .ok (.iconst 1, 1) := dk_4 (dk_at dksX0_isLetter_0 12 rfl rfl)
theorem dX0_isLetter_13 : decode cX0_isLetter 13 = .ok (.goto 4, 3) := dk_167 0 4 (dk_at dksX0_isLetter_0 13 rfl rfl)
theorem dX0_isLetter_16 : decode cX0_isLetter 16 = .ok (.iconst 0, 1) := dk_3 (dk_at dksX0_isLetter_0 16 rfl rfl)
theorem dX0_isLetter_17 : decode cX0_isLetter 17 = .ok (.ireturn, 1) := dk_172 (dk_at dksX0_isLetter_0 17 rfl rfl)
abbrev cX0_isDigit : ByteArray := prog_1_method_5_code
def yX0_isDigit : MethodName := ⟨RX0, "isDigit", "(I)Z"⟩
def dkwX0_isDigit_0 : List UInt8 := [26, 16, 48, 161, 0, 13, 26, 16, 57, 163, 0, 7, 4, 167, 0, 4, 3, 172]
abbrev dktX0_isDigit_0 : List UInt8 := dkwX0_isDigit_0 ++ []
theorem dksX0_isDigit_0 : cX0_isDigit.data.toList.drop 0 = dktX0_isDigit_0 := by decide +kernel
theorem dX0_isDigit_0 : decode cX0_isDigit 0 = .ok (.iload_n 0, 1) := dk_26 (dk_at dksX0_isDigit_0 0 rfl rfl)
theorem dX0_isDigit_1 : decode cX0_isDigit 1 = .ok (.bipush 48, 2) := dk_16 48 (dk_at dksX0_isDigit_0 1 rfl rfl)
theorem dX0_isDigit_3 : decode cX0_isDigit 3 = .ok (.if_icmp .lt 13, 3) := dk_161 0 13 (dk_at dksX0_isDigit_0 3 rfl rfl)
theorem dX0_isDigit_6 : decode cX0_isDigit 6 = .ok (.iload_n 0, 1) := dk_26 (dk_at dksX0_isDigit_0 6 rfl rfl)
theorem dX0_isDigit_7 : decode cX0_isDigit 7 = .ok (.bipush 57, 2) := dk_16 57 (dk_at dksX0_isDigit_0 7 rfl rfl)
theorem dX0_isDigit_9 : decode cX0_isDigit 9 = .ok (.if_icmp .gt 7, 3) := dk_163 0 7 (dk_at dksX0_isDigit_0 9 rfl rfl)
theorem dX0_isDigit_12 : decode cX0_isDigit 12 = .ok (.iconst 1, 1) := dk_4 (dk_at dksX0_isDigit_0 12 rfl rfl)
theorem dX0_isDigit_13 : decode cX0_isDigit 13 = .ok (.goto 4, 3) := dk_167 0 4 (dk_at dksX0_isDigit_0 13 rfl rfl)
theorem dX0_isDigit_16 : decode cX0_isDigit 16 = .ok (.iconst 0, 1) := dk_3 (dk_at dksX0_isDigit_0 16 rfl rfl)
theorem dX0_isDigit_17 : decode cX0_isDigit 17 = .ok (.ireturn, 1) := dk_172 (dk_at dksX0_isDigit_0 17 rfl rfl)
abbrev cX0_is : ByteArray := prog_1_method_1_code
def yX0_is : MethodName := ⟨RX0, "is", "(III)Z"⟩
def dkwX0_is_0 : List UInt8 := [26, 27, 161, 0, 12, 26, 28, 163, 0, 7, 4, 167, 0, 4, 3, 172]
abbrev dktX0_is_0 : List UInt8 := dkwX0_is_0 ++ []
theorem dksX0_is_0 : cX0_is.data.toList.drop 0 = dktX0_is_0 := by decide +kernel
theorem dX0_is_0 : decode cX0_is 0 = .ok (.iload_n 0, 1) := dk_26 (dk_at dksX0_is_0 0 rfl rfl)
theorem dX0_is_1 : decode cX0_is 1 = .ok (.iload_n 1, 1) := dk_27 (dk_at dksX0_is_0 1 rfl rfl)
theorem dX0_is_2 : decode cX0_is 2 = .ok (.if_icmp .lt 12, 3) := dk_161 0 12 (dk_at dksX0_is_0 2 rfl rfl)
theorem dX0_is_5 : decode cX0_is 5 = .ok (.iload_n 0, 1) := dk_26 (dk_at dksX0_is_0 5 rfl rfl)
theorem dX0_is_6 : decode cX0_is 6 = .ok (.iload_n 2, 1) := dk_28 (dk_at dksX0_is_0 6 rfl rfl)
theorem dX0_is_7 : decode cX0_is 7 = .ok (.if_icmp .gt 7, 3) := dk_163 0 7 (dk_at dksX0_is_0 7 rfl rfl)
theorem dX0_is_10 : decode cX0_is 10 = .ok (.iconst 1, 1) := dk_4 (dk_at dksX0_is_0 10 rfl rfl)
theorem dX0_is_11 : decode cX0_is 11 = .ok (.goto 4, 3) := dk_167 0 4 (dk_at dksX0_is_0 11 rfl rfl)
theorem dX0_is_14 : decode cX0_is 14 = .ok (.iconst 0, 1) := dk_3 (dk_at dksX0_is_0 14 rfl rfl)
theorem dX0_is_15 : decode cX0_is 15 = .ok (.ireturn, 1) := dk_172 (dk_at dksX0_is_0 15 rfl rfl)
abbrev cX0_find : ByteArray := prog_1_method_6_code
def yX0_find : MethodName := ⟨RX0, "find", "(Ljava/lang/String;[Ljava/lang/String;)I"⟩
def dkwX0_find_1 : List UInt8 := [167, 255, 235, 2, 172]
abbrev dktX0_find_1 : List UInt8 := dkwX0_find_1 ++ []
def dkwX0_find_0 : List UInt8 := [3, 61, 28, 43, 190, 162, 0, 21, 43, 28, 50, 42, 182, 0, 16, 153, 0, 5, 28, 172, 132, 2, 1]
abbrev dktX0_find_0 : List UInt8 := dkwX0_find_0 ++ dktX0_find_1
theorem dksX0_find_0 : cX0_find.data.toList.drop 0 = dktX0_find_0 := by decide +kernel
theorem dksX0_find_1 : cX0_find.data.toList.drop 23 = dktX0_find_1 := dk_seg dksX0_find_0 23 rfl rfl
theorem dX0_find_0 : decode cX0_find 0 = .ok (.iconst 0, 1) := dk_3 (dk_at dksX0_find_0 0 rfl rfl)
theorem dX0_find_1 : decode cX0_find 1 = .ok (.istore_n 2, 1) := dk_61 (dk_at dksX0_find_0 1 rfl rfl)
theorem dX0_find_2 : decode cX0_find 2 = .ok (.iload_n 2, 1) := dk_28 (dk_at dksX0_find_0 2 rfl rfl)
theorem dX0_find_3 : decode cX0_find 3 = .ok (.aload_n 1, 1) := dk_43 (dk_at dksX0_find_0 3 rfl rfl)
theorem dX0_find_4 : decode cX0_find 4 = .ok (.arraylength, 1) := dk_190 (dk_at dksX0_find_0 4 rfl rfl)
theorem dX0_find_5 : decode cX0_find 5 = .ok (.if_icmp .ge 21, 3) := dk_162 0 21 (dk_at dksX0_find_0 5 rfl rfl)
theorem dX0_find_8 : decode cX0_find 8 = .ok (.aload_n 1, 1) := dk_43 (dk_at dksX0_find_0 8 rfl rfl)
theorem dX0_find_9 : decode cX0_find 9 = .ok (.iload_n 2, 1) := dk_28 (dk_at dksX0_find_0 9 rfl rfl)
theorem dX0_find_10 : decode cX0_find 10 = .ok (.aaload, 1) := dk_50 (dk_at dksX0_find_0 10 rfl rfl)
theorem dX0_find_11 : decode cX0_find 11 = .ok (.aload_n 0, 1) := dk_42 (dk_at dksX0_find_0 11 rfl rfl)
theorem dX0_find_12 : decode cX0_find 12 = .ok (.invokevirtual 16, 3) := dk_182 0 16 (dk_at dksX0_find_0 12 rfl rfl)
theorem dX0_find_15 : decode cX0_find 15 = .ok (.ifCond .eq 5, 3) := dk_153 0 5 (dk_at dksX0_find_0 15 rfl rfl)
theorem dX0_find_18 : decode cX0_find 18 = .ok (.iload_n 2, 1) := dk_28 (dk_at dksX0_find_0 18 rfl rfl)
theorem dX0_find_19 : decode cX0_find 19 = .ok (.ireturn, 1) := dk_172 (dk_at dksX0_find_0 19 rfl rfl)
theorem dX0_find_20 : decode cX0_find 20 = .ok (.iinc 2 1, 3) := dk_132 2 1 (dk_at dksX0_find_0 20 rfl rfl)
theorem dX0_find_23 : decode cX0_find 23 = .ok (.goto (-21), 3) := dk_167 255 235 (dk_at dksX0_find_1 0 rfl rfl)
theorem dX0_find_26 : decode cX0_find 26 = .ok (.iconst (-1), 1) := dk_2 (dk_at dksX0_find_1 3 rfl rfl)
theorem dX0_find_27 : decode cX0_find 27 = .ok (.ireturn, 1) := dk_172 (dk_at dksX0_find_1 4 rfl rfl)
abbrev cX0_has : ByteArray := prog_1_method_2_code
def yX0_has : MethodName := ⟨RX0, "has", "(II)Z"⟩
def dkwX0_has_0 : List UInt8 := [26, 27, 122, 4, 126, 4, 160, 0, 7, 4, 167, 0, 4, 3, 172]
abbrev dktX0_has_0 : List UInt8 := dkwX0_has_0 ++ []
theorem dksX0_has_0 : cX0_has.data.toList.drop 0 = dktX0_has_0 := by decide +kernel
theorem dX0_has_0 : decode cX0_has 0 = .ok (.iload_n 0, 1) := dk_26 (dk_at dksX0_has_0 0 rfl rfl)
theorem dX0_has_1 : decode cX0_has 1 = .ok (.iload_n 1, 1) := dk_27 (dk_at dksX0_has_0 1 rfl rfl)
theorem dX0_has_2 : decode cX0_has 2 = .ok (.ishr, 1) := dk_122 (dk_at dksX0_has_0 2 rfl rfl)
theorem dX0_has_3 : decode cX0_has 3 = .ok (.iconst 1, 1) := dk_4 (dk_at dksX0_has_0 3 rfl rfl)
theorem dX0_has_4 : decode cX0_has 4 = .ok (.iand, 1) := dk_126 (dk_at dksX0_has_0 4 rfl rfl)
theorem dX0_has_5 : decode cX0_has 5 = .ok (.iconst 1, 1) := dk_4 (dk_at dksX0_has_0 5 rfl rfl)
theorem dX0_has_6 : decode cX0_has 6 = .ok (.if_icmp .ne 7, 3) := dk_160 0 7 (dk_at dksX0_has_0 6 rfl rfl)
theorem dX0_has_9 : decode cX0_has 9 = .ok (.iconst 1, 1) := dk_4 (dk_at dksX0_has_0 9 rfl rfl)
theorem dX0_has_10 : decode cX0_has 10 = .ok (.goto 4, 3) := dk_167 0 4 (dk_at dksX0_has_0 10 rfl rfl)
theorem dX0_has_13 : decode cX0_has 13 = .ok (.iconst 0, 1) := dk_3 (dk_at dksX0_has_0 13 rfl rfl)
theorem dX0_has_14 : decode cX0_has 14 = .ok (.ireturn, 1) := dk_172 (dk_at dksX0_has_0 14 rfl rfl)
abbrev cX0_checked : ByteArray := prog_1_method_20_code
def yX0_checked : MethodName := ⟨RX0, "checked", "(II)I"⟩
def dkwX0_checked_0 : List UInt8 := [6, 26, 104, 27, 96, 17, 0, 251, 112, 172]
abbrev dktX0_checked_0 : List UInt8 := dkwX0_checked_0 ++ []
theorem dksX0_checked_0 : cX0_checked.data.toList.drop 0 = dktX0_checked_0 := by decide +kernel
theorem dX0_checked_0 : decode cX0_checked 0 = .ok (.iconst 3, 1) := dk_6 (dk_at dksX0_checked_0 0 rfl rfl)
theorem dX0_checked_1 : decode cX0_checked 1 = .ok (.iload_n 0, 1) := dk_26 (dk_at dksX0_checked_0 1 rfl rfl)
theorem dX0_checked_2 : decode cX0_checked 2 = .ok (.imul, 1) := dk_104 (dk_at dksX0_checked_0 2 rfl rfl)
theorem dX0_checked_3 : decode cX0_checked 3 = .ok (.iload_n 1, 1) := dk_27 (dk_at dksX0_checked_0 3 rfl rfl)
theorem dX0_checked_4 : decode cX0_checked 4 = .ok (.iadd, 1) := dk_96 (dk_at dksX0_checked_0 4 rfl rfl)
theorem dX0_checked_5 : decode cX0_checked 5 = .ok (.sipush 251, 3) := dk_17 0 251 (dk_at dksX0_checked_0 5 rfl rfl)
theorem dX0_checked_8 : decode cX0_checked 8 = .ok (.irem, 1) := dk_112 (dk_at dksX0_checked_0 8 rfl rfl)
theorem dX0_checked_9 : decode cX0_checked 9 = .ok (.ireturn, 1) := dk_172 (dk_at dksX0_checked_0 9 rfl rfl)
abbrev cX0_canAppend : ByteArray := prog_1_method_58_code
def yX0_canAppend : MethodName := ⟨RX0, "canAppend", "(III)Z"⟩
def dkwX0_canAppend_3 : List UInt8 := [182, 1, 148, 2, 159, 0, 7, 4, 167, 0, 4, 3, 172]
abbrev dktX0_canAppend_3 : List UInt8 := dkwX0_canAppend_3 ++ []
def dkwX0_canAppend_2 : List UInt8 := [42, 180, 0, 111, 180, 1, 28, 185, 0, 197, 1, 0, 16, 16, 162, 0, 19, 42, 8, 6, 29, 96]
abbrev dktX0_canAppend_2 : List UInt8 := dkwX0_canAppend_2 ++ dktX0_canAppend_3
def dkwX0_canAppend_1 : List UInt8 := [153, 0, 57, 28, 3, 17, 3, 231, 184, 1, 16, 153, 0, 46, 29, 3, 16, 40, 184, 1, 16, 153, 0, 36]
abbrev dktX0_canAppend_1 : List UInt8 := dkwX0_canAppend_1 ++ dktX0_canAppend_2
def dkwX0_canAppend_0 : List UInt8 := [42, 182, 1, 12, 153, 0, 77, 42, 180, 0, 111, 180, 1, 56, 154, 0, 67, 27, 3, 16, 15, 184, 1, 16]
abbrev dktX0_canAppend_0 : List UInt8 := dkwX0_canAppend_0 ++ dktX0_canAppend_1
theorem dksX0_canAppend_0 : cX0_canAppend.data.toList.drop 0 = dktX0_canAppend_0 := by decide +kernel
theorem dksX0_canAppend_1 : cX0_canAppend.data.toList.drop 24 = dktX0_canAppend_1 := dk_seg dksX0_canAppend_0 24 rfl rfl
theorem dksX0_canAppend_2 : cX0_canAppend.data.toList.drop 48 = dktX0_canAppend_2 := dk_seg dksX0_canAppend_1 24 rfl rfl
theorem dksX0_canAppend_3 : cX0_canAppend.data.toList.drop 70 = dktX0_canAppend_3 := dk_seg dksX0_canAppend_2 22 rfl rfl
theorem dX0_canAppend_0 : decode cX0_canAppend 0 = .ok (.aload_n 0, 1) := dk_42 (dk_at dksX0_canAppend_0 0 rfl rfl)
theorem dX0_canAppend_1 : decode cX0_canAppend 1 = .ok (.invokevirtual 268, 3) := dk_182 1 12 (dk_at dksX0_canAppend_0 1 rfl rfl)
theorem dX0_canAppend_4 : decode cX0_canAppend 4 = .ok (.ifCond .eq 77, 3) := dk_153 0 77 (dk_at dksX0_canAppend_0 4 rfl rfl)
theorem dX0_canAppend_7 : decode cX0_canAppend 7 = .ok (.aload_n 0, 1) := dk_42 (dk_at dksX0_canAppend_0 7 rfl rfl)
theorem dX0_canAppend_8 : decode cX0_canAppend 8 = .ok (.getfield 111, 3) := dk_180 0 111 (dk_at dksX0_canAppend_0 8 rfl rfl)
theorem dX0_canAppend_11 : decode cX0_canAppend 11 = .ok (.getfield 312, 3) := dk_180 1 56 (dk_at dksX0_canAppend_0 11 rfl rfl)
theorem dX0_canAppend_14 : decode cX0_canAppend 14 = .ok (.ifCond .ne 67, 3) := dk_154 0 67 (dk_at dksX0_canAppend_0 14 rfl rfl)
theorem dX0_canAppend_17 : decode cX0_canAppend 17 = .ok (.iload_n 1, 1) := dk_27 (dk_at dksX0_canAppend_0 17 rfl rfl)
theorem dX0_canAppend_18 : decode cX0_canAppend 18 = .ok (.iconst 0, 1) := dk_3 (dk_at dksX0_canAppend_0 18 rfl rfl)
theorem dX0_canAppend_19 : decode cX0_canAppend 19 = .ok (.bipush 15, 2) := dk_16 15 (dk_at dksX0_canAppend_0 19 rfl rfl)
theorem dX0_canAppend_21 : decode cX0_canAppend 21 = .ok (.invokestatic 272, 3) := dk_184 1 16 (dk_at dksX0_canAppend_0 21 rfl rfl)
theorem dX0_canAppend_24 : decode cX0_canAppend 24 = .ok (.ifCond .eq 57, 3) := dk_153 0 57 (dk_at dksX0_canAppend_1 0 rfl rfl)
theorem dX0_canAppend_27 : decode cX0_canAppend 27 = .ok (.iload_n 2, 1) := dk_28 (dk_at dksX0_canAppend_1 3 rfl rfl)
theorem dX0_canAppend_28 : decode cX0_canAppend 28 = .ok (.iconst 0, 1) := dk_3 (dk_at dksX0_canAppend_1 4 rfl rfl)
theorem dX0_canAppend_29 : decode cX0_canAppend 29 = .ok (.sipush 999, 3) := dk_17 3 231 (dk_at dksX0_canAppend_1 5 rfl rfl)
theorem dX0_canAppend_32 : decode cX0_canAppend 32 = .ok (.invokestatic 272, 3) := dk_184 1 16 (dk_at dksX0_canAppend_1 8 rfl rfl)
theorem dX0_canAppend_35 : decode cX0_canAppend 35 = .ok (.ifCond .eq 46, 3) := dk_153 0 46 (dk_at dksX0_canAppend_1 11 rfl rfl)
theorem dX0_canAppend_38 : decode cX0_canAppend 38 = .ok (.iload_n 3, 1) := dk_29 (dk_at dksX0_canAppend_1 14 rfl rfl)
theorem dX0_canAppend_39 : decode cX0_canAppend 39 = .ok (.iconst 0, 1) := dk_3 (dk_at dksX0_canAppend_1 15 rfl rfl)
theorem dX0_canAppend_40 : decode cX0_canAppend 40 = .ok (.bipush 40, 2) := dk_16 40 (dk_at dksX0_canAppend_1 16 rfl rfl)
theorem dX0_canAppend_42 : decode cX0_canAppend 42 = .ok (.invokestatic 272, 3) := dk_184 1 16 (dk_at dksX0_canAppend_1 18 rfl rfl)
theorem dX0_canAppend_45 : decode cX0_canAppend 45 = .ok (.ifCond .eq 36, 3) := dk_153 0 36 (dk_at dksX0_canAppend_1 21 rfl rfl)
theorem dX0_canAppend_48 : decode cX0_canAppend 48 = .ok (.aload_n 0, 1) := dk_42 (dk_at dksX0_canAppend_2 0 rfl rfl)
theorem dX0_canAppend_49 : decode cX0_canAppend 49 = .ok (.getfield 111, 3) := dk_180 0 111 (dk_at dksX0_canAppend_2 1 rfl rfl)
theorem dX0_canAppend_52 : decode cX0_canAppend 52 = .ok (.getfield 284, 3) := dk_180 1 28 (dk_at dksX0_canAppend_2 4 rfl rfl)
theorem dX0_canAppend_55 : decode cX0_canAppend 55 = .ok (.invokeinterface 197 1, 5) := by decide +kernel
theorem dX0_canAppend_60 : decode cX0_canAppend 60 = .ok (.bipush 16, 2) := dk_16 16 (dk_at dksX0_canAppend_2 12 rfl rfl)
theorem dX0_canAppend_62 : decode cX0_canAppend 62 = .ok (.if_icmp .ge 19, 3) := dk_162 0 19 (dk_at dksX0_canAppend_2 14 rfl rfl)
theorem dX0_canAppend_65 : decode cX0_canAppend 65 = .ok (.aload_n 0, 1) := dk_42 (dk_at dksX0_canAppend_2 17 rfl rfl)
theorem dX0_canAppend_66 : decode cX0_canAppend 66 = .ok (.iconst 5, 1) := dk_8 (dk_at dksX0_canAppend_2 18 rfl rfl)
theorem dX0_canAppend_67 : decode cX0_canAppend 67 = .ok (.iconst 3, 1) := dk_6 (dk_at dksX0_canAppend_2 19 rfl rfl)
theorem dX0_canAppend_68 : decode cX0_canAppend 68 = .ok (.iload_n 3, 1) := dk_29 (dk_at dksX0_canAppend_2 20 rfl rfl)
theorem dX0_canAppend_69 : decode cX0_canAppend 69 = .ok (.iadd, 1) := dk_96 (dk_at dksX0_canAppend_2 21 rfl rfl)
theorem dX0_canAppend_70 : decode cX0_canAppend 70 = .ok (.invokevirtual 404, 3) := dk_182 1 148 (dk_at dksX0_canAppend_3 0 rfl rfl)
theorem dX0_canAppend_73 : decode cX0_canAppend 73 = .ok (.iconst (-1), 1) := dk_2 (dk_at dksX0_canAppend_3 3 rfl rfl)
theorem dX0_canAppend_74 : decode cX0_canAppend 74 = .ok (.if_icmp .eq 7, 3) := dk_159 0 7 (dk_at dksX0_canAppend_3 4 rfl rfl)
theorem dX0_canAppend_77 : decode cX0_canAppend 77 = .ok (.iconst 1, 1) := dk_4 (dk_at dksX0_canAppend_3 7 rfl rfl)
theorem dX0_canAppend_78 : decode cX0_canAppend 78 = .ok (.goto 4, 3) := dk_167 0 4 (dk_at dksX0_canAppend_3 8 rfl rfl)
theorem dX0_canAppend_81 : decode cX0_canAppend 81 = .ok (.iconst 0, 1) := dk_3 (dk_at dksX0_canAppend_3 11 rfl rfl)
theorem dX0_canAppend_82 : decode cX0_canAppend 82 = .ok (.ireturn, 1) := dk_172 (dk_at dksX0_canAppend_3 12 rfl rfl)
abbrev cX0_isJournal : ByteArray := prog_1_method_16_code
def yX0_isJournal : MethodName := ⟨RX0, "isJournal", "()Z"⟩
def dkwX0_isJournal_0 : List UInt8 := [42, 180, 0, 49, 180, 0, 239, 158, 0, 7, 4, 167, 0, 4, 3, 172]
abbrev dktX0_isJournal_0 : List UInt8 := dkwX0_isJournal_0 ++ []
theorem dksX0_isJournal_0 : cX0_isJournal.data.toList.drop 0 = dktX0_isJournal_0 := by decide +kernel
theorem dX0_isJournal_0 : decode cX0_isJournal 0 = .ok (.aload_n 0, 1) := dk_42 (dk_at dksX0_isJournal_0 0 rfl rfl)
theorem dX0_isJournal_1 : decode cX0_isJournal 1 = .ok (.getfield 49, 3) := dk_180 0 49 (dk_at dksX0_isJournal_0 1 rfl rfl)
theorem dX0_isJournal_4 : decode cX0_isJournal 4 = .ok (.getfield 239, 3) := dk_180 0 239 (dk_at dksX0_isJournal_0 4 rfl rfl)
theorem dX0_isJournal_7 : decode cX0_isJournal 7 = .ok (.ifCond .le 7, 3) := dk_158 0 7 (dk_at dksX0_isJournal_0 7 rfl rfl)
theorem dX0_isJournal_10 : decode cX0_isJournal 10 = .ok (.iconst 1, 1) := dk_4 (dk_at dksX0_isJournal_0 10 rfl rfl)
theorem dX0_isJournal_11 : decode cX0_isJournal 11 = .ok (.goto 4, 3) := dk_167 0 4 (dk_at dksX0_isJournal_0 11 rfl rfl)
theorem dX0_isJournal_14 : decode cX0_isJournal 14 = .ok (.iconst 0, 1) := dk_3 (dk_at dksX0_isJournal_0 14 rfl rfl)
theorem dX0_isJournal_15 : decode cX0_isJournal 15 = .ok (.ireturn, 1) := dk_172 (dk_at dksX0_isJournal_0 15 rfl rfl)
abbrev cX0_endOf : ByteArray := prog_1_method_19_code
def yX0_endOf : MethodName := ⟨RX0, "endOf", "(II)I"⟩
def dkwX0_endOf_2 : List UInt8 := [184, 0, 248, 54, 5, 29, 7, 21, 5, 96, 96, 62, 21, 4, 21, 5, 100, 54, 4, 167, 255, 195, 29, 172]
abbrev dktX0_endOf_2 : List UInt8 := dkwX0_endOf_2 ++ []
def dkwX0_endOf_1 : List UInt8 := [2, 172, 21, 4, 42, 180, 0, 49, 180, 0, 236, 29, 42, 180, 0, 49, 180, 0, 236, 112, 100, 7, 100]
abbrev dktX0_endOf_1 : List UInt8 := dkwX0_endOf_1 ++ dktX0_endOf_2
def dkwX0_endOf_0 : List UInt8 := [27, 62, 28, 54, 4, 21, 4, 158, 0, 62, 42, 29, 182, 0, 242, 62, 29, 42, 182, 0, 245, 161, 0, 5]
abbrev dktX0_endOf_0 : List UInt8 := dkwX0_endOf_0 ++ dktX0_endOf_1
theorem dksX0_endOf_0 : cX0_endOf.data.toList.drop 0 = dktX0_endOf_0 := by decide +kernel
theorem dksX0_endOf_1 : cX0_endOf.data.toList.drop 24 = dktX0_endOf_1 := dk_seg dksX0_endOf_0 24 rfl rfl
theorem dksX0_endOf_2 : cX0_endOf.data.toList.drop 47 = dktX0_endOf_2 := dk_seg dksX0_endOf_1 23 rfl rfl
theorem dX0_endOf_0 : decode cX0_endOf 0 = .ok (.iload_n 1, 1) := dk_27 (dk_at dksX0_endOf_0 0 rfl rfl)
theorem dX0_endOf_1 : decode cX0_endOf 1 = .ok (.istore_n 3, 1) := dk_62 (dk_at dksX0_endOf_0 1 rfl rfl)
theorem dX0_endOf_2 : decode cX0_endOf 2 = .ok (.iload_n 2, 1) := dk_28 (dk_at dksX0_endOf_0 2 rfl rfl)
theorem dX0_endOf_3 : decode cX0_endOf 3 = .ok (.istore 4, 2) := dk_54 4 (dk_at dksX0_endOf_0 3 rfl rfl)
theorem dX0_endOf_5 : decode cX0_endOf 5 = .ok (.iload 4, 2) := dk_21 4 (dk_at dksX0_endOf_0 5 rfl rfl)
theorem dX0_endOf_7 : decode cX0_endOf 7 = .ok (.ifCond .le 62, 3) := dk_158 0 62 (dk_at dksX0_endOf_0 7 rfl rfl)
theorem dX0_endOf_10 : decode cX0_endOf 10 = .ok (.aload_n 0, 1) := dk_42 (dk_at dksX0_endOf_0 10 rfl rfl)
theorem dX0_endOf_11 : decode cX0_endOf 11 = .ok (.iload_n 3, 1) := dk_29 (dk_at dksX0_endOf_0 11 rfl rfl)
theorem dX0_endOf_12 : decode cX0_endOf 12 = .ok (.invokevirtual 242, 3) := dk_182 0 242 (dk_at dksX0_endOf_0 12 rfl rfl)
theorem dX0_endOf_15 : decode cX0_endOf 15 = .ok (.istore_n 3, 1) := dk_62 (dk_at dksX0_endOf_0 15 rfl rfl)
theorem dX0_endOf_16 : decode cX0_endOf 16 = .ok (.iload_n 3, 1) := dk_29 (dk_at dksX0_endOf_0 16 rfl rfl)
theorem dX0_endOf_17 : decode cX0_endOf 17 = .ok (.aload_n 0, 1) := dk_42 (dk_at dksX0_endOf_0 17 rfl rfl)
theorem dX0_endOf_18 : decode cX0_endOf 18 = .ok (.invokevirtual 245, 3) := dk_182 0 245 (dk_at dksX0_endOf_0 18 rfl rfl)
theorem dX0_endOf_21 : decode cX0_endOf 21 = .ok (.if_icmp .lt 5, 3) := dk_161 0 5 (dk_at dksX0_endOf_0 21 rfl rfl)
theorem dX0_endOf_24 : decode cX0_endOf 24 = .ok (.iconst (-1), 1) := dk_2 (dk_at dksX0_endOf_1 0 rfl rfl)
theorem dX0_endOf_25 : decode cX0_endOf 25 = .ok (.ireturn, 1) := dk_172 (dk_at dksX0_endOf_1 1 rfl rfl)
theorem dX0_endOf_26 : decode cX0_endOf 26 = .ok (.iload 4, 2) := dk_21 4 (dk_at dksX0_endOf_1 2 rfl rfl)
theorem dX0_endOf_28 : decode cX0_endOf 28 = .ok (.aload_n 0, 1) := dk_42 (dk_at dksX0_endOf_1 4 rfl rfl)
theorem dX0_endOf_29 : decode cX0_endOf 29 = .ok (.getfield 49, 3) := dk_180 0 49 (dk_at dksX0_endOf_1 5 rfl rfl)
theorem dX0_endOf_32 : decode cX0_endOf 32 = .ok (.getfield 236, 3) := dk_180 0 236 (dk_at dksX0_endOf_1 8 rfl rfl)
theorem dX0_endOf_35 : decode cX0_endOf 35 = .ok (.iload_n 3, 1) := dk_29 (dk_at dksX0_endOf_1 11 rfl rfl)
theorem dX0_endOf_36 : decode cX0_endOf 36 = .ok (.aload_n 0, 1) := dk_42 (dk_at dksX0_endOf_1 12 rfl rfl)
theorem dX0_endOf_37 : decode cX0_endOf 37 = .ok (.getfield 49, 3) := dk_180 0 49 (dk_at dksX0_endOf_1 13 rfl rfl)
theorem dX0_endOf_40 : decode cX0_endOf 40 = .ok (.getfield 236, 3) := dk_180 0 236 (dk_at dksX0_endOf_1 16 rfl rfl)
theorem dX0_endOf_43 : decode cX0_endOf 43 = .ok (.irem, 1) := dk_112 (dk_at dksX0_endOf_1 19 rfl rfl)
theorem dX0_endOf_44 : decode cX0_endOf 44 = .ok (.isub, 1) := dk_100 (dk_at dksX0_endOf_1 20 rfl rfl)
theorem dX0_endOf_45 : decode cX0_endOf 45 = .ok (.iconst 4, 1) := dk_7 (dk_at dksX0_endOf_1 21 rfl rfl)
theorem dX0_endOf_46 : decode cX0_endOf 46 = .ok (.isub, 1) := dk_100 (dk_at dksX0_endOf_1 22 rfl rfl)
theorem dX0_endOf_47 : decode cX0_endOf 47 = .ok (.invokestatic 248, 3) := dk_184 0 248 (dk_at dksX0_endOf_2 0 rfl rfl)
theorem dX0_endOf_50 : decode cX0_endOf 50 = .ok (.istore 5, 2) := dk_54 5 (dk_at dksX0_endOf_2 3 rfl rfl)
theorem dX0_endOf_52 : decode cX0_endOf 52 = .ok (.iload_n 3, 1) := dk_29 (dk_at dksX0_endOf_2 5 rfl rfl)
theorem dX0_endOf_53 : decode cX0_endOf 53 = .ok (.iconst 4, 1) := dk_7 (dk_at dksX0_endOf_2 6 rfl rfl)
theorem dX0_endOf_54 : decode cX0_endOf 54 = .ok (.iload 5, 2) := dk_21 5 (dk_at dksX0_endOf_2 7 rfl rfl)
theorem dX0_endOf_56 : decode cX0_endOf 56 = .ok (.iadd, 1) := dk_96 (dk_at dksX0_endOf_2 9 rfl rfl)
theorem dX0_endOf_57 : decode cX0_endOf 57 = .ok (.iadd, 1) := dk_96 (dk_at dksX0_endOf_2 10 rfl rfl)
theorem dX0_endOf_58 : decode cX0_endOf 58 = .ok (.istore_n 3, 1) := dk_62 (dk_at dksX0_endOf_2 11 rfl rfl)
theorem dX0_endOf_59 : decode cX0_endOf 59 = .ok (.iload 4, 2) := dk_21 4 (dk_at dksX0_endOf_2 12 rfl rfl)
theorem dX0_endOf_61 : decode cX0_endOf 61 = .ok (.iload 5, 2) := dk_21 5 (dk_at dksX0_endOf_2 14 rfl rfl)
theorem dX0_endOf_63 : decode cX0_endOf 63 = .ok (.isub, 1) := dk_100 (dk_at dksX0_endOf_2 16 rfl rfl)
theorem dX0_endOf_64 : decode cX0_endOf 64 = .ok (.istore 4, 2) := dk_54 4 (dk_at dksX0_endOf_2 17 rfl rfl)
theorem dX0_endOf_66 : decode cX0_endOf 66 = .ok (.goto (-61), 3) := dk_167 255 195 (dk_at dksX0_endOf_2 19 rfl rfl)
theorem dX0_endOf_69 : decode cX0_endOf 69 = .ok (.iload_n 3, 1) := dk_29 (dk_at dksX0_endOf_2 22 rfl rfl)
theorem dX0_endOf_70 : decode cX0_endOf 70 = .ok (.ireturn, 1) := dk_172 (dk_at dksX0_endOf_2 23 rfl rfl)
abbrev cX0_frameFrom : ByteArray := prog_1_method_18_code
def yX0_frameFrom : MethodName := ⟨RX0, "frameFrom", "(I)I"⟩
def dkwX0_frameFrom_1 : List UInt8 := [28, 96, 167, 0, 4, 27, 172]
abbrev dktX0_frameFrom_1 : List UInt8 := dkwX0_frameFrom_1 ++ []
def dkwX0_frameFrom_0 : List UInt8 := [42, 180, 0, 49, 180, 0, 236, 27, 42, 180, 0, 49, 180, 0, 236, 112, 100, 61, 28, 8, 162, 0, 9, 27]
abbrev dktX0_frameFrom_0 : List UInt8 := dkwX0_frameFrom_0 ++ dktX0_frameFrom_1
theorem dksX0_frameFrom_0 : cX0_frameFrom.data.toList.drop 0 = dktX0_frameFrom_0 := by decide +kernel
theorem dksX0_frameFrom_1 : cX0_frameFrom.data.toList.drop 24 = dktX0_frameFrom_1 := dk_seg dksX0_frameFrom_0 24 rfl rfl
theorem dX0_frameFrom_0 : decode cX0_frameFrom 0 = .ok (.aload_n 0, 1) := dk_42 (dk_at dksX0_frameFrom_0 0 rfl rfl)
theorem dX0_frameFrom_1 : decode cX0_frameFrom 1 = .ok (.getfield 49, 3) := dk_180 0 49 (dk_at dksX0_frameFrom_0 1 rfl rfl)
theorem dX0_frameFrom_4 : decode cX0_frameFrom 4 = .ok (.getfield 236, 3) := dk_180 0 236 (dk_at dksX0_frameFrom_0 4 rfl rfl)
theorem dX0_frameFrom_7 : decode cX0_frameFrom 7 = .ok (.iload_n 1, 1) := dk_27 (dk_at dksX0_frameFrom_0 7 rfl rfl)
theorem dX0_frameFrom_8 : decode cX0_frameFrom 8 = .ok (.aload_n 0, 1) := dk_42 (dk_at dksX0_frameFrom_0 8 rfl rfl)
theorem dX0_frameFrom_9 : decode cX0_frameFrom 9 = .ok (.getfield 49, 3) := dk_180 0 49 (dk_at dksX0_frameFrom_0 9 rfl rfl)
theorem dX0_frameFrom_12 : decode cX0_frameFrom 12 = .ok (.getfield 236, 3) := dk_180 0 236 (dk_at dksX0_frameFrom_0 12 rfl rfl)
theorem dX0_frameFrom_15 : decode cX0_frameFrom 15 = .ok (.irem, 1) := dk_112 (dk_at dksX0_frameFrom_0 15 rfl rfl)
theorem dX0_frameFrom_16 : decode cX0_frameFrom 16 = .ok (.isub, 1) := dk_100 (dk_at dksX0_frameFrom_0 16 rfl rfl)
theorem dX0_frameFrom_17 : decode cX0_frameFrom 17 = .ok (.istore_n 2, 1) := dk_61 (dk_at dksX0_frameFrom_0 17 rfl rfl)
theorem dX0_frameFrom_18 : decode cX0_frameFrom 18 = .ok (.iload_n 2, 1) := dk_28 (dk_at dksX0_frameFrom_0 18 rfl rfl)
theorem dX0_frameFrom_19 : decode cX0_frameFrom 19 = .ok (.iconst 5, 1) := dk_8 (dk_at dksX0_frameFrom_0 19 rfl rfl)
theorem dX0_frameFrom_20 : decode cX0_frameFrom 20 = .ok (.if_icmp .ge 9, 3) := dk_162 0 9 (dk_at dksX0_frameFrom_0 20 rfl rfl)
theorem dX0_frameFrom_23 : decode cX0_frameFrom 23 = .ok (.iload_n 1, 1) := dk_27 (dk_at dksX0_frameFrom_0 23 rfl rfl)
theorem dX0_frameFrom_24 : decode cX0_frameFrom 24 = .ok (.iload_n 2, 1) := dk_28 (dk_at dksX0_frameFrom_1 0 rfl rfl)
theorem dX0_frameFrom_25 : decode cX0_frameFrom 25 = .ok (.iadd, 1) := dk_96 (dk_at dksX0_frameFrom_1 1 rfl rfl)
theorem dX0_frameFrom_26 : decode cX0_frameFrom 26 = .ok (.goto 4, 3) := dk_167 0 4 (dk_at dksX0_frameFrom_1 2 rfl rfl)
theorem dX0_frameFrom_29 : decode cX0_frameFrom 29 = .ok (.iload_n 1, 1) := dk_27 (dk_at dksX0_frameFrom_1 5 rfl rfl)
theorem dX0_frameFrom_30 : decode cX0_frameFrom 30 = .ok (.ireturn, 1) := dk_172 (dk_at dksX0_frameFrom_1 6 rfl rfl)
abbrev cX0_length : ByteArray := prog_1_method_15_code
def yX0_length : MethodName := ⟨RX0, "length", "()I"⟩
def dkwX0_length_0 : List UInt8 := [42, 180, 0, 49, 180, 0, 233, 42, 180, 0, 49, 180, 0, 236, 104, 172]
abbrev dktX0_length_0 : List UInt8 := dkwX0_length_0 ++ []
theorem dksX0_length_0 : cX0_length.data.toList.drop 0 = dktX0_length_0 := by decide +kernel
theorem dX0_length_0 : decode cX0_length 0 = .ok (.aload_n 0, 1) := dk_42 (dk_at dksX0_length_0 0 rfl rfl)
theorem dX0_length_1 : decode cX0_length 1 = .ok (.getfield 49, 3) := dk_180 0 49 (dk_at dksX0_length_0 1 rfl rfl)
theorem dX0_length_4 : decode cX0_length 4 = .ok (.getfield 233, 3) := dk_180 0 233 (dk_at dksX0_length_0 4 rfl rfl)
theorem dX0_length_7 : decode cX0_length 7 = .ok (.aload_n 0, 1) := dk_42 (dk_at dksX0_length_0 7 rfl rfl)
theorem dX0_length_8 : decode cX0_length 8 = .ok (.getfield 49, 3) := dk_180 0 49 (dk_at dksX0_length_0 8 rfl rfl)
theorem dX0_length_11 : decode cX0_length 11 = .ok (.getfield 236, 3) := dk_180 0 236 (dk_at dksX0_length_0 11 rfl rfl)
theorem dX0_length_14 : decode cX0_length 14 = .ok (.imul, 1) := dk_104 (dk_at dksX0_length_0 14 rfl rfl)
theorem dX0_length_15 : decode cX0_length 15 = .ok (.ireturn, 1) := dk_172 (dk_at dksX0_length_0 15 rfl rfl)
abbrev cX0_forgets : ByteArray := prog_1_method_56_code
def yX0_forgets : MethodName := ⟨RX0, "forgets", "()V"⟩
def dkwX0_forgets_2 : List UInt8 := [177]
abbrev dktX0_forgets_2 : List UInt8 := dkwX0_forgets_2 ++ []
def dkwX0_forgets_1 : List UInt8 := [185, 0, 197, 1, 0, 4, 100, 185, 1, 199, 2, 0, 192, 0, 108, 185, 1, 208, 2, 0, 87, 167, 255, 211]
abbrev dktX0_forgets_1 : List UInt8 := dkwX0_forgets_1 ++ dktX0_forgets_2
def dkwX0_forgets_0 : List UInt8 := [42, 180, 0, 141, 185, 1, 196, 1, 0, 154, 0, 39, 42, 180, 0, 145, 42, 180, 0, 141, 42, 180, 0, 141]
abbrev dktX0_forgets_0 : List UInt8 := dkwX0_forgets_0 ++ dktX0_forgets_1
theorem dksX0_forgets_0 : cX0_forgets.data.toList.drop 0 = dktX0_forgets_0 := by decide +kernel
theorem dksX0_forgets_1 : cX0_forgets.data.toList.drop 24 = dktX0_forgets_1 := dk_seg dksX0_forgets_0 24 rfl rfl
theorem dksX0_forgets_2 : cX0_forgets.data.toList.drop 48 = dktX0_forgets_2 := dk_seg dksX0_forgets_1 24 rfl rfl
theorem dX0_forgets_0 : decode cX0_forgets 0 = .ok (.aload_n 0, 1) := dk_42 (dk_at dksX0_forgets_0 0 rfl rfl)
theorem dX0_forgets_1 : decode cX0_forgets 1 = .ok (.getfield 141, 3) := dk_180 0 141 (dk_at dksX0_forgets_0 1 rfl rfl)
theorem dX0_forgets_4 : decode cX0_forgets 4 = .ok (.invokeinterface 452 1, 5) := by decide +kernel
theorem dX0_forgets_9 : decode cX0_forgets 9 = .ok (.ifCond .ne 39, 3) := dk_154 0 39 (dk_at dksX0_forgets_0 9 rfl rfl)
theorem dX0_forgets_12 : decode cX0_forgets 12 = .ok (.aload_n 0, 1) := dk_42 (dk_at dksX0_forgets_0 12 rfl rfl)
theorem dX0_forgets_13 : decode cX0_forgets 13 = .ok (.getfield 145, 3) := dk_180 0 145 (dk_at dksX0_forgets_0 13 rfl rfl)
theorem dX0_forgets_16 : decode cX0_forgets 16 = .ok (.aload_n 0, 1) := dk_42 (dk_at dksX0_forgets_0 16 rfl rfl)
theorem dX0_forgets_17 : decode cX0_forgets 17 = .ok (.getfield 141, 3) := dk_180 0 141 (dk_at dksX0_forgets_0 17 rfl rfl)
theorem dX0_forgets_20 : decode cX0_forgets 20 = .ok (.aload_n 0, 1) := dk_42 (dk_at dksX0_forgets_0 20 rfl rfl)
theorem dX0_forgets_21 : decode cX0_forgets 21 = .ok (.getfield 141, 3) := dk_180 0 141 (dk_at dksX0_forgets_0 21 rfl rfl)
theorem dX0_forgets_24 : decode cX0_forgets 24 = .ok (.invokeinterface 197 1, 5) := by decide +kernel
theorem dX0_forgets_29 : decode cX0_forgets 29 = .ok (.iconst 1, 1) := dk_4 (dk_at dksX0_forgets_1 5 rfl rfl)
theorem dX0_forgets_30 : decode cX0_forgets 30 = .ok (.isub, 1) := dk_100 (dk_at dksX0_forgets_1 6 rfl rfl)
theorem dX0_forgets_31 : decode cX0_forgets 31 = .ok (.invokeinterface 455 2, 5) := by decide +kernel
theorem dX0_forgets_36 : decode cX0_forgets 36 = .ok (.checkcast 108, 3) := dk_192 0 108 (dk_at dksX0_forgets_1 12 rfl rfl)
theorem dX0_forgets_39 : decode cX0_forgets 39 = .ok (.invokeinterface 464 2, 5) := by decide +kernel
theorem dX0_forgets_44 : decode cX0_forgets 44 = .ok (.pop, 1) := dk_87 (dk_at dksX0_forgets_1 20 rfl rfl)
theorem dX0_forgets_45 : decode cX0_forgets 45 = .ok (.goto (-45), 3) := dk_167 255 211 (dk_at dksX0_forgets_1 21 rfl rfl)
theorem dX0_forgets_48 : decode cX0_forgets 48 = .ok (.return_, 1) := dk_177 (dk_at dksX0_forgets_2 0 rfl rfl)
abbrev cX0_fault : ByteArray := prog_1_method_14_code
def yX0_fault : MethodName := ⟨RX0, "fault", "(I)I"⟩
def dkwX0_fault_1 : List UInt8 := [172]
abbrev dktX0_fault_1 : List UInt8 := dkwX0_fault_1 ++ []
def dkwX0_fault_0 : List UInt8 := [27, 154, 0, 10, 42, 180, 0, 169, 167, 0, 16, 27, 4, 160, 0, 10, 42, 180, 0, 57, 167, 0, 4, 2]
abbrev dktX0_fault_0 : List UInt8 := dkwX0_fault_0 ++ dktX0_fault_1
theorem dksX0_fault_0 : cX0_fault.data.toList.drop 0 = dktX0_fault_0 := by decide +kernel
theorem dksX0_fault_1 : cX0_fault.data.toList.drop 24 = dktX0_fault_1 := dk_seg dksX0_fault_0 24 rfl rfl
theorem dX0_fault_0 : decode cX0_fault 0 = .ok (.iload_n 1, 1) := dk_27 (dk_at dksX0_fault_0 0 rfl rfl)
theorem dX0_fault_1 : decode cX0_fault 1 = .ok (.ifCond .ne 10, 3) := dk_154 0 10 (dk_at dksX0_fault_0 1 rfl rfl)
theorem dX0_fault_4 : decode cX0_fault 4 = .ok (.aload_n 0, 1) := dk_42 (dk_at dksX0_fault_0 4 rfl rfl)
theorem dX0_fault_5 : decode cX0_fault 5 = .ok (.getfield 169, 3) := dk_180 0 169 (dk_at dksX0_fault_0 5 rfl rfl)
theorem dX0_fault_8 : decode cX0_fault 8 = .ok (.goto 16, 3) := dk_167 0 16 (dk_at dksX0_fault_0 8 rfl rfl)
theorem dX0_fault_11 : decode cX0_fault 11 = .ok (.iload_n 1, 1) := dk_27 (dk_at dksX0_fault_0 11 rfl rfl)
theorem dX0_fault_12 : decode cX0_fault 12 = .ok (.iconst 1, 1) := dk_4 (dk_at dksX0_fault_0 12 rfl rfl)
theorem dX0_fault_13 : decode cX0_fault 13 = .ok (.if_icmp .ne 10, 3) := dk_160 0 10 (dk_at dksX0_fault_0 13 rfl rfl)
theorem dX0_fault_16 : decode cX0_fault 16 = .ok (.aload_n 0, 1) := dk_42 (dk_at dksX0_fault_0 16 rfl rfl)
theorem dX0_fault_17 : decode cX0_fault 17 = .ok (.getfield 57, 3) := dk_180 0 57 (dk_at dksX0_fault_0 17 rfl rfl)
theorem dX0_fault_20 : decode cX0_fault 20 = .ok (.goto 4, 3) := dk_167 0 4 (dk_at dksX0_fault_0 20 rfl rfl)
theorem dX0_fault_23 : decode cX0_fault 23 = .ok (.iconst (-1), 1) := dk_2 (dk_at dksX0_fault_0 23 rfl rfl)
theorem dX0_fault_24 : decode cX0_fault 24 = .ok (.ireturn, 1) := dk_172 (dk_at dksX0_fault_1 0 rfl rfl)
abbrev cX0_has_2 : ByteArray := prog_1_method_25_code
def yX0_has_2 : MethodName := ⟨RX0, "has", "(I)I"⟩
def dkwX0_has_2_8 : List UInt8 := [167, 0, 4, 3, 172, 2, 172]
abbrev dktX0_has_2_8 : List UInt8 := dkwX0_has_2_8 ++ []
def dkwX0_has_2_7 : List UInt8 := [172, 42, 180, 0, 141, 185, 0, 197, 1, 0, 172, 42, 180, 0, 111, 180, 1, 56, 153, 0, 7, 4]
abbrev dktX0_has_2_7 : List UInt8 := dkwX0_has_2_7 ++ dktX0_has_2_8
def dkwX0_has_2_6 : List UInt8 := [180, 1, 47, 182, 1, 51, 172, 42, 180, 0, 111, 180, 1, 54, 185, 0, 197, 1, 0, 172, 42, 180, 0, 227]
abbrev dktX0_has_2_6 : List UInt8 := dkwX0_has_2_6 ++ dktX0_has_2_7
def dkwX0_has_2_5 : List UInt8 := [180, 0, 111, 180, 1, 37, 172, 42, 180, 0, 111, 180, 1, 40, 182, 1, 44, 172, 42, 180, 0, 111]
abbrev dktX0_has_2_5 : List UInt8 := dkwX0_has_2_5 ++ dktX0_has_2_6
def dkwX0_has_2_4 : List UInt8 := [185, 0, 197, 1, 0, 172, 42, 180, 0, 111, 180, 1, 31, 172, 42, 180, 0, 111, 180, 1, 34, 172, 42]
abbrev dktX0_has_2_4 : List UInt8 := dkwX0_has_2_4 ++ dktX0_has_2_5
def dkwX0_has_2_3 : List UInt8 := [180, 0, 111, 180, 1, 22, 172, 42, 180, 0, 111, 180, 1, 25, 172, 42, 180, 0, 111, 180, 1, 28]
abbrev dktX0_has_2_3 : List UInt8 := dkwX0_has_2_3 ++ dktX0_has_2_4
def dkwX0_has_2_2 : List UInt8 := [42, 180, 0, 49, 180, 0, 239, 172, 42, 182, 0, 245, 172, 42, 180, 0, 111, 180, 1, 19, 172, 42]
abbrev dktX0_has_2_2 : List UInt8 := dkwX0_has_2_2 ++ dktX0_has_2_3
def dkwX0_has_2_1 : List UInt8 := [170, 0, 0, 0, 0, 0, 0, 216, 0, 0, 0, 0, 0, 0, 0, 14, 0, 0, 0, 76, 0, 0, 0, 84, 0, 0, 0, 89, 0, 0, 0, 97, 0, 0, 0, 105, 0, 0, 0, 113, 0, 0, 0, 126, 0, 0, 0, 134, 0, 0, 0, 142, 0, 0, 0, 150, 0, 0, 0, 161, 0, 0, 0, 172, 0, 0, 0, 185, 0, 0, 0, 190, 0, 0, 0, 200]
abbrev dktX0_has_2_1 : List UInt8 := dkwX0_has_2_1 ++ dktX0_has_2_2
def dkwX0_has_2_0 : List UInt8 := [42, 182, 1, 12, 154, 0, 19, 27, 3, 16, 14, 184, 1, 16, 153, 0, 7, 3, 167, 0, 4, 2, 172, 27]
abbrev dktX0_has_2_0 : List UInt8 := dkwX0_has_2_0 ++ dktX0_has_2_1
theorem dksX0_has_2_0 : cX0_has_2.data.toList.drop 0 = dktX0_has_2_0 := by decide +kernel
theorem dksX0_has_2_1 : cX0_has_2.data.toList.drop 24 = dktX0_has_2_1 := dk_seg dksX0_has_2_0 24 rfl rfl
theorem dksX0_has_2_2 : cX0_has_2.data.toList.drop 100 = dktX0_has_2_2 := dk_seg dksX0_has_2_1 76 rfl rfl
theorem dksX0_has_2_3 : cX0_has_2.data.toList.drop 122 = dktX0_has_2_3 := dk_seg dksX0_has_2_2 22 rfl rfl
theorem dksX0_has_2_4 : cX0_has_2.data.toList.drop 144 = dktX0_has_2_4 := dk_seg dksX0_has_2_3 22 rfl rfl
theorem dksX0_has_2_5 : cX0_has_2.data.toList.drop 167 = dktX0_has_2_5 := dk_seg dksX0_has_2_4 23 rfl rfl
theorem dksX0_has_2_6 : cX0_has_2.data.toList.drop 189 = dktX0_has_2_6 := dk_seg dksX0_has_2_5 22 rfl rfl
theorem dksX0_has_2_7 : cX0_has_2.data.toList.drop 213 = dktX0_has_2_7 := dk_seg dksX0_has_2_6 24 rfl rfl
theorem dksX0_has_2_8 : cX0_has_2.data.toList.drop 235 = dktX0_has_2_8 := dk_seg dksX0_has_2_7 22 rfl rfl
theorem dX0_has_2_0 : decode cX0_has_2 0 = .ok (.aload_n 0, 1) := dk_42 (dk_at dksX0_has_2_0 0 rfl rfl)
theorem dX0_has_2_1 : decode cX0_has_2 1 = .ok (.invokevirtual 268, 3) := dk_182 1 12 (dk_at dksX0_has_2_0 1 rfl rfl)
theorem dX0_has_2_4 : decode cX0_has_2 4 = .ok (.ifCond .ne 19, 3) := dk_154 0 19 (dk_at dksX0_has_2_0 4 rfl rfl)
theorem dX0_has_2_7 : decode cX0_has_2 7 = .ok (.iload_n 1, 1) := dk_27 (dk_at dksX0_has_2_0 7 rfl rfl)
theorem dX0_has_2_8 : decode cX0_has_2 8 = .ok (.iconst 0, 1) := dk_3 (dk_at dksX0_has_2_0 8 rfl rfl)
theorem dX0_has_2_9 : decode cX0_has_2 9 = .ok (.bipush 14, 2) := dk_16 14 (dk_at dksX0_has_2_0 9 rfl rfl)
theorem dX0_has_2_11 : decode cX0_has_2 11 = .ok (.invokestatic 272, 3) := dk_184 1 16 (dk_at dksX0_has_2_0 11 rfl rfl)
theorem dX0_has_2_14 : decode cX0_has_2 14 = .ok (.ifCond .eq 7, 3) := dk_153 0 7 (dk_at dksX0_has_2_0 14 rfl rfl)
theorem dX0_has_2_17 : decode cX0_has_2 17 = .ok (.iconst 0, 1) := dk_3 (dk_at dksX0_has_2_0 17 rfl rfl)
theorem dX0_has_2_18 : decode cX0_has_2 18 = .ok (.goto 4, 3) := dk_167 0 4 (dk_at dksX0_has_2_0 18 rfl rfl)
theorem dX0_has_2_21 : decode cX0_has_2 21 = .ok (.iconst (-1), 1) := dk_2 (dk_at dksX0_has_2_0 21 rfl rfl)
theorem dX0_has_2_22 : decode cX0_has_2 22 = .ok (.ireturn, 1) := dk_172 (dk_at dksX0_has_2_0 22 rfl rfl)
theorem dX0_has_2_23 : decode cX0_has_2 23 = .ok (.iload_n 1, 1) := dk_27 (dk_at dksX0_has_2_0 23 rfl rfl)
theorem dX0_has_2_24 : decode cX0_has_2 24 = .ok (.tableswitch 216 0 14 #[76, 84, 89, 97, 105, 113, 126, 134, 142, 150, 161, 172, 185, 190, 200], 76) := by decide +kernel
theorem dX0_has_2_100 : decode cX0_has_2 100 = .ok (.aload_n 0, 1) := dk_42 (dk_at dksX0_has_2_2 0 rfl rfl)
theorem dX0_has_2_101 : decode cX0_has_2 101 = .ok (.getfield 49, 3) := dk_180 0 49 (dk_at dksX0_has_2_2 1 rfl rfl)
theorem dX0_has_2_104 : decode cX0_has_2 104 = .ok (.getfield 239, 3) := dk_180 0 239 (dk_at dksX0_has_2_2 4 rfl rfl)
theorem dX0_has_2_107 : decode cX0_has_2 107 = .ok (.ireturn, 1) := dk_172 (dk_at dksX0_has_2_2 7 rfl rfl)
theorem dX0_has_2_108 : decode cX0_has_2 108 = .ok (.aload_n 0, 1) := dk_42 (dk_at dksX0_has_2_2 8 rfl rfl)
theorem dX0_has_2_109 : decode cX0_has_2 109 = .ok (.invokevirtual 245, 3) := dk_182 0 245 (dk_at dksX0_has_2_2 9 rfl rfl)
theorem dX0_has_2_112 : decode cX0_has_2 112 = .ok (.ireturn, 1) := dk_172 (dk_at dksX0_has_2_2 12 rfl rfl)
theorem dX0_has_2_113 : decode cX0_has_2 113 = .ok (.aload_n 0, 1) := dk_42 (dk_at dksX0_has_2_2 13 rfl rfl)
theorem dX0_has_2_114 : decode cX0_has_2 114 = .ok (.getfield 111, 3) := dk_180 0 111 (dk_at dksX0_has_2_2 14 rfl rfl)
theorem dX0_has_2_117 : decode cX0_has_2 117 = .ok (.getfield 275, 3) := dk_180 1 19 (dk_at dksX0_has_2_2 17 rfl rfl)
theorem dX0_has_2_120 : decode cX0_has_2 120 = .ok (.ireturn, 1) := dk_172 (dk_at dksX0_has_2_2 20 rfl rfl)
theorem dX0_has_2_121 : decode cX0_has_2 121 = .ok (.aload_n 0, 1) := dk_42 (dk_at dksX0_has_2_2 21 rfl rfl)
theorem dX0_has_2_122 : decode cX0_has_2 122 = .ok (.getfield 111, 3) := dk_180 0 111 (dk_at dksX0_has_2_3 0 rfl rfl)
theorem dX0_has_2_125 : decode cX0_has_2 125 = .ok (.getfield 278, 3) := dk_180 1 22 (dk_at dksX0_has_2_3 3 rfl rfl)
theorem dX0_has_2_128 : decode cX0_has_2 128 = .ok (.ireturn, 1) := dk_172 (dk_at dksX0_has_2_3 6 rfl rfl)
theorem dX0_has_2_129 : decode cX0_has_2 129 = .ok (.aload_n 0, 1) := dk_42 (dk_at dksX0_has_2_3 7 rfl rfl)
theorem dX0_has_2_130 : decode cX0_has_2 130 = .ok (.getfield 111, 3) := dk_180 0 111 (dk_at dksX0_has_2_3 8 rfl rfl)
theorem dX0_has_2_133 : decode cX0_has_2 133 = .ok (.getfield 281, 3) := dk_180 1 25 (dk_at dksX0_has_2_3 11 rfl rfl)
theorem dX0_has_2_136 : decode cX0_has_2 136 = .ok (.ireturn, 1) := dk_172 (dk_at dksX0_has_2_3 14 rfl rfl)
theorem dX0_has_2_137 : decode cX0_has_2 137 = .ok (.aload_n 0, 1) := dk_42 (dk_at dksX0_has_2_3 15 rfl rfl)
theorem dX0_has_2_138 : decode cX0_has_2 138 = .ok (.getfield 111, 3) := dk_180 0 111 (dk_at dksX0_has_2_3 16 rfl rfl)
theorem dX0_has_2_141 : decode cX0_has_2 141 = .ok (.getfield 284, 3) := dk_180 1 28 (dk_at dksX0_has_2_3 19 rfl rfl)
theorem dX0_has_2_144 : decode cX0_has_2 144 = .ok (.invokeinterface 197 1, 5) := by decide +kernel
theorem dX0_has_2_149 : decode cX0_has_2 149 = .ok (.ireturn, 1) := dk_172 (dk_at dksX0_has_2_4 5 rfl rfl)
theorem dX0_has_2_150 : decode cX0_has_2 150 = .ok (.aload_n 0, 1) := dk_42 (dk_at dksX0_has_2_4 6 rfl rfl)
theorem dX0_has_2_151 : decode cX0_has_2 151 = .ok (.getfield 111, 3) := dk_180 0 111 (dk_at dksX0_has_2_4 7 rfl rfl)
theorem dX0_has_2_154 : decode cX0_has_2 154 = .ok (.getfield 287, 3) := dk_180 1 31 (dk_at dksX0_has_2_4 10 rfl rfl)
theorem dX0_has_2_157 : decode cX0_has_2 157 = .ok (.ireturn, 1) := dk_172 (dk_at dksX0_has_2_4 13 rfl rfl)
theorem dX0_has_2_158 : decode cX0_has_2 158 = .ok (.aload_n 0, 1) := dk_42 (dk_at dksX0_has_2_4 14 rfl rfl)
theorem dX0_has_2_159 : decode cX0_has_2 159 = .ok (.getfield 111, 3) := dk_180 0 111 (dk_at dksX0_has_2_4 15 rfl rfl)
theorem dX0_has_2_162 : decode cX0_has_2 162 = .ok (.getfield 290, 3) := dk_180 1 34 (dk_at dksX0_has_2_4 18 rfl rfl)
theorem dX0_has_2_165 : decode cX0_has_2 165 = .ok (.ireturn, 1) := dk_172 (dk_at dksX0_has_2_4 21 rfl rfl)
theorem dX0_has_2_166 : decode cX0_has_2 166 = .ok (.aload_n 0, 1) := dk_42 (dk_at dksX0_has_2_4 22 rfl rfl)
theorem dX0_has_2_167 : decode cX0_has_2 167 = .ok (.getfield 111, 3) := dk_180 0 111 (dk_at dksX0_has_2_5 0 rfl rfl)
theorem dX0_has_2_170 : decode cX0_has_2 170 = .ok (.getfield 293, 3) := dk_180 1 37 (dk_at dksX0_has_2_5 3 rfl rfl)
theorem dX0_has_2_173 : decode cX0_has_2 173 = .ok (.ireturn, 1) := dk_172 (dk_at dksX0_has_2_5 6 rfl rfl)
theorem dX0_has_2_174 : decode cX0_has_2 174 = .ok (.aload_n 0, 1) := dk_42 (dk_at dksX0_has_2_5 7 rfl rfl)
theorem dX0_has_2_175 : decode cX0_has_2 175 = .ok (.getfield 111, 3) := dk_180 0 111 (dk_at dksX0_has_2_5 8 rfl rfl)
theorem dX0_has_2_178 : decode cX0_has_2 178 = .ok (.getfield 296, 3) := dk_180 1 40 (dk_at dksX0_has_2_5 11 rfl rfl)
theorem dX0_has_2_181 : decode cX0_has_2 181 = .ok (.invokevirtual 300, 3) := dk_182 1 44 (dk_at dksX0_has_2_5 14 rfl rfl)
theorem dX0_has_2_184 : decode cX0_has_2 184 = .ok (.ireturn, 1) := dk_172 (dk_at dksX0_has_2_5 17 rfl rfl)
theorem dX0_has_2_185 : decode cX0_has_2 185 = .ok (.aload_n 0, 1) := dk_42 (dk_at dksX0_has_2_5 18 rfl rfl)
theorem dX0_has_2_186 : decode cX0_has_2 186 = .ok (.getfield 111, 3) := dk_180 0 111 (dk_at dksX0_has_2_5 19 rfl rfl)
theorem dX0_has_2_189 : decode cX0_has_2 189 = .ok (.getfield 303, 3) := dk_180 1 47 (dk_at dksX0_has_2_6 0 rfl rfl)
theorem dX0_has_2_192 : decode cX0_has_2 192 = .ok (.invokevirtual 307, 3) := dk_182 1 51 (dk_at dksX0_has_2_6 3 rfl rfl)
theorem dX0_has_2_195 : decode cX0_has_2 195 = .ok (.ireturn, 1) := dk_172 (dk_at dksX0_has_2_6 6 rfl rfl)
theorem dX0_has_2_196 : decode cX0_has_2 196 = .ok (.aload_n 0, 1) := dk_42 (dk_at dksX0_has_2_6 7 rfl rfl)
theorem dX0_has_2_197 : decode cX0_has_2 197 = .ok (.getfield 111, 3) := dk_180 0 111 (dk_at dksX0_has_2_6 8 rfl rfl)
theorem dX0_has_2_200 : decode cX0_has_2 200 = .ok (.getfield 310, 3) := dk_180 1 54 (dk_at dksX0_has_2_6 11 rfl rfl)
theorem dX0_has_2_203 : decode cX0_has_2 203 = .ok (.invokeinterface 197 1, 5) := by decide +kernel
theorem dX0_has_2_208 : decode cX0_has_2 208 = .ok (.ireturn, 1) := dk_172 (dk_at dksX0_has_2_6 19 rfl rfl)
theorem dX0_has_2_209 : decode cX0_has_2 209 = .ok (.aload_n 0, 1) := dk_42 (dk_at dksX0_has_2_6 20 rfl rfl)
theorem dX0_has_2_210 : decode cX0_has_2 210 = .ok (.getfield 227, 3) := dk_180 0 227 (dk_at dksX0_has_2_6 21 rfl rfl)
theorem dX0_has_2_213 : decode cX0_has_2 213 = .ok (.ireturn, 1) := dk_172 (dk_at dksX0_has_2_7 0 rfl rfl)
theorem dX0_has_2_214 : decode cX0_has_2 214 = .ok (.aload_n 0, 1) := dk_42 (dk_at dksX0_has_2_7 1 rfl rfl)
theorem dX0_has_2_215 : decode cX0_has_2 215 = .ok (.getfield 141, 3) := dk_180 0 141 (dk_at dksX0_has_2_7 2 rfl rfl)
theorem dX0_has_2_218 : decode cX0_has_2 218 = .ok (.invokeinterface 197 1, 5) := by decide +kernel
theorem dX0_has_2_223 : decode cX0_has_2 223 = .ok (.ireturn, 1) := dk_172 (dk_at dksX0_has_2_7 10 rfl rfl)
theorem dX0_has_2_224 : decode cX0_has_2 224 = .ok (.aload_n 0, 1) := dk_42 (dk_at dksX0_has_2_7 11 rfl rfl)
theorem dX0_has_2_225 : decode cX0_has_2 225 = .ok (.getfield 111, 3) := dk_180 0 111 (dk_at dksX0_has_2_7 12 rfl rfl)
theorem dX0_has_2_228 : decode cX0_has_2 228 = .ok (.getfield 312, 3) := dk_180 1 56 (dk_at dksX0_has_2_7 15 rfl rfl)
theorem dX0_has_2_231 : decode cX0_has_2 231 = .ok (.ifCond .eq 7, 3) := dk_153 0 7 (dk_at dksX0_has_2_7 18 rfl rfl)
theorem dX0_has_2_234 : decode cX0_has_2 234 = .ok (.iconst 1, 1) := dk_4 (dk_at dksX0_has_2_7 21 rfl rfl)
theorem dX0_has_2_235 : decode cX0_has_2 235 = .ok (.goto 4, 3) := dk_167 0 4 (dk_at dksX0_has_2_8 0 rfl rfl)
theorem dX0_has_2_238 : decode cX0_has_2 238 = .ok (.iconst 0, 1) := dk_3 (dk_at dksX0_has_2_8 3 rfl rfl)
theorem dX0_has_2_239 : decode cX0_has_2 239 = .ok (.ireturn, 1) := dk_172 (dk_at dksX0_has_2_8 4 rfl rfl)
theorem dX0_has_2_240 : decode cX0_has_2 240 = .ok (.iconst (-1), 1) := dk_2 (dk_at dksX0_has_2_8 5 rfl rfl)
theorem dX0_has_2_241 : decode cX0_has_2 241 = .ok (.ireturn, 1) := dk_172 (dk_at dksX0_has_2_8 6 rfl rfl)
abbrev cX0_segment : ByteArray := prog_1_method_27_code
def yX0_segment : MethodName := ⟨RX0, "segment", "(II)I"⟩
def dkwX0_segment_4 : List UInt8 := [180, 0, 94, 45, 182, 1, 81, 180, 1, 84, 172]
abbrev dktX0_segment_4 : List UInt8 := dkwX0_segment_4 ++ []
def dkwX0_segment_3 : List UInt8 := [154, 0, 10, 45, 184, 1, 74, 167, 0, 26, 28, 4, 160, 0, 10, 45, 184, 1, 78, 167, 0, 14, 42]
abbrev dktX0_segment_3 : List UInt8 := dkwX0_segment_3 ++ dktX0_segment_4
def dkwX0_segment_2 : List UInt8 := [27, 50, 78, 45, 184, 1, 70, 154, 0, 14, 28, 6, 160, 0, 7, 3, 167, 0, 4, 2, 172, 28]
abbrev dktX0_segment_2 : List UInt8 := dkwX0_segment_2 ++ dktX0_segment_3
def dkwX0_segment_1 : List UInt8 := [42, 180, 0, 111, 27, 182, 1, 64, 153, 0, 7, 4, 167, 0, 4, 3, 172, 42, 180, 0, 111, 180, 1, 67]
abbrev dktX0_segment_1 : List UInt8 := dkwX0_segment_1 ++ dktX0_segment_2
def dkwX0_segment_0 : List UInt8 := [42, 27, 182, 1, 60, 153, 0, 12, 28, 3, 6, 184, 1, 16, 154, 0, 5, 2, 172, 28, 5, 160, 0, 20]
abbrev dktX0_segment_0 : List UInt8 := dkwX0_segment_0 ++ dktX0_segment_1
theorem dksX0_segment_0 : cX0_segment.data.toList.drop 0 = dktX0_segment_0 := by decide +kernel
theorem dksX0_segment_1 : cX0_segment.data.toList.drop 24 = dktX0_segment_1 := dk_seg dksX0_segment_0 24 rfl rfl
theorem dksX0_segment_2 : cX0_segment.data.toList.drop 48 = dktX0_segment_2 := dk_seg dksX0_segment_1 24 rfl rfl
theorem dksX0_segment_3 : cX0_segment.data.toList.drop 70 = dktX0_segment_3 := dk_seg dksX0_segment_2 22 rfl rfl
theorem dksX0_segment_4 : cX0_segment.data.toList.drop 93 = dktX0_segment_4 := dk_seg dksX0_segment_3 23 rfl rfl
theorem dX0_segment_0 : decode cX0_segment 0 = .ok (.aload_n 0, 1) := dk_42 (dk_at dksX0_segment_0 0 rfl rfl)
theorem dX0_segment_1 : decode cX0_segment 1 = .ok (.iload_n 1, 1) := dk_27 (dk_at dksX0_segment_0 1 rfl rfl)
theorem dX0_segment_2 : decode cX0_segment 2 = .ok (.invokevirtual 316, 3) := dk_182 1 60 (dk_at dksX0_segment_0 2 rfl rfl)
theorem dX0_segment_5 : decode cX0_segment 5 = .ok (.ifCond .eq 12, 3) := dk_153 0 12 (dk_at dksX0_segment_0 5 rfl rfl)
theorem dX0_segment_8 : decode cX0_segment 8 = .ok (.iload_n 2, 1) := dk_28 (dk_at dksX0_segment_0 8 rfl rfl)
theorem dX0_segment_9 : decode cX0_segment 9 = .ok (.iconst 0, 1) := dk_3 (dk_at dksX0_segment_0 9 rfl rfl)
theorem dX0_segment_10 : decode cX0_segment 10 = .ok (.iconst 3, 1) := dk_6 (dk_at dksX0_segment_0 10 rfl rfl)
theorem dX0_segment_11 : decode cX0_segment 11 = .ok (.invokestatic 272, 3) := dk_184 1 16 (dk_at dksX0_segment_0 11 rfl rfl)
theorem dX0_segment_14 : decode cX0_segment 14 = .ok (.ifCond .ne 5, 3) := dk_154 0 5 (dk_at dksX0_segment_0 14 rfl rfl)
theorem dX0_segment_17 : decode cX0_segment 17 = .ok (.iconst (-1), 1) := dk_2 (dk_at dksX0_segment_0 17 rfl rfl)
theorem dX0_segment_18 : decode cX0_segment 18 = .ok (.ireturn, 1) := dk_172 (dk_at dksX0_segment_0 18 rfl rfl)
theorem dX0_segment_19 : decode cX0_segment 19 = .ok (.iload_n 2, 1) := dk_28 (dk_at dksX0_segment_0 19 rfl rfl)
theorem dX0_segment_20 : decode cX0_segment 20 = .ok (.iconst 2, 1) := dk_5 (dk_at dksX0_segment_0 20 rfl rfl)
theorem dX0_segment_21 : decode cX0_segment 21 = .ok (.if_icmp .ne 20, 3) := dk_160 0 20 (dk_at dksX0_segment_0 21 rfl rfl)
theorem dX0_segment_24 : decode cX0_segment 24 = .ok (.aload_n 0, 1) := dk_42 (dk_at dksX0_segment_1 0 rfl rfl)
theorem dX0_segment_25 : decode cX0_segment 25 = .ok (.getfield 111, 3) := dk_180 0 111 (dk_at dksX0_segment_1 1 rfl rfl)
theorem dX0_segment_28 : decode cX0_segment 28 = .ok (.iload_n 1, 1) := dk_27 (dk_at dksX0_segment_1 4 rfl rfl)
theorem dX0_segment_29 : decode cX0_segment 29 = .ok (.invokevirtual 320, 3) := dk_182 1 64 (dk_at dksX0_segment_1 5 rfl rfl)
theorem dX0_segment_32 : decode cX0_segment 32 = .ok (.ifCond .eq 7, 3) := dk_153 0 7 (dk_at dksX0_segment_1 8 rfl rfl)
theorem dX0_segment_35 : decode cX0_segment 35 = .ok (.iconst 1, 1) := dk_4 (dk_at dksX0_segment_1 11 rfl rfl)
theorem dX0_segment_36 : decode cX0_segment 36 = .ok (.goto 4, 3) := dk_167 0 4 (dk_at dksX0_segment_1 12 rfl rfl)
theorem dX0_segment_39 : decode cX0_segment 39 = .ok (.iconst 0, 1) := dk_3 (dk_at dksX0_segment_1 15 rfl rfl)
theorem dX0_segment_40 : decode cX0_segment 40 = .ok (.ireturn, 1) := dk_172 (dk_at dksX0_segment_1 16 rfl rfl)
theorem dX0_segment_41 : decode cX0_segment 41 = .ok (.aload_n 0, 1) := dk_42 (dk_at dksX0_segment_1 17 rfl rfl)
theorem dX0_segment_42 : decode cX0_segment 42 = .ok (.getfield 111, 3) := dk_180 0 111 (dk_at dksX0_segment_1 18 rfl rfl)
theorem dX0_segment_45 : decode cX0_segment 45 = .ok (.getfield 323, 3) := dk_180 1 67 (dk_at dksX0_segment_1 21 rfl rfl)
theorem dX0_segment_48 : decode cX0_segment 48 = .ok (.iload_n 1, 1) := dk_27 (dk_at dksX0_segment_2 0 rfl rfl)
theorem dX0_segment_49 : decode cX0_segment 49 = .ok (.aaload, 1) := dk_50 (dk_at dksX0_segment_2 1 rfl rfl)
theorem dX0_segment_50 : decode cX0_segment 50 = .ok (.astore_n 3, 1) := dk_78 (dk_at dksX0_segment_2 2 rfl rfl)
theorem dX0_segment_51 : decode cX0_segment 51 = .ok (.aload_n 3, 1) := dk_45 (dk_at dksX0_segment_2 3 rfl rfl)
theorem dX0_segment_52 : decode cX0_segment 52 = .ok (.invokestatic 326, 3) := dk_184 1 70 (dk_at dksX0_segment_2 4 rfl rfl)
theorem dX0_segment_55 : decode cX0_segment 55 = .ok (.ifCond .ne 14, 3) := dk_154 0 14 (dk_at dksX0_segment_2 7 rfl rfl)
theorem dX0_segment_58 : decode cX0_segment 58 = .ok (.iload_n 2, 1) := dk_28 (dk_at dksX0_segment_2 10 rfl rfl)
theorem dX0_segment_59 : decode cX0_segment 59 = .ok (.iconst 3, 1) := dk_6 (dk_at dksX0_segment_2 11 rfl rfl)
theorem dX0_segment_60 : decode cX0_segment 60 = .ok (.if_icmp .ne 7, 3) := dk_160 0 7 (dk_at dksX0_segment_2 12 rfl rfl)
theorem dX0_segment_63 : decode cX0_segment 63 = .ok (.iconst 0, 1) := dk_3 (dk_at dksX0_segment_2 15 rfl rfl)
theorem dX0_segment_64 : decode cX0_segment 64 = .ok (.goto 4, 3) := dk_167 0 4 (dk_at dksX0_segment_2 16 rfl rfl)
theorem dX0_segment_67 : decode cX0_segment 67 = .ok (.iconst (-1), 1) := dk_2 (dk_at dksX0_segment_2 19 rfl rfl)
theorem dX0_segment_68 : decode cX0_segment 68 = .ok (.ireturn, 1) := dk_172 (dk_at dksX0_segment_2 20 rfl rfl)
theorem dX0_segment_69 : decode cX0_segment 69 = .ok (.iload_n 2, 1) := dk_28 (dk_at dksX0_segment_2 21 rfl rfl)
theorem dX0_segment_70 : decode cX0_segment 70 = .ok (.ifCond .ne 10, 3) := dk_154 0 10 (dk_at dksX0_segment_3 0 rfl rfl)
theorem dX0_segment_73 : decode cX0_segment 73 = .ok (.aload_n 3, 1) := dk_45 (dk_at dksX0_segment_3 3 rfl rfl)
theorem dX0_segment_74 : decode cX0_segment 74 = .ok (.invokestatic 330, 3) := dk_184 1 74 (dk_at dksX0_segment_3 4 rfl rfl)
theorem dX0_segment_77 : decode cX0_segment 77 = .ok (.goto 26, 3) := dk_167 0 26 (dk_at dksX0_segment_3 7 rfl rfl)
theorem dX0_segment_80 : decode cX0_segment 80 = .ok (.iload_n 2, 1) := dk_28 (dk_at dksX0_segment_3 10 rfl rfl)
theorem dX0_segment_81 : decode cX0_segment 81 = .ok (.iconst 1, 1) := dk_4 (dk_at dksX0_segment_3 11 rfl rfl)
theorem dX0_segment_82 : decode cX0_segment 82 = .ok (.if_icmp .ne 10, 3) := dk_160 0 10 (dk_at dksX0_segment_3 12 rfl rfl)
theorem dX0_segment_85 : decode cX0_segment 85 = .ok (.aload_n 3, 1) := dk_45 (dk_at dksX0_segment_3 15 rfl rfl)
theorem dX0_segment_86 : decode cX0_segment 86 = .ok (.invokestatic 334, 3) := dk_184 1 78 (dk_at dksX0_segment_3 16 rfl rfl)
theorem dX0_segment_89 : decode cX0_segment 89 = .ok (.goto 14, 3) := dk_167 0 14 (dk_at dksX0_segment_3 19 rfl rfl)
theorem dX0_segment_92 : decode cX0_segment 92 = .ok (.aload_n 0, 1) := dk_42 (dk_at dksX0_segment_3 22 rfl rfl)
theorem dX0_segment_93 : decode cX0_segment 93 = .ok (.getfield 94, 3) := dk_180 0 94 (dk_at dksX0_segment_4 0 rfl rfl)
theorem dX0_segment_96 : decode cX0_segment 96 = .ok (.aload_n 3, 1) := dk_45 (dk_at dksX0_segment_4 3 rfl rfl)
theorem dX0_segment_97 : decode cX0_segment 97 = .ok (.invokevirtual 337, 3) := dk_182 1 81 (dk_at dksX0_segment_4 4 rfl rfl)
theorem dX0_segment_100 : decode cX0_segment 100 = .ok (.getfield 340, 3) := dk_180 1 84 (dk_at dksX0_segment_4 7 rfl rfl)
theorem dX0_segment_103 : decode cX0_segment 103 = .ok (.ireturn, 1) := dk_172 (dk_at dksX0_segment_4 10 rfl rfl)
abbrev cX0_isSegment : ByteArray := prog_1_method_26_code
def yX0_isSegment : MethodName := ⟨RX0, "isSegment", "(I)Z"⟩
def dkwX0_isSegment_0 : List UInt8 := [27, 3, 42, 180, 0, 49, 180, 0, 239, 4, 100, 184, 1, 16, 172]
abbrev dktX0_isSegment_0 : List UInt8 := dkwX0_isSegment_0 ++ []
theorem dksX0_isSegment_0 : cX0_isSegment.data.toList.drop 0 = dktX0_isSegment_0 := by decide +kernel
theorem dX0_isSegment_0 : decode cX0_isSegment 0 = .ok (.iload_n 1, 1) := dk_27 (dk_at dksX0_isSegment_0 0 rfl rfl)
theorem dX0_isSegment_1 : decode cX0_isSegment 1 = .ok (.iconst 0, 1) := dk_3 (dk_at dksX0_isSegment_0 1 rfl rfl)
theorem dX0_isSegment_2 : decode cX0_isSegment 2 = .ok (.aload_n 0, 1) := dk_42 (dk_at dksX0_isSegment_0 2 rfl rfl)
theorem dX0_isSegment_3 : decode cX0_isSegment 3 = .ok (.getfield 49, 3) := dk_180 0 49 (dk_at dksX0_isSegment_0 3 rfl rfl)
theorem dX0_isSegment_6 : decode cX0_isSegment 6 = .ok (.getfield 239, 3) := dk_180 0 239 (dk_at dksX0_isSegment_0 6 rfl rfl)
theorem dX0_isSegment_9 : decode cX0_isSegment 9 = .ok (.iconst 1, 1) := dk_4 (dk_at dksX0_isSegment_0 9 rfl rfl)
theorem dX0_isSegment_10 : decode cX0_isSegment 10 = .ok (.isub, 1) := dk_100 (dk_at dksX0_isSegment_0 10 rfl rfl)
theorem dX0_isSegment_11 : decode cX0_isSegment 11 = .ok (.invokestatic 272, 3) := dk_184 1 16 (dk_at dksX0_isSegment_0 11 rfl rfl)
theorem dX0_isSegment_14 : decode cX0_isSegment 14 = .ok (.ireturn, 1) := dk_172 (dk_at dksX0_isSegment_0 14 rfl rfl)
abbrev cX0_isHead : ByteArray := prog_1_method_21_code
def yX0_isHead : MethodName := ⟨RX0, "isHead", "([I)Z"⟩
def dkwX0_isHead_2 : List UInt8 := [172]
abbrev dktX0_isHead_2 : List UInt8 := dkwX0_isHead_2 ++ []
def dkwX0_isHead_1 : List UInt8 := [27, 42, 7, 46, 160, 0, 19, 42, 3, 46, 157, 0, 9, 42, 4, 46, 158, 0, 7, 4, 167, 0, 4, 3]
abbrev dktX0_isHead_1 : List UInt8 := dkwX0_isHead_1 ++ dktX0_isHead_2
def dkwX0_isHead_0 : List UInt8 := [16, 7, 60, 3, 61, 28, 7, 162, 0, 17, 27, 42, 28, 46, 184, 0, 251, 60, 132, 2, 1, 167, 255, 240]
abbrev dktX0_isHead_0 : List UInt8 := dkwX0_isHead_0 ++ dktX0_isHead_1
theorem dksX0_isHead_0 : cX0_isHead.data.toList.drop 0 = dktX0_isHead_0 := by decide +kernel
theorem dksX0_isHead_1 : cX0_isHead.data.toList.drop 24 = dktX0_isHead_1 := dk_seg dksX0_isHead_0 24 rfl rfl
theorem dksX0_isHead_2 : cX0_isHead.data.toList.drop 48 = dktX0_isHead_2 := dk_seg dksX0_isHead_1 24 rfl rfl
theorem dX0_isHead_0 : decode cX0_isHead 0 = .ok (.bipush 7, 2) := dk_16 7 (dk_at dksX0_isHead_0 0 rfl rfl)
theorem dX0_isHead_2 : decode cX0_isHead 2 = .ok (.istore_n 1, 1) := dk_60 (dk_at dksX0_isHead_0 2 rfl rfl)
theorem dX0_isHead_3 : decode cX0_isHead 3 = .ok (.iconst 0, 1) := dk_3 (dk_at dksX0_isHead_0 3 rfl rfl)
theorem dX0_isHead_4 : decode cX0_isHead 4 = .ok (.istore_n 2, 1) := dk_61 (dk_at dksX0_isHead_0 4 rfl rfl)
theorem dX0_isHead_5 : decode cX0_isHead 5 = .ok (.iload_n 2, 1) := dk_28 (dk_at dksX0_isHead_0 5 rfl rfl)
theorem dX0_isHead_6 : decode cX0_isHead 6 = .ok (.iconst 4, 1) := dk_7 (dk_at dksX0_isHead_0 6 rfl rfl)
theorem dX0_isHead_7 : decode cX0_isHead 7 = .ok (.if_icmp .ge 17, 3) := dk_162 0 17 (dk_at dksX0_isHead_0 7 rfl rfl)
theorem dX0_isHead_10 : decode cX0_isHead 10 = .ok (.iload_n 1, 1) := dk_27 (dk_at dksX0_isHead_0 10 rfl rfl)
theorem dX0_isHead_11 : decode cX0_isHead 11 = .ok (.aload_n 0, 1) := dk_42 (dk_at dksX0_isHead_0 11 rfl rfl)
theorem dX0_isHead_12 : decode cX0_isHead 12 = .ok (.iload_n 2, 1) := dk_28 (dk_at dksX0_isHead_0 12 rfl rfl)
theorem dX0_isHead_13 : decode cX0_isHead 13 = .ok (.iaload, 1) := dk_46 (dk_at dksX0_isHead_0 13 rfl rfl)
theorem dX0_isHead_14 : decode cX0_isHead 14 = .ok (.invokestatic 251, 3) := dk_184 0 251 (dk_at dksX0_isHead_0 14 rfl rfl)
theorem dX0_isHead_17 : decode cX0_isHead 17 = .ok (.istore_n 1, 1) := dk_60 (dk_at dksX0_isHead_0 17 rfl rfl)
theorem dX0_isHead_18 : decode cX0_isHead 18 = .ok (.iinc 2 1, 3) := dk_132 2 1 (dk_at dksX0_isHead_0 18 rfl rfl)
theorem dX0_isHead_21 : decode cX0_isHead 21 = .ok (.goto (-16), 3) := dk_167 255 240 (dk_at dksX0_isHead_0 21 rfl rfl)
theorem dX0_isHead_24 : decode cX0_isHead 24 = .ok (.iload_n 1, 1) := dk_27 (dk_at dksX0_isHead_1 0 rfl rfl)
theorem dX0_isHead_25 : decode cX0_isHead 25 = .ok (.aload_n 0, 1) := dk_42 (dk_at dksX0_isHead_1 1 rfl rfl)
theorem dX0_isHead_26 : decode cX0_isHead 26 = .ok (.iconst 4, 1) := dk_7 (dk_at dksX0_isHead_1 2 rfl rfl)
theorem dX0_isHead_27 : decode cX0_isHead 27 = .ok (.iaload, 1) := dk_46 (dk_at dksX0_isHead_1 3 rfl rfl)
theorem dX0_isHead_28 : decode cX0_isHead 28 = .ok (.if_icmp .ne 19, 3) := dk_160 0 19 (dk_at dksX0_isHead_1 4 rfl rfl)
theorem dX0_isHead_31 : decode cX0_isHead 31 = .ok (.aload_n 0, 1) := dk_42 (dk_at dksX0_isHead_1 7 rfl rfl)
theorem dX0_isHead_32 : decode cX0_isHead 32 = .ok (.iconst 0, 1) := dk_3 (dk_at dksX0_isHead_1 8 rfl rfl)
theorem dX0_isHead_33 : decode cX0_isHead 33 = .ok (.iaload, 1) := dk_46 (dk_at dksX0_isHead_1 9 rfl rfl)
theorem dX0_isHead_34 : decode cX0_isHead 34 = .ok (.ifCond .gt 9, 3) := dk_157 0 9 (dk_at dksX0_isHead_1 10 rfl rfl)
theorem dX0_isHead_37 : decode cX0_isHead 37 = .ok (.aload_n 0, 1) := dk_42 (dk_at dksX0_isHead_1 13 rfl rfl)
theorem dX0_isHead_38 : decode cX0_isHead 38 = .ok (.iconst 1, 1) := dk_4 (dk_at dksX0_isHead_1 14 rfl rfl)
theorem dX0_isHead_39 : decode cX0_isHead 39 = .ok (.iaload, 1) := dk_46 (dk_at dksX0_isHead_1 15 rfl rfl)
theorem dX0_isHead_40 : decode cX0_isHead 40 = .ok (.ifCond .le 7, 3) := dk_158 0 7 (dk_at dksX0_isHead_1 16 rfl rfl)
theorem dX0_isHead_43 : decode cX0_isHead 43 = .ok (.iconst 1, 1) := dk_4 (dk_at dksX0_isHead_1 19 rfl rfl)
theorem dX0_isHead_44 : decode cX0_isHead 44 = .ok (.goto 4, 3) := dk_167 0 4 (dk_at dksX0_isHead_1 20 rfl rfl)
theorem dX0_isHead_47 : decode cX0_isHead 47 = .ok (.iconst 0, 1) := dk_3 (dk_at dksX0_isHead_1 23 rfl rfl)
theorem dX0_isHead_48 : decode cX0_isHead 48 = .ok (.ireturn, 1) := dk_172 (dk_at dksX0_isHead_2 0 rfl rfl)
abbrev cX0_serialOf : ByteArray := prog_1_method_22_code
def yX0_serialOf : MethodName := ⟨RX0, "serialOf", "([I)I"⟩
def dkwX0_serialOf_0 : List UInt8 := [42, 3, 46, 16, 8, 120, 42, 4, 46, 128, 172]
abbrev dktX0_serialOf_0 : List UInt8 := dkwX0_serialOf_0 ++ []
theorem dksX0_serialOf_0 : cX0_serialOf.data.toList.drop 0 = dktX0_serialOf_0 := by decide +kernel
theorem dX0_serialOf_0 : decode cX0_serialOf 0 = .ok (.aload_n 0, 1) := dk_42 (dk_at dksX0_serialOf_0 0 rfl rfl)
theorem dX0_serialOf_1 : decode cX0_serialOf 1 = .ok (.iconst 0, 1) := dk_3 (dk_at dksX0_serialOf_0 1 rfl rfl)
theorem dX0_serialOf_2 : decode cX0_serialOf 2 = .ok (.iaload, 1) := dk_46 (dk_at dksX0_serialOf_0 2 rfl rfl)
theorem dX0_serialOf_3 : decode cX0_serialOf 3 = .ok (.bipush 8, 2) := dk_16 8 (dk_at dksX0_serialOf_0 3 rfl rfl)
theorem dX0_serialOf_5 : decode cX0_serialOf 5 = .ok (.ishl, 1) := dk_120 (dk_at dksX0_serialOf_0 5 rfl rfl)
theorem dX0_serialOf_6 : decode cX0_serialOf 6 = .ok (.aload_n 0, 1) := dk_42 (dk_at dksX0_serialOf_0 6 rfl rfl)
theorem dX0_serialOf_7 : decode cX0_serialOf 7 = .ok (.iconst 1, 1) := dk_4 (dk_at dksX0_serialOf_0 7 rfl rfl)
theorem dX0_serialOf_8 : decode cX0_serialOf 8 = .ok (.iaload, 1) := dk_46 (dk_at dksX0_serialOf_0 8 rfl rfl)
theorem dX0_serialOf_9 : decode cX0_serialOf 9 = .ok (.ior, 1) := dk_128 (dk_at dksX0_serialOf_0 9 rfl rfl)
theorem dX0_serialOf_10 : decode cX0_serialOf 10 = .ok (.ireturn, 1) := dk_172 (dk_at dksX0_serialOf_0 10 rfl rfl)
abbrev cX0_firstOf : ByteArray := prog_1_method_23_code
def yX0_firstOf : MethodName := ⟨RX0, "firstOf", "([I)I"⟩
def dkwX0_firstOf_0 : List UInt8 := [42, 5, 46, 16, 8, 120, 42, 6, 46, 128, 172]
abbrev dktX0_firstOf_0 : List UInt8 := dkwX0_firstOf_0 ++ []
theorem dksX0_firstOf_0 : cX0_firstOf.data.toList.drop 0 = dktX0_firstOf_0 := by decide +kernel
theorem dX0_firstOf_0 : decode cX0_firstOf 0 = .ok (.aload_n 0, 1) := dk_42 (dk_at dksX0_firstOf_0 0 rfl rfl)
theorem dX0_firstOf_1 : decode cX0_firstOf 1 = .ok (.iconst 2, 1) := dk_5 (dk_at dksX0_firstOf_0 1 rfl rfl)
theorem dX0_firstOf_2 : decode cX0_firstOf 2 = .ok (.iaload, 1) := dk_46 (dk_at dksX0_firstOf_0 2 rfl rfl)
theorem dX0_firstOf_3 : decode cX0_firstOf 3 = .ok (.bipush 8, 2) := dk_16 8 (dk_at dksX0_firstOf_0 3 rfl rfl)
theorem dX0_firstOf_5 : decode cX0_firstOf 5 = .ok (.ishl, 1) := dk_120 (dk_at dksX0_firstOf_0 5 rfl rfl)
theorem dX0_firstOf_6 : decode cX0_firstOf 6 = .ok (.aload_n 0, 1) := dk_42 (dk_at dksX0_firstOf_0 6 rfl rfl)
theorem dX0_firstOf_7 : decode cX0_firstOf 7 = .ok (.iconst 3, 1) := dk_6 (dk_at dksX0_firstOf_0 7 rfl rfl)
theorem dX0_firstOf_8 : decode cX0_firstOf 8 = .ok (.iaload, 1) := dk_46 (dk_at dksX0_firstOf_0 8 rfl rfl)
theorem dX0_firstOf_9 : decode cX0_firstOf 9 = .ok (.ior, 1) := dk_128 (dk_at dksX0_firstOf_0 9 rfl rfl)
theorem dX0_firstOf_10 : decode cX0_firstOf 10 = .ok (.ireturn, 1) := dk_172 (dk_at dksX0_firstOf_0 10 rfl rfl)
abbrev cX0_frame : ByteArray := prog_1_method_28_code
def yX0_frame : MethodName := ⟨RX0, "frame", "(III)I"⟩
def dkwX0_frame_4 : List UInt8 := [50, 21, 5, 29, 96, 46, 172]
abbrev dktX0_frame_4 : List UInt8 := dkwX0_frame_4 ++ []
def dkwX0_frame_3 : List UInt8 := [180, 1, 87, 28, 46, 54, 5, 29, 154, 0, 8, 21, 5, 167, 0, 17, 42, 180, 0, 111, 180, 1, 67, 27]
abbrev dktX0_frame_3 : List UInt8 := dkwX0_frame_3 ++ dktX0_frame_4
def dkwX0_frame_2 : List UInt8 := [182, 1, 81, 58, 4, 28, 3, 25, 4, 180, 1, 84, 4, 100, 184, 1, 16, 154, 0, 5, 2, 172, 25, 4]
abbrev dktX0_frame_2 : List UInt8 := dkwX0_frame_2 ++ dktX0_frame_3
def dkwX0_frame_1 : List UInt8 := [3, 5, 184, 1, 16, 154, 0, 5, 2, 172, 42, 180, 0, 94, 42, 180, 0, 111, 180, 1, 67, 27, 50]
abbrev dktX0_frame_1 : List UInt8 := dkwX0_frame_1 ++ dktX0_frame_2
def dkwX0_frame_0 : List UInt8 := [42, 27, 182, 1, 60, 153, 0, 27, 42, 180, 0, 111, 180, 1, 67, 27, 50, 184, 1, 70, 153, 0, 12, 29]
abbrev dktX0_frame_0 : List UInt8 := dkwX0_frame_0 ++ dktX0_frame_1
theorem dksX0_frame_0 : cX0_frame.data.toList.drop 0 = dktX0_frame_0 := by decide +kernel
theorem dksX0_frame_1 : cX0_frame.data.toList.drop 24 = dktX0_frame_1 := dk_seg dksX0_frame_0 24 rfl rfl
theorem dksX0_frame_2 : cX0_frame.data.toList.drop 47 = dktX0_frame_2 := dk_seg dksX0_frame_1 23 rfl rfl
theorem dksX0_frame_3 : cX0_frame.data.toList.drop 71 = dktX0_frame_3 := dk_seg dksX0_frame_2 24 rfl rfl
theorem dksX0_frame_4 : cX0_frame.data.toList.drop 95 = dktX0_frame_4 := dk_seg dksX0_frame_3 24 rfl rfl
theorem dX0_frame_0 : decode cX0_frame 0 = .ok (.aload_n 0, 1) := dk_42 (dk_at dksX0_frame_0 0 rfl rfl)
theorem dX0_frame_1 : decode cX0_frame 1 = .ok (.iload_n 1, 1) := dk_27 (dk_at dksX0_frame_0 1 rfl rfl)
theorem dX0_frame_2 : decode cX0_frame 2 = .ok (.invokevirtual 316, 3) := dk_182 1 60 (dk_at dksX0_frame_0 2 rfl rfl)
theorem dX0_frame_5 : decode cX0_frame 5 = .ok (.ifCond .eq 27, 3) := dk_153 0 27 (dk_at dksX0_frame_0 5 rfl rfl)
theorem dX0_frame_8 : decode cX0_frame 8 = .ok (.aload_n 0, 1) := dk_42 (dk_at dksX0_frame_0 8 rfl rfl)
theorem dX0_frame_9 : decode cX0_frame 9 = .ok (.getfield 111, 3) := dk_180 0 111 (dk_at dksX0_frame_0 9 rfl rfl)
theorem dX0_frame_12 : decode cX0_frame 12 = .ok (.getfield 323, 3) := dk_180 1 67 (dk_at dksX0_frame_0 12 rfl rfl)
theorem dX0_frame_15 : decode cX0_frame 15 = .ok (.iload_n 1, 1) := dk_27 (dk_at dksX0_frame_0 15 rfl rfl)
theorem dX0_frame_16 : decode cX0_frame 16 = .ok (.aaload, 1) := dk_50 (dk_at dksX0_frame_0 16 rfl rfl)
theorem dX0_frame_17 : decode cX0_frame 17 = .ok (.invokestatic 326, 3) := dk_184 1 70 (dk_at dksX0_frame_0 17 rfl rfl)
theorem dX0_frame_20 : decode cX0_frame 20 = .ok (.ifCond .eq 12, 3) := dk_153 0 12 (dk_at dksX0_frame_0 20 rfl rfl)
theorem dX0_frame_23 : decode cX0_frame 23 = .ok (.iload_n 3, 1) := dk_29 (dk_at dksX0_frame_0 23 rfl rfl)
theorem dX0_frame_24 : decode cX0_frame 24 = .ok (.iconst 0, 1) := dk_3 (dk_at dksX0_frame_1 0 rfl rfl)
theorem dX0_frame_25 : decode cX0_frame 25 = .ok (.iconst 2, 1) := dk_5 (dk_at dksX0_frame_1 1 rfl rfl)
theorem dX0_frame_26 : decode cX0_frame 26 = .ok (.invokestatic 272, 3) := dk_184 1 16 (dk_at dksX0_frame_1 2 rfl rfl)
theorem dX0_frame_29 : decode cX0_frame 29 = .ok (.ifCond .ne 5, 3) := dk_154 0 5 (dk_at dksX0_frame_1 5 rfl rfl)
theorem dX0_frame_32 : decode cX0_frame 32 = .ok (.iconst (-1), 1) := dk_2 (dk_at dksX0_frame_1 8 rfl rfl)
theorem dX0_frame_33 : decode cX0_frame 33 = .ok (.ireturn, 1) := dk_172 (dk_at dksX0_frame_1 9 rfl rfl)
theorem dX0_frame_34 : decode cX0_frame 34 = .ok (.aload_n 0, 1) := dk_42 (dk_at dksX0_frame_1 10 rfl rfl)
theorem dX0_frame_35 : decode cX0_frame 35 = .ok (.getfield 94, 3) := dk_180 0 94 (dk_at dksX0_frame_1 11 rfl rfl)
theorem dX0_frame_38 : decode cX0_frame 38 = .ok (.aload_n 0, 1) := dk_42 (dk_at dksX0_frame_1 14 rfl rfl)
theorem dX0_frame_39 : decode cX0_frame 39 = .ok (.getfield 111, 3) := dk_180 0 111 (dk_at dksX0_frame_1 15 rfl rfl)
theorem dX0_frame_42 : decode cX0_frame 42 = .ok (.getfield 323, 3) := dk_180 1 67 (dk_at dksX0_frame_1 18 rfl rfl)
theorem dX0_frame_45 : decode cX0_frame 45 = .ok (.iload_n 1, 1) := dk_27 (dk_at dksX0_frame_1 21 rfl rfl)
theorem dX0_frame_46 : decode cX0_frame 46 = .ok (.aaload, 1) := dk_50 (dk_at dksX0_frame_1 22 rfl rfl)
theorem dX0_frame_47 : decode cX0_frame 47 = .ok (.invokevirtual 337, 3) := dk_182 1 81 (dk_at dksX0_frame_2 0 rfl rfl)
theorem dX0_frame_50 : decode cX0_frame 50 = .ok (.astore 4, 2) := dk_58 4 (dk_at dksX0_frame_2 3 rfl rfl)
theorem dX0_frame_52 : decode cX0_frame 52 = .ok (.iload_n 2, 1) := dk_28 (dk_at dksX0_frame_2 5 rfl rfl)
theorem dX0_frame_53 : decode cX0_frame 53 = .ok (.iconst 0, 1) := dk_3 (dk_at dksX0_frame_2 6 rfl rfl)
theorem dX0_frame_54 : decode cX0_frame 54 = .ok (.aload 4, 2) := dk_25 4 (dk_at dksX0_frame_2 7 rfl rfl)
theorem dX0_frame_56 : decode cX0_frame 56 = .ok (.getfield 340, 3) := dk_180 1 84 (dk_at dksX0_frame_2 9 rfl rfl)
theorem dX0_frame_59 : decode cX0_frame 59 = .ok (.iconst 1, 1) := dk_4 (dk_at dksX0_frame_2 12 rfl rfl)
theorem dX0_frame_60 : decode cX0_frame 60 = .ok (.isub, 1) := dk_100 (dk_at dksX0_frame_2 13 rfl rfl)
theorem dX0_frame_61 : decode cX0_frame 61 = .ok (.invokestatic 272, 3) := dk_184 1 16 (dk_at dksX0_frame_2 14 rfl rfl)
theorem dX0_frame_64 : decode cX0_frame 64 = .ok (.ifCond .ne 5, 3) := dk_154 0 5 (dk_at dksX0_frame_2 17 rfl rfl)
theorem dX0_frame_67 : decode cX0_frame 67 = .ok (.iconst (-1), 1) := dk_2 (dk_at dksX0_frame_2 20 rfl rfl)
theorem dX0_frame_68 : decode cX0_frame 68 = .ok (.ireturn, 1) := dk_172 (dk_at dksX0_frame_2 21 rfl rfl)
theorem dX0_frame_69 : decode cX0_frame 69 = .ok (.aload 4, 2) := dk_25 4 (dk_at dksX0_frame_2 22 rfl rfl)
theorem dX0_frame_71 : decode cX0_frame 71 = .ok (.getfield 343, 3) := dk_180 1 87 (dk_at dksX0_frame_3 0 rfl rfl)
theorem dX0_frame_74 : decode cX0_frame 74 = .ok (.iload_n 2, 1) := dk_28 (dk_at dksX0_frame_3 3 rfl rfl)
theorem dX0_frame_75 : decode cX0_frame 75 = .ok (.iaload, 1) := dk_46 (dk_at dksX0_frame_3 4 rfl rfl)
theorem dX0_frame_76 : decode cX0_frame 76 = .ok (.istore 5, 2) := dk_54 5 (dk_at dksX0_frame_3 5 rfl rfl)
theorem dX0_frame_78 : decode cX0_frame 78 = .ok (.iload_n 3, 1) := dk_29 (dk_at dksX0_frame_3 7 rfl rfl)
theorem dX0_frame_79 : decode cX0_frame 79 = .ok (.ifCond .ne 8, 3) := dk_154 0 8 (dk_at dksX0_frame_3 8 rfl rfl)
theorem dX0_frame_82 : decode cX0_frame 82 = .ok (.iload 5, 2) := dk_21 5 (dk_at dksX0_frame_3 11 rfl rfl)
theorem dX0_frame_84 : decode cX0_frame 84 = .ok (.goto 17, 3) := dk_167 0 17 (dk_at dksX0_frame_3 13 rfl rfl)
theorem dX0_frame_87 : decode cX0_frame 87 = .ok (.aload_n 0, 1) := dk_42 (dk_at dksX0_frame_3 16 rfl rfl)
theorem dX0_frame_88 : decode cX0_frame 88 = .ok (.getfield 111, 3) := dk_180 0 111 (dk_at dksX0_frame_3 17 rfl rfl)
theorem dX0_frame_91 : decode cX0_frame 91 = .ok (.getfield 323, 3) := dk_180 1 67 (dk_at dksX0_frame_3 20 rfl rfl)
theorem dX0_frame_94 : decode cX0_frame 94 = .ok (.iload_n 1, 1) := dk_27 (dk_at dksX0_frame_3 23 rfl rfl)
theorem dX0_frame_95 : decode cX0_frame 95 = .ok (.aaload, 1) := dk_50 (dk_at dksX0_frame_4 0 rfl rfl)
theorem dX0_frame_96 : decode cX0_frame 96 = .ok (.iload 5, 2) := dk_21 5 (dk_at dksX0_frame_4 1 rfl rfl)
theorem dX0_frame_98 : decode cX0_frame 98 = .ok (.iload_n 3, 1) := dk_29 (dk_at dksX0_frame_4 3 rfl rfl)
theorem dX0_frame_99 : decode cX0_frame 99 = .ok (.iadd, 1) := dk_96 (dk_at dksX0_frame_4 4 rfl rfl)
theorem dX0_frame_100 : decode cX0_frame 100 = .ok (.iaload, 1) := dk_46 (dk_at dksX0_frame_4 5 rfl rfl)
theorem dX0_frame_101 : decode cX0_frame 101 = .ok (.ireturn, 1) := dk_172 (dk_at dksX0_frame_4 6 rfl rfl)
abbrev cX0_octetOf : ByteArray := prog_1_method_29_code
def yX0_octetOf : MethodName := ⟨RX0, "octetOf", "(II)I"⟩
def dkwX0_octetOf_1 : List UInt8 := [180, 0, 111, 180, 1, 67, 27, 50, 28, 46, 167, 0, 4, 2, 172]
abbrev dktX0_octetOf_1 : List UInt8 := dkwX0_octetOf_1 ++ []
def dkwX0_octetOf_0 : List UInt8 := [42, 27, 182, 1, 60, 153, 0, 31, 28, 3, 42, 182, 0, 245, 4, 100, 184, 1, 16, 153, 0, 17, 42]
abbrev dktX0_octetOf_0 : List UInt8 := dkwX0_octetOf_0 ++ dktX0_octetOf_1
theorem dksX0_octetOf_0 : cX0_octetOf.data.toList.drop 0 = dktX0_octetOf_0 := by decide +kernel
theorem dksX0_octetOf_1 : cX0_octetOf.data.toList.drop 23 = dktX0_octetOf_1 := dk_seg dksX0_octetOf_0 23 rfl rfl
theorem dX0_octetOf_0 : decode cX0_octetOf 0 = .ok (.aload_n 0, 1) := dk_42 (dk_at dksX0_octetOf_0 0 rfl rfl)
theorem dX0_octetOf_1 : decode cX0_octetOf 1 = .ok (.iload_n 1, 1) := dk_27 (dk_at dksX0_octetOf_0 1 rfl rfl)
theorem dX0_octetOf_2 : decode cX0_octetOf 2 = .ok (.invokevirtual 316, 3) := dk_182 1 60 (dk_at dksX0_octetOf_0 2 rfl rfl)
theorem dX0_octetOf_5 : decode cX0_octetOf 5 = .ok (.ifCond .eq 31, 3) := dk_153 0 31 (dk_at dksX0_octetOf_0 5 rfl rfl)
theorem dX0_octetOf_8 : decode cX0_octetOf 8 = .ok (.iload_n 2, 1) := dk_28 (dk_at dksX0_octetOf_0 8 rfl rfl)
theorem dX0_octetOf_9 : decode cX0_octetOf 9 = .ok (.iconst 0, 1) := dk_3 (dk_at dksX0_octetOf_0 9 rfl rfl)
theorem dX0_octetOf_10 : decode cX0_octetOf 10 = .ok (.aload_n 0, 1) := dk_42 (dk_at dksX0_octetOf_0 10 rfl rfl)
theorem dX0_octetOf_11 : decode cX0_octetOf 11 = .ok (.invokevirtual 245, 3) := dk_182 0 245 (dk_at dksX0_octetOf_0 11 rfl rfl)
theorem dX0_octetOf_14 : decode cX0_octetOf 14 = .ok (.iconst 1, 1) := dk_4 (dk_at dksX0_octetOf_0 14 rfl rfl)
theorem dX0_octetOf_15 : decode cX0_octetOf 15 = .ok (.isub, 1) := dk_100 (dk_at dksX0_octetOf_0 15 rfl rfl)
theorem dX0_octetOf_16 : decode cX0_octetOf 16 = .ok (.invokestatic 272, 3) := dk_184 1 16 (dk_at dksX0_octetOf_0 16 rfl rfl)
theorem dX0_octetOf_19 : decode cX0_octetOf 19 = .ok (.ifCond .eq 17, 3) := dk_153 0 17 (dk_at dksX0_octetOf_0 19 rfl rfl)
theorem dX0_octetOf_22 : decode cX0_octetOf 22 = .ok (.aload_n 0, 1) := dk_42 (dk_at dksX0_octetOf_0 22 rfl rfl)
theorem dX0_octetOf_23 : decode cX0_octetOf 23 = .ok (.getfield 111, 3) := dk_180 0 111 (dk_at dksX0_octetOf_1 0 rfl rfl)
theorem dX0_octetOf_26 : decode cX0_octetOf 26 = .ok (.getfield 323, 3) := dk_180 1 67 (dk_at dksX0_octetOf_1 3 rfl rfl)
theorem dX0_octetOf_29 : decode cX0_octetOf 29 = .ok (.iload_n 1, 1) := dk_27 (dk_at dksX0_octetOf_1 6 rfl rfl)
theorem dX0_octetOf_30 : decode cX0_octetOf 30 = .ok (.aaload, 1) := dk_50 (dk_at dksX0_octetOf_1 7 rfl rfl)
theorem dX0_octetOf_31 : decode cX0_octetOf 31 = .ok (.iload_n 2, 1) := dk_28 (dk_at dksX0_octetOf_1 8 rfl rfl)
theorem dX0_octetOf_32 : decode cX0_octetOf 32 = .ok (.iaload, 1) := dk_46 (dk_at dksX0_octetOf_1 9 rfl rfl)
theorem dX0_octetOf_33 : decode cX0_octetOf 33 = .ok (.goto 4, 3) := dk_167 0 4 (dk_at dksX0_octetOf_1 10 rfl rfl)
theorem dX0_octetOf_36 : decode cX0_octetOf 36 = .ok (.iconst (-1), 1) := dk_2 (dk_at dksX0_octetOf_1 13 rfl rfl)
theorem dX0_octetOf_37 : decode cX0_octetOf 37 = .ok (.ireturn, 1) := dk_172 (dk_at dksX0_octetOf_1 14 rfl rfl)
abbrev cX0_place : ByteArray := prog_1_method_30_code
def yX0_place : MethodName := ⟨RX0, "place", "(I)I"⟩
def dkwX0_place_2 : List UInt8 := [180, 1, 96, 167, 0, 4, 2, 172]
abbrev dktX0_place_2 : List UInt8 := dkwX0_place_2 ++ []
def dkwX0_place_1 : List UInt8 := [4, 160, 0, 13, 42, 180, 0, 111, 180, 1, 93, 167, 0, 19, 27, 5, 160, 0, 13, 42, 180, 0, 111]
abbrev dktX0_place_1 : List UInt8 := dkwX0_place_1 ++ dktX0_place_2
def dkwX0_place_0 : List UInt8 := [42, 182, 1, 12, 154, 0, 5, 2, 172, 27, 154, 0, 13, 42, 180, 0, 111, 180, 1, 90, 167, 0, 34, 27]
abbrev dktX0_place_0 : List UInt8 := dkwX0_place_0 ++ dktX0_place_1
theorem dksX0_place_0 : cX0_place.data.toList.drop 0 = dktX0_place_0 := by decide +kernel
theorem dksX0_place_1 : cX0_place.data.toList.drop 24 = dktX0_place_1 := dk_seg dksX0_place_0 24 rfl rfl
theorem dksX0_place_2 : cX0_place.data.toList.drop 47 = dktX0_place_2 := dk_seg dksX0_place_1 23 rfl rfl
theorem dX0_place_0 : decode cX0_place 0 = .ok (.aload_n 0, 1) := dk_42 (dk_at dksX0_place_0 0 rfl rfl)
theorem dX0_place_1 : decode cX0_place 1 = .ok (.invokevirtual 268, 3) := dk_182 1 12 (dk_at dksX0_place_0 1 rfl rfl)
theorem dX0_place_4 : decode cX0_place 4 = .ok (.ifCond .ne 5, 3) := dk_154 0 5 (dk_at dksX0_place_0 4 rfl rfl)
theorem dX0_place_7 : decode cX0_place 7 = .ok (.iconst (-1), 1) := dk_2 (dk_at dksX0_place_0 7 rfl rfl)
theorem dX0_place_8 : decode cX0_place 8 = .ok (.ireturn, 1) := dk_172 (dk_at dksX0_place_0 8 rfl rfl)
theorem dX0_place_9 : decode cX0_place 9 = .ok (.iload_n 1, 1) := dk_27 (dk_at dksX0_place_0 9 rfl rfl)
theorem dX0_place_10 : decode cX0_place 10 = .ok (.ifCond .ne 13, 3) := dk_154 0 13 (dk_at dksX0_place_0 10 rfl rfl)
theorem dX0_place_13 : decode cX0_place 13 = .ok (.aload_n 0, 1) := dk_42 (dk_at dksX0_place_0 13 rfl rfl)
theorem dX0_place_14 : decode cX0_place 14 = .ok (.getfield 111, 3) := dk_180 0 111 (dk_at dksX0_place_0 14 rfl rfl)
theorem dX0_place_17 : decode cX0_place 17 = .ok (.getfield 346, 3) := dk_180 1 90 (dk_at dksX0_place_0 17 rfl rfl)
theorem dX0_place_20 : decode cX0_place 20 = .ok (.goto 34, 3) := dk_167 0 34 (dk_at dksX0_place_0 20 rfl rfl)
theorem dX0_place_23 : decode cX0_place 23 = .ok (.iload_n 1, 1) := dk_27 (dk_at dksX0_place_0 23 rfl rfl)
theorem dX0_place_24 : decode cX0_place 24 = .ok (.iconst 1, 1) := dk_4 (dk_at dksX0_place_1 0 rfl rfl)
theorem dX0_place_25 : decode cX0_place 25 = .ok (.if_icmp .ne 13, 3) := dk_160 0 13 (dk_at dksX0_place_1 1 rfl rfl)
theorem dX0_place_28 : decode cX0_place 28 = .ok (.aload_n 0, 1) := dk_42 (dk_at dksX0_place_1 4 rfl rfl)
theorem dX0_place_29 : decode cX0_place 29 = .ok (.getfield 111, 3) := dk_180 0 111 (dk_at dksX0_place_1 5 rfl rfl)
theorem dX0_place_32 : decode cX0_place 32 = .ok (.getfield 349, 3) := dk_180 1 93 (dk_at dksX0_place_1 8 rfl rfl)
theorem dX0_place_35 : decode cX0_place 35 = .ok (.goto 19, 3) := dk_167 0 19 (dk_at dksX0_place_1 11 rfl rfl)
theorem dX0_place_38 : decode cX0_place 38 = .ok (.iload_n 1, 1) := dk_27 (dk_at dksX0_place_1 14 rfl rfl)
theorem dX0_place_39 : decode cX0_place 39 = .ok (.iconst 2, 1) := dk_5 (dk_at dksX0_place_1 15 rfl rfl)
theorem dX0_place_40 : decode cX0_place 40 = .ok (.if_icmp .ne 13, 3) := dk_160 0 13 (dk_at dksX0_place_1 16 rfl rfl)
theorem dX0_place_43 : decode cX0_place 43 = .ok (.aload_n 0, 1) := dk_42 (dk_at dksX0_place_1 19 rfl rfl)
theorem dX0_place_44 : decode cX0_place 44 = .ok (.getfield 111, 3) := dk_180 0 111 (dk_at dksX0_place_1 20 rfl rfl)
theorem dX0_place_47 : decode cX0_place 47 = .ok (.getfield 352, 3) := dk_180 1 96 (dk_at dksX0_place_2 0 rfl rfl)
theorem dX0_place_50 : decode cX0_place 50 = .ok (.goto 4, 3) := dk_167 0 4 (dk_at dksX0_place_2 3 rfl rfl)
theorem dX0_place_53 : decode cX0_place 53 = .ok (.iconst (-1), 1) := dk_2 (dk_at dksX0_place_2 6 rfl rfl)
theorem dX0_place_54 : decode cX0_place 54 = .ok (.ireturn, 1) := dk_172 (dk_at dksX0_place_2 7 rfl rfl)
abbrev cX0_value : ByteArray := prog_1_method_32_code
def yX0_value : MethodName := ⟨RX0, "value", "(I)I"⟩
def dkwX0_value_1 : List UInt8 := [167, 0, 4, 2, 172]
abbrev dktX0_value_1 : List UInt8 := dkwX0_value_1 ++ []
def dkwX0_value_0 : List UInt8 := [27, 3, 16, 15, 184, 1, 16, 153, 0, 18, 42, 42, 180, 0, 111, 180, 1, 102, 27, 182, 1, 106]
abbrev dktX0_value_0 : List UInt8 := dkwX0_value_0 ++ dktX0_value_1
theorem dksX0_value_0 : cX0_value.data.toList.drop 0 = dktX0_value_0 := by decide +kernel
theorem dksX0_value_1 : cX0_value.data.toList.drop 22 = dktX0_value_1 := dk_seg dksX0_value_0 22 rfl rfl
theorem dX0_value_0 : decode cX0_value 0 = .ok (.iload_n 1, 1) := dk_27 (dk_at dksX0_value_0 0 rfl rfl)
theorem dX0_value_1 : decode cX0_value 1 = .ok (.iconst 0, 1) := dk_3 (dk_at dksX0_value_0 1 rfl rfl)
theorem dX0_value_2 : decode cX0_value 2 = .ok (.bipush 15, 2) := dk_16 15 (dk_at dksX0_value_0 2 rfl rfl)
theorem dX0_value_4 : decode cX0_value 4 = .ok (.invokestatic 272, 3) := dk_184 1 16 (dk_at dksX0_value_0 4 rfl rfl)
theorem dX0_value_7 : decode cX0_value 7 = .ok (.ifCond .eq 18, 3) := dk_153 0 18 (dk_at dksX0_value_0 7 rfl rfl)
theorem dX0_value_10 : decode cX0_value 10 = .ok (.aload_n 0, 1) := dk_42 (dk_at dksX0_value_0 10 rfl rfl)
theorem dX0_value_11 : decode cX0_value 11 = .ok (.aload_n 0, 1) := dk_42 (dk_at dksX0_value_0 11 rfl rfl)
theorem dX0_value_12 : decode cX0_value 12 = .ok (.getfield 111, 3) := dk_180 0 111 (dk_at dksX0_value_0 12 rfl rfl)
theorem dX0_value_15 : decode cX0_value 15 = .ok (.getfield 358, 3) := dk_180 1 102 (dk_at dksX0_value_0 15 rfl rfl)
theorem dX0_value_18 : decode cX0_value 18 = .ok (.iload_n 1, 1) := dk_27 (dk_at dksX0_value_0 18 rfl rfl)
theorem dX0_value_19 : decode cX0_value 19 = .ok (.invokevirtual 362, 3) := dk_182 1 106 (dk_at dksX0_value_0 19 rfl rfl)
theorem dX0_value_22 : decode cX0_value 22 = .ok (.goto 4, 3) := dk_167 0 4 (dk_at dksX0_value_1 0 rfl rfl)
theorem dX0_value_25 : decode cX0_value 25 = .ok (.iconst (-1), 1) := dk_2 (dk_at dksX0_value_1 3 rfl rfl)
theorem dX0_value_26 : decode cX0_value 26 = .ok (.ireturn, 1) := dk_172 (dk_at dksX0_value_1 4 rfl rfl)
abbrev cX0_valueIn : ByteArray := prog_1_method_31_code
def yX0_valueIn : MethodName := ⟨RX0, "valueIn", "(Ljava/util/HashMap;I)I"⟩
def dkwX0_valueIn_1 : List UInt8 := [45, 182, 1, 99, 172]
abbrev dktX0_valueIn_1 : List UInt8 := dkwX0_valueIn_1 ++ []
def dkwX0_valueIn_0 : List UInt8 := [43, 42, 180, 0, 35, 28, 182, 0, 155, 182, 1, 3, 192, 1, 6, 78, 45, 199, 0, 7, 2, 167, 0, 7]
abbrev dktX0_valueIn_0 : List UInt8 := dkwX0_valueIn_0 ++ dktX0_valueIn_1
theorem dksX0_valueIn_0 : cX0_valueIn.data.toList.drop 0 = dktX0_valueIn_0 := by decide +kernel
theorem dksX0_valueIn_1 : cX0_valueIn.data.toList.drop 24 = dktX0_valueIn_1 := dk_seg dksX0_valueIn_0 24 rfl rfl
theorem dX0_valueIn_0 : decode cX0_valueIn 0 = .ok (.aload_n 1, 1) := dk_43 (dk_at dksX0_valueIn_0 0 rfl rfl)
theorem dX0_valueIn_1 : decode cX0_valueIn 1 = .ok (.aload_n 0, 1) := dk_42 (dk_at dksX0_valueIn_0 1 rfl rfl)
theorem dX0_valueIn_2 : decode cX0_valueIn 2 = .ok (.getfield 35, 3) := dk_180 0 35 (dk_at dksX0_valueIn_0 2 rfl rfl)
theorem dX0_valueIn_5 : decode cX0_valueIn 5 = .ok (.iload_n 2, 1) := dk_28 (dk_at dksX0_valueIn_0 5 rfl rfl)
theorem dX0_valueIn_6 : decode cX0_valueIn 6 = .ok (.invokevirtual 155, 3) := dk_182 0 155 (dk_at dksX0_valueIn_0 6 rfl rfl)
theorem dX0_valueIn_9 : decode cX0_valueIn 9 = .ok (.invokevirtual 259, 3) := dk_182 1 3 (dk_at dksX0_valueIn_0 9 rfl rfl)
theorem dX0_valueIn_12 : decode cX0_valueIn 12 = .ok (.checkcast 262, 3) := dk_192 1 6 (dk_at dksX0_valueIn_0 12 rfl rfl)
theorem dX0_valueIn_15 : decode cX0_valueIn 15 = .ok (.astore_n 3, 1) := dk_78 (dk_at dksX0_valueIn_0 15 rfl rfl)
theorem dX0_valueIn_16 : decode cX0_valueIn 16 = .ok (.aload_n 3, 1) := dk_45 (dk_at dksX0_valueIn_0 16 rfl rfl)
theorem dX0_valueIn_17 : decode cX0_valueIn 17 = .ok (.ifnonnull 7, 3) := dk_199 0 7 (dk_at dksX0_valueIn_0 17 rfl rfl)
theorem dX0_valueIn_20 : decode cX0_valueIn 20 = .ok (.iconst (-1), 1) := dk_2 (dk_at dksX0_valueIn_0 20 rfl rfl)
theorem dX0_valueIn_21 : decode cX0_valueIn 21 = .ok (.goto 7, 3) := dk_167 0 7 (dk_at dksX0_valueIn_0 21 rfl rfl)
theorem dX0_valueIn_24 : decode cX0_valueIn 24 = .ok (.aload_n 3, 1) := dk_45 (dk_at dksX0_valueIn_1 0 rfl rfl)
theorem dX0_valueIn_25 : decode cX0_valueIn 25 = .ok (.invokevirtual 355, 3) := dk_182 1 99 (dk_at dksX0_valueIn_1 1 rfl rfl)
theorem dX0_valueIn_28 : decode cX0_valueIn 28 = .ok (.ireturn, 1) := dk_172 (dk_at dksX0_valueIn_1 4 rfl rfl)
abbrev cX0_soon : ByteArray := prog_1_method_34_code
def yX0_soon : MethodName := ⟨RX0, "soon", "(I)I"⟩
def dkwX0_soon_1 : List UInt8 := [180, 1, 28, 27, 28, 184, 1, 115, 172]
abbrev dktX0_soon_1 : List UInt8 := dkwX0_soon_1 ++ []
def dkwX0_soon_0 : List UInt8 := [42, 27, 182, 1, 110, 61, 42, 180, 0, 111, 180, 1, 112, 27, 28, 184, 1, 115, 61, 42, 180, 0, 111]
abbrev dktX0_soon_0 : List UInt8 := dkwX0_soon_0 ++ dktX0_soon_1
theorem dksX0_soon_0 : cX0_soon.data.toList.drop 0 = dktX0_soon_0 := by decide +kernel
theorem dksX0_soon_1 : cX0_soon.data.toList.drop 23 = dktX0_soon_1 := dk_seg dksX0_soon_0 23 rfl rfl
theorem dX0_soon_0 : decode cX0_soon 0 = .ok (.aload_n 0, 1) := dk_42 (dk_at dksX0_soon_0 0 rfl rfl)
theorem dX0_soon_1 : decode cX0_soon 1 = .ok (.iload_n 1, 1) := dk_27 (dk_at dksX0_soon_0 1 rfl rfl)
theorem dX0_soon_2 : decode cX0_soon 2 = .ok (.invokevirtual 366, 3) := dk_182 1 110 (dk_at dksX0_soon_0 2 rfl rfl)
theorem dX0_soon_5 : decode cX0_soon 5 = .ok (.istore_n 2, 1) := dk_61 (dk_at dksX0_soon_0 5 rfl rfl)
theorem dX0_soon_6 : decode cX0_soon 6 = .ok (.aload_n 0, 1) := dk_42 (dk_at dksX0_soon_0 6 rfl rfl)
theorem dX0_soon_7 : decode cX0_soon 7 = .ok (.getfield 111, 3) := dk_180 0 111 (dk_at dksX0_soon_0 7 rfl rfl)
theorem dX0_soon_10 : decode cX0_soon 10 = .ok (.getfield 368, 3) := dk_180 1 112 (dk_at dksX0_soon_0 10 rfl rfl)
theorem dX0_soon_13 : decode cX0_soon 13 = .ok (.iload_n 1, 1) := dk_27 (dk_at dksX0_soon_0 13 rfl rfl)
theorem dX0_soon_14 : decode cX0_soon 14 = .ok (.iload_n 2, 1) := dk_28 (dk_at dksX0_soon_0 14 rfl rfl)
theorem dX0_soon_15 : decode cX0_soon 15 = .ok (.invokestatic 371, 3) := dk_184 1 115 (dk_at dksX0_soon_0 15 rfl rfl)
theorem dX0_soon_18 : decode cX0_soon 18 = .ok (.istore_n 2, 1) := dk_61 (dk_at dksX0_soon_0 18 rfl rfl)
theorem dX0_soon_19 : decode cX0_soon 19 = .ok (.aload_n 0, 1) := dk_42 (dk_at dksX0_soon_0 19 rfl rfl)
theorem dX0_soon_20 : decode cX0_soon 20 = .ok (.getfield 111, 3) := dk_180 0 111 (dk_at dksX0_soon_0 20 rfl rfl)
theorem dX0_soon_23 : decode cX0_soon 23 = .ok (.getfield 284, 3) := dk_180 1 28 (dk_at dksX0_soon_1 0 rfl rfl)
theorem dX0_soon_26 : decode cX0_soon 26 = .ok (.iload_n 1, 1) := dk_27 (dk_at dksX0_soon_1 3 rfl rfl)
theorem dX0_soon_27 : decode cX0_soon 27 = .ok (.iload_n 2, 1) := dk_28 (dk_at dksX0_soon_1 4 rfl rfl)
theorem dX0_soon_28 : decode cX0_soon 28 = .ok (.invokestatic 371, 3) := dk_184 1 115 (dk_at dksX0_soon_1 5 rfl rfl)
theorem dX0_soon_31 : decode cX0_soon 31 = .ok (.ireturn, 1) := dk_172 (dk_at dksX0_soon_1 8 rfl rfl)
abbrev cX0_latest : ByteArray := prog_1_method_33_code
def yX0_latest : MethodName := ⟨RX0, "latest", "(Ljava/util/List;II)I"⟩
def dkwX0_latest_2 : List UInt8 := [167, 0, 4, 29, 62, 132, 4, 1, 167, 255, 205, 29, 172]
abbrev dktX0_latest_2 : List UInt8 := dkwX0_latest_2 ++ []
def dkwX0_latest_1 : List UInt8 := [192, 0, 206, 180, 0, 208, 27, 160, 0, 20, 42, 21, 4, 185, 0, 202, 2, 0, 192, 0, 206, 180, 0, 211]
abbrev dktX0_latest_1 : List UInt8 := dkwX0_latest_1 ++ dktX0_latest_2
def dkwX0_latest_0 : List UInt8 := [28, 62, 3, 54, 4, 21, 4, 42, 185, 0, 197, 1, 0, 162, 0, 46, 42, 21, 4, 185, 0, 202, 2, 0]
abbrev dktX0_latest_0 : List UInt8 := dkwX0_latest_0 ++ dktX0_latest_1
theorem dksX0_latest_0 : cX0_latest.data.toList.drop 0 = dktX0_latest_0 := by decide +kernel
theorem dksX0_latest_1 : cX0_latest.data.toList.drop 24 = dktX0_latest_1 := dk_seg dksX0_latest_0 24 rfl rfl
theorem dksX0_latest_2 : cX0_latest.data.toList.drop 48 = dktX0_latest_2 := dk_seg dksX0_latest_1 24 rfl rfl
theorem dX0_latest_0 : decode cX0_latest 0 = .ok (.iload_n 2, 1) := dk_28 (dk_at dksX0_latest_0 0 rfl rfl)
theorem dX0_latest_1 : decode cX0_latest 1 = .ok (.istore_n 3, 1) := dk_62 (dk_at dksX0_latest_0 1 rfl rfl)
theorem dX0_latest_2 : decode cX0_latest 2 = .ok (.iconst 0, 1) := dk_3 (dk_at dksX0_latest_0 2 rfl rfl)
theorem dX0_latest_3 : decode cX0_latest 3 = .ok (.istore 4, 2) := dk_54 4 (dk_at dksX0_latest_0 3 rfl rfl)
theorem dX0_latest_5 : decode cX0_latest 5 = .ok (.iload 4, 2) := dk_21 4 (dk_at dksX0_latest_0 5 rfl rfl)
theorem dX0_latest_7 : decode cX0_latest 7 = .ok (.aload_n 0, 1) := dk_42 (dk_at dksX0_latest_0 7 rfl rfl)
theorem dX0_latest_8 : decode cX0_latest 8 = .ok (.invokeinterface 197 1, 5) := by decide +kernel
theorem dX0_latest_13 : decode cX0_latest 13 = .ok (.if_icmp .ge 46, 3) := dk_162 0 46 (dk_at dksX0_latest_0 13 rfl rfl)
theorem dX0_latest_16 : decode cX0_latest 16 = .ok (.aload_n 0, 1) := dk_42 (dk_at dksX0_latest_0 16 rfl rfl)
theorem dX0_latest_17 : decode cX0_latest 17 = .ok (.iload 4, 2) := dk_21 4 (dk_at dksX0_latest_0 17 rfl rfl)
theorem dX0_latest_19 : decode cX0_latest 19 = .ok (.invokeinterface 202 2, 5) := by decide +kernel
theorem dX0_latest_24 : decode cX0_latest 24 = .ok (.checkcast 206, 3) := dk_192 0 206 (dk_at dksX0_latest_1 0 rfl rfl)
theorem dX0_latest_27 : decode cX0_latest 27 = .ok (.getfield 208, 3) := dk_180 0 208 (dk_at dksX0_latest_1 3 rfl rfl)
theorem dX0_latest_30 : decode cX0_latest 30 = .ok (.iload_n 1, 1) := dk_27 (dk_at dksX0_latest_1 6 rfl rfl)
theorem dX0_latest_31 : decode cX0_latest 31 = .ok (.if_icmp .ne 20, 3) := dk_160 0 20 (dk_at dksX0_latest_1 7 rfl rfl)
theorem dX0_latest_34 : decode cX0_latest 34 = .ok (.aload_n 0, 1) := dk_42 (dk_at dksX0_latest_1 10 rfl rfl)
theorem dX0_latest_35 : decode cX0_latest 35 = .ok (.iload 4, 2) := dk_21 4 (dk_at dksX0_latest_1 11 rfl rfl)
theorem dX0_latest_37 : decode cX0_latest 37 = .ok (.invokeinterface 202 2, 5) := by decide +kernel
theorem dX0_latest_42 : decode cX0_latest 42 = .ok (.checkcast 206, 3) := dk_192 0 206 (dk_at dksX0_latest_1 18 rfl rfl)
theorem dX0_latest_45 : decode cX0_latest 45 = .ok (.getfield 211, 3) := dk_180 0 211 (dk_at dksX0_latest_1 21 rfl rfl)
theorem dX0_latest_48 : decode cX0_latest 48 = .ok (.goto 4, 3) := dk_167 0 4 (dk_at dksX0_latest_2 0 rfl rfl)
theorem dX0_latest_51 : decode cX0_latest 51 = .ok (.iload_n 3, 1) := dk_29 (dk_at dksX0_latest_2 3 rfl rfl)
theorem dX0_latest_52 : decode cX0_latest 52 = .ok (.istore_n 3, 1) := dk_62 (dk_at dksX0_latest_2 4 rfl rfl)
theorem dX0_latest_53 : decode cX0_latest 53 = .ok (.iinc 4 1, 3) := dk_132 4 1 (dk_at dksX0_latest_2 5 rfl rfl)
theorem dX0_latest_56 : decode cX0_latest 56 = .ok (.goto (-51), 3) := dk_167 255 205 (dk_at dksX0_latest_2 8 rfl rfl)
theorem dX0_latest_59 : decode cX0_latest 59 = .ok (.iload_n 3, 1) := dk_29 (dk_at dksX0_latest_2 11 rfl rfl)
theorem dX0_latest_60 : decode cX0_latest 60 = .ok (.ireturn, 1) := dk_172 (dk_at dksX0_latest_2 12 rfl rfl)
abbrev cX0_waiting : ByteArray := prog_1_method_35_code
def yX0_waiting : MethodName := ⟨RX0, "waiting", "(II)I"⟩
def dkwX0_waiting_3 : List UInt8 := [180, 0, 211, 167, 0, 16, 28, 6, 160, 0, 10, 45, 180, 0, 214, 167, 0, 4, 2, 172]
abbrev dktX0_waiting_3 : List UInt8 := dkwX0_waiting_3 ++ []
def dkwX0_waiting_2 : List UInt8 := [180, 1, 119, 167, 0, 40, 28, 4, 160, 0, 10, 45, 180, 0, 208, 167, 0, 28, 28, 5, 160, 0, 10, 45]
abbrev dktX0_waiting_2 : List UInt8 := dkwX0_waiting_2 ++ dktX0_waiting_3
def dkwX0_waiting_1 : List UInt8 := [42, 180, 0, 111, 180, 1, 28, 27, 185, 0, 202, 2, 0, 192, 0, 206, 78, 28, 154, 0, 10, 45]
abbrev dktX0_waiting_1 : List UInt8 := dkwX0_waiting_1 ++ dktX0_waiting_2
def dkwX0_waiting_0 : List UInt8 := [27, 3, 42, 180, 0, 111, 180, 1, 28, 185, 0, 197, 1, 0, 4, 100, 184, 1, 16, 154, 0, 5, 2, 172]
abbrev dktX0_waiting_0 : List UInt8 := dkwX0_waiting_0 ++ dktX0_waiting_1
theorem dksX0_waiting_0 : cX0_waiting.data.toList.drop 0 = dktX0_waiting_0 := by decide +kernel
theorem dksX0_waiting_1 : cX0_waiting.data.toList.drop 24 = dktX0_waiting_1 := dk_seg dksX0_waiting_0 24 rfl rfl
theorem dksX0_waiting_2 : cX0_waiting.data.toList.drop 46 = dktX0_waiting_2 := dk_seg dksX0_waiting_1 22 rfl rfl
theorem dksX0_waiting_3 : cX0_waiting.data.toList.drop 70 = dktX0_waiting_3 := dk_seg dksX0_waiting_2 24 rfl rfl
theorem dX0_waiting_0 : decode cX0_waiting 0 = .ok (.iload_n 1, 1) := dk_27 (dk_at dksX0_waiting_0 0 rfl rfl)
theorem dX0_waiting_1 : decode cX0_waiting 1 = .ok (.iconst 0, 1) := dk_3 (dk_at dksX0_waiting_0 1 rfl rfl)
theorem dX0_waiting_2 : decode cX0_waiting 2 = .ok (.aload_n 0, 1) := dk_42 (dk_at dksX0_waiting_0 2 rfl rfl)
theorem dX0_waiting_3 : decode cX0_waiting 3 = .ok (.getfield 111, 3) := dk_180 0 111 (dk_at dksX0_waiting_0 3 rfl rfl)
theorem dX0_waiting_6 : decode cX0_waiting 6 = .ok (.getfield 284, 3) := dk_180 1 28 (dk_at dksX0_waiting_0 6 rfl rfl)
theorem dX0_waiting_9 : decode cX0_waiting 9 = .ok (.invokeinterface 197 1, 5) := by decide +kernel
theorem dX0_waiting_14 : decode cX0_waiting 14 = .ok (.iconst 1, 1) := dk_4 (dk_at dksX0_waiting_0 14 rfl rfl)
theorem dX0_waiting_15 : decode cX0_waiting 15 = .ok (.isub, 1) := dk_100 (dk_at dksX0_waiting_0 15 rfl rfl)
theorem dX0_waiting_16 : decode cX0_waiting 16 = .ok (.invokestatic 272, 3) := dk_184 1 16 (dk_at dksX0_waiting_0 16 rfl rfl)
theorem dX0_waiting_19 : decode cX0_waiting 19 = .ok (.ifCond .ne 5, 3) := dk_154 0 5 (dk_at dksX0_waiting_0 19 rfl rfl)
theorem dX0_waiting_22 : decode cX0_waiting 22 = .ok (.iconst (-1), 1) := dk_2 (dk_at dksX0_waiting_0 22 rfl rfl)
theorem dX0_waiting_23 : decode cX0_waiting 23 = .ok (.ireturn, 1) := dk_172 (dk_at dksX0_waiting_0 23 rfl rfl)
theorem dX0_waiting_24 : decode cX0_waiting 24 = .ok (.aload_n 0, 1) := dk_42 (dk_at dksX0_waiting_1 0 rfl rfl)
theorem dX0_waiting_25 : decode cX0_waiting 25 = .ok (.getfield 111, 3) := dk_180 0 111 (dk_at dksX0_waiting_1 1 rfl rfl)
theorem dX0_waiting_28 : decode cX0_waiting 28 = .ok (.getfield 284, 3) := dk_180 1 28 (dk_at dksX0_waiting_1 4 rfl rfl)
theorem dX0_waiting_31 : decode cX0_waiting 31 = .ok (.iload_n 1, 1) := dk_27 (dk_at dksX0_waiting_1 7 rfl rfl)
theorem dX0_waiting_32 : decode cX0_waiting 32 = .ok (.invokeinterface 202 2, 5) := by decide +kernel
theorem dX0_waiting_37 : decode cX0_waiting 37 = .ok (.checkcast 206, 3) := dk_192 0 206 (dk_at dksX0_waiting_1 13 rfl rfl)
theorem dX0_waiting_40 : decode cX0_waiting 40 = .ok (.astore_n 3, 1) := dk_78 (dk_at dksX0_waiting_1 16 rfl rfl)
theorem dX0_waiting_41 : decode cX0_waiting 41 = .ok (.iload_n 2, 1) := dk_28 (dk_at dksX0_waiting_1 17 rfl rfl)
theorem dX0_waiting_42 : decode cX0_waiting 42 = .ok (.ifCond .ne 10, 3) := dk_154 0 10 (dk_at dksX0_waiting_1 18 rfl rfl)
theorem dX0_waiting_45 : decode cX0_waiting 45 = .ok (.aload_n 3, 1) := dk_45 (dk_at dksX0_waiting_1 21 rfl rfl)
theorem dX0_waiting_46 : decode cX0_waiting 46 = .ok (.getfield 375, 3) := dk_180 1 119 (dk_at dksX0_waiting_2 0 rfl rfl)
theorem dX0_waiting_49 : decode cX0_waiting 49 = .ok (.goto 40, 3) := dk_167 0 40 (dk_at dksX0_waiting_2 3 rfl rfl)
theorem dX0_waiting_52 : decode cX0_waiting 52 = .ok (.iload_n 2, 1) := dk_28 (dk_at dksX0_waiting_2 6 rfl rfl)
theorem dX0_waiting_53 : decode cX0_waiting 53 = .ok (.iconst 1, 1) := dk_4 (dk_at dksX0_waiting_2 7 rfl rfl)
theorem dX0_waiting_54 : decode cX0_waiting 54 = .ok (.if_icmp .ne 10, 3) := dk_160 0 10 (dk_at dksX0_waiting_2 8 rfl rfl)
theorem dX0_waiting_57 : decode cX0_waiting 57 = .ok (.aload_n 3, 1) := dk_45 (dk_at dksX0_waiting_2 11 rfl rfl)
theorem dX0_waiting_58 : decode cX0_waiting 58 = .ok (.getfield 208, 3) := dk_180 0 208 (dk_at dksX0_waiting_2 12 rfl rfl)
theorem dX0_waiting_61 : decode cX0_waiting 61 = .ok (.goto 28, 3) := dk_167 0 28 (dk_at dksX0_waiting_2 15 rfl rfl)
theorem dX0_waiting_64 : decode cX0_waiting 64 = .ok (.iload_n 2, 1) := dk_28 (dk_at dksX0_waiting_2 18 rfl rfl)
theorem dX0_waiting_65 : decode cX0_waiting 65 = .ok (.iconst 2, 1) := dk_5 (dk_at dksX0_waiting_2 19 rfl rfl)
theorem dX0_waiting_66 : decode cX0_waiting 66 = .ok (.if_icmp .ne 10, 3) := dk_160 0 10 (dk_at dksX0_waiting_2 20 rfl rfl)
theorem dX0_waiting_69 : decode cX0_waiting 69 = .ok (.aload_n 3, 1) := dk_45 (dk_at dksX0_waiting_2 23 rfl rfl)
theorem dX0_waiting_70 : decode cX0_waiting 70 = .ok (.getfield 211, 3) := dk_180 0 211 (dk_at dksX0_waiting_3 0 rfl rfl)
theorem dX0_waiting_73 : decode cX0_waiting 73 = .ok (.goto 16, 3) := dk_167 0 16 (dk_at dksX0_waiting_3 3 rfl rfl)
theorem dX0_waiting_76 : decode cX0_waiting 76 = .ok (.iload_n 2, 1) := dk_28 (dk_at dksX0_waiting_3 6 rfl rfl)
theorem dX0_waiting_77 : decode cX0_waiting 77 = .ok (.iconst 3, 1) := dk_6 (dk_at dksX0_waiting_3 7 rfl rfl)
theorem dX0_waiting_78 : decode cX0_waiting 78 = .ok (.if_icmp .ne 10, 3) := dk_160 0 10 (dk_at dksX0_waiting_3 8 rfl rfl)
theorem dX0_waiting_81 : decode cX0_waiting 81 = .ok (.aload_n 3, 1) := dk_45 (dk_at dksX0_waiting_3 11 rfl rfl)
theorem dX0_waiting_82 : decode cX0_waiting 82 = .ok (.getfield 214, 3) := dk_180 0 214 (dk_at dksX0_waiting_3 12 rfl rfl)
theorem dX0_waiting_85 : decode cX0_waiting 85 = .ok (.goto 4, 3) := dk_167 0 4 (dk_at dksX0_waiting_3 15 rfl rfl)
theorem dX0_waiting_88 : decode cX0_waiting 88 = .ok (.iconst (-1), 1) := dk_2 (dk_at dksX0_waiting_3 18 rfl rfl)
theorem dX0_waiting_89 : decode cX0_waiting 89 = .ok (.ireturn, 1) := dk_172 (dk_at dksX0_waiting_3 19 rfl rfl)
abbrev cX0_waiter : ByteArray := prog_1_method_36_code
def yX0_waiter : MethodName := ⟨RX0, "waiter", "(I)I"⟩
def dkwX0_waiter_2 : List UInt8 := [167, 0, 4, 2, 172]
abbrev dktX0_waiter_2 : List UInt8 := dkwX0_waiter_2 ++ []
def dkwX0_waiter_1 : List UInt8 := [153, 0, 26, 42, 180, 0, 111, 180, 1, 40, 27, 184, 1, 122, 182, 1, 129, 192, 1, 6, 182, 1, 99]
abbrev dktX0_waiter_1 : List UInt8 := dkwX0_waiter_1 ++ dktX0_waiter_2
def dkwX0_waiter_0 : List UInt8 := [27, 3, 16, 7, 184, 1, 16, 153, 0, 43, 42, 180, 0, 111, 180, 1, 40, 27, 184, 1, 122, 182, 1, 126]
abbrev dktX0_waiter_0 : List UInt8 := dkwX0_waiter_0 ++ dktX0_waiter_1
theorem dksX0_waiter_0 : cX0_waiter.data.toList.drop 0 = dktX0_waiter_0 := by decide +kernel
theorem dksX0_waiter_1 : cX0_waiter.data.toList.drop 24 = dktX0_waiter_1 := dk_seg dksX0_waiter_0 24 rfl rfl
theorem dksX0_waiter_2 : cX0_waiter.data.toList.drop 47 = dktX0_waiter_2 := dk_seg dksX0_waiter_1 23 rfl rfl
theorem dX0_waiter_0 : decode cX0_waiter 0 = .ok (.iload_n 1, 1) := dk_27 (dk_at dksX0_waiter_0 0 rfl rfl)
theorem dX0_waiter_1 : decode cX0_waiter 1 = .ok (.iconst 0, 1) := dk_3 (dk_at dksX0_waiter_0 1 rfl rfl)
theorem dX0_waiter_2 : decode cX0_waiter 2 = .ok (.bipush 7, 2) := dk_16 7 (dk_at dksX0_waiter_0 2 rfl rfl)
theorem dX0_waiter_4 : decode cX0_waiter 4 = .ok (.invokestatic 272, 3) := dk_184 1 16 (dk_at dksX0_waiter_0 4 rfl rfl)
theorem dX0_waiter_7 : decode cX0_waiter 7 = .ok (.ifCond .eq 43, 3) := dk_153 0 43 (dk_at dksX0_waiter_0 7 rfl rfl)
theorem dX0_waiter_10 : decode cX0_waiter 10 = .ok (.aload_n 0, 1) := dk_42 (dk_at dksX0_waiter_0 10 rfl rfl)
theorem dX0_waiter_11 : decode cX0_waiter 11 = .ok (.getfield 111, 3) := dk_180 0 111 (dk_at dksX0_waiter_0 11 rfl rfl)
theorem dX0_waiter_14 : decode cX0_waiter 14 = .ok (.getfield 296, 3) := dk_180 1 40 (dk_at dksX0_waiter_0 14 rfl rfl)
theorem dX0_waiter_17 : decode cX0_waiter 17 = .ok (.iload_n 1, 1) := dk_27 (dk_at dksX0_waiter_0 17 rfl rfl)
theorem dX0_waiter_18 : decode cX0_waiter 18 = .ok (.invokestatic 378, 3) := dk_184 1 122 (dk_at dksX0_waiter_0 18 rfl rfl)
theorem dX0_waiter_21 : decode cX0_waiter 21 = .ok (.invokevirtual 382, 3) := dk_182 1 126 (dk_at dksX0_waiter_0 21 rfl rfl)
theorem dX0_waiter_24 : decode cX0_waiter 24 = .ok (.ifCond .eq 26, 3) := dk_153 0 26 (dk_at dksX0_waiter_1 0 rfl rfl)
theorem dX0_waiter_27 : decode cX0_waiter 27 = .ok (.aload_n 0, 1) := dk_42 (dk_at dksX0_waiter_1 3 rfl rfl)
theorem dX0_waiter_28 : decode cX0_waiter 28 = .ok (.getfield 111, 3) := dk_180 0 111 (dk_at dksX0_waiter_1 4 rfl rfl)
theorem dX0_waiter_31 : decode cX0_waiter 31 = .ok (.getfield 296, 3) := dk_180 1 40 (dk_at dksX0_waiter_1 7 rfl rfl)
theorem dX0_waiter_34 : decode cX0_waiter 34 = .ok (.iload_n 1, 1) := dk_27 (dk_at dksX0_waiter_1 10 rfl rfl)
theorem dX0_waiter_35 : decode cX0_waiter 35 = .ok (.invokestatic 378, 3) := dk_184 1 122 (dk_at dksX0_waiter_1 11 rfl rfl)
theorem dX0_waiter_38 : decode cX0_waiter 38 = .ok (.invokevirtual 385, 3) := dk_182 1 129 (dk_at dksX0_waiter_1 14 rfl rfl)
theorem dX0_waiter_41 : decode cX0_waiter 41 = .ok (.checkcast 262, 3) := dk_192 1 6 (dk_at dksX0_waiter_1 17 rfl rfl)
theorem dX0_waiter_44 : decode cX0_waiter 44 = .ok (.invokevirtual 355, 3) := dk_182 1 99 (dk_at dksX0_waiter_1 20 rfl rfl)
theorem dX0_waiter_47 : decode cX0_waiter 47 = .ok (.goto 4, 3) := dk_167 0 4 (dk_at dksX0_waiter_2 0 rfl rfl)
theorem dX0_waiter_50 : decode cX0_waiter 50 = .ok (.iconst (-1), 1) := dk_2 (dk_at dksX0_waiter_2 3 rfl rfl)
theorem dX0_waiter_51 : decode cX0_waiter 51 = .ok (.ireturn, 1) := dk_172 (dk_at dksX0_waiter_2 4 rfl rfl)
abbrev cX0_kept : ByteArray := prog_1_method_37_code
def yX0_kept : MethodName := ⟨RX0, "kept", "(II)I"⟩
def dkwX0_kept_2 : List UInt8 := [46, 167, 0, 4, 2, 172]
abbrev dktX0_kept_2 : List UInt8 := dkwX0_kept_2 ++ []
def dkwX0_kept_1 : List UInt8 := [5, 184, 1, 16, 153, 0, 24, 42, 180, 0, 111, 180, 1, 54, 27, 185, 0, 202, 2, 0, 192, 1, 130, 28]
abbrev dktX0_kept_1 : List UInt8 := dkwX0_kept_1 ++ dktX0_kept_2
def dkwX0_kept_0 : List UInt8 := [27, 3, 42, 180, 0, 111, 180, 1, 54, 185, 0, 197, 1, 0, 4, 100, 184, 1, 16, 153, 0, 33, 28, 3]
abbrev dktX0_kept_0 : List UInt8 := dkwX0_kept_0 ++ dktX0_kept_1
theorem dksX0_kept_0 : cX0_kept.data.toList.drop 0 = dktX0_kept_0 := by decide +kernel
theorem dksX0_kept_1 : cX0_kept.data.toList.drop 24 = dktX0_kept_1 := dk_seg dksX0_kept_0 24 rfl rfl
theorem dksX0_kept_2 : cX0_kept.data.toList.drop 48 = dktX0_kept_2 := dk_seg dksX0_kept_1 24 rfl rfl
theorem dX0_kept_0 : decode cX0_kept 0 = .ok (.iload_n 1, 1) := dk_27 (dk_at dksX0_kept_0 0 rfl rfl)
theorem dX0_kept_1 : decode cX0_kept 1 = .ok (.iconst 0, 1) := dk_3 (dk_at dksX0_kept_0 1 rfl rfl)
theorem dX0_kept_2 : decode cX0_kept 2 = .ok (.aload_n 0, 1) := dk_42 (dk_at dksX0_kept_0 2 rfl rfl)
theorem dX0_kept_3 : decode cX0_kept 3 = .ok (.getfield 111, 3) := dk_180 0 111 (dk_at dksX0_kept_0 3 rfl rfl)
theorem dX0_kept_6 : decode cX0_kept 6 = .ok (.getfield 310, 3) := dk_180 1 54 (dk_at dksX0_kept_0 6 rfl rfl)
theorem dX0_kept_9 : decode cX0_kept 9 = .ok (.invokeinterface 197 1, 5) := by decide +kernel
theorem dX0_kept_14 : decode cX0_kept 14 = .ok (.iconst 1, 1) := dk_4 (dk_at dksX0_kept_0 14 rfl rfl)
theorem dX0_kept_15 : decode cX0_kept 15 = .ok (.isub, 1) := dk_100 (dk_at dksX0_kept_0 15 rfl rfl)
theorem dX0_kept_16 : decode cX0_kept 16 = .ok (.invokestatic 272, 3) := dk_184 1 16 (dk_at dksX0_kept_0 16 rfl rfl)
theorem dX0_kept_19 : decode cX0_kept 19 = .ok (.ifCond .eq 33, 3) := dk_153 0 33 (dk_at dksX0_kept_0 19 rfl rfl)
theorem dX0_kept_22 : decode cX0_kept 22 = .ok (.iload_n 2, 1) := dk_28 (dk_at dksX0_kept_0 22 rfl rfl)
theorem dX0_kept_23 : decode cX0_kept 23 = .ok (.iconst 0, 1) := dk_3 (dk_at dksX0_kept_0 23 rfl rfl)
theorem dX0_kept_24 : decode cX0_kept 24 = .ok (.iconst 2, 1) := dk_5 (dk_at dksX0_kept_1 0 rfl rfl)
theorem dX0_kept_25 : decode cX0_kept 25 = .ok (.invokestatic 272, 3) := dk_184 1 16 (dk_at dksX0_kept_1 1 rfl rfl)
theorem dX0_kept_28 : decode cX0_kept 28 = .ok (.ifCond .eq 24, 3) := dk_153 0 24 (dk_at dksX0_kept_1 4 rfl rfl)
theorem dX0_kept_31 : decode cX0_kept 31 = .ok (.aload_n 0, 1) := dk_42 (dk_at dksX0_kept_1 7 rfl rfl)
theorem dX0_kept_32 : decode cX0_kept 32 = .ok (.getfield 111, 3) := dk_180 0 111 (dk_at dksX0_kept_1 8 rfl rfl)
theorem dX0_kept_35 : decode cX0_kept 35 = .ok (.getfield 310, 3) := dk_180 1 54 (dk_at dksX0_kept_1 11 rfl rfl)
theorem dX0_kept_38 : decode cX0_kept 38 = .ok (.iload_n 1, 1) := dk_27 (dk_at dksX0_kept_1 14 rfl rfl)
theorem dX0_kept_39 : decode cX0_kept 39 = .ok (.invokeinterface 202 2, 5) := by decide +kernel
theorem dX0_kept_44 : decode cX0_kept 44 = .ok (.checkcast 386, 3) := dk_192 1 130 (dk_at dksX0_kept_1 20 rfl rfl)
theorem dX0_kept_47 : decode cX0_kept 47 = .ok (.iload_n 2, 1) := dk_28 (dk_at dksX0_kept_1 23 rfl rfl)
theorem dX0_kept_48 : decode cX0_kept 48 = .ok (.iaload, 1) := dk_46 (dk_at dksX0_kept_2 0 rfl rfl)
theorem dX0_kept_49 : decode cX0_kept 49 = .ok (.goto 4, 3) := dk_167 0 4 (dk_at dksX0_kept_2 1 rfl rfl)
theorem dX0_kept_52 : decode cX0_kept 52 = .ok (.iconst (-1), 1) := dk_2 (dk_at dksX0_kept_2 4 rfl rfl)
theorem dX0_kept_53 : decode cX0_kept 53 = .ok (.ireturn, 1) := dk_172 (dk_at dksX0_kept_2 5 rfl rfl)
abbrev cX0_later : ByteArray := prog_1_method_39_code
def yX0_later : MethodName := ⟨RX0, "later", "(II)I"⟩
def dkwX0_later_3 : List UInt8 := [160, 0, 15, 45, 180, 1, 28, 185, 0, 197, 1, 0, 167, 0, 7, 45, 180, 1, 31, 172]
abbrev dktX0_later_3 : List UInt8 := dkwX0_later_3 ++ []
def dkwX0_later_2 : List UInt8 := [182, 1, 138, 87, 132, 4, 1, 167, 255, 241, 28, 154, 0, 10, 45, 180, 1, 25, 167, 0, 24, 28, 4]
abbrev dktX0_later_2 : List UInt8 := dkwX0_later_2 ++ dktX0_later_3
def dkwX0_later_1 : List UInt8 := [180, 0, 115, 42, 180, 0, 111, 182, 1, 134, 78, 3, 54, 4, 21, 4, 27, 162, 0, 15, 45, 2]
abbrev dktX0_later_1 : List UInt8 := dkwX0_later_1 ++ dktX0_later_2
def dkwX0_later_0 : List UInt8 := [42, 27, 3, 16, 100, 182, 1, 131, 153, 0, 12, 28, 3, 5, 184, 1, 16, 154, 0, 5, 2, 172, 42]
abbrev dktX0_later_0 : List UInt8 := dkwX0_later_0 ++ dktX0_later_1
theorem dksX0_later_0 : cX0_later.data.toList.drop 0 = dktX0_later_0 := by decide +kernel
theorem dksX0_later_1 : cX0_later.data.toList.drop 23 = dktX0_later_1 := dk_seg dksX0_later_0 23 rfl rfl
theorem dksX0_later_2 : cX0_later.data.toList.drop 45 = dktX0_later_2 := dk_seg dksX0_later_1 22 rfl rfl
theorem dksX0_later_3 : cX0_later.data.toList.drop 68 = dktX0_later_3 := dk_seg dksX0_later_2 23 rfl rfl
theorem dX0_later_0 : decode cX0_later 0 = .ok (.aload_n 0, 1) := dk_42 (dk_at dksX0_later_0 0 rfl rfl)
theorem dX0_later_1 : decode cX0_later 1 = .ok (.iload_n 1, 1) := dk_27 (dk_at dksX0_later_0 1 rfl rfl)
theorem dX0_later_2 : decode cX0_later 2 = .ok (.iconst 0, 1) := dk_3 (dk_at dksX0_later_0 2 rfl rfl)
theorem dX0_later_3 : decode cX0_later 3 = .ok (.bipush 100, 2) := dk_16 100 (dk_at dksX0_later_0 3 rfl rfl)
theorem dX0_later_5 : decode cX0_later 5 = .ok (.invokevirtual 387, 3) := dk_182 1 131 (dk_at dksX0_later_0 5 rfl rfl)
theorem dX0_later_8 : decode cX0_later 8 = .ok (.ifCond .eq 12, 3) := dk_153 0 12 (dk_at dksX0_later_0 8 rfl rfl)
theorem dX0_later_11 : decode cX0_later 11 = .ok (.iload_n 2, 1) := dk_28 (dk_at dksX0_later_0 11 rfl rfl)
theorem dX0_later_12 : decode cX0_later 12 = .ok (.iconst 0, 1) := dk_3 (dk_at dksX0_later_0 12 rfl rfl)
theorem dX0_later_13 : decode cX0_later 13 = .ok (.iconst 2, 1) := dk_5 (dk_at dksX0_later_0 13 rfl rfl)
theorem dX0_later_14 : decode cX0_later 14 = .ok (.invokestatic 272, 3) := dk_184 1 16 (dk_at dksX0_later_0 14 rfl rfl)
theorem dX0_later_17 : decode cX0_later 17 = .ok (.ifCond .ne 5, 3) := dk_154 0 5 (dk_at dksX0_later_0 17 rfl rfl)
theorem dX0_later_20 : decode cX0_later 20 = .ok (.iconst (-1), 1) := dk_2 (dk_at dksX0_later_0 20 rfl rfl)
theorem dX0_later_21 : decode cX0_later 21 = .ok (.ireturn, 1) := dk_172 (dk_at dksX0_later_0 21 rfl rfl)
theorem dX0_later_22 : decode cX0_later 22 = .ok (.aload_n 0, 1) := dk_42 (dk_at dksX0_later_0 22 rfl rfl)
theorem dX0_later_23 : decode cX0_later 23 = .ok (.getfield 115, 3) := dk_180 0 115 (dk_at dksX0_later_1 0 rfl rfl)
theorem dX0_later_26 : decode cX0_later 26 = .ok (.aload_n 0, 1) := dk_42 (dk_at dksX0_later_1 3 rfl rfl)
theorem dX0_later_27 : decode cX0_later 27 = .ok (.getfield 111, 3) := dk_180 0 111 (dk_at dksX0_later_1 4 rfl rfl)
theorem dX0_later_30 : decode cX0_later 30 = .ok (.invokevirtual 390, 3) := dk_182 1 134 (dk_at dksX0_later_1 7 rfl rfl)
theorem dX0_later_33 : decode cX0_later 33 = .ok (.astore_n 3, 1) := dk_78 (dk_at dksX0_later_1 10 rfl rfl)
theorem dX0_later_34 : decode cX0_later 34 = .ok (.iconst 0, 1) := dk_3 (dk_at dksX0_later_1 11 rfl rfl)
theorem dX0_later_35 : decode cX0_later 35 = .ok (.istore 4, 2) := dk_54 4 (dk_at dksX0_later_1 12 rfl rfl)
theorem dX0_later_37 : decode cX0_later 37 = .ok (.iload 4, 2) := dk_21 4 (dk_at dksX0_later_1 14 rfl rfl)
theorem dX0_later_39 : decode cX0_later 39 = .ok (.iload_n 1, 1) := dk_27 (dk_at dksX0_later_1 16 rfl rfl)
theorem dX0_later_40 : decode cX0_later 40 = .ok (.if_icmp .ge 15, 3) := dk_162 0 15 (dk_at dksX0_later_1 17 rfl rfl)
theorem dX0_later_43 : decode cX0_later 43 = .ok (.aload_n 3, 1) := dk_45 (dk_at dksX0_later_1 20 rfl rfl)
theorem dX0_later_44 : decode cX0_later 44 = .ok (.iconst (-1), 1) := dk_2 (dk_at dksX0_later_1 21 rfl rfl)
theorem dX0_later_45 : decode cX0_later 45 = .ok (.invokevirtual 394, 3) := dk_182 1 138 (dk_at dksX0_later_2 0 rfl rfl)
theorem dX0_later_48 : decode cX0_later 48 = .ok (.pop, 1) := dk_87 (dk_at dksX0_later_2 3 rfl rfl)
theorem dX0_later_49 : decode cX0_later 49 = .ok (.iinc 4 1, 3) := dk_132 4 1 (dk_at dksX0_later_2 4 rfl rfl)
theorem dX0_later_52 : decode cX0_later 52 = .ok (.goto (-15), 3) := dk_167 255 241 (dk_at dksX0_later_2 7 rfl rfl)
theorem dX0_later_55 : decode cX0_later 55 = .ok (.iload_n 2, 1) := dk_28 (dk_at dksX0_later_2 10 rfl rfl)
theorem dX0_later_56 : decode cX0_later 56 = .ok (.ifCond .ne 10, 3) := dk_154 0 10 (dk_at dksX0_later_2 11 rfl rfl)
theorem dX0_later_59 : decode cX0_later 59 = .ok (.aload_n 3, 1) := dk_45 (dk_at dksX0_later_2 14 rfl rfl)
theorem dX0_later_60 : decode cX0_later 60 = .ok (.getfield 281, 3) := dk_180 1 25 (dk_at dksX0_later_2 15 rfl rfl)
theorem dX0_later_63 : decode cX0_later 63 = .ok (.goto 24, 3) := dk_167 0 24 (dk_at dksX0_later_2 18 rfl rfl)
theorem dX0_later_66 : decode cX0_later 66 = .ok (.iload_n 2, 1) := dk_28 (dk_at dksX0_later_2 21 rfl rfl)
theorem dX0_later_67 : decode cX0_later 67 = .ok (.iconst 1, 1) := dk_4 (dk_at dksX0_later_2 22 rfl rfl)
theorem dX0_later_68 : decode cX0_later 68 = .ok (.if_icmp .ne 15, 3) := dk_160 0 15 (dk_at dksX0_later_3 0 rfl rfl)
theorem dX0_later_71 : decode cX0_later 71 = .ok (.aload_n 3, 1) := dk_45 (dk_at dksX0_later_3 3 rfl rfl)
theorem dX0_later_72 : decode cX0_later 72 = .ok (.getfield 284, 3) := dk_180 1 28 (dk_at dksX0_later_3 4 rfl rfl)
theorem dX0_later_75 : decode cX0_later 75 = .ok (.invokeinterface 197 1, 5) := by decide +kernel
theorem dX0_later_80 : decode cX0_later 80 = .ok (.goto 7, 3) := dk_167 0 7 (dk_at dksX0_later_3 12 rfl rfl)
theorem dX0_later_83 : decode cX0_later 83 = .ok (.aload_n 3, 1) := dk_45 (dk_at dksX0_later_3 15 rfl rfl)
theorem dX0_later_84 : decode cX0_later 84 = .ok (.getfield 287, 3) := dk_180 1 31 (dk_at dksX0_later_3 16 rfl rfl)
theorem dX0_later_87 : decode cX0_later 87 = .ok (.ireturn, 1) := dk_172 (dk_at dksX0_later_3 19 rfl rfl)
abbrev cX0_isAhead : ByteArray := prog_1_method_38_code
def yX0_isAhead : MethodName := ⟨RX0, "isAhead", "(III)Z"⟩
def dkwX0_isAhead_1 : List UInt8 := [17, 3, 231, 27, 100, 163, 0, 7, 4, 167, 0, 4, 3, 172]
abbrev dktX0_isAhead_1 : List UInt8 := dkwX0_isAhead_1 ++ []
def dkwX0_isAhead_0 : List UInt8 := [42, 182, 1, 12, 153, 0, 31, 27, 28, 29, 184, 1, 16, 153, 0, 22, 42, 180, 0, 111, 180, 1, 19]
abbrev dktX0_isAhead_0 : List UInt8 := dkwX0_isAhead_0 ++ dktX0_isAhead_1
theorem dksX0_isAhead_0 : cX0_isAhead.data.toList.drop 0 = dktX0_isAhead_0 := by decide +kernel
theorem dksX0_isAhead_1 : cX0_isAhead.data.toList.drop 23 = dktX0_isAhead_1 := dk_seg dksX0_isAhead_0 23 rfl rfl
theorem dX0_isAhead_0 : decode cX0_isAhead 0 = .ok (.aload_n 0, 1) := dk_42 (dk_at dksX0_isAhead_0 0 rfl rfl)
theorem dX0_isAhead_1 : decode cX0_isAhead 1 = .ok (.invokevirtual 268, 3) := dk_182 1 12 (dk_at dksX0_isAhead_0 1 rfl rfl)
theorem dX0_isAhead_4 : decode cX0_isAhead 4 = .ok (.ifCond .eq 31, 3) := dk_153 0 31 (dk_at dksX0_isAhead_0 4 rfl rfl)
theorem dX0_isAhead_7 : decode cX0_isAhead 7 = .ok (.iload_n 1, 1) := dk_27 (dk_at dksX0_isAhead_0 7 rfl rfl)
theorem dX0_isAhead_8 : decode cX0_isAhead 8 = .ok (.iload_n 2, 1) := dk_28 (dk_at dksX0_isAhead_0 8 rfl rfl)
theorem dX0_isAhead_9 : decode cX0_isAhead 9 = .ok (.iload_n 3, 1) := dk_29 (dk_at dksX0_isAhead_0 9 rfl rfl)
theorem dX0_isAhead_10 : decode cX0_isAhead 10 = .ok (.invokestatic 272, 3) := dk_184 1 16 (dk_at dksX0_isAhead_0 10 rfl rfl)
theorem dX0_isAhead_13 : decode cX0_isAhead 13 = .ok (.ifCond .eq 22, 3) := dk_153 0 22 (dk_at dksX0_isAhead_0 13 rfl rfl)
theorem dX0_isAhead_16 : decode cX0_isAhead 16 = .ok (.aload_n 0, 1) := dk_42 (dk_at dksX0_isAhead_0 16 rfl rfl)
theorem dX0_isAhead_17 : decode cX0_isAhead 17 = .ok (.getfield 111, 3) := dk_180 0 111 (dk_at dksX0_isAhead_0 17 rfl rfl)
theorem dX0_isAhead_20 : decode cX0_isAhead 20 = .ok (.getfield 275, 3) := dk_180 1 19 (dk_at dksX0_isAhead_0 20 rfl rfl)
theorem dX0_isAhead_23 : decode cX0_isAhead 23 = .ok (.sipush 999, 3) := dk_17 3 231 (dk_at dksX0_isAhead_1 0 rfl rfl)
theorem dX0_isAhead_26 : decode cX0_isAhead 26 = .ok (.iload_n 1, 1) := dk_27 (dk_at dksX0_isAhead_1 3 rfl rfl)
theorem dX0_isAhead_27 : decode cX0_isAhead 27 = .ok (.isub, 1) := dk_100 (dk_at dksX0_isAhead_1 4 rfl rfl)
theorem dX0_isAhead_28 : decode cX0_isAhead 28 = .ok (.if_icmp .gt 7, 3) := dk_163 0 7 (dk_at dksX0_isAhead_1 5 rfl rfl)
theorem dX0_isAhead_31 : decode cX0_isAhead 31 = .ok (.iconst 1, 1) := dk_4 (dk_at dksX0_isAhead_1 8 rfl rfl)
theorem dX0_isAhead_32 : decode cX0_isAhead 32 = .ok (.goto 4, 3) := dk_167 0 4 (dk_at dksX0_isAhead_1 9 rfl rfl)
theorem dX0_isAhead_35 : decode cX0_isAhead 35 = .ok (.iconst 0, 1) := dk_3 (dk_at dksX0_isAhead_1 12 rfl rfl)
theorem dX0_isAhead_36 : decode cX0_isAhead 36 = .ok (.ireturn, 1) := dk_172 (dk_at dksX0_isAhead_1 13 rfl rfl)
abbrev cX0_held : ByteArray := prog_1_method_3_code
def yX0_held : MethodName := ⟨RX0, "held", "(J)J"⟩
def dkwX0_held_0 : List UInt8 := [20, 0, 3, 20, 0, 5, 30, 184, 0, 7, 184, 0, 13, 173]
abbrev dktX0_held_0 : List UInt8 := dkwX0_held_0 ++ []
theorem dksX0_held_0 : cX0_held.data.toList.drop 0 = dktX0_held_0 := by decide +kernel
theorem dX0_held_0 : decode cX0_held 0 = .ok (.ldc2_w 3, 3) := dk_20 0 3 (dk_at dksX0_held_0 0 rfl rfl)
theorem dX0_held_3 : decode cX0_held 3 = .ok (.ldc2_w 5, 3) := dk_20 0 5 (dk_at dksX0_held_0 3 rfl rfl)
theorem dX0_held_6 : decode cX0_held 6 = .ok (.lload_n 0, 1) := dk_30 (dk_at dksX0_held_0 6 rfl rfl)
theorem dX0_held_7 : decode cX0_held 7 = .ok (.invokestatic 7, 3) := dk_184 0 7 (dk_at dksX0_held_0 7 rfl rfl)
theorem dX0_held_10 : decode cX0_held 10 = .ok (.invokestatic 13, 3) := dk_184 0 13 (dk_at dksX0_held_0 10 rfl rfl)
theorem dX0_held_13 : decode cX0_held 13 = .ok (.lreturn, 1) := dk_173 (dk_at dksX0_held_0 13 rfl rfl)
abbrev cX0_looked : ByteArray := prog_1_method_69_code
def yX0_looked : MethodName := ⟨RX0, "looked", "(IJ)J"⟩
def dkwX0_looked_3 : List UInt8 := [133, 167, 0, 4, 9, 173]
abbrev dktX0_looked_3 : List UInt8 := dkwX0_looked_3 ++ []
def dkwX0_looked_2 : List UInt8 := [20, 1, 244, 148, 156, 0, 24, 3, 42, 42, 180, 0, 111, 180, 1, 102, 32, 136, 182, 1, 106, 184, 1, 173]
abbrev dktX0_looked_2 : List UInt8 := dkwX0_looked_2 ++ dktX0_looked_3
def dkwX0_looked_1 : List UInt8 := [180, 1, 67, 42, 180, 1, 241, 50, 32, 136, 46, 133, 167, 0, 4, 9, 173, 32, 9, 148, 155, 0, 32, 32]
abbrev dktX0_looked_1 : List UInt8 := dkwX0_looked_1 ++ dktX0_looked_2
def dkwX0_looked_0 : List UInt8 := [27, 154, 0, 40, 32, 9, 148, 155, 0, 32, 32, 42, 182, 0, 245, 133, 148, 156, 0, 22, 42, 180, 0, 111]
abbrev dktX0_looked_0 : List UInt8 := dkwX0_looked_0 ++ dktX0_looked_1
theorem dksX0_looked_0 : cX0_looked.data.toList.drop 0 = dktX0_looked_0 := by decide +kernel
theorem dksX0_looked_1 : cX0_looked.data.toList.drop 24 = dktX0_looked_1 := dk_seg dksX0_looked_0 24 rfl rfl
theorem dksX0_looked_2 : cX0_looked.data.toList.drop 48 = dktX0_looked_2 := dk_seg dksX0_looked_1 24 rfl rfl
theorem dksX0_looked_3 : cX0_looked.data.toList.drop 72 = dktX0_looked_3 := dk_seg dksX0_looked_2 24 rfl rfl
theorem dX0_looked_0 : decode cX0_looked 0 = .ok (.iload_n 1, 1) := dk_27 (dk_at dksX0_looked_0 0 rfl rfl)
theorem dX0_looked_1 : decode cX0_looked 1 = .ok (.ifCond .ne 40, 3) := dk_154 0 40 (dk_at dksX0_looked_0 1 rfl rfl)
theorem dX0_looked_4 : decode cX0_looked 4 = .ok (.lload_n 2, 1) := dk_32 (dk_at dksX0_looked_0 4 rfl rfl)
theorem dX0_looked_5 : decode cX0_looked 5 = .ok (.lconst 0, 1) := dk_9 (dk_at dksX0_looked_0 5 rfl rfl)
theorem dX0_looked_6 : decode cX0_looked 6 = .ok (.lcmp, 1) := dk_148 (dk_at dksX0_looked_0 6 rfl rfl)
theorem dX0_looked_7 : decode cX0_looked 7 = .ok (.ifCond .lt 32, 3) := dk_155 0 32 (dk_at dksX0_looked_0 7 rfl rfl)
theorem dX0_looked_10 : decode cX0_looked 10 = .ok (.lload_n 2, 1) := dk_32 (dk_at dksX0_looked_0 10 rfl rfl)
theorem dX0_looked_11 : decode cX0_looked 11 = .ok (.aload_n 0, 1) := dk_42 (dk_at dksX0_looked_0 11 rfl rfl)
theorem dX0_looked_12 : decode cX0_looked 12 = .ok (.invokevirtual 245, 3) := dk_182 0 245 (dk_at dksX0_looked_0 12 rfl rfl)
theorem dX0_looked_15 : decode cX0_looked 15 = .ok (.i2l, 1) := dk_133 (dk_at dksX0_looked_0 15 rfl rfl)
theorem dX0_looked_16 : decode cX0_looked 16 = .ok (.lcmp, 1) := dk_148 (dk_at dksX0_looked_0 16 rfl rfl)
theorem dX0_looked_17 : decode cX0_looked 17 = .ok (.ifCond .ge 22, 3) := dk_156 0 22 (dk_at dksX0_looked_0 17 rfl rfl)
theorem dX0_looked_20 : decode cX0_looked 20 = .ok (.aload_n 0, 1) := dk_42 (dk_at dksX0_looked_0 20 rfl rfl)
theorem dX0_looked_21 : decode cX0_looked 21 = .ok (.getfield 111, 3) := dk_180 0 111 (dk_at dksX0_looked_0 21 rfl rfl)
theorem dX0_looked_24 : decode cX0_looked 24 = .ok (.getfield 323, 3) := dk_180 1 67 (dk_at dksX0_looked_1 0 rfl rfl)
theorem dX0_looked_27 : decode cX0_looked 27 = .ok (.aload_n 0, 1) := dk_42 (dk_at dksX0_looked_1 3 rfl rfl)
theorem dX0_looked_28 : decode cX0_looked 28 = .ok (.getfield 497, 3) := dk_180 1 241 (dk_at dksX0_looked_1 4 rfl rfl)
theorem dX0_looked_31 : decode cX0_looked 31 = .ok (.aaload, 1) := dk_50 (dk_at dksX0_looked_1 7 rfl rfl)
theorem dX0_looked_32 : decode cX0_looked 32 = .ok (.lload_n 2, 1) := dk_32 (dk_at dksX0_looked_1 8 rfl rfl)
theorem dX0_looked_33 : decode cX0_looked 33 = .ok (.l2i, 1) := dk_136 (dk_at dksX0_looked_1 9 rfl rfl)
theorem dX0_looked_34 : decode cX0_looked 34 = .ok (.iaload, 1) := dk_46 (dk_at dksX0_looked_1 10 rfl rfl)
theorem dX0_looked_35 : decode cX0_looked 35 = .ok (.i2l, 1) := dk_133 (dk_at dksX0_looked_1 11 rfl rfl)
theorem dX0_looked_36 : decode cX0_looked 36 = .ok (.goto 4, 3) := dk_167 0 4 (dk_at dksX0_looked_1 12 rfl rfl)
theorem dX0_looked_39 : decode cX0_looked 39 = .ok (.lconst 0, 1) := dk_9 (dk_at dksX0_looked_1 15 rfl rfl)
theorem dX0_looked_40 : decode cX0_looked 40 = .ok (.lreturn, 1) := dk_173 (dk_at dksX0_looked_1 16 rfl rfl)
theorem dX0_looked_41 : decode cX0_looked 41 = .ok (.lload_n 2, 1) := dk_32 (dk_at dksX0_looked_1 17 rfl rfl)
theorem dX0_looked_42 : decode cX0_looked 42 = .ok (.lconst 0, 1) := dk_9 (dk_at dksX0_looked_1 18 rfl rfl)
theorem dX0_looked_43 : decode cX0_looked 43 = .ok (.lcmp, 1) := dk_148 (dk_at dksX0_looked_1 19 rfl rfl)
theorem dX0_looked_44 : decode cX0_looked 44 = .ok (.ifCond .lt 32, 3) := dk_155 0 32 (dk_at dksX0_looked_1 20 rfl rfl)
theorem dX0_looked_47 : decode cX0_looked 47 = .ok (.lload_n 2, 1) := dk_32 (dk_at dksX0_looked_1 23 rfl rfl)
theorem dX0_looked_48 : decode cX0_looked 48 = .ok (.ldc2_w 500, 3) := dk_20 1 244 (dk_at dksX0_looked_2 0 rfl rfl)
theorem dX0_looked_51 : decode cX0_looked 51 = .ok (.lcmp, 1) := dk_148 (dk_at dksX0_looked_2 3 rfl rfl)
theorem dX0_looked_52 : decode cX0_looked 52 = .ok (.ifCond .ge 24, 3) := dk_156 0 24 (dk_at dksX0_looked_2 4 rfl rfl)
theorem dX0_looked_55 : decode cX0_looked 55 = .ok (.iconst 0, 1) := dk_3 (dk_at dksX0_looked_2 7 rfl rfl)
theorem dX0_looked_56 : decode cX0_looked 56 = .ok (.aload_n 0, 1) := dk_42 (dk_at dksX0_looked_2 8 rfl rfl)
theorem dX0_looked_57 : decode cX0_looked 57 = .ok (.aload_n 0, 1) := dk_42 (dk_at dksX0_looked_2 9 rfl rfl)
theorem dX0_looked_58 : decode cX0_looked 58 = .ok (.getfield 111, 3) := dk_180 0 111 (dk_at dksX0_looked_2 10 rfl rfl)
theorem dX0_looked_61 : decode cX0_looked 61 = .ok (.getfield 358, 3) := dk_180 1 102 (dk_at dksX0_looked_2 13 rfl rfl)
theorem dX0_looked_64 : decode cX0_looked 64 = .ok (.lload_n 2, 1) := dk_32 (dk_at dksX0_looked_2 16 rfl rfl)
theorem dX0_looked_65 : decode cX0_looked 65 = .ok (.l2i, 1) := dk_136 (dk_at dksX0_looked_2 17 rfl rfl)
theorem dX0_looked_66 : decode cX0_looked 66 = .ok (.invokevirtual 362, 3) := dk_182 1 106 (dk_at dksX0_looked_2 18 rfl rfl)
theorem dX0_looked_69 : decode cX0_looked 69 = .ok (.invokestatic 429, 3) := dk_184 1 173 (dk_at dksX0_looked_2 21 rfl rfl)
theorem dX0_looked_72 : decode cX0_looked 72 = .ok (.i2l, 1) := dk_133 (dk_at dksX0_looked_3 0 rfl rfl)
theorem dX0_looked_73 : decode cX0_looked 73 = .ok (.goto 4, 3) := dk_167 0 4 (dk_at dksX0_looked_3 1 rfl rfl)
theorem dX0_looked_76 : decode cX0_looked 76 = .ok (.lconst 0, 1) := dk_9 (dk_at dksX0_looked_3 4 rfl rfl)
theorem dX0_looked_77 : decode cX0_looked 77 = .ok (.lreturn, 1) := dk_173 (dk_at dksX0_looked_3 5 rfl rfl)
abbrev cX0_within : ByteArray := prog_1_method_17_code
def yX0_within : MethodName := ⟨RX0, "within", "(JI)I"⟩
def dkwX0_within_0 : List UInt8 := [9, 28, 133, 30, 184, 0, 7, 184, 0, 13, 136, 172]
abbrev dktX0_within_0 : List UInt8 := dkwX0_within_0 ++ []
theorem dksX0_within_0 : cX0_within.data.toList.drop 0 = dktX0_within_0 := by decide +kernel
theorem dX0_within_0 : decode cX0_within 0 = .ok (.lconst 0, 1) := dk_9 (dk_at dksX0_within_0 0 rfl rfl)
theorem dX0_within_1 : decode cX0_within 1 = .ok (.iload_n 2, 1) := dk_28 (dk_at dksX0_within_0 1 rfl rfl)
theorem dX0_within_2 : decode cX0_within 2 = .ok (.i2l, 1) := dk_133 (dk_at dksX0_within_0 2 rfl rfl)
theorem dX0_within_3 : decode cX0_within 3 = .ok (.lload_n 0, 1) := dk_30 (dk_at dksX0_within_0 3 rfl rfl)
theorem dX0_within_4 : decode cX0_within 4 = .ok (.invokestatic 7, 3) := dk_184 0 7 (dk_at dksX0_within_0 4 rfl rfl)
theorem dX0_within_7 : decode cX0_within 7 = .ok (.invokestatic 13, 3) := dk_184 0 13 (dk_at dksX0_within_0 7 rfl rfl)
theorem dX0_within_10 : decode cX0_within 10 = .ok (.l2i, 1) := dk_136 (dk_at dksX0_within_0 10 rfl rfl)
theorem dX0_within_11 : decode cX0_within 11 = .ok (.ireturn, 1) := dk_172 (dk_at dksX0_within_0 11 rfl rfl)
abbrev cX0_when : ByteArray := prog_1_method_40_code
def yX0_when : MethodName := ⟨RX0, "when", "(I)I"⟩
def dkwX0_when_2 : List UInt8 := [27, 164, 0, 5, 29, 172, 44, 2, 182, 1, 138, 87, 132, 3, 1, 167, 255, 226, 2, 172]
abbrev dktX0_when_2 : List UInt8 := dkwX0_when_2 ++ []
def dkwX0_when_1 : List UInt8 := [180, 0, 111, 182, 1, 134, 77, 3, 62, 42, 29, 3, 16, 100, 182, 1, 131, 153, 0, 25, 44, 180, 1, 25]
abbrev dktX0_when_1 : List UInt8 := dkwX0_when_1 ++ dktX0_when_2
def dkwX0_when_0 : List UInt8 := [27, 3, 42, 180, 0, 111, 180, 1, 22, 4, 100, 184, 1, 16, 154, 0, 5, 2, 172, 42, 180, 0, 115, 42]
abbrev dktX0_when_0 : List UInt8 := dkwX0_when_0 ++ dktX0_when_1
theorem dksX0_when_0 : cX0_when.data.toList.drop 0 = dktX0_when_0 := by decide +kernel
theorem dksX0_when_1 : cX0_when.data.toList.drop 24 = dktX0_when_1 := dk_seg dksX0_when_0 24 rfl rfl
theorem dksX0_when_2 : cX0_when.data.toList.drop 48 = dktX0_when_2 := dk_seg dksX0_when_1 24 rfl rfl
theorem dX0_when_0 : decode cX0_when 0 = .ok (.iload_n 1, 1) := dk_27 (dk_at dksX0_when_0 0 rfl rfl)
theorem dX0_when_1 : decode cX0_when 1 = .ok (.iconst 0, 1) := dk_3 (dk_at dksX0_when_0 1 rfl rfl)
theorem dX0_when_2 : decode cX0_when 2 = .ok (.aload_n 0, 1) := dk_42 (dk_at dksX0_when_0 2 rfl rfl)
theorem dX0_when_3 : decode cX0_when 3 = .ok (.getfield 111, 3) := dk_180 0 111 (dk_at dksX0_when_0 3 rfl rfl)
theorem dX0_when_6 : decode cX0_when 6 = .ok (.getfield 278, 3) := dk_180 1 22 (dk_at dksX0_when_0 6 rfl rfl)
theorem dX0_when_9 : decode cX0_when 9 = .ok (.iconst 1, 1) := dk_4 (dk_at dksX0_when_0 9 rfl rfl)
theorem dX0_when_10 : decode cX0_when 10 = .ok (.isub, 1) := dk_100 (dk_at dksX0_when_0 10 rfl rfl)
theorem dX0_when_11 : decode cX0_when 11 = .ok (.invokestatic 272, 3) := dk_184 1 16 (dk_at dksX0_when_0 11 rfl rfl)
theorem dX0_when_14 : decode cX0_when 14 = .ok (.ifCond .ne 5, 3) := dk_154 0 5 (dk_at dksX0_when_0 14 rfl rfl)
theorem dX0_when_17 : decode cX0_when 17 = .ok (.iconst (-1), 1) := dk_2 (dk_at dksX0_when_0 17 rfl rfl)
theorem dX0_when_18 : decode cX0_when 18 = .ok (.ireturn, 1) := dk_172 (dk_at dksX0_when_0 18 rfl rfl)
theorem dX0_when_19 : decode cX0_when 19 = .ok (.aload_n 0, 1) := dk_42 (dk_at dksX0_when_0 19 rfl rfl)
theorem dX0_when_20 : decode cX0_when 20 = .ok (.getfield 115, 3) := dk_180 0 115 (dk_at dksX0_when_0 20 rfl rfl)
theorem dX0_when_23 : decode cX0_when 23 = .ok (.aload_n 0, 1) := dk_42 (dk_at dksX0_when_0 23 rfl rfl)
theorem dX0_when_24 : decode cX0_when 24 = .ok (.getfield 111, 3) := dk_180 0 111 (dk_at dksX0_when_1 0 rfl rfl)
theorem dX0_when_27 : decode cX0_when 27 = .ok (.invokevirtual 390, 3) := dk_182 1 134 (dk_at dksX0_when_1 3 rfl rfl)
theorem dX0_when_30 : decode cX0_when 30 = .ok (.astore_n 2, 1) := dk_77 (dk_at dksX0_when_1 6 rfl rfl)
theorem dX0_when_31 : decode cX0_when 31 = .ok (.iconst 0, 1) := dk_3 (dk_at dksX0_when_1 7 rfl rfl)
theorem dX0_when_32 : decode cX0_when 32 = .ok (.istore_n 3, 1) := dk_62 (dk_at dksX0_when_1 8 rfl rfl)
theorem dX0_when_33 : decode cX0_when 33 = .ok (.aload_n 0, 1) := dk_42 (dk_at dksX0_when_1 9 rfl rfl)
theorem dX0_when_34 : decode cX0_when 34 = .ok (.iload_n 3, 1) := dk_29 (dk_at dksX0_when_1 10 rfl rfl)
theorem dX0_when_35 : decode cX0_when 35 = .ok (.iconst 0, 1) := dk_3 (dk_at dksX0_when_1 11 rfl rfl)
theorem dX0_when_36 : decode cX0_when 36 = .ok (.bipush 100, 2) := dk_16 100 (dk_at dksX0_when_1 12 rfl rfl)
theorem dX0_when_38 : decode cX0_when 38 = .ok (.invokevirtual 387, 3) := dk_182 1 131 (dk_at dksX0_when_1 14 rfl rfl)
theorem dX0_when_41 : decode cX0_when 41 = .ok (.ifCond .eq 25, 3) := dk_153 0 25 (dk_at dksX0_when_1 17 rfl rfl)
theorem dX0_when_44 : decode cX0_when 44 = .ok (.aload_n 2, 1) := dk_44 (dk_at dksX0_when_1 20 rfl rfl)
theorem dX0_when_45 : decode cX0_when 45 = .ok (.getfield 281, 3) := dk_180 1 25 (dk_at dksX0_when_1 21 rfl rfl)
theorem dX0_when_48 : decode cX0_when 48 = .ok (.iload_n 1, 1) := dk_27 (dk_at dksX0_when_2 0 rfl rfl)
theorem dX0_when_49 : decode cX0_when 49 = .ok (.if_icmp .le 5, 3) := dk_164 0 5 (dk_at dksX0_when_2 1 rfl rfl)
theorem dX0_when_52 : decode cX0_when 52 = .ok (.iload_n 3, 1) := dk_29 (dk_at dksX0_when_2 4 rfl rfl)
theorem dX0_when_53 : decode cX0_when 53 = .ok (.ireturn, 1) := dk_172 (dk_at dksX0_when_2 5 rfl rfl)
theorem dX0_when_54 : decode cX0_when 54 = .ok (.aload_n 2, 1) := dk_44 (dk_at dksX0_when_2 6 rfl rfl)
theorem dX0_when_55 : decode cX0_when 55 = .ok (.iconst (-1), 1) := dk_2 (dk_at dksX0_when_2 7 rfl rfl)
theorem dX0_when_56 : decode cX0_when 56 = .ok (.invokevirtual 394, 3) := dk_182 1 138 (dk_at dksX0_when_2 8 rfl rfl)
theorem dX0_when_59 : decode cX0_when 59 = .ok (.pop, 1) := dk_87 (dk_at dksX0_when_2 11 rfl rfl)
theorem dX0_when_60 : decode cX0_when 60 = .ok (.iinc 3 1, 3) := dk_132 3 1 (dk_at dksX0_when_2 12 rfl rfl)
theorem dX0_when_63 : decode cX0_when 63 = .ok (.goto (-30), 3) := dk_167 255 226 (dk_at dksX0_when_2 15 rfl rfl)
theorem dX0_when_66 : decode cX0_when 66 = .ok (.iconst (-1), 1) := dk_2 (dk_at dksX0_when_2 18 rfl rfl)
theorem dX0_when_67 : decode cX0_when 67 = .ok (.ireturn, 1) := dk_172 (dk_at dksX0_when_2 19 rfl rfl)
abbrev cX0_rule : ByteArray := prog_1_method_42_code
def yX0_rule : MethodName := ⟨RX0, "rule", "(II)I"⟩
def dkwX0_rule_1 : List UInt8 := [153, 0, 21, 28, 3, 4, 184, 1, 16, 153, 0, 12, 42, 27, 28, 182, 1, 141, 167, 0, 4, 2, 172]
abbrev dktX0_rule_1 : List UInt8 := dkwX0_rule_1 ++ []
def dkwX0_rule_0 : List UInt8 := [42, 182, 1, 12, 153, 0, 41, 42, 180, 0, 111, 180, 1, 56, 154, 0, 31, 27, 4, 16, 8, 184, 1, 16]
abbrev dktX0_rule_0 : List UInt8 := dkwX0_rule_0 ++ dktX0_rule_1
theorem dksX0_rule_0 : cX0_rule.data.toList.drop 0 = dktX0_rule_0 := by decide +kernel
theorem dksX0_rule_1 : cX0_rule.data.toList.drop 24 = dktX0_rule_1 := dk_seg dksX0_rule_0 24 rfl rfl
theorem dX0_rule_0 : decode cX0_rule 0 = .ok (.aload_n 0, 1) := dk_42 (dk_at dksX0_rule_0 0 rfl rfl)
theorem dX0_rule_1 : decode cX0_rule 1 = .ok (.invokevirtual 268, 3) := dk_182 1 12 (dk_at dksX0_rule_0 1 rfl rfl)
theorem dX0_rule_4 : decode cX0_rule 4 = .ok (.ifCond .eq 41, 3) := dk_153 0 41 (dk_at dksX0_rule_0 4 rfl rfl)
theorem dX0_rule_7 : decode cX0_rule 7 = .ok (.aload_n 0, 1) := dk_42 (dk_at dksX0_rule_0 7 rfl rfl)
theorem dX0_rule_8 : decode cX0_rule 8 = .ok (.getfield 111, 3) := dk_180 0 111 (dk_at dksX0_rule_0 8 rfl rfl)
theorem dX0_rule_11 : decode cX0_rule 11 = .ok (.getfield 312, 3) := dk_180 1 56 (dk_at dksX0_rule_0 11 rfl rfl)
theorem dX0_rule_14 : decode cX0_rule 14 = .ok (.ifCond .ne 31, 3) := dk_154 0 31 (dk_at dksX0_rule_0 14 rfl rfl)
theorem dX0_rule_17 : decode cX0_rule 17 = .ok (.iload_n 1, 1) := dk_27 (dk_at dksX0_rule_0 17 rfl rfl)
theorem dX0_rule_18 : decode cX0_rule 18 = .ok (.iconst 1, 1) := dk_4 (dk_at dksX0_rule_0 18 rfl rfl)
theorem dX0_rule_19 : decode cX0_rule 19 = .ok (.bipush 8, 2) := dk_16 8 (dk_at dksX0_rule_0 19 rfl rfl)
theorem dX0_rule_21 : decode cX0_rule 21 = .ok (.invokestatic 272, 3) := dk_184 1 16 (dk_at dksX0_rule_0 21 rfl rfl)
theorem dX0_rule_24 : decode cX0_rule 24 = .ok (.ifCond .eq 21, 3) := dk_153 0 21 (dk_at dksX0_rule_1 0 rfl rfl)
theorem dX0_rule_27 : decode cX0_rule 27 = .ok (.iload_n 2, 1) := dk_28 (dk_at dksX0_rule_1 3 rfl rfl)
theorem dX0_rule_28 : decode cX0_rule 28 = .ok (.iconst 0, 1) := dk_3 (dk_at dksX0_rule_1 4 rfl rfl)
theorem dX0_rule_29 : decode cX0_rule 29 = .ok (.iconst 1, 1) := dk_4 (dk_at dksX0_rule_1 5 rfl rfl)
theorem dX0_rule_30 : decode cX0_rule 30 = .ok (.invokestatic 272, 3) := dk_184 1 16 (dk_at dksX0_rule_1 6 rfl rfl)
theorem dX0_rule_33 : decode cX0_rule 33 = .ok (.ifCond .eq 12, 3) := dk_153 0 12 (dk_at dksX0_rule_1 9 rfl rfl)
theorem dX0_rule_36 : decode cX0_rule 36 = .ok (.aload_n 0, 1) := dk_42 (dk_at dksX0_rule_1 12 rfl rfl)
theorem dX0_rule_37 : decode cX0_rule 37 = .ok (.iload_n 1, 1) := dk_27 (dk_at dksX0_rule_1 13 rfl rfl)
theorem dX0_rule_38 : decode cX0_rule 38 = .ok (.iload_n 2, 1) := dk_28 (dk_at dksX0_rule_1 14 rfl rfl)
theorem dX0_rule_39 : decode cX0_rule 39 = .ok (.invokevirtual 397, 3) := dk_182 1 141 (dk_at dksX0_rule_1 15 rfl rfl)
theorem dX0_rule_42 : decode cX0_rule 42 = .ok (.goto 4, 3) := dk_167 0 4 (dk_at dksX0_rule_1 18 rfl rfl)
theorem dX0_rule_45 : decode cX0_rule 45 = .ok (.iconst (-1), 1) := dk_2 (dk_at dksX0_rule_1 21 rfl rfl)
theorem dX0_rule_46 : decode cX0_rule 46 = .ok (.ireturn, 1) := dk_172 (dk_at dksX0_rule_1 22 rfl rfl)
abbrev cX0_ruled : ByteArray := prog_1_method_41_code
def yX0_ruled : MethodName := ⟨RX0, "ruled", "(II)I"⟩
def dkwX0_ruled_3 : List UInt8 := [182, 1, 138, 87, 132, 5, 1, 167, 255, 198, 2, 172]
abbrev dktX0_ruled_3 : List UInt8 := dkwX0_ruled_3 ++ []
def dkwX0_ruled_2 : List UInt8 := [167, 0, 5, 21, 4, 172, 21, 4, 45, 180, 1, 22, 45, 180, 1, 25, 100, 96, 54, 4, 45, 27]
abbrev dktX0_ruled_2 : List UInt8 := dkwX0_ruled_2 ++ dktX0_ruled_3
def dkwX0_ruled_1 : List UInt8 := [182, 1, 131, 153, 0, 52, 45, 180, 1, 25, 45, 180, 1, 22, 160, 0, 15, 28, 154, 0, 8, 21, 5]
abbrev dktX0_ruled_1 : List UInt8 := dkwX0_ruled_1 ++ dktX0_ruled_2
def dkwX0_ruled_0 : List UInt8 := [42, 180, 0, 115, 42, 180, 0, 111, 182, 1, 134, 78, 3, 54, 4, 3, 54, 5, 42, 21, 5, 3, 16, 100]
abbrev dktX0_ruled_0 : List UInt8 := dkwX0_ruled_0 ++ dktX0_ruled_1
theorem dksX0_ruled_0 : cX0_ruled.data.toList.drop 0 = dktX0_ruled_0 := by decide +kernel
theorem dksX0_ruled_1 : cX0_ruled.data.toList.drop 24 = dktX0_ruled_1 := dk_seg dksX0_ruled_0 24 rfl rfl
theorem dksX0_ruled_2 : cX0_ruled.data.toList.drop 47 = dktX0_ruled_2 := dk_seg dksX0_ruled_1 23 rfl rfl
theorem dksX0_ruled_3 : cX0_ruled.data.toList.drop 69 = dktX0_ruled_3 := dk_seg dksX0_ruled_2 22 rfl rfl
theorem dX0_ruled_0 : decode cX0_ruled 0 = .ok (.aload_n 0, 1) := dk_42 (dk_at dksX0_ruled_0 0 rfl rfl)
theorem dX0_ruled_1 : decode cX0_ruled 1 = .ok (.getfield 115, 3) := dk_180 0 115 (dk_at dksX0_ruled_0 1 rfl rfl)
theorem dX0_ruled_4 : decode cX0_ruled 4 = .ok (.aload_n 0, 1) := dk_42 (dk_at dksX0_ruled_0 4 rfl rfl)
theorem dX0_ruled_5 : decode cX0_ruled 5 = .ok (.getfield 111, 3) := dk_180 0 111 (dk_at dksX0_ruled_0 5 rfl rfl)
theorem dX0_ruled_8 : decode cX0_ruled 8 = .ok (.invokevirtual 390, 3) := dk_182 1 134 (dk_at dksX0_ruled_0 8 rfl rfl)
theorem dX0_ruled_11 : decode cX0_ruled 11 = .ok (.astore_n 3, 1) := dk_78 (dk_at dksX0_ruled_0 11 rfl rfl)
theorem dX0_ruled_12 : decode cX0_ruled 12 = .ok (.iconst 0, 1) := dk_3 (dk_at dksX0_ruled_0 12 rfl rfl)
theorem dX0_ruled_13 : decode cX0_ruled 13 = .ok (.istore 4, 2) := dk_54 4 (dk_at dksX0_ruled_0 13 rfl rfl)
theorem dX0_ruled_15 : decode cX0_ruled 15 = .ok (.iconst 0, 1) := dk_3 (dk_at dksX0_ruled_0 15 rfl rfl)
theorem dX0_ruled_16 : decode cX0_ruled 16 = .ok (.istore 5, 2) := dk_54 5 (dk_at dksX0_ruled_0 16 rfl rfl)
theorem dX0_ruled_18 : decode cX0_ruled 18 = .ok (.aload_n 0, 1) := dk_42 (dk_at dksX0_ruled_0 18 rfl rfl)
theorem dX0_ruled_19 : decode cX0_ruled 19 = .ok (.iload 5, 2) := dk_21 5 (dk_at dksX0_ruled_0 19 rfl rfl)
theorem dX0_ruled_21 : decode cX0_ruled 21 = .ok (.iconst 0, 1) := dk_3 (dk_at dksX0_ruled_0 21 rfl rfl)
theorem dX0_ruled_22 : decode cX0_ruled 22 = .ok (.bipush 100, 2) := dk_16 100 (dk_at dksX0_ruled_0 22 rfl rfl)
theorem dX0_ruled_24 : decode cX0_ruled 24 = .ok (.invokevirtual 387, 3) := dk_182 1 131 (dk_at dksX0_ruled_1 0 rfl rfl)
theorem dX0_ruled_27 : decode cX0_ruled 27 = .ok (.ifCond .eq 52, 3) := dk_153 0 52 (dk_at dksX0_ruled_1 3 rfl rfl)
theorem dX0_ruled_30 : decode cX0_ruled 30 = .ok (.aload_n 3, 1) := dk_45 (dk_at dksX0_ruled_1 6 rfl rfl)
theorem dX0_ruled_31 : decode cX0_ruled 31 = .ok (.getfield 281, 3) := dk_180 1 25 (dk_at dksX0_ruled_1 7 rfl rfl)
theorem dX0_ruled_34 : decode cX0_ruled 34 = .ok (.aload_n 3, 1) := dk_45 (dk_at dksX0_ruled_1 10 rfl rfl)
theorem dX0_ruled_35 : decode cX0_ruled 35 = .ok (.getfield 278, 3) := dk_180 1 22 (dk_at dksX0_ruled_1 11 rfl rfl)
theorem dX0_ruled_38 : decode cX0_ruled 38 = .ok (.if_icmp .ne 15, 3) := dk_160 0 15 (dk_at dksX0_ruled_1 14 rfl rfl)
theorem dX0_ruled_41 : decode cX0_ruled 41 = .ok (.iload_n 2, 1) := dk_28 (dk_at dksX0_ruled_1 17 rfl rfl)
theorem dX0_ruled_42 : decode cX0_ruled 42 = .ok (.ifCond .ne 8, 3) := dk_154 0 8 (dk_at dksX0_ruled_1 18 rfl rfl)
theorem dX0_ruled_45 : decode cX0_ruled 45 = .ok (.iload 5, 2) := dk_21 5 (dk_at dksX0_ruled_1 21 rfl rfl)
theorem dX0_ruled_47 : decode cX0_ruled 47 = .ok (.goto 5, 3) := dk_167 0 5 (dk_at dksX0_ruled_2 0 rfl rfl)
theorem dX0_ruled_50 : decode cX0_ruled 50 = .ok (.iload 4, 2) := dk_21 4 (dk_at dksX0_ruled_2 3 rfl rfl)
theorem dX0_ruled_52 : decode cX0_ruled 52 = .ok (.ireturn, 1) := dk_172 (dk_at dksX0_ruled_2 5 rfl rfl)
theorem dX0_ruled_53 : decode cX0_ruled 53 = .ok (.iload 4, 2) := dk_21 4 (dk_at dksX0_ruled_2 6 rfl rfl)
theorem dX0_ruled_55 : decode cX0_ruled 55 = .ok (.aload_n 3, 1) := dk_45 (dk_at dksX0_ruled_2 8 rfl rfl)
theorem dX0_ruled_56 : decode cX0_ruled 56 = .ok (.getfield 278, 3) := dk_180 1 22 (dk_at dksX0_ruled_2 9 rfl rfl)
theorem dX0_ruled_59 : decode cX0_ruled 59 = .ok (.aload_n 3, 1) := dk_45 (dk_at dksX0_ruled_2 12 rfl rfl)
theorem dX0_ruled_60 : decode cX0_ruled 60 = .ok (.getfield 281, 3) := dk_180 1 25 (dk_at dksX0_ruled_2 13 rfl rfl)
theorem dX0_ruled_63 : decode cX0_ruled 63 = .ok (.isub, 1) := dk_100 (dk_at dksX0_ruled_2 16 rfl rfl)
theorem dX0_ruled_64 : decode cX0_ruled 64 = .ok (.iadd, 1) := dk_96 (dk_at dksX0_ruled_2 17 rfl rfl)
theorem dX0_ruled_65 : decode cX0_ruled 65 = .ok (.istore 4, 2) := dk_54 4 (dk_at dksX0_ruled_2 18 rfl rfl)
theorem dX0_ruled_67 : decode cX0_ruled 67 = .ok (.aload_n 3, 1) := dk_45 (dk_at dksX0_ruled_2 20 rfl rfl)
theorem dX0_ruled_68 : decode cX0_ruled 68 = .ok (.iload_n 1, 1) := dk_27 (dk_at dksX0_ruled_2 21 rfl rfl)
theorem dX0_ruled_69 : decode cX0_ruled 69 = .ok (.invokevirtual 394, 3) := dk_182 1 138 (dk_at dksX0_ruled_3 0 rfl rfl)
theorem dX0_ruled_72 : decode cX0_ruled 72 = .ok (.pop, 1) := dk_87 (dk_at dksX0_ruled_3 3 rfl rfl)
theorem dX0_ruled_73 : decode cX0_ruled 73 = .ok (.iinc 5 1, 3) := dk_132 5 1 (dk_at dksX0_ruled_3 4 rfl rfl)
theorem dX0_ruled_76 : decode cX0_ruled 76 = .ok (.goto (-58), 3) := dk_167 255 198 (dk_at dksX0_ruled_3 7 rfl rfl)
theorem dX0_ruled_79 : decode cX0_ruled 79 = .ok (.iconst (-1), 1) := dk_2 (dk_at dksX0_ruled_3 10 rfl rfl)
theorem dX0_ruled_80 : decode cX0_ruled 80 = .ok (.ireturn, 1) := dk_172 (dk_at dksX0_ruled_3 11 rfl rfl)
abbrev cX0_best : ByteArray := prog_1_method_43_code
def yX0_best : MethodName := ⟨RX0, "best", "(I)I"⟩
def dkwX0_best_3 : List UInt8 := [28, 167, 0, 4, 29, 172]
abbrev dktX0_best_3 : List UInt8 := dkwX0_best_3 ++ []
def dkwX0_best_2 : List UInt8 := [167, 0, 9, 21, 5, 62, 21, 4, 61, 132, 4, 1, 167, 255, 216, 28, 2, 159, 0, 7, 27, 154, 0, 7]
abbrev dktX0_best_2 : List UInt8 := dkwX0_best_2 ++ dktX0_best_3
def dkwX0_best_1 : List UInt8 := [163, 0, 39, 42, 21, 4, 4, 182, 1, 145, 54, 5, 21, 5, 2, 159, 0, 18, 21, 5, 29, 161, 0, 6]
abbrev dktX0_best_1 : List UInt8 := dkwX0_best_1 ++ dktX0_best_2
def dkwX0_best_0 : List UInt8 := [27, 3, 4, 184, 1, 16, 154, 0, 5, 2, 172, 2, 61, 19, 1, 144, 62, 4, 54, 4, 21, 4, 16, 8]
abbrev dktX0_best_0 : List UInt8 := dkwX0_best_0 ++ dktX0_best_1
theorem dksX0_best_0 : cX0_best.data.toList.drop 0 = dktX0_best_0 := by decide +kernel
theorem dksX0_best_1 : cX0_best.data.toList.drop 24 = dktX0_best_1 := dk_seg dksX0_best_0 24 rfl rfl
theorem dksX0_best_2 : cX0_best.data.toList.drop 48 = dktX0_best_2 := dk_seg dksX0_best_1 24 rfl rfl
theorem dksX0_best_3 : cX0_best.data.toList.drop 72 = dktX0_best_3 := dk_seg dksX0_best_2 24 rfl rfl
theorem dX0_best_0 : decode cX0_best 0 = .ok (.iload_n 1, 1) := dk_27 (dk_at dksX0_best_0 0 rfl rfl)
theorem dX0_best_1 : decode cX0_best 1 = .ok (.iconst 0, 1) := dk_3 (dk_at dksX0_best_0 1 rfl rfl)
theorem dX0_best_2 : decode cX0_best 2 = .ok (.iconst 1, 1) := dk_4 (dk_at dksX0_best_0 2 rfl rfl)
theorem dX0_best_3 : decode cX0_best 3 = .ok (.invokestatic 272, 3) := dk_184 1 16 (dk_at dksX0_best_0 3 rfl rfl)
theorem dX0_best_6 : decode cX0_best 6 = .ok (.ifCond .ne 5, 3) := dk_154 0 5 (dk_at dksX0_best_0 6 rfl rfl)
theorem dX0_best_9 : decode cX0_best 9 = .ok (.iconst (-1), 1) := dk_2 (dk_at dksX0_best_0 9 rfl rfl)
theorem dX0_best_10 : decode cX0_best 10 = .ok (.ireturn, 1) := dk_172 (dk_at dksX0_best_0 10 rfl rfl)
theorem dX0_best_11 : decode cX0_best 11 = .ok (.iconst (-1), 1) := dk_2 (dk_at dksX0_best_0 11 rfl rfl)
theorem dX0_best_12 : decode cX0_best 12 = .ok (.istore_n 2, 1) := dk_61 (dk_at dksX0_best_0 12 rfl rfl)
theorem dX0_best_13 : decode cX0_best 13 = .ok (.ldc_w 400, 3) := dk_19 1 144 (dk_at dksX0_best_0 13 rfl rfl)
theorem dX0_best_16 : decode cX0_best 16 = .ok (.istore_n 3, 1) := dk_62 (dk_at dksX0_best_0 16 rfl rfl)
theorem dX0_best_17 : decode cX0_best 17 = .ok (.iconst 1, 1) := dk_4 (dk_at dksX0_best_0 17 rfl rfl)
theorem dX0_best_18 : decode cX0_best 18 = .ok (.istore 4, 2) := dk_54 4 (dk_at dksX0_best_0 18 rfl rfl)
theorem dX0_best_20 : decode cX0_best 20 = .ok (.iload 4, 2) := dk_21 4 (dk_at dksX0_best_0 20 rfl rfl)
theorem dX0_best_22 : decode cX0_best 22 = .ok (.bipush 8, 2) := dk_16 8 (dk_at dksX0_best_0 22 rfl rfl)
theorem dX0_best_24 : decode cX0_best 24 = .ok (.if_icmp .gt 39, 3) := dk_163 0 39 (dk_at dksX0_best_1 0 rfl rfl)
theorem dX0_best_27 : decode cX0_best 27 = .ok (.aload_n 0, 1) := dk_42 (dk_at dksX0_best_1 3 rfl rfl)
theorem dX0_best_28 : decode cX0_best 28 = .ok (.iload 4, 2) := dk_21 4 (dk_at dksX0_best_1 4 rfl rfl)
theorem dX0_best_30 : decode cX0_best 30 = .ok (.iconst 1, 1) := dk_4 (dk_at dksX0_best_1 6 rfl rfl)
theorem dX0_best_31 : decode cX0_best 31 = .ok (.invokevirtual 401, 3) := dk_182 1 145 (dk_at dksX0_best_1 7 rfl rfl)
theorem dX0_best_34 : decode cX0_best 34 = .ok (.istore 5, 2) := dk_54 5 (dk_at dksX0_best_1 10 rfl rfl)
theorem dX0_best_36 : decode cX0_best 36 = .ok (.iload 5, 2) := dk_21 5 (dk_at dksX0_best_1 12 rfl rfl)
theorem dX0_best_38 : decode cX0_best 38 = .ok (.iconst (-1), 1) := dk_2 (dk_at dksX0_best_1 14 rfl rfl)
theorem dX0_best_39 : decode cX0_best 39 = .ok (.if_icmp .eq 18, 3) := dk_159 0 18 (dk_at dksX0_best_1 15 rfl rfl)
theorem dX0_best_42 : decode cX0_best 42 = .ok (.iload 5, 2) := dk_21 5 (dk_at dksX0_best_1 18 rfl rfl)
theorem dX0_best_44 : decode cX0_best 44 = .ok (.iload_n 3, 1) := dk_29 (dk_at dksX0_best_1 20 rfl rfl)
theorem dX0_best_45 : decode cX0_best 45 = .ok (.if_icmp .lt 6, 3) := dk_161 0 6 (dk_at dksX0_best_1 21 rfl rfl)
theorem dX0_best_48 : decode cX0_best 48 = .ok (.goto 9, 3) := dk_167 0 9 (dk_at dksX0_best_2 0 rfl rfl)
theorem dX0_best_51 : decode cX0_best 51 = .ok (.iload 5, 2) := dk_21 5 (dk_at dksX0_best_2 3 rfl rfl)
theorem dX0_best_53 : decode cX0_best 53 = .ok (.istore_n 3, 1) := dk_62 (dk_at dksX0_best_2 5 rfl rfl)
theorem dX0_best_54 : decode cX0_best 54 = .ok (.iload 4, 2) := dk_21 4 (dk_at dksX0_best_2 6 rfl rfl)
theorem dX0_best_56 : decode cX0_best 56 = .ok (.istore_n 2, 1) := dk_61 (dk_at dksX0_best_2 8 rfl rfl)
theorem dX0_best_57 : decode cX0_best 57 = .ok (.iinc 4 1, 3) := dk_132 4 1 (dk_at dksX0_best_2 9 rfl rfl)
theorem dX0_best_60 : decode cX0_best 60 = .ok (.goto (-40), 3) := dk_167 255 216 (dk_at dksX0_best_2 12 rfl rfl)
theorem dX0_best_63 : decode cX0_best 63 = .ok (.iload_n 2, 1) := dk_28 (dk_at dksX0_best_2 15 rfl rfl)
theorem dX0_best_64 : decode cX0_best 64 = .ok (.iconst (-1), 1) := dk_2 (dk_at dksX0_best_2 16 rfl rfl)
theorem dX0_best_65 : decode cX0_best 65 = .ok (.if_icmp .eq 7, 3) := dk_159 0 7 (dk_at dksX0_best_2 17 rfl rfl)
theorem dX0_best_68 : decode cX0_best 68 = .ok (.iload_n 1, 1) := dk_27 (dk_at dksX0_best_2 20 rfl rfl)
theorem dX0_best_69 : decode cX0_best 69 = .ok (.ifCond .ne 7, 3) := dk_154 0 7 (dk_at dksX0_best_2 21 rfl rfl)
theorem dX0_best_72 : decode cX0_best 72 = .ok (.iload_n 2, 1) := dk_28 (dk_at dksX0_best_3 0 rfl rfl)
theorem dX0_best_73 : decode cX0_best 73 = .ok (.goto 4, 3) := dk_167 0 4 (dk_at dksX0_best_3 1 rfl rfl)
theorem dX0_best_76 : decode cX0_best 76 = .ok (.iload_n 3, 1) := dk_29 (dk_at dksX0_best_3 4 rfl rfl)
theorem dX0_best_77 : decode cX0_best 77 = .ok (.ireturn, 1) := dk_172 (dk_at dksX0_best_3 5 rfl rfl)
abbrev cX0_room : ByteArray := prog_1_method_44_code
def yX0_room : MethodName := ⟨RX0, "room", "(I)I"⟩
def dkwX0_room_3 : List UInt8 := [180, 0, 87, 44, 182, 1, 157, 153, 0, 9, 132, 3, 1, 167, 255, 242, 29, 172]
abbrev dktX0_room_3 : List UInt8 := dkwX0_room_3 ++ []
def dkwX0_room_2 : List UInt8 := [180, 0, 111, 182, 1, 151, 187, 0, 206, 89, 3, 3, 3, 27, 3, 183, 1, 154, 77, 3, 62, 42]
abbrev dktX0_room_2 : List UInt8 := dkwX0_room_2 ++ dktX0_room_3
def dkwX0_room_1 : List UInt8 := [154, 0, 5, 2, 172, 42, 8, 6, 27, 96, 182, 1, 148, 2, 160, 0, 5, 3, 172, 42, 180, 0, 87, 42]
abbrev dktX0_room_1 : List UInt8 := dkwX0_room_1 ++ dktX0_room_2
def dkwX0_room_0 : List UInt8 := [42, 182, 1, 12, 153, 0, 23, 42, 180, 0, 111, 180, 1, 56, 154, 0, 13, 27, 3, 16, 40, 184, 1, 16]
abbrev dktX0_room_0 : List UInt8 := dkwX0_room_0 ++ dktX0_room_1
theorem dksX0_room_0 : cX0_room.data.toList.drop 0 = dktX0_room_0 := by decide +kernel
theorem dksX0_room_1 : cX0_room.data.toList.drop 24 = dktX0_room_1 := dk_seg dksX0_room_0 24 rfl rfl
theorem dksX0_room_2 : cX0_room.data.toList.drop 48 = dktX0_room_2 := dk_seg dksX0_room_1 24 rfl rfl
theorem dksX0_room_3 : cX0_room.data.toList.drop 70 = dktX0_room_3 := dk_seg dksX0_room_2 22 rfl rfl
theorem dX0_room_0 : decode cX0_room 0 = .ok (.aload_n 0, 1) := dk_42 (dk_at dksX0_room_0 0 rfl rfl)
theorem dX0_room_1 : decode cX0_room 1 = .ok (.invokevirtual 268, 3) := dk_182 1 12 (dk_at dksX0_room_0 1 rfl rfl)
theorem dX0_room_4 : decode cX0_room 4 = .ok (.ifCond .eq 23, 3) := dk_153 0 23 (dk_at dksX0_room_0 4 rfl rfl)
theorem dX0_room_7 : decode cX0_room 7 = .ok (.aload_n 0, 1) := dk_42 (dk_at dksX0_room_0 7 rfl rfl)
theorem dX0_room_8 : decode cX0_room 8 = .ok (.getfield 111, 3) := dk_180 0 111 (dk_at dksX0_room_0 8 rfl rfl)
theorem dX0_room_11 : decode cX0_room 11 = .ok (.getfield 312, 3) := dk_180 1 56 (dk_at dksX0_room_0 11 rfl rfl)
theorem dX0_room_14 : decode cX0_room 14 = .ok (.ifCond .ne 13, 3) := dk_154 0 13 (dk_at dksX0_room_0 14 rfl rfl)
theorem dX0_room_17 : decode cX0_room 17 = .ok (.iload_n 1, 1) := dk_27 (dk_at dksX0_room_0 17 rfl rfl)
theorem dX0_room_18 : decode cX0_room 18 = .ok (.iconst 0, 1) := dk_3 (dk_at dksX0_room_0 18 rfl rfl)
theorem dX0_room_19 : decode cX0_room 19 = .ok (.bipush 40, 2) := dk_16 40 (dk_at dksX0_room_0 19 rfl rfl)
theorem dX0_room_21 : decode cX0_room 21 = .ok (.invokestatic 272, 3) := dk_184 1 16 (dk_at dksX0_room_0 21 rfl rfl)
theorem dX0_room_24 : decode cX0_room 24 = .ok (.ifCond .ne 5, 3) := dk_154 0 5 (dk_at dksX0_room_1 0 rfl rfl)
theorem dX0_room_27 : decode cX0_room 27 = .ok (.iconst (-1), 1) := dk_2 (dk_at dksX0_room_1 3 rfl rfl)
theorem dX0_room_28 : decode cX0_room 28 = .ok (.ireturn, 1) := dk_172 (dk_at dksX0_room_1 4 rfl rfl)
theorem dX0_room_29 : decode cX0_room 29 = .ok (.aload_n 0, 1) := dk_42 (dk_at dksX0_room_1 5 rfl rfl)
theorem dX0_room_30 : decode cX0_room 30 = .ok (.iconst 5, 1) := dk_8 (dk_at dksX0_room_1 6 rfl rfl)
theorem dX0_room_31 : decode cX0_room 31 = .ok (.iconst 3, 1) := dk_6 (dk_at dksX0_room_1 7 rfl rfl)
theorem dX0_room_32 : decode cX0_room 32 = .ok (.iload_n 1, 1) := dk_27 (dk_at dksX0_room_1 8 rfl rfl)
theorem dX0_room_33 : decode cX0_room 33 = .ok (.iadd, 1) := dk_96 (dk_at dksX0_room_1 9 rfl rfl)
theorem dX0_room_34 : decode cX0_room 34 = .ok (.invokevirtual 404, 3) := dk_182 1 148 (dk_at dksX0_room_1 10 rfl rfl)
theorem dX0_room_37 : decode cX0_room 37 = .ok (.iconst (-1), 1) := dk_2 (dk_at dksX0_room_1 13 rfl rfl)
theorem dX0_room_38 : decode cX0_room 38 = .ok (.if_icmp .ne 5, 3) := dk_160 0 5 (dk_at dksX0_room_1 14 rfl rfl)
theorem dX0_room_41 : decode cX0_room 41 = .ok (.iconst 0, 1) := dk_3 (dk_at dksX0_room_1 17 rfl rfl)
theorem dX0_room_42 : decode cX0_room 42 = .ok (.ireturn, 1) := dk_172 (dk_at dksX0_room_1 18 rfl rfl)
theorem dX0_room_43 : decode cX0_room 43 = .ok (.aload_n 0, 1) := dk_42 (dk_at dksX0_room_1 19 rfl rfl)
theorem dX0_room_44 : decode cX0_room 44 = .ok (.getfield 87, 3) := dk_180 0 87 (dk_at dksX0_room_1 20 rfl rfl)
theorem dX0_room_47 : decode cX0_room 47 = .ok (.aload_n 0, 1) := dk_42 (dk_at dksX0_room_1 23 rfl rfl)
theorem dX0_room_48 : decode cX0_room 48 = .ok (.getfield 111, 3) := dk_180 0 111 (dk_at dksX0_room_2 0 rfl rfl)
theorem dX0_room_51 : decode cX0_room 51 = .ok (.invokevirtual 407, 3) := dk_182 1 151 (dk_at dksX0_room_2 3 rfl rfl)
theorem dX0_room_54 : decode cX0_room 54 = .ok (.new 206, 3) := dk_187 0 206 (dk_at dksX0_room_2 6 rfl rfl)
theorem dX0_room_57 : decode cX0_room 57 = .ok (.dup, 1) := dk_89 (dk_at dksX0_room_2 9 rfl rfl)
theorem dX0_room_58 : decode cX0_room 58 = .ok (.iconst 0, 1) := dk_3 (dk_at dksX0_room_2 10 rfl rfl)
theorem dX0_room_59 : decode cX0_room 59 = .ok (.iconst 0, 1) := dk_3 (dk_at dksX0_room_2 11 rfl rfl)
theorem dX0_room_60 : decode cX0_room 60 = .ok (.iconst 0, 1) := dk_3 (dk_at dksX0_room_2 12 rfl rfl)
theorem dX0_room_61 : decode cX0_room 61 = .ok (.iload_n 1, 1) := dk_27 (dk_at dksX0_room_2 13 rfl rfl)
theorem dX0_room_62 : decode cX0_room 62 = .ok (.iconst 0, 1) := dk_3 (dk_at dksX0_room_2 14 rfl rfl)
theorem dX0_room_63 : decode cX0_room 63 = .ok (.invokespecial 410, 3) := dk_183 1 154 (dk_at dksX0_room_2 15 rfl rfl)
theorem dX0_room_66 : decode cX0_room 66 = .ok (.astore_n 2, 1) := dk_77 (dk_at dksX0_room_2 18 rfl rfl)
theorem dX0_room_67 : decode cX0_room 67 = .ok (.iconst 0, 1) := dk_3 (dk_at dksX0_room_2 19 rfl rfl)
theorem dX0_room_68 : decode cX0_room 68 = .ok (.istore_n 3, 1) := dk_62 (dk_at dksX0_room_2 20 rfl rfl)
theorem dX0_room_69 : decode cX0_room 69 = .ok (.aload_n 0, 1) := dk_42 (dk_at dksX0_room_2 21 rfl rfl)
theorem dX0_room_70 : decode cX0_room 70 = .ok (.getfield 87, 3) := dk_180 0 87 (dk_at dksX0_room_3 0 rfl rfl)
theorem dX0_room_73 : decode cX0_room 73 = .ok (.aload_n 2, 1) := dk_44 (dk_at dksX0_room_3 3 rfl rfl)
theorem dX0_room_74 : decode cX0_room 74 = .ok (.invokevirtual 413, 3) := dk_182 1 157 (dk_at dksX0_room_3 4 rfl rfl)
theorem dX0_room_77 : decode cX0_room 77 = .ok (.ifCond .eq 9, 3) := dk_153 0 9 (dk_at dksX0_room_3 7 rfl rfl)
theorem dX0_room_80 : decode cX0_room 80 = .ok (.iinc 3 1, 3) := dk_132 3 1 (dk_at dksX0_room_3 10 rfl rfl)
theorem dX0_room_83 : decode cX0_room 83 = .ok (.goto (-14), 3) := dk_167 255 242 (dk_at dksX0_room_3 13 rfl rfl)
theorem dX0_room_86 : decode cX0_room 86 = .ok (.iload_n 3, 1) := dk_29 (dk_at dksX0_room_3 16 rfl rfl)
theorem dX0_room_87 : decode cX0_room 87 = .ok (.ireturn, 1) := dk_172 (dk_at dksX0_room_3 17 rfl rfl)
abbrev cX0_recovers : ByteArray := prog_1_method_45_code
def yX0_recovers : MethodName := ⟨RX0, "recovers", "(II)I"⟩
def dkwX0_recovers_4 : List UInt8 := [184, 1, 173, 172, 45, 180, 1, 175, 172, 45, 182, 1, 178, 172, 2, 172]
abbrev dktX0_recovers_4 : List UInt8 := dkwX0_recovers_4 ++ []
def dkwX0_recovers_3 : List UInt8 := [45, 180, 1, 168, 172, 45, 180, 1, 169, 153, 0, 7, 4, 167, 0, 4, 3, 172, 3, 45, 180, 1, 172]
abbrev dktX0_recovers_3 : List UInt8 := dkwX0_recovers_3 ++ dktX0_recovers_4
def dkwX0_recovers_2 : List UInt8 := [170, 0, 0, 0, 0, 0, 72, 0, 0, 0, 0, 0, 0, 0, 4, 0, 0, 0, 35, 0, 0, 0, 40, 0, 0, 0, 53, 0, 0, 0, 62, 0, 0, 0, 67]
abbrev dktX0_recovers_2 : List UInt8 := dkwX0_recovers_2 ++ dktX0_recovers_3
def dkwX0_recovers_1 : List UInt8 := [42, 180, 0, 101, 42, 180, 0, 111, 27, 182, 1, 160, 42, 180, 0, 111, 182, 1, 164, 78, 28]
abbrev dktX0_recovers_1 : List UInt8 := dkwX0_recovers_1 ++ dktX0_recovers_2
def dkwX0_recovers_0 : List UInt8 := [42, 182, 1, 12, 153, 0, 18, 27, 3, 42, 180, 0, 111, 180, 1, 31, 184, 1, 16, 154, 0, 5, 2, 172]
abbrev dktX0_recovers_0 : List UInt8 := dkwX0_recovers_0 ++ dktX0_recovers_1
theorem dksX0_recovers_0 : cX0_recovers.data.toList.drop 0 = dktX0_recovers_0 := by decide +kernel
theorem dksX0_recovers_1 : cX0_recovers.data.toList.drop 24 = dktX0_recovers_1 := dk_seg dksX0_recovers_0 24 rfl rfl
theorem dksX0_recovers_2 : cX0_recovers.data.toList.drop 45 = dktX0_recovers_2 := dk_seg dksX0_recovers_1 21 rfl rfl
theorem dksX0_recovers_3 : cX0_recovers.data.toList.drop 80 = dktX0_recovers_3 := dk_seg dksX0_recovers_2 35 rfl rfl
theorem dksX0_recovers_4 : cX0_recovers.data.toList.drop 103 = dktX0_recovers_4 := dk_seg dksX0_recovers_3 23 rfl rfl
theorem dX0_recovers_0 : decode cX0_recovers 0 = .ok (.aload_n 0, 1) := dk_42 (dk_at dksX0_recovers_0 0 rfl rfl)
theorem dX0_recovers_1 : decode cX0_recovers 1 = .ok (.invokevirtual 268, 3) := dk_182 1 12 (dk_at dksX0_recovers_0 1 rfl rfl)
theorem dX0_recovers_4 : decode cX0_recovers 4 = .ok (.ifCond .eq 18, 3) := dk_153 0 18 (dk_at dksX0_recovers_0 4 rfl rfl)
theorem dX0_recovers_7 : decode cX0_recovers 7 = .ok (.iload_n 1, 1) := dk_27 (dk_at dksX0_recovers_0 7 rfl rfl)
theorem dX0_recovers_8 : decode cX0_recovers 8 = .ok (.iconst 0, 1) := dk_3 (dk_at dksX0_recovers_0 8 rfl rfl)
theorem dX0_recovers_9 : decode cX0_recovers 9 = .ok (.aload_n 0, 1) := dk_42 (dk_at dksX0_recovers_0 9 rfl rfl)
theorem dX0_recovers_10 : decode cX0_recovers 10 = .ok (.getfield 111, 3) := dk_180 0 111 (dk_at dksX0_recovers_0 10 rfl rfl)
theorem dX0_recovers_13 : decode cX0_recovers 13 = .ok (.getfield 287, 3) := dk_180 1 31 (dk_at dksX0_recovers_0 13 rfl rfl)
theorem dX0_recovers_16 : decode cX0_recovers 16 = .ok (.invokestatic 272, 3) := dk_184 1 16 (dk_at dksX0_recovers_0 16 rfl rfl)
theorem dX0_recovers_19 : decode cX0_recovers 19 = .ok (.ifCond .ne 5, 3) := dk_154 0 5 (dk_at dksX0_recovers_0 19 rfl rfl)
theorem dX0_recovers_22 : decode cX0_recovers 22 = .ok (.iconst (-1), 1) := dk_2 (dk_at dksX0_recovers_0 22 rfl rfl)
theorem dX0_recovers_23 : decode cX0_recovers 23 = .ok (.ireturn, 1) := dk_172 (dk_at dksX0_recovers_0 23 rfl rfl)
theorem dX0_recovers_24 : decode cX0_recovers 24 = .ok (.aload_n 0, 1) := dk_42 (dk_at dksX0_recovers_1 0 rfl rfl)
theorem dX0_recovers_25 : decode cX0_recovers 25 = .ok (.getfield 101, 3) := dk_180 0 101 (dk_at dksX0_recovers_1 1 rfl rfl)
theorem dX0_recovers_28 : decode cX0_recovers 28 = .ok (.aload_n 0, 1) := dk_42 (dk_at dksX0_recovers_1 4 rfl rfl)
theorem dX0_recovers_29 : decode cX0_recovers 29 = .ok (.getfield 111, 3) := dk_180 0 111 (dk_at dksX0_recovers_1 5 rfl rfl)
theorem dX0_recovers_32 : decode cX0_recovers 32 = .ok (.iload_n 1, 1) := dk_27 (dk_at dksX0_recovers_1 8 rfl rfl)
theorem dX0_recovers_33 : decode cX0_recovers 33 = .ok (.invokevirtual 416, 3) := dk_182 1 160 (dk_at dksX0_recovers_1 9 rfl rfl)
theorem dX0_recovers_36 : decode cX0_recovers 36 = .ok (.aload_n 0, 1) := dk_42 (dk_at dksX0_recovers_1 12 rfl rfl)
theorem dX0_recovers_37 : decode cX0_recovers 37 = .ok (.getfield 111, 3) := dk_180 0 111 (dk_at dksX0_recovers_1 13 rfl rfl)
theorem dX0_recovers_40 : decode cX0_recovers 40 = .ok (.invokevirtual 420, 3) := dk_182 1 164 (dk_at dksX0_recovers_1 16 rfl rfl)
theorem dX0_recovers_43 : decode cX0_recovers 43 = .ok (.astore_n 3, 1) := dk_78 (dk_at dksX0_recovers_1 19 rfl rfl)
theorem dX0_recovers_44 : decode cX0_recovers 44 = .ok (.iload_n 2, 1) := dk_28 (dk_at dksX0_recovers_1 20 rfl rfl)
theorem dX0_recovers_45 : decode cX0_recovers 45 = .ok (.tableswitch 72 0 4 #[35, 40, 53, 62, 67], 35) := by decide +kernel
theorem dX0_recovers_80 : decode cX0_recovers 80 = .ok (.aload_n 3, 1) := dk_45 (dk_at dksX0_recovers_3 0 rfl rfl)
theorem dX0_recovers_81 : decode cX0_recovers 81 = .ok (.getfield 424, 3) := dk_180 1 168 (dk_at dksX0_recovers_3 1 rfl rfl)
theorem dX0_recovers_84 : decode cX0_recovers 84 = .ok (.ireturn, 1) := dk_172 (dk_at dksX0_recovers_3 4 rfl rfl)
theorem dX0_recovers_85 : decode cX0_recovers 85 = .ok (.aload_n 3, 1) := dk_45 (dk_at dksX0_recovers_3 5 rfl rfl)
theorem dX0_recovers_86 : decode cX0_recovers 86 = .ok (.getfield 425, 3) := dk_180 1 169 (dk_at dksX0_recovers_3 6 rfl rfl)
theorem dX0_recovers_89 : decode cX0_recovers 89 = .ok (.ifCond .eq 7, 3) := dk_153 0 7 (dk_at dksX0_recovers_3 9 rfl rfl)
theorem dX0_recovers_92 : decode cX0_recovers 92 = .ok (.iconst 1, 1) := dk_4 (dk_at dksX0_recovers_3 12 rfl rfl)
theorem dX0_recovers_93 : decode cX0_recovers 93 = .ok (.goto 4, 3) := dk_167 0 4 (dk_at dksX0_recovers_3 13 rfl rfl)
theorem dX0_recovers_96 : decode cX0_recovers 96 = .ok (.iconst 0, 1) := dk_3 (dk_at dksX0_recovers_3 16 rfl rfl)
theorem dX0_recovers_97 : decode cX0_recovers 97 = .ok (.ireturn, 1) := dk_172 (dk_at dksX0_recovers_3 17 rfl rfl)
theorem dX0_recovers_98 : decode cX0_recovers 98 = .ok (.iconst 0, 1) := dk_3 (dk_at dksX0_recovers_3 18 rfl rfl)
theorem dX0_recovers_99 : decode cX0_recovers 99 = .ok (.aload_n 3, 1) := dk_45 (dk_at dksX0_recovers_3 19 rfl rfl)
theorem dX0_recovers_100 : decode cX0_recovers 100 = .ok (.getfield 428, 3) := dk_180 1 172 (dk_at dksX0_recovers_3 20 rfl rfl)
theorem dX0_recovers_103 : decode cX0_recovers 103 = .ok (.invokestatic 429, 3) := dk_184 1 173 (dk_at dksX0_recovers_4 0 rfl rfl)
theorem dX0_recovers_106 : decode cX0_recovers 106 = .ok (.ireturn, 1) := dk_172 (dk_at dksX0_recovers_4 3 rfl rfl)
theorem dX0_recovers_107 : decode cX0_recovers 107 = .ok (.aload_n 3, 1) := dk_45 (dk_at dksX0_recovers_4 4 rfl rfl)
theorem dX0_recovers_108 : decode cX0_recovers 108 = .ok (.getfield 431, 3) := dk_180 1 175 (dk_at dksX0_recovers_4 5 rfl rfl)
theorem dX0_recovers_111 : decode cX0_recovers 111 = .ok (.ireturn, 1) := dk_172 (dk_at dksX0_recovers_4 8 rfl rfl)
theorem dX0_recovers_112 : decode cX0_recovers 112 = .ok (.aload_n 3, 1) := dk_45 (dk_at dksX0_recovers_4 9 rfl rfl)
theorem dX0_recovers_113 : decode cX0_recovers 113 = .ok (.invokevirtual 434, 3) := dk_182 1 178 (dk_at dksX0_recovers_4 10 rfl rfl)
theorem dX0_recovers_116 : decode cX0_recovers 116 = .ok (.ireturn, 1) := dk_172 (dk_at dksX0_recovers_4 13 rfl rfl)
theorem dX0_recovers_117 : decode cX0_recovers 117 = .ok (.iconst (-1), 1) := dk_2 (dk_at dksX0_recovers_4 14 rfl rfl)
theorem dX0_recovers_118 : decode cX0_recovers 118 = .ok (.ireturn, 1) := dk_172 (dk_at dksX0_recovers_4 15 rfl rfl)
abbrev cX0_flips : ByteArray := prog_1_method_46_code
def yX0_flips : MethodName := ⟨RX0, "flips", "(I)I"⟩
def dkwX0_flips_7 : List UInt8 := [21, 5, 50, 21, 6, 46, 100, 79, 132, 6, 1, 167, 255, 145, 132, 5, 1, 167, 255, 124, 21, 4, 172]
abbrev dktX0_flips_7 : List UInt8 := dkwX0_flips_7 ++ []
def dkwX0_flips_6 : List UInt8 := [167, 0, 4, 3, 96, 54, 4, 44, 180, 1, 181, 21, 5, 50, 21, 6, 17, 0, 255, 44, 180, 1, 181]
abbrev dktX0_flips_6 : List UInt8 := dkwX0_flips_6 ++ dktX0_flips_7
def dkwX0_flips_5 : List UInt8 := [180, 1, 168, 29, 162, 0, 7, 4, 167, 0, 4, 5, 54, 7, 21, 4, 21, 7, 27, 160, 0, 7, 4]
abbrev dktX0_flips_5 : List UInt8 := dkwX0_flips_5 ++ dktX0_flips_6
def dkwX0_flips_4 : List UInt8 := [46, 100, 79, 44, 42, 180, 0, 111, 182, 1, 164, 87, 44, 180, 1, 169, 153, 0, 7, 3, 167, 0, 16, 44]
abbrev dktX0_flips_4 : List UInt8 := dkwX0_flips_4 ++ dktX0_flips_5
def dkwX0_flips_3 : List UInt8 := [162, 0, 108, 44, 180, 1, 181, 21, 5, 50, 21, 6, 17, 0, 255, 44, 180, 1, 181, 21, 5, 50, 21, 6]
abbrev dktX0_flips_3 : List UInt8 := dkwX0_flips_3 ++ dktX0_flips_4
def dkwX0_flips_2 : List UInt8 := [54, 5, 21, 5, 42, 180, 0, 49, 180, 0, 239, 162, 0, 126, 3, 54, 6, 21, 6, 42, 182, 0, 245]
abbrev dktX0_flips_2 : List UInt8 := dkwX0_flips_2 ++ dktX0_flips_3
def dkwX0_flips_1 : List UInt8 := [180, 0, 111, 3, 182, 1, 160, 42, 180, 0, 111, 182, 1, 164, 77, 44, 180, 1, 168, 62, 3, 54, 4, 3]
abbrev dktX0_flips_1 : List UInt8 := dkwX0_flips_1 ++ dktX0_flips_2
def dkwX0_flips_0 : List UInt8 := [42, 182, 1, 12, 153, 0, 12, 27, 3, 5, 184, 1, 16, 154, 0, 5, 2, 172, 42, 180, 0, 101, 42]
abbrev dktX0_flips_0 : List UInt8 := dkwX0_flips_0 ++ dktX0_flips_1
theorem dksX0_flips_0 : cX0_flips.data.toList.drop 0 = dktX0_flips_0 := by decide +kernel
theorem dksX0_flips_1 : cX0_flips.data.toList.drop 23 = dktX0_flips_1 := dk_seg dksX0_flips_0 23 rfl rfl
theorem dksX0_flips_2 : cX0_flips.data.toList.drop 47 = dktX0_flips_2 := dk_seg dksX0_flips_1 24 rfl rfl
theorem dksX0_flips_3 : cX0_flips.data.toList.drop 70 = dktX0_flips_3 := dk_seg dksX0_flips_2 23 rfl rfl
theorem dksX0_flips_4 : cX0_flips.data.toList.drop 94 = dktX0_flips_4 := dk_seg dksX0_flips_3 24 rfl rfl
theorem dksX0_flips_5 : cX0_flips.data.toList.drop 118 = dktX0_flips_5 := dk_seg dksX0_flips_4 24 rfl rfl
theorem dksX0_flips_6 : cX0_flips.data.toList.drop 141 = dktX0_flips_6 := dk_seg dksX0_flips_5 23 rfl rfl
theorem dksX0_flips_7 : cX0_flips.data.toList.drop 164 = dktX0_flips_7 := dk_seg dksX0_flips_6 23 rfl rfl
theorem dX0_flips_0 : decode cX0_flips 0 = .ok (.aload_n 0, 1) := dk_42 (dk_at dksX0_flips_0 0 rfl rfl)
theorem dX0_flips_1 : decode cX0_flips 1 = .ok (.invokevirtual 268, 3) := dk_182 1 12 (dk_at dksX0_flips_0 1 rfl rfl)
theorem dX0_flips_4 : decode cX0_flips 4 = .ok (.ifCond .eq 12, 3) := dk_153 0 12 (dk_at dksX0_flips_0 4 rfl rfl)
theorem dX0_flips_7 : decode cX0_flips 7 = .ok (.iload_n 1, 1) := dk_27 (dk_at dksX0_flips_0 7 rfl rfl)
theorem dX0_flips_8 : decode cX0_flips 8 = .ok (.iconst 0, 1) := dk_3 (dk_at dksX0_flips_0 8 rfl rfl)
theorem dX0_flips_9 : decode cX0_flips 9 = .ok (.iconst 2, 1) := dk_5 (dk_at dksX0_flips_0 9 rfl rfl)
theorem dX0_flips_10 : decode cX0_flips 10 = .ok (.invokestatic 272, 3) := dk_184 1 16 (dk_at dksX0_flips_0 10 rfl rfl)
theorem dX0_flips_13 : decode cX0_flips 13 = .ok (.ifCond .ne 5, 3) := dk_154 0 5 (dk_at dksX0_flips_0 13 rfl rfl)
theorem dX0_flips_16 : decode cX0_flips 16 = .ok (.iconst (-1), 1) := dk_2 (dk_at dksX0_flips_0 16 rfl rfl)
theorem dX0_flips_17 : decode cX0_flips 17 = .ok (.ireturn, 1) := dk_172 (dk_at dksX0_flips_0 17 rfl rfl)
theorem dX0_flips_18 : decode cX0_flips 18 = .ok (.aload_n 0, 1) := dk_42 (dk_at dksX0_flips_0 18 rfl rfl)
theorem dX0_flips_19 : decode cX0_flips 19 = .ok (.getfield 101, 3) := dk_180 0 101 (dk_at dksX0_flips_0 19 rfl rfl)
theorem dX0_flips_22 : decode cX0_flips 22 = .ok (.aload_n 0, 1) := dk_42 (dk_at dksX0_flips_0 22 rfl rfl)
theorem dX0_flips_23 : decode cX0_flips 23 = .ok (.getfield 111, 3) := dk_180 0 111 (dk_at dksX0_flips_1 0 rfl rfl)
theorem dX0_flips_26 : decode cX0_flips 26 = .ok (.iconst 0, 1) := dk_3 (dk_at dksX0_flips_1 3 rfl rfl)
theorem dX0_flips_27 : decode cX0_flips 27 = .ok (.invokevirtual 416, 3) := dk_182 1 160 (dk_at dksX0_flips_1 4 rfl rfl)
theorem dX0_flips_30 : decode cX0_flips 30 = .ok (.aload_n 0, 1) := dk_42 (dk_at dksX0_flips_1 7 rfl rfl)
theorem dX0_flips_31 : decode cX0_flips 31 = .ok (.getfield 111, 3) := dk_180 0 111 (dk_at dksX0_flips_1 8 rfl rfl)
theorem dX0_flips_34 : decode cX0_flips 34 = .ok (.invokevirtual 420, 3) := dk_182 1 164 (dk_at dksX0_flips_1 11 rfl rfl)
theorem dX0_flips_37 : decode cX0_flips 37 = .ok (.astore_n 2, 1) := dk_77 (dk_at dksX0_flips_1 14 rfl rfl)
theorem dX0_flips_38 : decode cX0_flips 38 = .ok (.aload_n 2, 1) := dk_44 (dk_at dksX0_flips_1 15 rfl rfl)
theorem dX0_flips_39 : decode cX0_flips 39 = .ok (.getfield 424, 3) := dk_180 1 168 (dk_at dksX0_flips_1 16 rfl rfl)
theorem dX0_flips_42 : decode cX0_flips 42 = .ok (.istore_n 3, 1) := dk_62 (dk_at dksX0_flips_1 19 rfl rfl)
theorem dX0_flips_43 : decode cX0_flips 43 = .ok (.iconst 0, 1) := dk_3 (dk_at dksX0_flips_1 20 rfl rfl)
theorem dX0_flips_44 : decode cX0_flips 44 = .ok (.istore 4, 2) := dk_54 4 (dk_at dksX0_flips_1 21 rfl rfl)
theorem dX0_flips_46 : decode cX0_flips 46 = .ok (.iconst 0, 1) := dk_3 (dk_at dksX0_flips_1 23 rfl rfl)
theorem dX0_flips_47 : decode cX0_flips 47 = .ok (.istore 5, 2) := dk_54 5 (dk_at dksX0_flips_2 0 rfl rfl)
theorem dX0_flips_49 : decode cX0_flips 49 = .ok (.iload 5, 2) := dk_21 5 (dk_at dksX0_flips_2 2 rfl rfl)
theorem dX0_flips_51 : decode cX0_flips 51 = .ok (.aload_n 0, 1) := dk_42 (dk_at dksX0_flips_2 4 rfl rfl)
theorem dX0_flips_52 : decode cX0_flips 52 = .ok (.getfield 49, 3) := dk_180 0 49 (dk_at dksX0_flips_2 5 rfl rfl)
theorem dX0_flips_55 : decode cX0_flips 55 = .ok (.getfield 239, 3) := dk_180 0 239 (dk_at dksX0_flips_2 8 rfl rfl)
theorem dX0_flips_58 : decode cX0_flips 58 = .ok (.if_icmp .ge 126, 3) := dk_162 0 126 (dk_at dksX0_flips_2 11 rfl rfl)
theorem dX0_flips_61 : decode cX0_flips 61 = .ok (.iconst 0, 1) := dk_3 (dk_at dksX0_flips_2 14 rfl rfl)
theorem dX0_flips_62 : decode cX0_flips 62 = .ok (.istore 6, 2) := dk_54 6 (dk_at dksX0_flips_2 15 rfl rfl)
theorem dX0_flips_64 : decode cX0_flips 64 = .ok (.iload 6, 2) := dk_21 6 (dk_at dksX0_flips_2 17 rfl rfl)
theorem dX0_flips_66 : decode cX0_flips 66 = .ok (.aload_n 0, 1) := dk_42 (dk_at dksX0_flips_2 19 rfl rfl)
theorem dX0_flips_67 : decode cX0_flips 67 = .ok (.invokevirtual 245, 3) := dk_182 0 245 (dk_at dksX0_flips_2 20 rfl rfl)
theorem dX0_flips_70 : decode cX0_flips 70 = .ok (.if_icmp .ge 108, 3) := dk_162 0 108 (dk_at dksX0_flips_3 0 rfl rfl)
theorem dX0_flips_73 : decode cX0_flips 73 = .ok (.aload_n 2, 1) := dk_44 (dk_at dksX0_flips_3 3 rfl rfl)
theorem dX0_flips_74 : decode cX0_flips 74 = .ok (.getfield 437, 3) := dk_180 1 181 (dk_at dksX0_flips_3 4 rfl rfl)
theorem dX0_flips_77 : decode cX0_flips 77 = .ok (.iload 5, 2) := dk_21 5 (dk_at dksX0_flips_3 7 rfl rfl)
theorem dX0_flips_79 : decode cX0_flips 79 = .ok (.aaload, 1) := dk_50 (dk_at dksX0_flips_3 9 rfl rfl)
theorem dX0_flips_80 : decode cX0_flips 80 = .ok (.iload 6, 2) := dk_21 6 (dk_at dksX0_flips_3 10 rfl rfl)
theorem dX0_flips_82 : decode cX0_flips 82 = .ok (.sipush 255, 3) := dk_17 0 255 (dk_at dksX0_flips_3 12 rfl rfl)
theorem dX0_flips_85 : decode cX0_flips 85 = .ok (.aload_n 2, 1) := dk_44 (dk_at dksX0_flips_3 15 rfl rfl)
theorem dX0_flips_86 : decode cX0_flips 86 = .ok (.getfield 437, 3) := dk_180 1 181 (dk_at dksX0_flips_3 16 rfl rfl)
theorem dX0_flips_89 : decode cX0_flips 89 = .ok (.iload 5, 2) := dk_21 5 (dk_at dksX0_flips_3 19 rfl rfl)
theorem dX0_flips_91 : decode cX0_flips 91 = .ok (.aaload, 1) := dk_50 (dk_at dksX0_flips_3 21 rfl rfl)
theorem dX0_flips_92 : decode cX0_flips 92 = .ok (.iload 6, 2) := dk_21 6 (dk_at dksX0_flips_3 22 rfl rfl)
theorem dX0_flips_94 : decode cX0_flips 94 = .ok (.iaload, 1) := dk_46 (dk_at dksX0_flips_4 0 rfl rfl)
theorem dX0_flips_95 : decode cX0_flips 95 = .ok (.isub, 1) := dk_100 (dk_at dksX0_flips_4 1 rfl rfl)
theorem dX0_flips_96 : decode cX0_flips 96 = .ok (.iastore, 1) := dk_79 (dk_at dksX0_flips_4 2 rfl rfl)
theorem dX0_flips_97 : decode cX0_flips 97 = .ok (.aload_n 2, 1) := dk_44 (dk_at dksX0_flips_4 3 rfl rfl)
theorem dX0_flips_98 : decode cX0_flips 98 = .ok (.aload_n 0, 1) := dk_42 (dk_at dksX0_flips_4 4 rfl rfl)
theorem dX0_flips_99 : decode cX0_flips 99 = .ok (.getfield 111, 3) := dk_180 0 111 (dk_at dksX0_flips_4 5 rfl rfl)
theorem dX0_flips_102 : decode cX0_flips 102 = .ok (.invokevirtual 420, 3) := dk_182 1 164 (dk_at dksX0_flips_4 8 rfl rfl)
theorem dX0_flips_105 : decode cX0_flips 105 = .ok (.pop, 1) := dk_87 (dk_at dksX0_flips_4 11 rfl rfl)
theorem dX0_flips_106 : decode cX0_flips 106 = .ok (.aload_n 2, 1) := dk_44 (dk_at dksX0_flips_4 12 rfl rfl)
theorem dX0_flips_107 : decode cX0_flips 107 = .ok (.getfield 425, 3) := dk_180 1 169 (dk_at dksX0_flips_4 13 rfl rfl)
theorem dX0_flips_110 : decode cX0_flips 110 = .ok (.ifCond .eq 7, 3) := dk_153 0 7 (dk_at dksX0_flips_4 16 rfl rfl)
theorem dX0_flips_113 : decode cX0_flips 113 = .ok (.iconst 0, 1) := dk_3 (dk_at dksX0_flips_4 19 rfl rfl)
theorem dX0_flips_114 : decode cX0_flips 114 = .ok (.goto 16, 3) := dk_167 0 16 (dk_at dksX0_flips_4 20 rfl rfl)
theorem dX0_flips_117 : decode cX0_flips 117 = .ok (.aload_n 2, 1) := dk_44 (dk_at dksX0_flips_4 23 rfl rfl)
theorem dX0_flips_118 : decode cX0_flips 118 = .ok (.getfield 424, 3) := dk_180 1 168 (dk_at dksX0_flips_5 0 rfl rfl)
theorem dX0_flips_121 : decode cX0_flips 121 = .ok (.iload_n 3, 1) := dk_29 (dk_at dksX0_flips_5 3 rfl rfl)
theorem dX0_flips_122 : decode cX0_flips 122 = .ok (.if_icmp .ge 7, 3) := dk_162 0 7 (dk_at dksX0_flips_5 4 rfl rfl)
theorem dX0_flips_125 : decode cX0_flips 125 = .ok (.iconst 1, 1) := dk_4 (dk_at dksX0_flips_5 7 rfl rfl)
theorem dX0_flips_126 : decode cX0_flips 126 = .ok (.goto 4, 3) := dk_167 0 4 (dk_at dksX0_flips_5 8 rfl rfl)
theorem dX0_flips_129 : decode cX0_flips 129 = .ok (.iconst 2, 1) := dk_5 (dk_at dksX0_flips_5 11 rfl rfl)
theorem dX0_flips_130 : decode cX0_flips 130 = .ok (.istore 7, 2) := dk_54 7 (dk_at dksX0_flips_5 12 rfl rfl)
theorem dX0_flips_132 : decode cX0_flips 132 = .ok (.iload 4, 2) := dk_21 4 (dk_at dksX0_flips_5 14 rfl rfl)
theorem dX0_flips_134 : decode cX0_flips 134 = .ok (.iload 7, 2) := dk_21 7 (dk_at dksX0_flips_5 16 rfl rfl)
theorem dX0_flips_136 : decode cX0_flips 136 = .ok (.iload_n 1, 1) := dk_27 (dk_at dksX0_flips_5 18 rfl rfl)
theorem dX0_flips_137 : decode cX0_flips 137 = .ok (.if_icmp .ne 7, 3) := dk_160 0 7 (dk_at dksX0_flips_5 19 rfl rfl)
theorem dX0_flips_140 : decode cX0_flips 140 = .ok (.iconst 1, 1) := dk_4 (dk_at dksX0_flips_5 22 rfl rfl)
theorem dX0_flips_141 : decode cX0_flips 141 = .ok (.goto 4, 3) := dk_167 0 4 (dk_at dksX0_flips_6 0 rfl rfl)
theorem dX0_flips_144 : decode cX0_flips 144 = .ok (.iconst 0, 1) := dk_3 (dk_at dksX0_flips_6 3 rfl rfl)
theorem dX0_flips_145 : decode cX0_flips 145 = .ok (.iadd, 1) := dk_96 (dk_at dksX0_flips_6 4 rfl rfl)
theorem dX0_flips_146 : decode cX0_flips 146 = .ok (.istore 4, 2) := dk_54 4 (dk_at dksX0_flips_6 5 rfl rfl)
theorem dX0_flips_148 : decode cX0_flips 148 = .ok (.aload_n 2, 1) := dk_44 (dk_at dksX0_flips_6 7 rfl rfl)
theorem dX0_flips_149 : decode cX0_flips 149 = .ok (.getfield 437, 3) := dk_180 1 181 (dk_at dksX0_flips_6 8 rfl rfl)
theorem dX0_flips_152 : decode cX0_flips 152 = .ok (.iload 5, 2) := dk_21 5 (dk_at dksX0_flips_6 11 rfl rfl)
theorem dX0_flips_154 : decode cX0_flips 154 = .ok (.aaload, 1) := dk_50 (dk_at dksX0_flips_6 13 rfl rfl)
theorem dX0_flips_155 : decode cX0_flips 155 = .ok (.iload 6, 2) := dk_21 6 (dk_at dksX0_flips_6 14 rfl rfl)
theorem dX0_flips_157 : decode cX0_flips 157 = .ok (.sipush 255, 3) := dk_17 0 255 (dk_at dksX0_flips_6 16 rfl rfl)
theorem dX0_flips_160 : decode cX0_flips 160 = .ok (.aload_n 2, 1) := dk_44 (dk_at dksX0_flips_6 19 rfl rfl)
theorem dX0_flips_161 : decode cX0_flips 161 = .ok (.getfield 437, 3) := dk_180 1 181 (dk_at dksX0_flips_6 20 rfl rfl)
theorem dX0_flips_164 : decode cX0_flips 164 = .ok (.iload 5, 2) := dk_21 5 (dk_at dksX0_flips_7 0 rfl rfl)
theorem dX0_flips_166 : decode cX0_flips 166 = .ok (.aaload, 1) := dk_50 (dk_at dksX0_flips_7 2 rfl rfl)
theorem dX0_flips_167 : decode cX0_flips 167 = .ok (.iload 6, 2) := dk_21 6 (dk_at dksX0_flips_7 3 rfl rfl)
theorem dX0_flips_169 : decode cX0_flips 169 = .ok (.iaload, 1) := dk_46 (dk_at dksX0_flips_7 5 rfl rfl)
theorem dX0_flips_170 : decode cX0_flips 170 = .ok (.isub, 1) := dk_100 (dk_at dksX0_flips_7 6 rfl rfl)
theorem dX0_flips_171 : decode cX0_flips 171 = .ok (.iastore, 1) := dk_79 (dk_at dksX0_flips_7 7 rfl rfl)
theorem dX0_flips_172 : decode cX0_flips 172 = .ok (.iinc 6 1, 3) := dk_132 6 1 (dk_at dksX0_flips_7 8 rfl rfl)
theorem dX0_flips_175 : decode cX0_flips 175 = .ok (.goto (-111), 3) := dk_167 255 145 (dk_at dksX0_flips_7 11 rfl rfl)
theorem dX0_flips_178 : decode cX0_flips 178 = .ok (.iinc 5 1, 3) := dk_132 5 1 (dk_at dksX0_flips_7 14 rfl rfl)
theorem dX0_flips_181 : decode cX0_flips 181 = .ok (.goto (-132), 3) := dk_167 255 124 (dk_at dksX0_flips_7 17 rfl rfl)
theorem dX0_flips_184 : decode cX0_flips 184 = .ok (.iload 4, 2) := dk_21 4 (dk_at dksX0_flips_7 20 rfl rfl)
theorem dX0_flips_186 : decode cX0_flips 186 = .ok (.ireturn, 1) := dk_172 (dk_at dksX0_flips_7 22 rfl rfl)
abbrev cX0_see : ByteArray := prog_1_method_49_code
def yX0_see : MethodName := ⟨RX0, "see", "()I"⟩
def dkwX0_see_7 : List UInt8 := [172]
abbrev dktX0_see_7 : List UInt8 := dkwX0_see_7 ++ []
def dkwX0_see_6 : List UInt8 := [2, 167, 0, 12, 42, 6, 29, 104, 4, 96, 182, 1, 185, 79, 132, 3, 1, 167, 255, 198, 42, 180, 0, 227]
abbrev dktX0_see_6 : List UInt8 := dkwX0_see_6 ++ dktX0_see_7
def dkwX0_see_5 : List UInt8 := [182, 1, 182, 79, 42, 180, 0, 121, 29, 42, 6, 29, 104, 4, 96, 182, 1, 185, 17, 3, 231, 164, 0, 7]
abbrev dktX0_see_5 : List UInt8 := dkwX0_see_5 ++ dktX0_see_6
def dkwX0_see_4 : List UInt8 := [108, 181, 0, 227, 3, 62, 29, 42, 180, 0, 227, 162, 0, 56, 42, 180, 0, 118, 29, 42, 6, 29, 104]
abbrev dktX0_see_4 : List UInt8 := dkwX0_see_4 ++ dktX0_see_5
def dkwX0_see_3 : List UInt8 := [167, 0, 4, 3, 61, 132, 3, 3, 167, 255, 215, 28, 154, 0, 9, 42, 4, 182, 0, 162, 172, 42, 27, 6]
abbrev dktX0_see_3 : List UInt8 := dkwX0_see_3 ++ dktX0_see_4
def dkwX0_see_2 : List UInt8 := [182, 1, 182, 16, 16, 162, 0, 20, 42, 29, 4, 96, 182, 1, 185, 17, 3, 232, 163, 0, 7, 4]
abbrev dktX0_see_2 : List UInt8 := dkwX0_see_2 ++ dktX0_see_3
def dkwX0_see_1 : List UInt8 := [16, 48, 163, 0, 7, 4, 167, 0, 4, 3, 61, 3, 62, 29, 27, 162, 0, 42, 28, 153, 0, 38, 42, 29]
abbrev dktX0_see_1 : List UInt8 := dkwX0_see_1 ++ dktX0_see_2
def dkwX0_see_0 : List UInt8 := [42, 182, 0, 172, 60, 42, 182, 1, 12, 153, 0, 23, 27, 158, 0, 19, 27, 6, 112, 154, 0, 13, 27]
abbrev dktX0_see_0 : List UInt8 := dkwX0_see_0 ++ dktX0_see_1
theorem dksX0_see_0 : cX0_see.data.toList.drop 0 = dktX0_see_0 := by decide +kernel
theorem dksX0_see_1 : cX0_see.data.toList.drop 23 = dktX0_see_1 := dk_seg dksX0_see_0 23 rfl rfl
theorem dksX0_see_2 : cX0_see.data.toList.drop 47 = dktX0_see_2 := dk_seg dksX0_see_1 24 rfl rfl
theorem dksX0_see_3 : cX0_see.data.toList.drop 69 = dktX0_see_3 := dk_seg dksX0_see_2 22 rfl rfl
theorem dksX0_see_4 : cX0_see.data.toList.drop 93 = dktX0_see_4 := dk_seg dksX0_see_3 24 rfl rfl
theorem dksX0_see_5 : cX0_see.data.toList.drop 116 = dktX0_see_5 := dk_seg dksX0_see_4 23 rfl rfl
theorem dksX0_see_6 : cX0_see.data.toList.drop 140 = dktX0_see_6 := dk_seg dksX0_see_5 24 rfl rfl
theorem dksX0_see_7 : cX0_see.data.toList.drop 164 = dktX0_see_7 := dk_seg dksX0_see_6 24 rfl rfl
theorem dX0_see_0 : decode cX0_see 0 = .ok (.aload_n 0, 1) := dk_42 (dk_at dksX0_see_0 0 rfl rfl)
theorem dX0_see_1 : decode cX0_see 1 = .ok (.invokevirtual 172, 3) := dk_182 0 172 (dk_at dksX0_see_0 1 rfl rfl)
theorem dX0_see_4 : decode cX0_see 4 = .ok (.istore_n 1, 1) := dk_60 (dk_at dksX0_see_0 4 rfl rfl)
theorem dX0_see_5 : decode cX0_see 5 = .ok (.aload_n 0, 1) := dk_42 (dk_at dksX0_see_0 5 rfl rfl)
theorem dX0_see_6 : decode cX0_see 6 = .ok (.invokevirtual 268, 3) := dk_182 1 12 (dk_at dksX0_see_0 6 rfl rfl)
theorem dX0_see_9 : decode cX0_see 9 = .ok (.ifCond .eq 23, 3) := dk_153 0 23 (dk_at dksX0_see_0 9 rfl rfl)
theorem dX0_see_12 : decode cX0_see 12 = .ok (.iload_n 1, 1) := dk_27 (dk_at dksX0_see_0 12 rfl rfl)
theorem dX0_see_13 : decode cX0_see 13 = .ok (.ifCond .le 19, 3) := dk_158 0 19 (dk_at dksX0_see_0 13 rfl rfl)
theorem dX0_see_16 : decode cX0_see 16 = .ok (.iload_n 1, 1) := dk_27 (dk_at dksX0_see_0 16 rfl rfl)
theorem dX0_see_17 : decode cX0_see 17 = .ok (.iconst 3, 1) := dk_6 (dk_at dksX0_see_0 17 rfl rfl)
theorem dX0_see_18 : decode cX0_see 18 = .ok (.irem, 1) := dk_112 (dk_at dksX0_see_0 18 rfl rfl)
theorem dX0_see_19 : decode cX0_see 19 = .ok (.ifCond .ne 13, 3) := dk_154 0 13 (dk_at dksX0_see_0 19 rfl rfl)
theorem dX0_see_22 : decode cX0_see 22 = .ok (.iload_n 1, 1) := dk_27 (dk_at dksX0_see_0 22 rfl rfl)
theorem dX0_see_23 : decode cX0_see 23 = .ok (.bipush 48, 2) := dk_16 48 (dk_at dksX0_see_1 0 rfl rfl)
theorem dX0_see_25 : decode cX0_see 25 = .ok (.if_icmp .gt 7, 3) := dk_163 0 7 (dk_at dksX0_see_1 2 rfl rfl)
theorem dX0_see_28 : decode cX0_see 28 = .ok (.iconst 1, 1) := dk_4 (dk_at dksX0_see_1 5 rfl rfl)
theorem dX0_see_29 : decode cX0_see 29 = .ok (.goto 4, 3) := dk_167 0 4 (dk_at dksX0_see_1 6 rfl rfl)
theorem dX0_see_32 : decode cX0_see 32 = .ok (.iconst 0, 1) := dk_3 (dk_at dksX0_see_1 9 rfl rfl)
theorem dX0_see_33 : decode cX0_see 33 = .ok (.istore_n 2, 1) := dk_61 (dk_at dksX0_see_1 10 rfl rfl)
theorem dX0_see_34 : decode cX0_see 34 = .ok (.iconst 0, 1) := dk_3 (dk_at dksX0_see_1 11 rfl rfl)
theorem dX0_see_35 : decode cX0_see 35 = .ok (.istore_n 3, 1) := dk_62 (dk_at dksX0_see_1 12 rfl rfl)
theorem dX0_see_36 : decode cX0_see 36 = .ok (.iload_n 3, 1) := dk_29 (dk_at dksX0_see_1 13 rfl rfl)
theorem dX0_see_37 : decode cX0_see 37 = .ok (.iload_n 1, 1) := dk_27 (dk_at dksX0_see_1 14 rfl rfl)
theorem dX0_see_38 : decode cX0_see 38 = .ok (.if_icmp .ge 42, 3) := dk_162 0 42 (dk_at dksX0_see_1 15 rfl rfl)
theorem dX0_see_41 : decode cX0_see 41 = .ok (.iload_n 2, 1) := dk_28 (dk_at dksX0_see_1 18 rfl rfl)
theorem dX0_see_42 : decode cX0_see 42 = .ok (.ifCond .eq 38, 3) := dk_153 0 38 (dk_at dksX0_see_1 19 rfl rfl)
theorem dX0_see_45 : decode cX0_see 45 = .ok (.aload_n 0, 1) := dk_42 (dk_at dksX0_see_1 22 rfl rfl)
theorem dX0_see_46 : decode cX0_see 46 = .ok (.iload_n 3, 1) := dk_29 (dk_at dksX0_see_1 23 rfl rfl)
theorem dX0_see_47 : decode cX0_see 47 = .ok (.invokevirtual 438, 3) := dk_182 1 182 (dk_at dksX0_see_2 0 rfl rfl)
theorem dX0_see_50 : decode cX0_see 50 = .ok (.bipush 16, 2) := dk_16 16 (dk_at dksX0_see_2 3 rfl rfl)
theorem dX0_see_52 : decode cX0_see 52 = .ok (.if_icmp .ge 20, 3) := dk_162 0 20 (dk_at dksX0_see_2 5 rfl rfl)
theorem dX0_see_55 : decode cX0_see 55 = .ok (.aload_n 0, 1) := dk_42 (dk_at dksX0_see_2 8 rfl rfl)
theorem dX0_see_56 : decode cX0_see 56 = .ok (.iload_n 3, 1) := dk_29 (dk_at dksX0_see_2 9 rfl rfl)
theorem dX0_see_57 : decode cX0_see 57 = .ok (.iconst 1, 1) := dk_4 (dk_at dksX0_see_2 10 rfl rfl)
theorem dX0_see_58 : decode cX0_see 58 = .ok (.iadd, 1) := dk_96 (dk_at dksX0_see_2 11 rfl rfl)
theorem dX0_see_59 : decode cX0_see 59 = .ok (.invokevirtual 441, 3) := dk_182 1 185 (dk_at dksX0_see_2 12 rfl rfl)
theorem dX0_see_62 : decode cX0_see 62 = .ok (.sipush 1000, 3) := dk_17 3 232 (dk_at dksX0_see_2 15 rfl rfl)
theorem dX0_see_65 : decode cX0_see 65 = .ok (.if_icmp .gt 7, 3) := dk_163 0 7 (dk_at dksX0_see_2 18 rfl rfl)
theorem dX0_see_68 : decode cX0_see 68 = .ok (.iconst 1, 1) := dk_4 (dk_at dksX0_see_2 21 rfl rfl)
theorem dX0_see_69 : decode cX0_see 69 = .ok (.goto 4, 3) := dk_167 0 4 (dk_at dksX0_see_3 0 rfl rfl)
theorem dX0_see_72 : decode cX0_see 72 = .ok (.iconst 0, 1) := dk_3 (dk_at dksX0_see_3 3 rfl rfl)
theorem dX0_see_73 : decode cX0_see 73 = .ok (.istore_n 2, 1) := dk_61 (dk_at dksX0_see_3 4 rfl rfl)
theorem dX0_see_74 : decode cX0_see 74 = .ok (.iinc 3 3, 3) := dk_132 3 3 (dk_at dksX0_see_3 5 rfl rfl)
theorem dX0_see_77 : decode cX0_see 77 = .ok (.goto (-41), 3) := dk_167 255 215 (dk_at dksX0_see_3 8 rfl rfl)
theorem dX0_see_80 : decode cX0_see 80 = .ok (.iload_n 2, 1) := dk_28 (dk_at dksX0_see_3 11 rfl rfl)
theorem dX0_see_81 : decode cX0_see 81 = .ok (.ifCond .ne 9, 3) := dk_154 0 9 (dk_at dksX0_see_3 12 rfl rfl)
theorem dX0_see_84 : decode cX0_see 84 = .ok (.aload_n 0, 1) := dk_42 (dk_at dksX0_see_3 15 rfl rfl)
theorem dX0_see_85 : decode cX0_see 85 = .ok (.iconst 1, 1) := dk_4 (dk_at dksX0_see_3 16 rfl rfl)
theorem dX0_see_86 : decode cX0_see 86 = .ok (.invokevirtual 162, 3) := dk_182 0 162 (dk_at dksX0_see_3 17 rfl rfl)
theorem dX0_see_89 : decode cX0_see 89 = .ok (.ireturn, 1) := dk_172 (dk_at dksX0_see_3 20 rfl rfl)
theorem dX0_see_90 : decode cX0_see 90 = .ok (.aload_n 0, 1) := dk_42 (dk_at dksX0_see_3 21 rfl rfl)
theorem dX0_see_91 : decode cX0_see 91 = .ok (.iload_n 1, 1) := dk_27 (dk_at dksX0_see_3 22 rfl rfl)
theorem dX0_see_92 : decode cX0_see 92 = .ok (.iconst 3, 1) := dk_6 (dk_at dksX0_see_3 23 rfl rfl)
theorem dX0_see_93 : decode cX0_see 93 = .ok (.idiv, 1) := dk_108 (dk_at dksX0_see_4 0 rfl rfl)
theorem dX0_see_94 : decode cX0_see 94 = .ok (.putfield 227, 3) := dk_181 0 227 (dk_at dksX0_see_4 1 rfl rfl)
theorem dX0_see_97 : decode cX0_see 97 = .ok (.iconst 0, 1) := dk_3 (dk_at dksX0_see_4 4 rfl rfl)
theorem dX0_see_98 : decode cX0_see 98 = .ok (.istore_n 3, 1) := dk_62 (dk_at dksX0_see_4 5 rfl rfl)
theorem dX0_see_99 : decode cX0_see 99 = .ok (.iload_n 3, 1) := dk_29 (dk_at dksX0_see_4 6 rfl rfl)
theorem dX0_see_100 : decode cX0_see 100 = .ok (.aload_n 0, 1) := dk_42 (dk_at dksX0_see_4 7 rfl rfl)
theorem dX0_see_101 : decode cX0_see 101 = .ok (.getfield 227, 3) := dk_180 0 227 (dk_at dksX0_see_4 8 rfl rfl)
theorem dX0_see_104 : decode cX0_see 104 = .ok (.if_icmp .ge 56, 3) := dk_162 0 56 (dk_at dksX0_see_4 11 rfl rfl)
theorem dX0_see_107 : decode cX0_see 107 = .ok (.aload_n 0, 1) := dk_42 (dk_at dksX0_see_4 14 rfl rfl)
theorem dX0_see_108 : decode cX0_see 108 = .ok (.getfield 118, 3) := dk_180 0 118 (dk_at dksX0_see_4 15 rfl rfl)
theorem dX0_see_111 : decode cX0_see 111 = .ok (.iload_n 3, 1) := dk_29 (dk_at dksX0_see_4 18 rfl rfl)
theorem dX0_see_112 : decode cX0_see 112 = .ok (.aload_n 0, 1) := dk_42 (dk_at dksX0_see_4 19 rfl rfl)
theorem dX0_see_113 : decode cX0_see 113 = .ok (.iconst 3, 1) := dk_6 (dk_at dksX0_see_4 20 rfl rfl)
theorem dX0_see_114 : decode cX0_see 114 = .ok (.iload_n 3, 1) := dk_29 (dk_at dksX0_see_4 21 rfl rfl)
theorem dX0_see_115 : decode cX0_see 115 = .ok (.imul, 1) := dk_104 (dk_at dksX0_see_4 22 rfl rfl)
theorem dX0_see_116 : decode cX0_see 116 = .ok (.invokevirtual 438, 3) := dk_182 1 182 (dk_at dksX0_see_5 0 rfl rfl)
theorem dX0_see_119 : decode cX0_see 119 = .ok (.iastore, 1) := dk_79 (dk_at dksX0_see_5 3 rfl rfl)
theorem dX0_see_120 : decode cX0_see 120 = .ok (.aload_n 0, 1) := dk_42 (dk_at dksX0_see_5 4 rfl rfl)
theorem dX0_see_121 : decode cX0_see 121 = .ok (.getfield 121, 3) := dk_180 0 121 (dk_at dksX0_see_5 5 rfl rfl)
theorem dX0_see_124 : decode cX0_see 124 = .ok (.iload_n 3, 1) := dk_29 (dk_at dksX0_see_5 8 rfl rfl)
theorem dX0_see_125 : decode cX0_see 125 = .ok (.aload_n 0, 1) := dk_42 (dk_at dksX0_see_5 9 rfl rfl)
theorem dX0_see_126 : decode cX0_see 126 = .ok (.iconst 3, 1) := dk_6 (dk_at dksX0_see_5 10 rfl rfl)
theorem dX0_see_127 : decode cX0_see 127 = .ok (.iload_n 3, 1) := dk_29 (dk_at dksX0_see_5 11 rfl rfl)
theorem dX0_see_128 : decode cX0_see 128 = .ok (.imul, 1) := dk_104 (dk_at dksX0_see_5 12 rfl rfl)
theorem dX0_see_129 : decode cX0_see 129 = .ok (.iconst 1, 1) := dk_4 (dk_at dksX0_see_5 13 rfl rfl)
theorem dX0_see_130 : decode cX0_see 130 = .ok (.iadd, 1) := dk_96 (dk_at dksX0_see_5 14 rfl rfl)
theorem dX0_see_131 : decode cX0_see 131 = .ok (.invokevirtual 441, 3) := dk_182 1 185 (dk_at dksX0_see_5 15 rfl rfl)
theorem dX0_see_134 : decode cX0_see 134 = .ok (.sipush 999, 3) := dk_17 3 231 (dk_at dksX0_see_5 18 rfl rfl)
theorem dX0_see_137 : decode cX0_see 137 = .ok (.if_icmp .le 7, 3) := dk_164 0 7 (dk_at dksX0_see_5 21 rfl rfl)
theorem dX0_see_140 : decode cX0_see 140 = .ok (.iconst (-1), 1) := dk_2 (dk_at dksX0_see_6 0 rfl rfl)
theorem dX0_see_141 : decode cX0_see 141 = .ok (.goto 12, 3) := dk_167 0 12 (dk_at dksX0_see_6 1 rfl rfl)
theorem dX0_see_144 : decode cX0_see 144 = .ok (.aload_n 0, 1) := dk_42 (dk_at dksX0_see_6 4 rfl rfl)
theorem dX0_see_145 : decode cX0_see 145 = .ok (.iconst 3, 1) := dk_6 (dk_at dksX0_see_6 5 rfl rfl)
theorem dX0_see_146 : decode cX0_see 146 = .ok (.iload_n 3, 1) := dk_29 (dk_at dksX0_see_6 6 rfl rfl)
theorem dX0_see_147 : decode cX0_see 147 = .ok (.imul, 1) := dk_104 (dk_at dksX0_see_6 7 rfl rfl)
theorem dX0_see_148 : decode cX0_see 148 = .ok (.iconst 1, 1) := dk_4 (dk_at dksX0_see_6 8 rfl rfl)
theorem dX0_see_149 : decode cX0_see 149 = .ok (.iadd, 1) := dk_96 (dk_at dksX0_see_6 9 rfl rfl)
theorem dX0_see_150 : decode cX0_see 150 = .ok (.invokevirtual 441, 3) := dk_182 1 185 (dk_at dksX0_see_6 10 rfl rfl)
theorem dX0_see_153 : decode cX0_see 153 = .ok (.iastore, 1) := dk_79 (dk_at dksX0_see_6 13 rfl rfl)
theorem dX0_see_154 : decode cX0_see 154 = .ok (.iinc 3 1, 3) := dk_132 3 1 (dk_at dksX0_see_6 14 rfl rfl)
theorem dX0_see_157 : decode cX0_see 157 = .ok (.goto (-58), 3) := dk_167 255 198 (dk_at dksX0_see_6 17 rfl rfl)
theorem dX0_see_160 : decode cX0_see 160 = .ok (.aload_n 0, 1) := dk_42 (dk_at dksX0_see_6 20 rfl rfl)
theorem dX0_see_161 : decode cX0_see 161 = .ok (.getfield 227, 3) := dk_180 0 227 (dk_at dksX0_see_6 21 rfl rfl)
theorem dX0_see_164 : decode cX0_see 164 = .ok (.ireturn, 1) := dk_172 (dk_at dksX0_see_7 0 rfl rfl)
abbrev cX0_byteAt : ByteArray := prog_1_method_47_code
def yX0_byteAt : MethodName := ⟨RX0, "byteAt", "(I)I"⟩
def dkwX0_byteAt_0 : List UInt8 := [42, 180, 0, 53, 27, 51, 17, 0, 255, 126, 172]
abbrev dktX0_byteAt_0 : List UInt8 := dkwX0_byteAt_0 ++ []
theorem dksX0_byteAt_0 : cX0_byteAt.data.toList.drop 0 = dktX0_byteAt_0 := by decide +kernel
theorem dX0_byteAt_0 : decode cX0_byteAt 0 = .ok (.aload_n 0, 1) := dk_42 (dk_at dksX0_byteAt_0 0 rfl rfl)
theorem dX0_byteAt_1 : decode cX0_byteAt 1 = .ok (.getfield 53, 3) := dk_180 0 53 (dk_at dksX0_byteAt_0 1 rfl rfl)
theorem dX0_byteAt_4 : decode cX0_byteAt 4 = .ok (.iload_n 1, 1) := dk_27 (dk_at dksX0_byteAt_0 4 rfl rfl)
theorem dX0_byteAt_5 : decode cX0_byteAt 5 = .ok (.baload, 1) := dk_51 (dk_at dksX0_byteAt_0 5 rfl rfl)
theorem dX0_byteAt_6 : decode cX0_byteAt 6 = .ok (.sipush 255, 3) := dk_17 0 255 (dk_at dksX0_byteAt_0 6 rfl rfl)
theorem dX0_byteAt_9 : decode cX0_byteAt 9 = .ok (.iand, 1) := dk_126 (dk_at dksX0_byteAt_0 9 rfl rfl)
theorem dX0_byteAt_10 : decode cX0_byteAt 10 = .ok (.ireturn, 1) := dk_172 (dk_at dksX0_byteAt_0 10 rfl rfl)
abbrev cX0_twoAt : ByteArray := prog_1_method_48_code
def yX0_twoAt : MethodName := ⟨RX0, "twoAt", "(I)I"⟩
def dkwX0_twoAt_0 : List UInt8 := [42, 27, 182, 1, 182, 16, 8, 120, 42, 27, 4, 96, 182, 1, 182, 128, 172]
abbrev dktX0_twoAt_0 : List UInt8 := dkwX0_twoAt_0 ++ []
theorem dksX0_twoAt_0 : cX0_twoAt.data.toList.drop 0 = dktX0_twoAt_0 := by decide +kernel
theorem dX0_twoAt_0 : decode cX0_twoAt 0 = .ok (.aload_n 0, 1) := dk_42 (dk_at dksX0_twoAt_0 0 rfl rfl)
theorem dX0_twoAt_1 : decode cX0_twoAt 1 = .ok (.iload_n 1, 1) := dk_27 (dk_at dksX0_twoAt_0 1 rfl rfl)
theorem dX0_twoAt_2 : decode cX0_twoAt 2 = .ok (.invokevirtual 438, 3) := dk_182 1 182 (dk_at dksX0_twoAt_0 2 rfl rfl)
theorem dX0_twoAt_5 : decode cX0_twoAt 5 = .ok (.bipush 8, 2) := dk_16 8 (dk_at dksX0_twoAt_0 5 rfl rfl)
theorem dX0_twoAt_7 : decode cX0_twoAt 7 = .ok (.ishl, 1) := dk_120 (dk_at dksX0_twoAt_0 7 rfl rfl)
theorem dX0_twoAt_8 : decode cX0_twoAt 8 = .ok (.aload_n 0, 1) := dk_42 (dk_at dksX0_twoAt_0 8 rfl rfl)
theorem dX0_twoAt_9 : decode cX0_twoAt 9 = .ok (.iload_n 1, 1) := dk_27 (dk_at dksX0_twoAt_0 9 rfl rfl)
theorem dX0_twoAt_10 : decode cX0_twoAt 10 = .ok (.iconst 1, 1) := dk_4 (dk_at dksX0_twoAt_0 10 rfl rfl)
theorem dX0_twoAt_11 : decode cX0_twoAt 11 = .ok (.iadd, 1) := dk_96 (dk_at dksX0_twoAt_0 11 rfl rfl)
theorem dX0_twoAt_12 : decode cX0_twoAt 12 = .ok (.invokevirtual 438, 3) := dk_182 1 182 (dk_at dksX0_twoAt_0 12 rfl rfl)
theorem dX0_twoAt_15 : decode cX0_twoAt 15 = .ok (.ior, 1) := dk_128 (dk_at dksX0_twoAt_0 15 rfl rfl)
theorem dX0_twoAt_16 : decode cX0_twoAt 16 = .ok (.ireturn, 1) := dk_172 (dk_at dksX0_twoAt_0 16 rfl rfl)
abbrev cX0_arrived : ByteArray := prog_1_method_51_code
def yX0_arrived : MethodName := ⟨RX0, "arrived", "(I)I"⟩
def dkwX0_arrived_2 : List UInt8 := [21, 4, 172, 132, 3, 1, 132, 4, 1, 167, 255, 223, 27, 2, 160, 0, 7, 29, 167, 0, 4, 2, 172]
abbrev dktX0_arrived_2 : List UInt8 := dkwX0_arrived_2 ++ []
def dkwX0_arrived_1 : List UInt8 := [21, 4, 28, 162, 0, 33, 42, 180, 0, 129, 21, 4, 51, 154, 0, 6, 167, 0, 14, 29, 27, 160, 0, 6]
abbrev dktX0_arrived_1 : List UInt8 := dkwX0_arrived_1 ++ dktX0_arrived_2
def dkwX0_arrived_0 : List UInt8 := [42, 182, 1, 12, 153, 0, 8, 27, 2, 162, 0, 5, 2, 172, 42, 182, 1, 191, 61, 3, 62, 3, 54, 4]
abbrev dktX0_arrived_0 : List UInt8 := dkwX0_arrived_0 ++ dktX0_arrived_1
theorem dksX0_arrived_0 : cX0_arrived.data.toList.drop 0 = dktX0_arrived_0 := by decide +kernel
theorem dksX0_arrived_1 : cX0_arrived.data.toList.drop 24 = dktX0_arrived_1 := dk_seg dksX0_arrived_0 24 rfl rfl
theorem dksX0_arrived_2 : cX0_arrived.data.toList.drop 48 = dktX0_arrived_2 := dk_seg dksX0_arrived_1 24 rfl rfl
theorem dX0_arrived_0 : decode cX0_arrived 0 = .ok (.aload_n 0, 1) := dk_42 (dk_at dksX0_arrived_0 0 rfl rfl)
theorem dX0_arrived_1 : decode cX0_arrived 1 = .ok (.invokevirtual 268, 3) := dk_182 1 12 (dk_at dksX0_arrived_0 1 rfl rfl)
theorem dX0_arrived_4 : decode cX0_arrived 4 = .ok (.ifCond .eq 8, 3) := dk_153 0 8 (dk_at dksX0_arrived_0 4 rfl rfl)
theorem dX0_arrived_7 : decode cX0_arrived 7 = .ok (.iload_n 1, 1) := dk_27 (dk_at dksX0_arrived_0 7 rfl rfl)
theorem dX0_arrived_8 : decode cX0_arrived 8 = .ok (.iconst (-1), 1) := dk_2 (dk_at dksX0_arrived_0 8 rfl rfl)
theorem dX0_arrived_9 : decode cX0_arrived 9 = .ok (.if_icmp .ge 5, 3) := dk_162 0 5 (dk_at dksX0_arrived_0 9 rfl rfl)
theorem dX0_arrived_12 : decode cX0_arrived 12 = .ok (.iconst (-1), 1) := dk_2 (dk_at dksX0_arrived_0 12 rfl rfl)
theorem dX0_arrived_13 : decode cX0_arrived 13 = .ok (.ireturn, 1) := dk_172 (dk_at dksX0_arrived_0 13 rfl rfl)
theorem dX0_arrived_14 : decode cX0_arrived 14 = .ok (.aload_n 0, 1) := dk_42 (dk_at dksX0_arrived_0 14 rfl rfl)
theorem dX0_arrived_15 : decode cX0_arrived 15 = .ok (.invokevirtual 447, 3) := dk_182 1 191 (dk_at dksX0_arrived_0 15 rfl rfl)
theorem dX0_arrived_18 : decode cX0_arrived 18 = .ok (.istore_n 2, 1) := dk_61 (dk_at dksX0_arrived_0 18 rfl rfl)
theorem dX0_arrived_19 : decode cX0_arrived 19 = .ok (.iconst 0, 1) := dk_3 (dk_at dksX0_arrived_0 19 rfl rfl)
theorem dX0_arrived_20 : decode cX0_arrived 20 = .ok (.istore_n 3, 1) := dk_62 (dk_at dksX0_arrived_0 20 rfl rfl)
theorem dX0_arrived_21 : decode cX0_arrived 21 = .ok (.iconst 0, 1) := dk_3 (dk_at dksX0_arrived_0 21 rfl rfl)
theorem dX0_arrived_22 : decode cX0_arrived 22 = .ok (.istore 4, 2) := dk_54 4 (dk_at dksX0_arrived_0 22 rfl rfl)
theorem dX0_arrived_24 : decode cX0_arrived 24 = .ok (.iload 4, 2) := dk_21 4 (dk_at dksX0_arrived_1 0 rfl rfl)
theorem dX0_arrived_26 : decode cX0_arrived 26 = .ok (.iload_n 2, 1) := dk_28 (dk_at dksX0_arrived_1 2 rfl rfl)
theorem dX0_arrived_27 : decode cX0_arrived 27 = .ok (.if_icmp .ge 33, 3) := dk_162 0 33 (dk_at dksX0_arrived_1 3 rfl rfl)
theorem dX0_arrived_30 : decode cX0_arrived 30 = .ok (.aload_n 0, 1) := dk_42 (dk_at dksX0_arrived_1 6 rfl rfl)
theorem dX0_arrived_31 : decode cX0_arrived 31 = .ok (.getfield 129, 3) := dk_180 0 129 (dk_at dksX0_arrived_1 7 rfl rfl)
theorem dX0_arrived_34 : decode cX0_arrived 34 = .ok (.iload 4, 2) := dk_21 4 (dk_at dksX0_arrived_1 10 rfl rfl)
theorem dX0_arrived_36 : decode cX0_arrived 36 = .ok (.baload, 1) := dk_51 (dk_at dksX0_arrived_1 12 rfl rfl)
theorem dX0_arrived_37 : decode cX0_arrived 37 = .ok (.ifCond .ne 6, 3) := dk_154 0 6 (dk_at dksX0_arrived_1 13 rfl rfl)
theorem dX0_arrived_40 : decode cX0_arrived 40 = .ok (.goto 14, 3) := dk_167 0 14 (dk_at dksX0_arrived_1 16 rfl rfl)
theorem dX0_arrived_43 : decode cX0_arrived 43 = .ok (.iload_n 3, 1) := dk_29 (dk_at dksX0_arrived_1 19 rfl rfl)
theorem dX0_arrived_44 : decode cX0_arrived 44 = .ok (.iload_n 1, 1) := dk_27 (dk_at dksX0_arrived_1 20 rfl rfl)
theorem dX0_arrived_45 : decode cX0_arrived 45 = .ok (.if_icmp .ne 6, 3) := dk_160 0 6 (dk_at dksX0_arrived_1 21 rfl rfl)
theorem dX0_arrived_48 : decode cX0_arrived 48 = .ok (.iload 4, 2) := dk_21 4 (dk_at dksX0_arrived_2 0 rfl rfl)
theorem dX0_arrived_50 : decode cX0_arrived 50 = .ok (.ireturn, 1) := dk_172 (dk_at dksX0_arrived_2 2 rfl rfl)
theorem dX0_arrived_51 : decode cX0_arrived 51 = .ok (.iinc 3 1, 3) := dk_132 3 1 (dk_at dksX0_arrived_2 3 rfl rfl)
theorem dX0_arrived_54 : decode cX0_arrived 54 = .ok (.iinc 4 1, 3) := dk_132 4 1 (dk_at dksX0_arrived_2 6 rfl rfl)
theorem dX0_arrived_57 : decode cX0_arrived 57 = .ok (.goto (-33), 3) := dk_167 255 223 (dk_at dksX0_arrived_2 9 rfl rfl)
theorem dX0_arrived_60 : decode cX0_arrived 60 = .ok (.iload_n 1, 1) := dk_27 (dk_at dksX0_arrived_2 12 rfl rfl)
theorem dX0_arrived_61 : decode cX0_arrived 61 = .ok (.iconst (-1), 1) := dk_2 (dk_at dksX0_arrived_2 13 rfl rfl)
theorem dX0_arrived_62 : decode cX0_arrived 62 = .ok (.if_icmp .ne 7, 3) := dk_160 0 7 (dk_at dksX0_arrived_2 14 rfl rfl)
theorem dX0_arrived_65 : decode cX0_arrived 65 = .ok (.iload_n 3, 1) := dk_29 (dk_at dksX0_arrived_2 17 rfl rfl)
theorem dX0_arrived_66 : decode cX0_arrived 66 = .ok (.goto 4, 3) := dk_167 0 4 (dk_at dksX0_arrived_2 18 rfl rfl)
theorem dX0_arrived_69 : decode cX0_arrived 69 = .ok (.iconst (-1), 1) := dk_2 (dk_at dksX0_arrived_2 21 rfl rfl)
theorem dX0_arrived_70 : decode cX0_arrived 70 = .ok (.ireturn, 1) := dk_172 (dk_at dksX0_arrived_2 22 rfl rfl)
abbrev cX0_tables : ByteArray := prog_1_method_50_code
def yX0_tables : MethodName := ⟨RX0, "tables", "()I"⟩
def dkwX0_tables_5 : List UInt8 := [132, 2, 1, 167, 255, 140, 42, 180, 0, 111, 180, 1, 31, 4, 96, 172]
abbrev dktX0_tables_5 : List UInt8 := dkwX0_tables_5 ++ []
def dkwX0_tables_4 : List UInt8 := [46, 46, 42, 180, 0, 121, 29, 46, 160, 0, 7, 4, 167, 0, 4, 3, 126, 84, 132, 3, 1, 167, 255, 211]
abbrev dktX0_tables_4 : List UInt8 := dkwX0_tables_4 ++ dktX0_tables_5
def dkwX0_tables_3 : List UInt8 := [29, 42, 180, 0, 227, 162, 0, 43, 42, 180, 0, 129, 28, 92, 51, 43, 180, 1, 188, 42, 180, 0, 118, 29]
abbrev dktX0_tables_3 : List UInt8 := dkwX0_tables_3 ++ dktX0_tables_4
def dkwX0_tables_2 : List UInt8 := [50, 29, 43, 180, 1, 188, 29, 46, 79, 132, 3, 1, 167, 255, 233, 42, 180, 0, 129, 28, 4, 84, 3, 62]
abbrev dktX0_tables_2 : List UInt8 := dkwX0_tables_2 ++ dktX0_tables_3
def dkwX0_tables_1 : List UInt8 := [182, 1, 160, 42, 180, 0, 111, 182, 1, 164, 87, 3, 62, 29, 16, 16, 162, 0, 23, 42, 180, 0, 126, 28]
abbrev dktX0_tables_1 : List UInt8 := dkwX0_tables_1 ++ dktX0_tables_2
def dkwX0_tables_0 : List UInt8 := [42, 180, 0, 101, 76, 3, 61, 28, 42, 180, 0, 111, 180, 1, 31, 163, 0, 111, 43, 42, 180, 0, 111, 28]
abbrev dktX0_tables_0 : List UInt8 := dkwX0_tables_0 ++ dktX0_tables_1
theorem dksX0_tables_0 : cX0_tables.data.toList.drop 0 = dktX0_tables_0 := by decide +kernel
theorem dksX0_tables_1 : cX0_tables.data.toList.drop 24 = dktX0_tables_1 := dk_seg dksX0_tables_0 24 rfl rfl
theorem dksX0_tables_2 : cX0_tables.data.toList.drop 48 = dktX0_tables_2 := dk_seg dksX0_tables_1 24 rfl rfl
theorem dksX0_tables_3 : cX0_tables.data.toList.drop 72 = dktX0_tables_3 := dk_seg dksX0_tables_2 24 rfl rfl
theorem dksX0_tables_4 : cX0_tables.data.toList.drop 96 = dktX0_tables_4 := dk_seg dksX0_tables_3 24 rfl rfl
theorem dksX0_tables_5 : cX0_tables.data.toList.drop 120 = dktX0_tables_5 := dk_seg dksX0_tables_4 24 rfl rfl
theorem dX0_tables_0 : decode cX0_tables 0 = .ok (.aload_n 0, 1) := dk_42 (dk_at dksX0_tables_0 0 rfl rfl)
theorem dX0_tables_1 : decode cX0_tables 1 = .ok (.getfield 101, 3) := dk_180 0 101 (dk_at dksX0_tables_0 1 rfl rfl)
theorem dX0_tables_4 : decode cX0_tables 4 = .ok (.astore_n 1, 1) := dk_76 (dk_at dksX0_tables_0 4 rfl rfl)
theorem dX0_tables_5 : decode cX0_tables 5 = .ok (.iconst 0, 1) := dk_3 (dk_at dksX0_tables_0 5 rfl rfl)
theorem dX0_tables_6 : decode cX0_tables 6 = .ok (.istore_n 2, 1) := dk_61 (dk_at dksX0_tables_0 6 rfl rfl)
theorem dX0_tables_7 : decode cX0_tables 7 = .ok (.iload_n 2, 1) := dk_28 (dk_at dksX0_tables_0 7 rfl rfl)
theorem dX0_tables_8 : decode cX0_tables 8 = .ok (.aload_n 0, 1) := dk_42 (dk_at dksX0_tables_0 8 rfl rfl)
theorem dX0_tables_9 : decode cX0_tables 9 = .ok (.getfield 111, 3) := dk_180 0 111 (dk_at dksX0_tables_0 9 rfl rfl)
theorem dX0_tables_12 : decode cX0_tables 12 = .ok (.getfield 287, 3) := dk_180 1 31 (dk_at dksX0_tables_0 12 rfl rfl)
theorem dX0_tables_15 : decode cX0_tables 15 = .ok (.if_icmp .gt 111, 3) := dk_163 0 111 (dk_at dksX0_tables_0 15 rfl rfl)
theorem dX0_tables_18 : decode cX0_tables 18 = .ok (.aload_n 1, 1) := dk_43 (dk_at dksX0_tables_0 18 rfl rfl)
theorem dX0_tables_19 : decode cX0_tables 19 = .ok (.aload_n 0, 1) := dk_42 (dk_at dksX0_tables_0 19 rfl rfl)
theorem dX0_tables_20 : decode cX0_tables 20 = .ok (.getfield 111, 3) := dk_180 0 111 (dk_at dksX0_tables_0 20 rfl rfl)
theorem dX0_tables_23 : decode cX0_tables 23 = .ok (.iload_n 2, 1) := dk_28 (dk_at dksX0_tables_0 23 rfl rfl)
theorem dX0_tables_24 : decode cX0_tables 24 = .ok (.invokevirtual 416, 3) := dk_182 1 160 (dk_at dksX0_tables_1 0 rfl rfl)
theorem dX0_tables_27 : decode cX0_tables 27 = .ok (.aload_n 0, 1) := dk_42 (dk_at dksX0_tables_1 3 rfl rfl)
theorem dX0_tables_28 : decode cX0_tables 28 = .ok (.getfield 111, 3) := dk_180 0 111 (dk_at dksX0_tables_1 4 rfl rfl)
theorem dX0_tables_31 : decode cX0_tables 31 = .ok (.invokevirtual 420, 3) := dk_182 1 164 (dk_at dksX0_tables_1 7 rfl rfl)
theorem dX0_tables_34 : decode cX0_tables 34 = .ok (.pop, 1) := dk_87 (dk_at dksX0_tables_1 10 rfl rfl)
theorem dX0_tables_35 : decode cX0_tables 35 = .ok (.iconst 0, 1) := dk_3 (dk_at dksX0_tables_1 11 rfl rfl)
theorem dX0_tables_36 : decode cX0_tables 36 = .ok (.istore_n 3, 1) := dk_62 (dk_at dksX0_tables_1 12 rfl rfl)
theorem dX0_tables_37 : decode cX0_tables 37 = .ok (.iload_n 3, 1) := dk_29 (dk_at dksX0_tables_1 13 rfl rfl)
theorem dX0_tables_38 : decode cX0_tables 38 = .ok (.bipush 16, 2) := dk_16 16 (dk_at dksX0_tables_1 14 rfl rfl)
theorem dX0_tables_40 : decode cX0_tables 40 = .ok (.if_icmp .ge 23, 3) := dk_162 0 23 (dk_at dksX0_tables_1 16 rfl rfl)
theorem dX0_tables_43 : decode cX0_tables 43 = .ok (.aload_n 0, 1) := dk_42 (dk_at dksX0_tables_1 19 rfl rfl)
theorem dX0_tables_44 : decode cX0_tables 44 = .ok (.getfield 126, 3) := dk_180 0 126 (dk_at dksX0_tables_1 20 rfl rfl)
theorem dX0_tables_47 : decode cX0_tables 47 = .ok (.iload_n 2, 1) := dk_28 (dk_at dksX0_tables_1 23 rfl rfl)
theorem dX0_tables_48 : decode cX0_tables 48 = .ok (.aaload, 1) := dk_50 (dk_at dksX0_tables_2 0 rfl rfl)
theorem dX0_tables_49 : decode cX0_tables 49 = .ok (.iload_n 3, 1) := dk_29 (dk_at dksX0_tables_2 1 rfl rfl)
theorem dX0_tables_50 : decode cX0_tables 50 = .ok (.aload_n 1, 1) := dk_43 (dk_at dksX0_tables_2 2 rfl rfl)
theorem dX0_tables_51 : decode cX0_tables 51 = .ok (.getfield 444, 3) := dk_180 1 188 (dk_at dksX0_tables_2 3 rfl rfl)
theorem dX0_tables_54 : decode cX0_tables 54 = .ok (.iload_n 3, 1) := dk_29 (dk_at dksX0_tables_2 6 rfl rfl)
theorem dX0_tables_55 : decode cX0_tables 55 = .ok (.iaload, 1) := dk_46 (dk_at dksX0_tables_2 7 rfl rfl)
theorem dX0_tables_56 : decode cX0_tables 56 = .ok (.iastore, 1) := dk_79 (dk_at dksX0_tables_2 8 rfl rfl)
theorem dX0_tables_57 : decode cX0_tables 57 = .ok (.iinc 3 1, 3) := dk_132 3 1 (dk_at dksX0_tables_2 9 rfl rfl)
theorem dX0_tables_60 : decode cX0_tables 60 = .ok (.goto (-23), 3) := dk_167 255 233 (dk_at dksX0_tables_2 12 rfl rfl)
theorem dX0_tables_63 : decode cX0_tables 63 = .ok (.aload_n 0, 1) := dk_42 (dk_at dksX0_tables_2 15 rfl rfl)
theorem dX0_tables_64 : decode cX0_tables 64 = .ok (.getfield 129, 3) := dk_180 0 129 (dk_at dksX0_tables_2 16 rfl rfl)
theorem dX0_tables_67 : decode cX0_tables 67 = .ok (.iload_n 2, 1) := dk_28 (dk_at dksX0_tables_2 19 rfl rfl)
theorem dX0_tables_68 : decode cX0_tables 68 = .ok (.iconst 1, 1) := dk_4 (dk_at dksX0_tables_2 20 rfl rfl)
theorem dX0_tables_69 : decode cX0_tables 69 = .ok (.bastore, 1) := dk_84 (dk_at dksX0_tables_2 21 rfl rfl)
theorem dX0_tables_70 : decode cX0_tables 70 = .ok (.iconst 0, 1) := dk_3 (dk_at dksX0_tables_2 22 rfl rfl)
theorem dX0_tables_71 : decode cX0_tables 71 = .ok (.istore_n 3, 1) := dk_62 (dk_at dksX0_tables_2 23 rfl rfl)
theorem dX0_tables_72 : decode cX0_tables 72 = .ok (.iload_n 3, 1) := dk_29 (dk_at dksX0_tables_3 0 rfl rfl)
theorem dX0_tables_73 : decode cX0_tables 73 = .ok (.aload_n 0, 1) := dk_42 (dk_at dksX0_tables_3 1 rfl rfl)
theorem dX0_tables_74 : decode cX0_tables 74 = .ok (.getfield 227, 3) := dk_180 0 227 (dk_at dksX0_tables_3 2 rfl rfl)
theorem dX0_tables_77 : decode cX0_tables 77 = .ok (.if_icmp .ge 43, 3) := dk_162 0 43 (dk_at dksX0_tables_3 5 rfl rfl)
theorem dX0_tables_80 : decode cX0_tables 80 = .ok (.aload_n 0, 1) := dk_42 (dk_at dksX0_tables_3 8 rfl rfl)
theorem dX0_tables_81 : decode cX0_tables 81 = .ok (.getfield 129, 3) := dk_180 0 129 (dk_at dksX0_tables_3 9 rfl rfl)
theorem dX0_tables_84 : decode cX0_tables 84 = .ok (.iload_n 2, 1) := dk_28 (dk_at dksX0_tables_3 12 rfl rfl)
theorem dX0_tables_85 : decode cX0_tables 85 = .ok (.dup2, 1) := dk_92 (dk_at dksX0_tables_3 13 rfl rfl)
theorem dX0_tables_86 : decode cX0_tables 86 = .ok (.baload, 1) := dk_51 (dk_at dksX0_tables_3 14 rfl rfl)
theorem dX0_tables_87 : decode cX0_tables 87 = .ok (.aload_n 1, 1) := dk_43 (dk_at dksX0_tables_3 15 rfl rfl)
theorem dX0_tables_88 : decode cX0_tables 88 = .ok (.getfield 444, 3) := dk_180 1 188 (dk_at dksX0_tables_3 16 rfl rfl)
theorem dX0_tables_91 : decode cX0_tables 91 = .ok (.aload_n 0, 1) := dk_42 (dk_at dksX0_tables_3 19 rfl rfl)
theorem dX0_tables_92 : decode cX0_tables 92 = .ok (.getfield 118, 3) := dk_180 0 118 (dk_at dksX0_tables_3 20 rfl rfl)
theorem dX0_tables_95 : decode cX0_tables 95 = .ok (.iload_n 3, 1) := dk_29 (dk_at dksX0_tables_3 23 rfl rfl)
theorem dX0_tables_96 : decode cX0_tables 96 = .ok (.iaload, 1) := dk_46 (dk_at dksX0_tables_4 0 rfl rfl)
theorem dX0_tables_97 : decode cX0_tables 97 = .ok (.iaload, 1) := dk_46 (dk_at dksX0_tables_4 1 rfl rfl)
theorem dX0_tables_98 : decode cX0_tables 98 = .ok (.aload_n 0, 1) := dk_42 (dk_at dksX0_tables_4 2 rfl rfl)
theorem dX0_tables_99 : decode cX0_tables 99 = .ok (.getfield 121, 3) := dk_180 0 121 (dk_at dksX0_tables_4 3 rfl rfl)
theorem dX0_tables_102 : decode cX0_tables 102 = .ok (.iload_n 3, 1) := dk_29 (dk_at dksX0_tables_4 6 rfl rfl)
theorem dX0_tables_103 : decode cX0_tables 103 = .ok (.iaload, 1) := dk_46 (dk_at dksX0_tables_4 7 rfl rfl)
theorem dX0_tables_104 : decode cX0_tables 104 = .ok (.if_icmp .ne 7, 3) := dk_160 0 7 (dk_at dksX0_tables_4 8 rfl rfl)
theorem dX0_tables_107 : decode cX0_tables 107 = .ok (.iconst 1, 1) := dk_4 (dk_at dksX0_tables_4 11 rfl rfl)
theorem dX0_tables_108 : decode cX0_tables 108 = .ok (.goto 4, 3) := dk_167 0 4 (dk_at dksX0_tables_4 12 rfl rfl)
theorem dX0_tables_111 : decode cX0_tables 111 = .ok (.iconst 0, 1) := dk_3 (dk_at dksX0_tables_4 15 rfl rfl)
theorem dX0_tables_112 : decode cX0_tables 112 = .ok (.iand, 1) := dk_126 (dk_at dksX0_tables_4 16 rfl rfl)
theorem dX0_tables_113 : decode cX0_tables 113 = .ok (.bastore, 1) := dk_84 (dk_at dksX0_tables_4 17 rfl rfl)
theorem dX0_tables_114 : decode cX0_tables 114 = .ok (.iinc 3 1, 3) := dk_132 3 1 (dk_at dksX0_tables_4 18 rfl rfl)
theorem dX0_tables_117 : decode cX0_tables 117 = .ok (.goto (-45), 3) := dk_167 255 211 (dk_at dksX0_tables_4 21 rfl rfl)
theorem dX0_tables_120 : decode cX0_tables 120 = .ok (.iinc 2 1, 3) := dk_132 2 1 (dk_at dksX0_tables_5 0 rfl rfl)
theorem dX0_tables_123 : decode cX0_tables 123 = .ok (.goto (-116), 3) := dk_167 255 140 (dk_at dksX0_tables_5 3 rfl rfl)
theorem dX0_tables_126 : decode cX0_tables 126 = .ok (.aload_n 0, 1) := dk_42 (dk_at dksX0_tables_5 6 rfl rfl)
theorem dX0_tables_127 : decode cX0_tables 127 = .ok (.getfield 111, 3) := dk_180 0 111 (dk_at dksX0_tables_5 7 rfl rfl)
theorem dX0_tables_130 : decode cX0_tables 130 = .ok (.getfield 287, 3) := dk_180 1 31 (dk_at dksX0_tables_5 10 rfl rfl)
theorem dX0_tables_133 : decode cX0_tables 133 = .ok (.iconst 1, 1) := dk_4 (dk_at dksX0_tables_5 13 rfl rfl)
theorem dX0_tables_134 : decode cX0_tables 134 = .ok (.iadd, 1) := dk_96 (dk_at dksX0_tables_5 14 rfl rfl)
theorem dX0_tables_135 : decode cX0_tables 135 = .ok (.ireturn, 1) := dk_172 (dk_at dksX0_tables_5 15 rfl rfl)
abbrev cX0_tells : ByteArray := prog_1_method_53_code
def yX0_tells : MethodName := ⟨RX0, "tells", "(I)I"⟩
def dkwX0_tells_3 : List UInt8 := [132, 5, 1, 167, 255, 215, 29, 2, 159, 0, 7, 27, 154, 0, 7, 29, 167, 0, 5, 21, 4, 172]
abbrev dktX0_tells_3 : List UInt8 := dkwX0_tells_3 ++ []
def dkwX0_tells_2 : List UInt8 := [54, 6, 21, 6, 153, 0, 20, 21, 6, 21, 4, 161, 0, 6, 167, 0, 10, 21, 6, 54, 4, 21, 5, 62]
abbrev dktX0_tells_2 : List UInt8 := dkwX0_tells_2 ++ dktX0_tells_3
def dkwX0_tells_1 : List UInt8 := [62, 19, 1, 144, 54, 4, 3, 54, 5, 21, 5, 16, 16, 162, 0, 40, 42, 28, 21, 5, 182, 1, 193]
abbrev dktX0_tells_1 : List UInt8 := dkwX0_tells_1 ++ dktX0_tells_2
def dkwX0_tells_0 : List UInt8 := [42, 182, 1, 12, 153, 0, 12, 27, 3, 4, 184, 1, 16, 154, 0, 5, 2, 172, 42, 182, 1, 191, 61, 2]
abbrev dktX0_tells_0 : List UInt8 := dkwX0_tells_0 ++ dktX0_tells_1
theorem dksX0_tells_0 : cX0_tells.data.toList.drop 0 = dktX0_tells_0 := by decide +kernel
theorem dksX0_tells_1 : cX0_tells.data.toList.drop 24 = dktX0_tells_1 := dk_seg dksX0_tells_0 24 rfl rfl
theorem dksX0_tells_2 : cX0_tells.data.toList.drop 47 = dktX0_tells_2 := dk_seg dksX0_tells_1 23 rfl rfl
theorem dksX0_tells_3 : cX0_tells.data.toList.drop 71 = dktX0_tells_3 := dk_seg dksX0_tells_2 24 rfl rfl
theorem dX0_tells_0 : decode cX0_tells 0 = .ok (.aload_n 0, 1) := dk_42 (dk_at dksX0_tells_0 0 rfl rfl)
theorem dX0_tells_1 : decode cX0_tells 1 = .ok (.invokevirtual 268, 3) := dk_182 1 12 (dk_at dksX0_tells_0 1 rfl rfl)
theorem dX0_tells_4 : decode cX0_tells 4 = .ok (.ifCond .eq 12, 3) := dk_153 0 12 (dk_at dksX0_tells_0 4 rfl rfl)
theorem dX0_tells_7 : decode cX0_tells 7 = .ok (.iload_n 1, 1) := dk_27 (dk_at dksX0_tells_0 7 rfl rfl)
theorem dX0_tells_8 : decode cX0_tells 8 = .ok (.iconst 0, 1) := dk_3 (dk_at dksX0_tells_0 8 rfl rfl)
theorem dX0_tells_9 : decode cX0_tells 9 = .ok (.iconst 1, 1) := dk_4 (dk_at dksX0_tells_0 9 rfl rfl)
theorem dX0_tells_10 : decode cX0_tells 10 = .ok (.invokestatic 272, 3) := dk_184 1 16 (dk_at dksX0_tells_0 10 rfl rfl)
theorem dX0_tells_13 : decode cX0_tells 13 = .ok (.ifCond .ne 5, 3) := dk_154 0 5 (dk_at dksX0_tells_0 13 rfl rfl)
theorem dX0_tells_16 : decode cX0_tells 16 = .ok (.iconst (-1), 1) := dk_2 (dk_at dksX0_tells_0 16 rfl rfl)
theorem dX0_tells_17 : decode cX0_tells 17 = .ok (.ireturn, 1) := dk_172 (dk_at dksX0_tells_0 17 rfl rfl)
theorem dX0_tells_18 : decode cX0_tells 18 = .ok (.aload_n 0, 1) := dk_42 (dk_at dksX0_tells_0 18 rfl rfl)
theorem dX0_tells_19 : decode cX0_tells 19 = .ok (.invokevirtual 447, 3) := dk_182 1 191 (dk_at dksX0_tells_0 19 rfl rfl)
theorem dX0_tells_22 : decode cX0_tells 22 = .ok (.istore_n 2, 1) := dk_61 (dk_at dksX0_tells_0 22 rfl rfl)
theorem dX0_tells_23 : decode cX0_tells 23 = .ok (.iconst (-1), 1) := dk_2 (dk_at dksX0_tells_0 23 rfl rfl)
theorem dX0_tells_24 : decode cX0_tells 24 = .ok (.istore_n 3, 1) := dk_62 (dk_at dksX0_tells_1 0 rfl rfl)
theorem dX0_tells_25 : decode cX0_tells 25 = .ok (.ldc_w 400, 3) := dk_19 1 144 (dk_at dksX0_tells_1 1 rfl rfl)
theorem dX0_tells_28 : decode cX0_tells 28 = .ok (.istore 4, 2) := dk_54 4 (dk_at dksX0_tells_1 4 rfl rfl)
theorem dX0_tells_30 : decode cX0_tells 30 = .ok (.iconst 0, 1) := dk_3 (dk_at dksX0_tells_1 6 rfl rfl)
theorem dX0_tells_31 : decode cX0_tells 31 = .ok (.istore 5, 2) := dk_54 5 (dk_at dksX0_tells_1 7 rfl rfl)
theorem dX0_tells_33 : decode cX0_tells 33 = .ok (.iload 5, 2) := dk_21 5 (dk_at dksX0_tells_1 9 rfl rfl)
theorem dX0_tells_35 : decode cX0_tells 35 = .ok (.bipush 16, 2) := dk_16 16 (dk_at dksX0_tells_1 11 rfl rfl)
theorem dX0_tells_37 : decode cX0_tells 37 = .ok (.if_icmp .ge 40, 3) := dk_162 0 40 (dk_at dksX0_tells_1 13 rfl rfl)
theorem dX0_tells_40 : decode cX0_tells 40 = .ok (.aload_n 0, 1) := dk_42 (dk_at dksX0_tells_1 16 rfl rfl)
theorem dX0_tells_41 : decode cX0_tells 41 = .ok (.iload_n 2, 1) := dk_28 (dk_at dksX0_tells_1 17 rfl rfl)
theorem dX0_tells_42 : decode cX0_tells 42 = .ok (.iload 5, 2) := dk_21 5 (dk_at dksX0_tells_1 18 rfl rfl)
theorem dX0_tells_44 : decode cX0_tells 44 = .ok (.invokevirtual 449, 3) := dk_182 1 193 (dk_at dksX0_tells_1 20 rfl rfl)
theorem dX0_tells_47 : decode cX0_tells 47 = .ok (.istore 6, 2) := dk_54 6 (dk_at dksX0_tells_2 0 rfl rfl)
theorem dX0_tells_49 : decode cX0_tells 49 = .ok (.iload 6, 2) := dk_21 6 (dk_at dksX0_tells_2 2 rfl rfl)
theorem dX0_tells_51 : decode cX0_tells 51 = .ok (.ifCond .eq 20, 3) := dk_153 0 20 (dk_at dksX0_tells_2 4 rfl rfl)
theorem dX0_tells_54 : decode cX0_tells 54 = .ok (.iload 6, 2) := dk_21 6 (dk_at dksX0_tells_2 7 rfl rfl)
theorem dX0_tells_56 : decode cX0_tells 56 = .ok (.iload 4, 2) := dk_21 4 (dk_at dksX0_tells_2 9 rfl rfl)
theorem dX0_tells_58 : decode cX0_tells 58 = .ok (.if_icmp .lt 6, 3) := dk_161 0 6 (dk_at dksX0_tells_2 11 rfl rfl)
theorem dX0_tells_61 : decode cX0_tells 61 = .ok (.goto 10, 3) := dk_167 0 10 (dk_at dksX0_tells_2 14 rfl rfl)
theorem dX0_tells_64 : decode cX0_tells 64 = .ok (.iload 6, 2) := dk_21 6 (dk_at dksX0_tells_2 17 rfl rfl)
theorem dX0_tells_66 : decode cX0_tells 66 = .ok (.istore 4, 2) := dk_54 4 (dk_at dksX0_tells_2 19 rfl rfl)
theorem dX0_tells_68 : decode cX0_tells 68 = .ok (.iload 5, 2) := dk_21 5 (dk_at dksX0_tells_2 21 rfl rfl)
theorem dX0_tells_70 : decode cX0_tells 70 = .ok (.istore_n 3, 1) := dk_62 (dk_at dksX0_tells_2 23 rfl rfl)
theorem dX0_tells_71 : decode cX0_tells 71 = .ok (.iinc 5 1, 3) := dk_132 5 1 (dk_at dksX0_tells_3 0 rfl rfl)
theorem dX0_tells_74 : decode cX0_tells 74 = .ok (.goto (-41), 3) := dk_167 255 215 (dk_at dksX0_tells_3 3 rfl rfl)
theorem dX0_tells_77 : decode cX0_tells 77 = .ok (.iload_n 3, 1) := dk_29 (dk_at dksX0_tells_3 6 rfl rfl)
theorem dX0_tells_78 : decode cX0_tells 78 = .ok (.iconst (-1), 1) := dk_2 (dk_at dksX0_tells_3 7 rfl rfl)
theorem dX0_tells_79 : decode cX0_tells 79 = .ok (.if_icmp .eq 7, 3) := dk_159 0 7 (dk_at dksX0_tells_3 8 rfl rfl)
theorem dX0_tells_82 : decode cX0_tells 82 = .ok (.iload_n 1, 1) := dk_27 (dk_at dksX0_tells_3 11 rfl rfl)
theorem dX0_tells_83 : decode cX0_tells 83 = .ok (.ifCond .ne 7, 3) := dk_154 0 7 (dk_at dksX0_tells_3 12 rfl rfl)
theorem dX0_tells_86 : decode cX0_tells 86 = .ok (.iload_n 3, 1) := dk_29 (dk_at dksX0_tells_3 15 rfl rfl)
theorem dX0_tells_87 : decode cX0_tells 87 = .ok (.goto 5, 3) := dk_167 0 5 (dk_at dksX0_tells_3 16 rfl rfl)
theorem dX0_tells_90 : decode cX0_tells 90 = .ok (.iload 4, 2) := dk_21 4 (dk_at dksX0_tells_3 19 rfl rfl)
theorem dX0_tells_92 : decode cX0_tells 92 = .ok (.ireturn, 1) := dk_172 (dk_at dksX0_tells_3 21 rfl rfl)
abbrev cX0_mostBy : ByteArray := prog_1_method_52_code
def yX0_mostBy : MethodName := ⟨RX0, "mostBy", "(II)I"⟩
def dkwX0_mostBy_4 : List UInt8 := [167, 255, 230, 29, 172]
abbrev dktX0_mostBy_4 : List UInt8 := dkwX0_mostBy_4 ++ []
def dkwX0_mostBy_3 : List UInt8 := [162, 0, 26, 42, 180, 0, 133, 42, 180, 0, 126, 21, 4, 50, 28, 46, 4, 96, 3, 79, 132, 4, 1]
abbrev dktX0_mostBy_3 : List UInt8 := dkwX0_mostBy_3 ++ dktX0_mostBy_4
def dkwX0_mostBy_2 : List UInt8 := [29, 42, 180, 0, 133, 21, 5, 46, 184, 1, 173, 62, 132, 4, 1, 167, 255, 198, 3, 54, 4, 21, 4, 27]
abbrev dktX0_mostBy_2 : List UInt8 := dkwX0_mostBy_2 ++ dktX0_mostBy_3
def dkwX0_mostBy_1 : List UInt8 := [42, 180, 0, 126, 21, 4, 50, 28, 46, 4, 96, 54, 5, 42, 180, 0, 133, 21, 5, 92, 46, 4, 96, 79]
abbrev dktX0_mostBy_1 : List UInt8 := dkwX0_mostBy_1 ++ dktX0_mostBy_2
def dkwX0_mostBy_0 : List UInt8 := [3, 62, 3, 54, 4, 21, 4, 27, 162, 0, 58, 42, 180, 0, 129, 21, 4, 51, 154, 0, 6, 167, 0, 39]
abbrev dktX0_mostBy_0 : List UInt8 := dkwX0_mostBy_0 ++ dktX0_mostBy_1
theorem dksX0_mostBy_0 : cX0_mostBy.data.toList.drop 0 = dktX0_mostBy_0 := by decide +kernel
theorem dksX0_mostBy_1 : cX0_mostBy.data.toList.drop 24 = dktX0_mostBy_1 := dk_seg dksX0_mostBy_0 24 rfl rfl
theorem dksX0_mostBy_2 : cX0_mostBy.data.toList.drop 48 = dktX0_mostBy_2 := dk_seg dksX0_mostBy_1 24 rfl rfl
theorem dksX0_mostBy_3 : cX0_mostBy.data.toList.drop 72 = dktX0_mostBy_3 := dk_seg dksX0_mostBy_2 24 rfl rfl
theorem dksX0_mostBy_4 : cX0_mostBy.data.toList.drop 95 = dktX0_mostBy_4 := dk_seg dksX0_mostBy_3 23 rfl rfl
theorem dX0_mostBy_0 : decode cX0_mostBy 0 = .ok (.iconst 0, 1) := dk_3 (dk_at dksX0_mostBy_0 0 rfl rfl)
theorem dX0_mostBy_1 : decode cX0_mostBy 1 = .ok (.istore_n 3, 1) := dk_62 (dk_at dksX0_mostBy_0 1 rfl rfl)
theorem dX0_mostBy_2 : decode cX0_mostBy 2 = .ok (.iconst 0, 1) := dk_3 (dk_at dksX0_mostBy_0 2 rfl rfl)
theorem dX0_mostBy_3 : decode cX0_mostBy 3 = .ok (.istore 4, 2) := dk_54 4 (dk_at dksX0_mostBy_0 3 rfl rfl)
theorem dX0_mostBy_5 : decode cX0_mostBy 5 = .ok (.iload 4, 2) := dk_21 4 (dk_at dksX0_mostBy_0 5 rfl rfl)
theorem dX0_mostBy_7 : decode cX0_mostBy 7 = .ok (.iload_n 1, 1) := dk_27 (dk_at dksX0_mostBy_0 7 rfl rfl)
theorem dX0_mostBy_8 : decode cX0_mostBy 8 = .ok (.if_icmp .ge 58, 3) := dk_162 0 58 (dk_at dksX0_mostBy_0 8 rfl rfl)
theorem dX0_mostBy_11 : decode cX0_mostBy 11 = .ok (.aload_n 0, 1) := dk_42 (dk_at dksX0_mostBy_0 11 rfl rfl)
theorem dX0_mostBy_12 : decode cX0_mostBy 12 = .ok (.getfield 129, 3) := dk_180 0 129 (dk_at dksX0_mostBy_0 12 rfl rfl)
theorem dX0_mostBy_15 : decode cX0_mostBy 15 = .ok (.iload 4, 2) := dk_21 4 (dk_at dksX0_mostBy_0 15 rfl rfl)
theorem dX0_mostBy_17 : decode cX0_mostBy 17 = .ok (.baload, 1) := dk_51 (dk_at dksX0_mostBy_0 17 rfl rfl)
theorem dX0_mostBy_18 : decode cX0_mostBy 18 = .ok (.ifCond .ne 6, 3) := dk_154 0 6 (dk_at dksX0_mostBy_0 18 rfl rfl)
theorem dX0_mostBy_21 : decode cX0_mostBy 21 = .ok (.goto 39, 3) := dk_167 0 39 (dk_at dksX0_mostBy_0 21 rfl rfl)
theorem dX0_mostBy_24 : decode cX0_mostBy 24 = .ok (.aload_n 0, 1) := dk_42 (dk_at dksX0_mostBy_1 0 rfl rfl)
theorem dX0_mostBy_25 : decode cX0_mostBy 25 = .ok (.getfield 126, 3) := dk_180 0 126 (dk_at dksX0_mostBy_1 1 rfl rfl)
theorem dX0_mostBy_28 : decode cX0_mostBy 28 = .ok (.iload 4, 2) := dk_21 4 (dk_at dksX0_mostBy_1 4 rfl rfl)
theorem dX0_mostBy_30 : decode cX0_mostBy 30 = .ok (.aaload, 1) := dk_50 (dk_at dksX0_mostBy_1 6 rfl rfl)
theorem dX0_mostBy_31 : decode cX0_mostBy 31 = .ok (.iload_n 2, 1) := dk_28 (dk_at dksX0_mostBy_1 7 rfl rfl)
theorem dX0_mostBy_32 : decode cX0_mostBy 32 = .ok (.iaload, 1) := dk_46 (dk_at dksX0_mostBy_1 8 rfl rfl)
theorem dX0_mostBy_33 : decode cX0_mostBy 33 = .ok (.iconst 1, 1) := dk_4 (dk_at dksX0_mostBy_1 9 rfl rfl)
theorem dX0_mostBy_34 : decode cX0_mostBy 34 = .ok (.iadd, 1) := dk_96 (dk_at dksX0_mostBy_1 10 rfl rfl)
theorem dX0_mostBy_35 : decode cX0_mostBy 35 = .ok (.istore 5, 2) := dk_54 5 (dk_at dksX0_mostBy_1 11 rfl rfl)
theorem dX0_mostBy_37 : decode cX0_mostBy 37 = .ok (.aload_n 0, 1) := dk_42 (dk_at dksX0_mostBy_1 13 rfl rfl)
theorem dX0_mostBy_38 : decode cX0_mostBy 38 = .ok (.getfield 133, 3) := dk_180 0 133 (dk_at dksX0_mostBy_1 14 rfl rfl)
theorem dX0_mostBy_41 : decode cX0_mostBy 41 = .ok (.iload 5, 2) := dk_21 5 (dk_at dksX0_mostBy_1 17 rfl rfl)
theorem dX0_mostBy_43 : decode cX0_mostBy 43 = .ok (.dup2, 1) := dk_92 (dk_at dksX0_mostBy_1 19 rfl rfl)
theorem dX0_mostBy_44 : decode cX0_mostBy 44 = .ok (.iaload, 1) := dk_46 (dk_at dksX0_mostBy_1 20 rfl rfl)
theorem dX0_mostBy_45 : decode cX0_mostBy 45 = .ok (.iconst 1, 1) := dk_4 (dk_at dksX0_mostBy_1 21 rfl rfl)
theorem dX0_mostBy_46 : decode cX0_mostBy 46 = .ok (.iadd, 1) := dk_96 (dk_at dksX0_mostBy_1 22 rfl rfl)
theorem dX0_mostBy_47 : decode cX0_mostBy 47 = .ok (.iastore, 1) := dk_79 (dk_at dksX0_mostBy_1 23 rfl rfl)
theorem dX0_mostBy_48 : decode cX0_mostBy 48 = .ok (.iload_n 3, 1) := dk_29 (dk_at dksX0_mostBy_2 0 rfl rfl)
theorem dX0_mostBy_49 : decode cX0_mostBy 49 = .ok (.aload_n 0, 1) := dk_42 (dk_at dksX0_mostBy_2 1 rfl rfl)
theorem dX0_mostBy_50 : decode cX0_mostBy 50 = .ok (.getfield 133, 3) := dk_180 0 133 (dk_at dksX0_mostBy_2 2 rfl rfl)
theorem dX0_mostBy_53 : decode cX0_mostBy 53 = .ok (.iload 5, 2) := dk_21 5 (dk_at dksX0_mostBy_2 5 rfl rfl)
theorem dX0_mostBy_55 : decode cX0_mostBy 55 = .ok (.iaload, 1) := dk_46 (dk_at dksX0_mostBy_2 7 rfl rfl)
theorem dX0_mostBy_56 : decode cX0_mostBy 56 = .ok (.invokestatic 429, 3) := dk_184 1 173 (dk_at dksX0_mostBy_2 8 rfl rfl)
theorem dX0_mostBy_59 : decode cX0_mostBy 59 = .ok (.istore_n 3, 1) := dk_62 (dk_at dksX0_mostBy_2 11 rfl rfl)
theorem dX0_mostBy_60 : decode cX0_mostBy 60 = .ok (.iinc 4 1, 3) := dk_132 4 1 (dk_at dksX0_mostBy_2 12 rfl rfl)
theorem dX0_mostBy_63 : decode cX0_mostBy 63 = .ok (.goto (-58), 3) := dk_167 255 198 (dk_at dksX0_mostBy_2 15 rfl rfl)
theorem dX0_mostBy_66 : decode cX0_mostBy 66 = .ok (.iconst 0, 1) := dk_3 (dk_at dksX0_mostBy_2 18 rfl rfl)
theorem dX0_mostBy_67 : decode cX0_mostBy 67 = .ok (.istore 4, 2) := dk_54 4 (dk_at dksX0_mostBy_2 19 rfl rfl)
theorem dX0_mostBy_69 : decode cX0_mostBy 69 = .ok (.iload 4, 2) := dk_21 4 (dk_at dksX0_mostBy_2 21 rfl rfl)
theorem dX0_mostBy_71 : decode cX0_mostBy 71 = .ok (.iload_n 1, 1) := dk_27 (dk_at dksX0_mostBy_2 23 rfl rfl)
theorem dX0_mostBy_72 : decode cX0_mostBy 72 = .ok (.if_icmp .ge 26, 3) := dk_162 0 26 (dk_at dksX0_mostBy_3 0 rfl rfl)
theorem dX0_mostBy_75 : decode cX0_mostBy 75 = .ok (.aload_n 0, 1) := dk_42 (dk_at dksX0_mostBy_3 3 rfl rfl)
theorem dX0_mostBy_76 : decode cX0_mostBy 76 = .ok (.getfield 133, 3) := dk_180 0 133 (dk_at dksX0_mostBy_3 4 rfl rfl)
theorem dX0_mostBy_79 : decode cX0_mostBy 79 = .ok (.aload_n 0, 1) := dk_42 (dk_at dksX0_mostBy_3 7 rfl rfl)
theorem dX0_mostBy_80 : decode cX0_mostBy 80 = .ok (.getfield 126, 3) := dk_180 0 126 (dk_at dksX0_mostBy_3 8 rfl rfl)
theorem dX0_mostBy_83 : decode cX0_mostBy 83 = .ok (.iload 4, 2) := dk_21 4 (dk_at dksX0_mostBy_3 11 rfl rfl)
theorem dX0_mostBy_85 : decode cX0_mostBy 85 = .ok (.aaload, 1) := dk_50 (dk_at dksX0_mostBy_3 13 rfl rfl)
theorem dX0_mostBy_86 : decode cX0_mostBy 86 = .ok (.iload_n 2, 1) := dk_28 (dk_at dksX0_mostBy_3 14 rfl rfl)
theorem dX0_mostBy_87 : decode cX0_mostBy 87 = .ok (.iaload, 1) := dk_46 (dk_at dksX0_mostBy_3 15 rfl rfl)
theorem dX0_mostBy_88 : decode cX0_mostBy 88 = .ok (.iconst 1, 1) := dk_4 (dk_at dksX0_mostBy_3 16 rfl rfl)
theorem dX0_mostBy_89 : decode cX0_mostBy 89 = .ok (.iadd, 1) := dk_96 (dk_at dksX0_mostBy_3 17 rfl rfl)
theorem dX0_mostBy_90 : decode cX0_mostBy 90 = .ok (.iconst 0, 1) := dk_3 (dk_at dksX0_mostBy_3 18 rfl rfl)
theorem dX0_mostBy_91 : decode cX0_mostBy 91 = .ok (.iastore, 1) := dk_79 (dk_at dksX0_mostBy_3 19 rfl rfl)
theorem dX0_mostBy_92 : decode cX0_mostBy 92 = .ok (.iinc 4 1, 3) := dk_132 4 1 (dk_at dksX0_mostBy_3 20 rfl rfl)
theorem dX0_mostBy_95 : decode cX0_mostBy 95 = .ok (.goto (-26), 3) := dk_167 255 230 (dk_at dksX0_mostBy_4 0 rfl rfl)
theorem dX0_mostBy_98 : decode cX0_mostBy 98 = .ok (.iload_n 3, 1) := dk_29 (dk_at dksX0_mostBy_4 3 rfl rfl)
theorem dX0_mostBy_99 : decode cX0_mostBy 99 = .ok (.ireturn, 1) := dk_172 (dk_at dksX0_mostBy_4 4 rfl rfl)
abbrev cX0_undo : ByteArray := prog_1_method_57_code
def yX0_undo : MethodName := ⟨RX0, "undo", "()Z"⟩
def dkwX0_undo_2 : List UInt8 := [180, 0, 141, 185, 0, 197, 1, 0, 4, 100, 185, 1, 199, 2, 0, 192, 0, 108, 181, 0, 111, 4, 172]
abbrev dktX0_undo_2 : List UInt8 := dkwX0_undo_2 ++ []
def dkwX0_undo_1 : List UInt8 := [3, 172, 42, 180, 0, 145, 42, 180, 0, 111, 185, 1, 208, 2, 0, 87, 42, 42, 180, 0, 141, 42]
abbrev dktX0_undo_1 : List UInt8 := dkwX0_undo_1 ++ dktX0_undo_2
def dkwX0_undo_0 : List UInt8 := [42, 180, 0, 141, 185, 1, 196, 1, 0, 153, 0, 17, 42, 8, 182, 0, 162, 155, 0, 7, 4, 167, 0, 4]
abbrev dktX0_undo_0 : List UInt8 := dkwX0_undo_0 ++ dktX0_undo_1
theorem dksX0_undo_0 : cX0_undo.data.toList.drop 0 = dktX0_undo_0 := by decide +kernel
theorem dksX0_undo_1 : cX0_undo.data.toList.drop 24 = dktX0_undo_1 := dk_seg dksX0_undo_0 24 rfl rfl
theorem dksX0_undo_2 : cX0_undo.data.toList.drop 46 = dktX0_undo_2 := dk_seg dksX0_undo_1 22 rfl rfl
theorem dX0_undo_0 : decode cX0_undo 0 = .ok (.aload_n 0, 1) := dk_42 (dk_at dksX0_undo_0 0 rfl rfl)
theorem dX0_undo_1 : decode cX0_undo 1 = .ok (.getfield 141, 3) := dk_180 0 141 (dk_at dksX0_undo_0 1 rfl rfl)
theorem dX0_undo_4 : decode cX0_undo 4 = .ok (.invokeinterface 452 1, 5) := by decide +kernel
theorem dX0_undo_9 : decode cX0_undo 9 = .ok (.ifCond .eq 17, 3) := dk_153 0 17 (dk_at dksX0_undo_0 9 rfl rfl)
theorem dX0_undo_12 : decode cX0_undo 12 = .ok (.aload_n 0, 1) := dk_42 (dk_at dksX0_undo_0 12 rfl rfl)
theorem dX0_undo_13 : decode cX0_undo 13 = .ok (.iconst 5, 1) := dk_8 (dk_at dksX0_undo_0 13 rfl rfl)
theorem dX0_undo_14 : decode cX0_undo 14 = .ok (.invokevirtual 162, 3) := dk_182 0 162 (dk_at dksX0_undo_0 14 rfl rfl)
theorem dX0_undo_17 : decode cX0_undo 17 = .ok (.ifCond .lt 7, 3) := dk_155 0 7 (dk_at dksX0_undo_0 17 rfl rfl)
theorem dX0_undo_20 : decode cX0_undo 20 = .ok (.iconst 1, 1) := dk_4 (dk_at dksX0_undo_0 20 rfl rfl)
theorem dX0_undo_21 : decode cX0_undo 21 = .ok (.goto 4, 3) := dk_167 0 4 (dk_at dksX0_undo_0 21 rfl rfl)
theorem dX0_undo_24 : decode cX0_undo 24 = .ok (.iconst 0, 1) := dk_3 (dk_at dksX0_undo_1 0 rfl rfl)
theorem dX0_undo_25 : decode cX0_undo 25 = .ok (.ireturn, 1) := dk_172 (dk_at dksX0_undo_1 1 rfl rfl)
theorem dX0_undo_26 : decode cX0_undo 26 = .ok (.aload_n 0, 1) := dk_42 (dk_at dksX0_undo_1 2 rfl rfl)
theorem dX0_undo_27 : decode cX0_undo 27 = .ok (.getfield 145, 3) := dk_180 0 145 (dk_at dksX0_undo_1 3 rfl rfl)
theorem dX0_undo_30 : decode cX0_undo 30 = .ok (.aload_n 0, 1) := dk_42 (dk_at dksX0_undo_1 6 rfl rfl)
theorem dX0_undo_31 : decode cX0_undo 31 = .ok (.getfield 111, 3) := dk_180 0 111 (dk_at dksX0_undo_1 7 rfl rfl)
theorem dX0_undo_34 : decode cX0_undo 34 = .ok (.invokeinterface 464 2, 5) := by decide +kernel
theorem dX0_undo_39 : decode cX0_undo 39 = .ok (.pop, 1) := dk_87 (dk_at dksX0_undo_1 15 rfl rfl)
theorem dX0_undo_40 : decode cX0_undo 40 = .ok (.aload_n 0, 1) := dk_42 (dk_at dksX0_undo_1 16 rfl rfl)
theorem dX0_undo_41 : decode cX0_undo 41 = .ok (.aload_n 0, 1) := dk_42 (dk_at dksX0_undo_1 17 rfl rfl)
theorem dX0_undo_42 : decode cX0_undo 42 = .ok (.getfield 141, 3) := dk_180 0 141 (dk_at dksX0_undo_1 18 rfl rfl)
theorem dX0_undo_45 : decode cX0_undo 45 = .ok (.aload_n 0, 1) := dk_42 (dk_at dksX0_undo_1 21 rfl rfl)
theorem dX0_undo_46 : decode cX0_undo 46 = .ok (.getfield 141, 3) := dk_180 0 141 (dk_at dksX0_undo_2 0 rfl rfl)
theorem dX0_undo_49 : decode cX0_undo 49 = .ok (.invokeinterface 197 1, 5) := by decide +kernel
theorem dX0_undo_54 : decode cX0_undo 54 = .ok (.iconst 1, 1) := dk_4 (dk_at dksX0_undo_2 8 rfl rfl)
theorem dX0_undo_55 : decode cX0_undo 55 = .ok (.isub, 1) := dk_100 (dk_at dksX0_undo_2 9 rfl rfl)
theorem dX0_undo_56 : decode cX0_undo 56 = .ok (.invokeinterface 455 2, 5) := by decide +kernel
theorem dX0_undo_61 : decode cX0_undo 61 = .ok (.checkcast 108, 3) := dk_192 0 108 (dk_at dksX0_undo_2 15 rfl rfl)
theorem dX0_undo_64 : decode cX0_undo 64 = .ok (.putfield 111, 3) := dk_181 0 111 (dk_at dksX0_undo_2 18 rfl rfl)
theorem dX0_undo_67 : decode cX0_undo 67 = .ok (.iconst 1, 1) := dk_4 (dk_at dksX0_undo_2 21 rfl rfl)
theorem dX0_undo_68 : decode cX0_undo 68 = .ok (.ireturn, 1) := dk_172 (dk_at dksX0_undo_2 22 rfl rfl)
abbrev cX0_append : ByteArray := prog_1_method_59_code
def yX0_append : MethodName := ⟨RX0, "append", "(III)I"⟩
def dkwX0_append_1 : List UInt8 := [27, 28, 29, 182, 0, 220, 172]
abbrev dktX0_append_1 : List UInt8 := dkwX0_append_1 ++ []
def dkwX0_append_0 : List UInt8 := [42, 27, 28, 29, 182, 0, 216, 154, 0, 9, 42, 5, 182, 0, 162, 172, 42, 182, 1, 211, 42, 180, 0, 111]
abbrev dktX0_append_0 : List UInt8 := dkwX0_append_0 ++ dktX0_append_1
theorem dksX0_append_0 : cX0_append.data.toList.drop 0 = dktX0_append_0 := by decide +kernel
theorem dksX0_append_1 : cX0_append.data.toList.drop 24 = dktX0_append_1 := dk_seg dksX0_append_0 24 rfl rfl
theorem dX0_append_0 : decode cX0_append 0 = .ok (.aload_n 0, 1) := dk_42 (dk_at dksX0_append_0 0 rfl rfl)
theorem dX0_append_1 : decode cX0_append 1 = .ok (.iload_n 1, 1) := dk_27 (dk_at dksX0_append_0 1 rfl rfl)
theorem dX0_append_2 : decode cX0_append 2 = .ok (.iload_n 2, 1) := dk_28 (dk_at dksX0_append_0 2 rfl rfl)
theorem dX0_append_3 : decode cX0_append 3 = .ok (.iload_n 3, 1) := dk_29 (dk_at dksX0_append_0 3 rfl rfl)
theorem dX0_append_4 : decode cX0_append 4 = .ok (.invokevirtual 216, 3) := dk_182 0 216 (dk_at dksX0_append_0 4 rfl rfl)
theorem dX0_append_7 : decode cX0_append 7 = .ok (.ifCond .ne 9, 3) := dk_154 0 9 (dk_at dksX0_append_0 7 rfl rfl)
theorem dX0_append_10 : decode cX0_append 10 = .ok (.aload_n 0, 1) := dk_42 (dk_at dksX0_append_0 10 rfl rfl)
theorem dX0_append_11 : decode cX0_append 11 = .ok (.iconst 2, 1) := dk_5 (dk_at dksX0_append_0 11 rfl rfl)
theorem dX0_append_12 : decode cX0_append 12 = .ok (.invokevirtual 162, 3) := dk_182 0 162 (dk_at dksX0_append_0 12 rfl rfl)
theorem dX0_append_15 : decode cX0_append 15 = .ok (.ireturn, 1) := dk_172 (dk_at dksX0_append_0 15 rfl rfl)
theorem dX0_append_16 : decode cX0_append 16 = .ok (.aload_n 0, 1) := dk_42 (dk_at dksX0_append_0 16 rfl rfl)
theorem dX0_append_17 : decode cX0_append 17 = .ok (.invokevirtual 467, 3) := dk_182 1 211 (dk_at dksX0_append_0 17 rfl rfl)
theorem dX0_append_20 : decode cX0_append 20 = .ok (.aload_n 0, 1) := dk_42 (dk_at dksX0_append_0 20 rfl rfl)
theorem dX0_append_21 : decode cX0_append 21 = .ok (.getfield 111, 3) := dk_180 0 111 (dk_at dksX0_append_0 21 rfl rfl)
theorem dX0_append_24 : decode cX0_append 24 = .ok (.iload_n 1, 1) := dk_27 (dk_at dksX0_append_1 0 rfl rfl)
theorem dX0_append_25 : decode cX0_append 25 = .ok (.iload_n 2, 1) := dk_28 (dk_at dksX0_append_1 1 rfl rfl)
theorem dX0_append_26 : decode cX0_append 26 = .ok (.iload_n 3, 1) := dk_29 (dk_at dksX0_append_1 2 rfl rfl)
theorem dX0_append_27 : decode cX0_append 27 = .ok (.invokevirtual 220, 3) := dk_182 0 220 (dk_at dksX0_append_1 3 rfl rfl)
theorem dX0_append_30 : decode cX0_append 30 = .ok (.ireturn, 1) := dk_172 (dk_at dksX0_append_1 6 rfl rfl)
abbrev cX0_remembers : ByteArray := prog_1_method_55_code
def yX0_remembers : MethodName := ⟨RX0, "remembers", "()V"⟩
def dkwX0_remembers_2 : List UInt8 := [185, 1, 208, 2, 0, 87, 177]
abbrev dktX0_remembers_2 : List UInt8 := dkwX0_remembers_2 ++ []
def dkwX0_remembers_1 : List UInt8 := [192, 0, 108, 167, 0, 7, 42, 182, 1, 202, 76, 42, 180, 0, 141, 43, 42, 180, 0, 111, 182, 1, 206]
abbrev dktX0_remembers_1 : List UInt8 := dkwX0_remembers_1 ++ dktX0_remembers_2
def dkwX0_remembers_0 : List UInt8 := [42, 180, 0, 141, 185, 0, 197, 1, 0, 16, 20, 160, 0, 19, 42, 180, 0, 141, 3, 185, 1, 199, 2, 0]
abbrev dktX0_remembers_0 : List UInt8 := dkwX0_remembers_0 ++ dktX0_remembers_1
theorem dksX0_remembers_0 : cX0_remembers.data.toList.drop 0 = dktX0_remembers_0 := by decide +kernel
theorem dksX0_remembers_1 : cX0_remembers.data.toList.drop 24 = dktX0_remembers_1 := dk_seg dksX0_remembers_0 24 rfl rfl
theorem dksX0_remembers_2 : cX0_remembers.data.toList.drop 47 = dktX0_remembers_2 := dk_seg dksX0_remembers_1 23 rfl rfl
theorem dX0_remembers_0 : decode cX0_remembers 0 = .ok (.aload_n 0, 1) := dk_42 (dk_at dksX0_remembers_0 0 rfl rfl)
theorem dX0_remembers_1 : decode cX0_remembers 1 = .ok (.getfield 141, 3) := dk_180 0 141 (dk_at dksX0_remembers_0 1 rfl rfl)
theorem dX0_remembers_4 : decode cX0_remembers 4 = .ok (.invokeinterface 197 1, 5) := by decide +kernel
theorem dX0_remembers_9 : decode cX0_remembers 9 = .ok (.bipush 20, 2) := dk_16 20 (dk_at dksX0_remembers_0 9 rfl rfl)
theorem dX0_remembers_11 : decode cX0_remembers 11 = .ok (.if_icmp .ne 19, 3) := dk_160 0 19 (dk_at dksX0_remembers_0 11 rfl rfl)
theorem dX0_remembers_14 : decode cX0_remembers 14 = .ok (.aload_n 0, 1) := dk_42 (dk_at dksX0_remembers_0 14 rfl rfl)
theorem dX0_remembers_15 : decode cX0_remembers 15 = .ok (.getfield 141, 3) := dk_180 0 141 (dk_at dksX0_remembers_0 15 rfl rfl)
theorem dX0_remembers_18 : decode cX0_remembers 18 = .ok (.iconst 0, 1) := dk_3 (dk_at dksX0_remembers_0 18 rfl rfl)
theorem dX0_remembers_19 : decode cX0_remembers 19 = .ok (.invokeinterface 455 2, 5) := by decide +kernel
theorem dX0_remembers_24 : decode cX0_remembers 24 = .ok (.checkcast 108, 3) := dk_192 0 108 (dk_at dksX0_remembers_1 0 rfl rfl)
theorem dX0_remembers_27 : decode cX0_remembers 27 = .ok (.goto 7, 3) := dk_167 0 7 (dk_at dksX0_remembers_1 3 rfl rfl)
theorem dX0_remembers_30 : decode cX0_remembers 30 = .ok (.aload_n 0, 1) := dk_42 (dk_at dksX0_remembers_1 6 rfl rfl)
theorem dX0_remembers_31 : decode cX0_remembers 31 = .ok (.invokevirtual 458, 3) := dk_182 1 202 (dk_at dksX0_remembers_1 7 rfl rfl)
theorem dX0_remembers_34 : decode cX0_remembers 34 = .ok (.astore_n 1, 1) := dk_76 (dk_at dksX0_remembers_1 10 rfl rfl)
theorem dX0_remembers_35 : decode cX0_remembers 35 = .ok (.aload_n 0, 1) := dk_42 (dk_at dksX0_remembers_1 11 rfl rfl)
theorem dX0_remembers_36 : decode cX0_remembers 36 = .ok (.getfield 141, 3) := dk_180 0 141 (dk_at dksX0_remembers_1 12 rfl rfl)
theorem dX0_remembers_39 : decode cX0_remembers 39 = .ok (.aload_n 1, 1) := dk_43 (dk_at dksX0_remembers_1 15 rfl rfl)
theorem dX0_remembers_40 : decode cX0_remembers 40 = .ok (.aload_n 0, 1) := dk_42 (dk_at dksX0_remembers_1 16 rfl rfl)
theorem dX0_remembers_41 : decode cX0_remembers 41 = .ok (.getfield 111, 3) := dk_180 0 111 (dk_at dksX0_remembers_1 17 rfl rfl)
theorem dX0_remembers_44 : decode cX0_remembers 44 = .ok (.invokevirtual 462, 3) := dk_182 1 206 (dk_at dksX0_remembers_1 20 rfl rfl)
theorem dX0_remembers_47 : decode cX0_remembers 47 = .ok (.invokeinterface 464 2, 5) := by decide +kernel
theorem dX0_remembers_52 : decode cX0_remembers 52 = .ok (.pop, 1) := dk_87 (dk_at dksX0_remembers_2 5 rfl rfl)
theorem dX0_remembers_53 : decode cX0_remembers 53 = .ok (.return_, 1) := dk_177 (dk_at dksX0_remembers_2 6 rfl rfl)
abbrev cX0_another : ByteArray := prog_1_method_54_code
def yX0_another : MethodName := ⟨RX0, "another", "()LGroupJournal$State;"⟩
def dkwX0_another_1 : List UInt8 := [180, 0, 145, 42, 180, 0, 145, 185, 0, 197, 1, 0, 4, 100, 185, 1, 199, 2, 0, 192, 0, 108, 176]
abbrev dktX0_another_1 : List UInt8 := dkwX0_another_1 ++ []
def dkwX0_another_0 : List UInt8 := [42, 180, 0, 145, 185, 1, 196, 1, 0, 153, 0, 14, 187, 0, 108, 89, 42, 183, 0, 110, 167, 0, 26, 42]
abbrev dktX0_another_0 : List UInt8 := dkwX0_another_0 ++ dktX0_another_1
theorem dksX0_another_0 : cX0_another.data.toList.drop 0 = dktX0_another_0 := by decide +kernel
theorem dksX0_another_1 : cX0_another.data.toList.drop 24 = dktX0_another_1 := dk_seg dksX0_another_0 24 rfl rfl
theorem dX0_another_0 : decode cX0_another 0 = .ok (.aload_n 0, 1) := dk_42 (dk_at dksX0_another_0 0 rfl rfl)
theorem dX0_another_1 : decode cX0_another 1 = .ok (.getfield 145, 3) := dk_180 0 145 (dk_at dksX0_another_0 1 rfl rfl)
theorem dX0_another_4 : decode cX0_another 4 = .ok (.invokeinterface 452 1, 5) := by decide +kernel
theorem dX0_another_9 : decode cX0_another 9 = .ok (.ifCond .eq 14, 3) := dk_153 0 14 (dk_at dksX0_another_0 9 rfl rfl)
theorem dX0_another_12 : decode cX0_another 12 = .ok (.new 108, 3) := dk_187 0 108 (dk_at dksX0_another_0 12 rfl rfl)
theorem dX0_another_15 : decode cX0_another 15 = .ok (.dup, 1) := dk_89 (dk_at dksX0_another_0 15 rfl rfl)
theorem dX0_another_16 : decode cX0_another 16 = .ok (.aload_n 0, 1) := dk_42 (dk_at dksX0_another_0 16 rfl rfl)
theorem dX0_another_17 : decode cX0_another 17 = .ok (.invokespecial 110, 3) := dk_183 0 110 (dk_at dksX0_another_0 17 rfl rfl)
theorem dX0_another_20 : decode cX0_another 20 = .ok (.goto 26, 3) := dk_167 0 26 (dk_at dksX0_another_0 20 rfl rfl)
theorem dX0_another_23 : decode cX0_another 23 = .ok (.aload_n 0, 1) := dk_42 (dk_at dksX0_another_0 23 rfl rfl)
theorem dX0_another_24 : decode cX0_another 24 = .ok (.getfield 145, 3) := dk_180 0 145 (dk_at dksX0_another_1 0 rfl rfl)
theorem dX0_another_27 : decode cX0_another 27 = .ok (.aload_n 0, 1) := dk_42 (dk_at dksX0_another_1 3 rfl rfl)
theorem dX0_another_28 : decode cX0_another 28 = .ok (.getfield 145, 3) := dk_180 0 145 (dk_at dksX0_another_1 4 rfl rfl)
theorem dX0_another_31 : decode cX0_another 31 = .ok (.invokeinterface 197 1, 5) := by decide +kernel
theorem dX0_another_36 : decode cX0_another 36 = .ok (.iconst 1, 1) := dk_4 (dk_at dksX0_another_1 12 rfl rfl)
theorem dX0_another_37 : decode cX0_another 37 = .ok (.isub, 1) := dk_100 (dk_at dksX0_another_1 13 rfl rfl)
theorem dX0_another_38 : decode cX0_another 38 = .ok (.invokeinterface 455 2, 5) := by decide +kernel
theorem dX0_another_43 : decode cX0_another 43 = .ok (.checkcast 108, 3) := dk_192 0 108 (dk_at dksX0_another_1 19 rfl rfl)
theorem dX0_another_46 : decode cX0_another 46 = .ok (.areturn, 1) := dk_176 (dk_at dksX0_another_1 22 rfl rfl)
abbrev cX0_takesTable : ByteArray := prog_1_method_24_code
def yX0_takesTable : MethodName := ⟨RX0, "takesTable", "(Ljava/util/HashMap;Ljava/util/HashMap;)V"⟩
def dkwX0_takesTable_2 : List UInt8 := [132, 3, 1, 167, 255, 212, 177]
abbrev dktX0_takesTable_2 : List UInt8 := dkwX0_takesTable_2 ++ []
def dkwX0_takesTable_1 : List UInt8 := [192, 1, 6, 58, 4, 25, 4, 198, 0, 16, 43, 42, 180, 0, 30, 29, 50, 25, 4, 182, 1, 8, 87]
abbrev dktX0_takesTable_1 : List UInt8 := dkwX0_takesTable_1 ++ dktX0_takesTable_2
def dkwX0_takesTable_0 : List UInt8 := [43, 182, 0, 254, 3, 62, 29, 16, 16, 162, 0, 44, 44, 42, 180, 0, 35, 29, 182, 0, 155, 182, 1, 3]
abbrev dktX0_takesTable_0 : List UInt8 := dkwX0_takesTable_0 ++ dktX0_takesTable_1
theorem dksX0_takesTable_0 : cX0_takesTable.data.toList.drop 0 = dktX0_takesTable_0 := by decide +kernel
theorem dksX0_takesTable_1 : cX0_takesTable.data.toList.drop 24 = dktX0_takesTable_1 := dk_seg dksX0_takesTable_0 24 rfl rfl
theorem dksX0_takesTable_2 : cX0_takesTable.data.toList.drop 47 = dktX0_takesTable_2 := dk_seg dksX0_takesTable_1 23 rfl rfl
theorem dX0_takesTable_0 : decode cX0_takesTable 0 = .ok (.aload_n 1, 1) := dk_43 (dk_at dksX0_takesTable_0 0 rfl rfl)
theorem dX0_takesTable_1 : decode cX0_takesTable 1 = .ok (.invokevirtual 254, 3) := dk_182 0 254 (dk_at dksX0_takesTable_0 1 rfl rfl)
theorem dX0_takesTable_4 : decode cX0_takesTable 4 = .ok (.iconst 0, 1) := dk_3 (dk_at dksX0_takesTable_0 4 rfl rfl)
theorem dX0_takesTable_5 : decode cX0_takesTable 5 = .ok (.istore_n 3, 1) := dk_62 (dk_at dksX0_takesTable_0 5 rfl rfl)
theorem dX0_takesTable_6 : decode cX0_takesTable 6 = .ok (.iload_n 3, 1) := dk_29 (dk_at dksX0_takesTable_0 6 rfl rfl)
theorem dX0_takesTable_7 : decode cX0_takesTable 7 = .ok (.bipush 16, 2) := dk_16 16 (dk_at dksX0_takesTable_0 7 rfl rfl)
theorem dX0_takesTable_9 : decode cX0_takesTable 9 = .ok (.if_icmp .ge 44, 3) := dk_162 0 44 (dk_at dksX0_takesTable_0 9 rfl rfl)
theorem dX0_takesTable_12 : decode cX0_takesTable 12 = .ok (.aload_n 2, 1) := dk_44 (dk_at dksX0_takesTable_0 12 rfl rfl)
theorem dX0_takesTable_13 : decode cX0_takesTable 13 = .ok (.aload_n 0, 1) := dk_42 (dk_at dksX0_takesTable_0 13 rfl rfl)
theorem dX0_takesTable_14 : decode cX0_takesTable 14 = .ok (.getfield 35, 3) := dk_180 0 35 (dk_at dksX0_takesTable_0 14 rfl rfl)
theorem dX0_takesTable_17 : decode cX0_takesTable 17 = .ok (.iload_n 3, 1) := dk_29 (dk_at dksX0_takesTable_0 17 rfl rfl)
theorem dX0_takesTable_18 : decode cX0_takesTable 18 = .ok (.invokevirtual 155, 3) := dk_182 0 155 (dk_at dksX0_takesTable_0 18 rfl rfl)
theorem dX0_takesTable_21 : decode cX0_takesTable 21 = .ok (.invokevirtual 259, 3) := dk_182 1 3 (dk_at dksX0_takesTable_0 21 rfl rfl)
theorem dX0_takesTable_24 : decode cX0_takesTable 24 = .ok (.checkcast 262, 3) := dk_192 1 6 (dk_at dksX0_takesTable_1 0 rfl rfl)
theorem dX0_takesTable_27 : decode cX0_takesTable 27 = .ok (.astore 4, 2) := dk_58 4 (dk_at dksX0_takesTable_1 3 rfl rfl)
theorem dX0_takesTable_29 : decode cX0_takesTable 29 = .ok (.aload 4, 2) := dk_25 4 (dk_at dksX0_takesTable_1 5 rfl rfl)
theorem dX0_takesTable_31 : decode cX0_takesTable 31 = .ok (.ifnull 16, 3) := dk_198 0 16 (dk_at dksX0_takesTable_1 7 rfl rfl)
theorem dX0_takesTable_34 : decode cX0_takesTable 34 = .ok (.aload_n 1, 1) := dk_43 (dk_at dksX0_takesTable_1 10 rfl rfl)
theorem dX0_takesTable_35 : decode cX0_takesTable 35 = .ok (.aload_n 0, 1) := dk_42 (dk_at dksX0_takesTable_1 11 rfl rfl)
theorem dX0_takesTable_36 : decode cX0_takesTable 36 = .ok (.getfield 30, 3) := dk_180 0 30 (dk_at dksX0_takesTable_1 12 rfl rfl)
theorem dX0_takesTable_39 : decode cX0_takesTable 39 = .ok (.iload_n 3, 1) := dk_29 (dk_at dksX0_takesTable_1 15 rfl rfl)
theorem dX0_takesTable_40 : decode cX0_takesTable 40 = .ok (.aaload, 1) := dk_50 (dk_at dksX0_takesTable_1 16 rfl rfl)
theorem dX0_takesTable_41 : decode cX0_takesTable 41 = .ok (.aload 4, 2) := dk_25 4 (dk_at dksX0_takesTable_1 17 rfl rfl)
theorem dX0_takesTable_43 : decode cX0_takesTable 43 = .ok (.invokevirtual 264, 3) := dk_182 1 8 (dk_at dksX0_takesTable_1 19 rfl rfl)
theorem dX0_takesTable_46 : decode cX0_takesTable 46 = .ok (.pop, 1) := dk_87 (dk_at dksX0_takesTable_1 22 rfl rfl)
theorem dX0_takesTable_47 : decode cX0_takesTable 47 = .ok (.iinc 3 1, 3) := dk_132 3 1 (dk_at dksX0_takesTable_2 0 rfl rfl)
theorem dX0_takesTable_50 : decode cX0_takesTable 50 = .ok (.goto (-44), 3) := dk_167 255 212 (dk_at dksX0_takesTable_2 3 rfl rfl)
theorem dX0_takesTable_53 : decode cX0_takesTable 53 = .ok (.return_, 1) := dk_177 (dk_at dksX0_takesTable_2 6 rfl rfl)
abbrev cX0_waits : ByteArray := prog_1_method_60_code
def yX0_waits : MethodName := ⟨RX0, "waits", "(II)Z"⟩
def dkwX0_waits_4 : List UInt8 := [182, 1, 214, 87, 4, 172]
abbrev dktX0_waits_4 : List UInt8 := dkwX0_waits_4 ++ []
def dkwX0_waits_3 : List UInt8 := [167, 0, 4, 3, 172, 42, 182, 1, 211, 42, 180, 0, 111, 180, 1, 40, 27, 184, 1, 122, 28, 184, 1, 122]
abbrev dktX0_waits_3 : List UInt8 := dkwX0_waits_3 ++ dktX0_waits_4
def dkwX0_waits_2 : List UInt8 := [180, 1, 40, 27, 184, 1, 122, 182, 1, 126, 153, 0, 17, 42, 5, 182, 0, 162, 155, 0, 7, 4]
abbrev dktX0_waits_2 : List UInt8 := dkwX0_waits_2 ++ dktX0_waits_3
def dkwX0_waits_1 : List UInt8 := [180, 1, 25, 42, 180, 0, 111, 180, 1, 22, 4, 100, 184, 1, 16, 153, 0, 20, 42, 180, 0, 111]
abbrev dktX0_waits_1 : List UInt8 := dkwX0_waits_1 ++ dktX0_waits_2
def dkwX0_waits_0 : List UInt8 := [42, 182, 1, 12, 153, 0, 53, 27, 3, 16, 7, 184, 1, 16, 153, 0, 43, 28, 42, 180, 0, 111]
abbrev dktX0_waits_0 : List UInt8 := dkwX0_waits_0 ++ dktX0_waits_1
theorem dksX0_waits_0 : cX0_waits.data.toList.drop 0 = dktX0_waits_0 := by decide +kernel
theorem dksX0_waits_1 : cX0_waits.data.toList.drop 22 = dktX0_waits_1 := dk_seg dksX0_waits_0 22 rfl rfl
theorem dksX0_waits_2 : cX0_waits.data.toList.drop 44 = dktX0_waits_2 := dk_seg dksX0_waits_1 22 rfl rfl
theorem dksX0_waits_3 : cX0_waits.data.toList.drop 66 = dktX0_waits_3 := dk_seg dksX0_waits_2 22 rfl rfl
theorem dksX0_waits_4 : cX0_waits.data.toList.drop 90 = dktX0_waits_4 := dk_seg dksX0_waits_3 24 rfl rfl
theorem dX0_waits_0 : decode cX0_waits 0 = .ok (.aload_n 0, 1) := dk_42 (dk_at dksX0_waits_0 0 rfl rfl)
theorem dX0_waits_1 : decode cX0_waits 1 = .ok (.invokevirtual 268, 3) := dk_182 1 12 (dk_at dksX0_waits_0 1 rfl rfl)
theorem dX0_waits_4 : decode cX0_waits 4 = .ok (.ifCond .eq 53, 3) := dk_153 0 53 (dk_at dksX0_waits_0 4 rfl rfl)
theorem dX0_waits_7 : decode cX0_waits 7 = .ok (.iload_n 1, 1) := dk_27 (dk_at dksX0_waits_0 7 rfl rfl)
theorem dX0_waits_8 : decode cX0_waits 8 = .ok (.iconst 0, 1) := dk_3 (dk_at dksX0_waits_0 8 rfl rfl)
theorem dX0_waits_9 : decode cX0_waits 9 = .ok (.bipush 7, 2) := dk_16 7 (dk_at dksX0_waits_0 9 rfl rfl)
theorem dX0_waits_11 : decode cX0_waits 11 = .ok (.invokestatic 272, 3) := dk_184 1 16 (dk_at dksX0_waits_0 11 rfl rfl)
theorem dX0_waits_14 : decode cX0_waits 14 = .ok (.ifCond .eq 43, 3) := dk_153 0 43 (dk_at dksX0_waits_0 14 rfl rfl)
theorem dX0_waits_17 : decode cX0_waits 17 = .ok (.iload_n 2, 1) := dk_28 (dk_at dksX0_waits_0 17 rfl rfl)
theorem dX0_waits_18 : decode cX0_waits 18 = .ok (.aload_n 0, 1) := dk_42 (dk_at dksX0_waits_0 18 rfl rfl)
theorem dX0_waits_19 : decode cX0_waits 19 = .ok (.getfield 111, 3) := dk_180 0 111 (dk_at dksX0_waits_0 19 rfl rfl)
theorem dX0_waits_22 : decode cX0_waits 22 = .ok (.getfield 281, 3) := dk_180 1 25 (dk_at dksX0_waits_1 0 rfl rfl)
theorem dX0_waits_25 : decode cX0_waits 25 = .ok (.aload_n 0, 1) := dk_42 (dk_at dksX0_waits_1 3 rfl rfl)
theorem dX0_waits_26 : decode cX0_waits 26 = .ok (.getfield 111, 3) := dk_180 0 111 (dk_at dksX0_waits_1 4 rfl rfl)
theorem dX0_waits_29 : decode cX0_waits 29 = .ok (.getfield 278, 3) := dk_180 1 22 (dk_at dksX0_waits_1 7 rfl rfl)
theorem dX0_waits_32 : decode cX0_waits 32 = .ok (.iconst 1, 1) := dk_4 (dk_at dksX0_waits_1 10 rfl rfl)
theorem dX0_waits_33 : decode cX0_waits 33 = .ok (.isub, 1) := dk_100 (dk_at dksX0_waits_1 11 rfl rfl)
theorem dX0_waits_34 : decode cX0_waits 34 = .ok (.invokestatic 272, 3) := dk_184 1 16 (dk_at dksX0_waits_1 12 rfl rfl)
theorem dX0_waits_37 : decode cX0_waits 37 = .ok (.ifCond .eq 20, 3) := dk_153 0 20 (dk_at dksX0_waits_1 15 rfl rfl)
theorem dX0_waits_40 : decode cX0_waits 40 = .ok (.aload_n 0, 1) := dk_42 (dk_at dksX0_waits_1 18 rfl rfl)
theorem dX0_waits_41 : decode cX0_waits 41 = .ok (.getfield 111, 3) := dk_180 0 111 (dk_at dksX0_waits_1 19 rfl rfl)
theorem dX0_waits_44 : decode cX0_waits 44 = .ok (.getfield 296, 3) := dk_180 1 40 (dk_at dksX0_waits_2 0 rfl rfl)
theorem dX0_waits_47 : decode cX0_waits 47 = .ok (.iload_n 1, 1) := dk_27 (dk_at dksX0_waits_2 3 rfl rfl)
theorem dX0_waits_48 : decode cX0_waits 48 = .ok (.invokestatic 378, 3) := dk_184 1 122 (dk_at dksX0_waits_2 4 rfl rfl)
theorem dX0_waits_51 : decode cX0_waits 51 = .ok (.invokevirtual 382, 3) := dk_182 1 126 (dk_at dksX0_waits_2 7 rfl rfl)
theorem dX0_waits_54 : decode cX0_waits 54 = .ok (.ifCond .eq 17, 3) := dk_153 0 17 (dk_at dksX0_waits_2 10 rfl rfl)
theorem dX0_waits_57 : decode cX0_waits 57 = .ok (.aload_n 0, 1) := dk_42 (dk_at dksX0_waits_2 13 rfl rfl)
theorem dX0_waits_58 : decode cX0_waits 58 = .ok (.iconst 2, 1) := dk_5 (dk_at dksX0_waits_2 14 rfl rfl)
theorem dX0_waits_59 : decode cX0_waits 59 = .ok (.invokevirtual 162, 3) := dk_182 0 162 (dk_at dksX0_waits_2 15 rfl rfl)
theorem dX0_waits_62 : decode cX0_waits 62 = .ok (.ifCond .lt 7, 3) := dk_155 0 7 (dk_at dksX0_waits_2 18 rfl rfl)
theorem dX0_waits_65 : decode cX0_waits 65 = .ok (.iconst 1, 1) := dk_4 (dk_at dksX0_waits_2 21 rfl rfl)
theorem dX0_waits_66 : decode cX0_waits 66 = .ok (.goto 4, 3) := dk_167 0 4 (dk_at dksX0_waits_3 0 rfl rfl)
theorem dX0_waits_69 : decode cX0_waits 69 = .ok (.iconst 0, 1) := dk_3 (dk_at dksX0_waits_3 3 rfl rfl)
theorem dX0_waits_70 : decode cX0_waits 70 = .ok (.ireturn, 1) := dk_172 (dk_at dksX0_waits_3 4 rfl rfl)
theorem dX0_waits_71 : decode cX0_waits 71 = .ok (.aload_n 0, 1) := dk_42 (dk_at dksX0_waits_3 5 rfl rfl)
theorem dX0_waits_72 : decode cX0_waits 72 = .ok (.invokevirtual 467, 3) := dk_182 1 211 (dk_at dksX0_waits_3 6 rfl rfl)
theorem dX0_waits_75 : decode cX0_waits 75 = .ok (.aload_n 0, 1) := dk_42 (dk_at dksX0_waits_3 9 rfl rfl)
theorem dX0_waits_76 : decode cX0_waits 76 = .ok (.getfield 111, 3) := dk_180 0 111 (dk_at dksX0_waits_3 10 rfl rfl)
theorem dX0_waits_79 : decode cX0_waits 79 = .ok (.getfield 296, 3) := dk_180 1 40 (dk_at dksX0_waits_3 13 rfl rfl)
theorem dX0_waits_82 : decode cX0_waits 82 = .ok (.iload_n 1, 1) := dk_27 (dk_at dksX0_waits_3 16 rfl rfl)
theorem dX0_waits_83 : decode cX0_waits 83 = .ok (.invokestatic 378, 3) := dk_184 1 122 (dk_at dksX0_waits_3 17 rfl rfl)
theorem dX0_waits_86 : decode cX0_waits 86 = .ok (.iload_n 2, 1) := dk_28 (dk_at dksX0_waits_3 20 rfl rfl)
theorem dX0_waits_87 : decode cX0_waits 87 = .ok (.invokestatic 378, 3) := dk_184 1 122 (dk_at dksX0_waits_3 21 rfl rfl)
theorem dX0_waits_90 : decode cX0_waits 90 = .ok (.invokevirtual 470, 3) := dk_182 1 214 (dk_at dksX0_waits_4 0 rfl rfl)
theorem dX0_waits_93 : decode cX0_waits 93 = .ok (.pop, 1) := dk_87 (dk_at dksX0_waits_4 3 rfl rfl)
theorem dX0_waits_94 : decode cX0_waits 94 = .ok (.iconst 1, 1) := dk_4 (dk_at dksX0_waits_4 4 rfl rfl)
theorem dX0_waits_95 : decode cX0_waits 95 = .ok (.ireturn, 1) := dk_172 (dk_at dksX0_waits_4 5 rfl rfl)
abbrev cX0_ticks : ByteArray := prog_1_method_61_code
def yX0_ticks : MethodName := ⟨RX0, "ticks", "(I)I"⟩
def dkwX0_ticks_2 : List UInt8 := [172]
abbrev dktX0_ticks_2 : List UInt8 := dkwX0_ticks_2 ++ []
def dkwX0_ticks_1 : List UInt8 := [62, 29, 27, 162, 0, 20, 28, 42, 180, 0, 111, 2, 182, 1, 138, 96, 61, 132, 3, 1, 167, 255, 237, 28]
abbrev dktX0_ticks_1 : List UInt8 := dkwX0_ticks_1 ++ dktX0_ticks_2
def dkwX0_ticks_0 : List UInt8 := [42, 27, 4, 16, 100, 182, 1, 131, 154, 0, 9, 42, 6, 182, 0, 162, 172, 42, 182, 1, 211, 3, 61, 3]
abbrev dktX0_ticks_0 : List UInt8 := dkwX0_ticks_0 ++ dktX0_ticks_1
theorem dksX0_ticks_0 : cX0_ticks.data.toList.drop 0 = dktX0_ticks_0 := by decide +kernel
theorem dksX0_ticks_1 : cX0_ticks.data.toList.drop 24 = dktX0_ticks_1 := dk_seg dksX0_ticks_0 24 rfl rfl
theorem dksX0_ticks_2 : cX0_ticks.data.toList.drop 48 = dktX0_ticks_2 := dk_seg dksX0_ticks_1 24 rfl rfl
theorem dX0_ticks_0 : decode cX0_ticks 0 = .ok (.aload_n 0, 1) := dk_42 (dk_at dksX0_ticks_0 0 rfl rfl)
theorem dX0_ticks_1 : decode cX0_ticks 1 = .ok (.iload_n 1, 1) := dk_27 (dk_at dksX0_ticks_0 1 rfl rfl)
theorem dX0_ticks_2 : decode cX0_ticks 2 = .ok (.iconst 1, 1) := dk_4 (dk_at dksX0_ticks_0 2 rfl rfl)
theorem dX0_ticks_3 : decode cX0_ticks 3 = .ok (.bipush 100, 2) := dk_16 100 (dk_at dksX0_ticks_0 3 rfl rfl)
theorem dX0_ticks_5 : decode cX0_ticks 5 = .ok (.invokevirtual 387, 3) := dk_182 1 131 (dk_at dksX0_ticks_0 5 rfl rfl)
theorem dX0_ticks_8 : decode cX0_ticks 8 = .ok (.ifCond .ne 9, 3) := dk_154 0 9 (dk_at dksX0_ticks_0 8 rfl rfl)
theorem dX0_ticks_11 : decode cX0_ticks 11 = .ok (.aload_n 0, 1) := dk_42 (dk_at dksX0_ticks_0 11 rfl rfl)
theorem dX0_ticks_12 : decode cX0_ticks 12 = .ok (.iconst 3, 1) := dk_6 (dk_at dksX0_ticks_0 12 rfl rfl)
theorem dX0_ticks_13 : decode cX0_ticks 13 = .ok (.invokevirtual 162, 3) := dk_182 0 162 (dk_at dksX0_ticks_0 13 rfl rfl)
theorem dX0_ticks_16 : decode cX0_ticks 16 = .ok (.ireturn, 1) := dk_172 (dk_at dksX0_ticks_0 16 rfl rfl)
theorem dX0_ticks_17 : decode cX0_ticks 17 = .ok (.aload_n 0, 1) := dk_42 (dk_at dksX0_ticks_0 17 rfl rfl)
theorem dX0_ticks_18 : decode cX0_ticks 18 = .ok (.invokevirtual 467, 3) := dk_182 1 211 (dk_at dksX0_ticks_0 18 rfl rfl)
theorem dX0_ticks_21 : decode cX0_ticks 21 = .ok (.iconst 0, 1) := dk_3 (dk_at dksX0_ticks_0 21 rfl rfl)
theorem dX0_ticks_22 : decode cX0_ticks 22 = .ok (.istore_n 2, 1) := dk_61 (dk_at dksX0_ticks_0 22 rfl rfl)
theorem dX0_ticks_23 : decode cX0_ticks 23 = .ok (.iconst 0, 1) := dk_3 (dk_at dksX0_ticks_0 23 rfl rfl)
theorem dX0_ticks_24 : decode cX0_ticks 24 = .ok (.istore_n 3, 1) := dk_62 (dk_at dksX0_ticks_1 0 rfl rfl)
theorem dX0_ticks_25 : decode cX0_ticks 25 = .ok (.iload_n 3, 1) := dk_29 (dk_at dksX0_ticks_1 1 rfl rfl)
theorem dX0_ticks_26 : decode cX0_ticks 26 = .ok (.iload_n 1, 1) := dk_27 (dk_at dksX0_ticks_1 2 rfl rfl)
theorem dX0_ticks_27 : decode cX0_ticks 27 = .ok (.if_icmp .ge 20, 3) := dk_162 0 20 (dk_at dksX0_ticks_1 3 rfl rfl)
theorem dX0_ticks_30 : decode cX0_ticks 30 = .ok (.iload_n 2, 1) := dk_28 (dk_at dksX0_ticks_1 6 rfl rfl)
theorem dX0_ticks_31 : decode cX0_ticks 31 = .ok (.aload_n 0, 1) := dk_42 (dk_at dksX0_ticks_1 7 rfl rfl)
theorem dX0_ticks_32 : decode cX0_ticks 32 = .ok (.getfield 111, 3) := dk_180 0 111 (dk_at dksX0_ticks_1 8 rfl rfl)
theorem dX0_ticks_35 : decode cX0_ticks 35 = .ok (.iconst (-1), 1) := dk_2 (dk_at dksX0_ticks_1 11 rfl rfl)
theorem dX0_ticks_36 : decode cX0_ticks 36 = .ok (.invokevirtual 394, 3) := dk_182 1 138 (dk_at dksX0_ticks_1 12 rfl rfl)
theorem dX0_ticks_39 : decode cX0_ticks 39 = .ok (.iadd, 1) := dk_96 (dk_at dksX0_ticks_1 15 rfl rfl)
theorem dX0_ticks_40 : decode cX0_ticks 40 = .ok (.istore_n 2, 1) := dk_61 (dk_at dksX0_ticks_1 16 rfl rfl)
theorem dX0_ticks_41 : decode cX0_ticks 41 = .ok (.iinc 3 1, 3) := dk_132 3 1 (dk_at dksX0_ticks_1 17 rfl rfl)
theorem dX0_ticks_44 : decode cX0_ticks 44 = .ok (.goto (-19), 3) := dk_167 255 237 (dk_at dksX0_ticks_1 20 rfl rfl)
theorem dX0_ticks_47 : decode cX0_ticks 47 = .ok (.iload_n 2, 1) := dk_28 (dk_at dksX0_ticks_1 23 rfl rfl)
theorem dX0_ticks_48 : decode cX0_ticks 48 = .ok (.ireturn, 1) := dk_172 (dk_at dksX0_ticks_2 0 rfl rfl)
abbrev cX0_chance : ByteArray := prog_1_method_63_code
def yX0_chance : MethodName := ⟨RX0, "chance", "(I)I"⟩
def dkwX0_chance_4 : List UInt8 := [167, 255, 189, 28, 172]
abbrev dktX0_chance_4 : List UInt8 := dkwX0_chance_4 ++ []
def dkwX0_chance_3 : List UInt8 := [182, 1, 223, 182, 1, 229, 87, 132, 2, 1, 42, 180, 0, 111, 2, 182, 1, 138, 87, 132, 3, 1]
abbrev dktX0_chance_3 : List UInt8 := dkwX0_chance_3 ++ dktX0_chance_4
def dkwX0_chance_2 : List UInt8 := [180, 0, 49, 180, 0, 239, 182, 1, 223, 54, 4, 42, 180, 0, 111, 21, 4, 42, 42, 182, 0, 245]
abbrev dktX0_chance_2 : List UInt8 := dkwX0_chance_2 ++ dktX0_chance_3
def dkwX0_chance_1 : List UInt8 := [62, 29, 27, 162, 0, 68, 42, 16, 100, 182, 1, 223, 42, 180, 0, 49, 180, 1, 226, 162, 0, 37, 42, 42]
abbrev dktX0_chance_1 : List UInt8 := dkwX0_chance_1 ++ dktX0_chance_2
def dkwX0_chance_0 : List UInt8 := [42, 27, 4, 16, 100, 182, 1, 131, 154, 0, 9, 42, 6, 182, 0, 162, 172, 42, 182, 1, 211, 3, 61, 3]
abbrev dktX0_chance_0 : List UInt8 := dkwX0_chance_0 ++ dktX0_chance_1
theorem dksX0_chance_0 : cX0_chance.data.toList.drop 0 = dktX0_chance_0 := by decide +kernel
theorem dksX0_chance_1 : cX0_chance.data.toList.drop 24 = dktX0_chance_1 := dk_seg dksX0_chance_0 24 rfl rfl
theorem dksX0_chance_2 : cX0_chance.data.toList.drop 48 = dktX0_chance_2 := dk_seg dksX0_chance_1 24 rfl rfl
theorem dksX0_chance_3 : cX0_chance.data.toList.drop 70 = dktX0_chance_3 := dk_seg dksX0_chance_2 22 rfl rfl
theorem dksX0_chance_4 : cX0_chance.data.toList.drop 92 = dktX0_chance_4 := dk_seg dksX0_chance_3 22 rfl rfl
theorem dX0_chance_0 : decode cX0_chance 0 = .ok (.aload_n 0, 1) := dk_42 (dk_at dksX0_chance_0 0 rfl rfl)
theorem dX0_chance_1 : decode cX0_chance 1 = .ok (.iload_n 1, 1) := dk_27 (dk_at dksX0_chance_0 1 rfl rfl)
theorem dX0_chance_2 : decode cX0_chance 2 = .ok (.iconst 1, 1) := dk_4 (dk_at dksX0_chance_0 2 rfl rfl)
theorem dX0_chance_3 : decode cX0_chance 3 = .ok (.bipush 100, 2) := dk_16 100 (dk_at dksX0_chance_0 3 rfl rfl)
theorem dX0_chance_5 : decode cX0_chance 5 = .ok (.invokevirtual 387, 3) := dk_182 1 131 (dk_at dksX0_chance_0 5 rfl rfl)
theorem dX0_chance_8 : decode cX0_chance 8 = .ok (.ifCond .ne 9, 3) := dk_154 0 9 (dk_at dksX0_chance_0 8 rfl rfl)
theorem dX0_chance_11 : decode cX0_chance 11 = .ok (.aload_n 0, 1) := dk_42 (dk_at dksX0_chance_0 11 rfl rfl)
theorem dX0_chance_12 : decode cX0_chance 12 = .ok (.iconst 3, 1) := dk_6 (dk_at dksX0_chance_0 12 rfl rfl)
theorem dX0_chance_13 : decode cX0_chance 13 = .ok (.invokevirtual 162, 3) := dk_182 0 162 (dk_at dksX0_chance_0 13 rfl rfl)
theorem dX0_chance_16 : decode cX0_chance 16 = .ok (.ireturn, 1) := dk_172 (dk_at dksX0_chance_0 16 rfl rfl)
theorem dX0_chance_17 : decode cX0_chance 17 = .ok (.aload_n 0, 1) := dk_42 (dk_at dksX0_chance_0 17 rfl rfl)
theorem dX0_chance_18 : decode cX0_chance 18 = .ok (.invokevirtual 467, 3) := dk_182 1 211 (dk_at dksX0_chance_0 18 rfl rfl)
theorem dX0_chance_21 : decode cX0_chance 21 = .ok (.iconst 0, 1) := dk_3 (dk_at dksX0_chance_0 21 rfl rfl)
theorem dX0_chance_22 : decode cX0_chance 22 = .ok (.istore_n 2, 1) := dk_61 (dk_at dksX0_chance_0 22 rfl rfl)
theorem dX0_chance_23 : decode cX0_chance 23 = .ok (.iconst 0, 1) := dk_3 (dk_at dksX0_chance_0 23 rfl rfl)
theorem dX0_chance_24 : decode cX0_chance 24 = .ok (.istore_n 3, 1) := dk_62 (dk_at dksX0_chance_1 0 rfl rfl)
theorem dX0_chance_25 : decode cX0_chance 25 = .ok (.iload_n 3, 1) := dk_29 (dk_at dksX0_chance_1 1 rfl rfl)
theorem dX0_chance_26 : decode cX0_chance 26 = .ok (.iload_n 1, 1) := dk_27 (dk_at dksX0_chance_1 2 rfl rfl)
theorem dX0_chance_27 : decode cX0_chance 27 = .ok (.if_icmp .ge 68, 3) := dk_162 0 68 (dk_at dksX0_chance_1 3 rfl rfl)
theorem dX0_chance_30 : decode cX0_chance 30 = .ok (.aload_n 0, 1) := dk_42 (dk_at dksX0_chance_1 6 rfl rfl)
theorem dX0_chance_31 : decode cX0_chance 31 = .ok (.bipush 100, 2) := dk_16 100 (dk_at dksX0_chance_1 7 rfl rfl)
theorem dX0_chance_33 : decode cX0_chance 33 = .ok (.invokevirtual 479, 3) := dk_182 1 223 (dk_at dksX0_chance_1 9 rfl rfl)
theorem dX0_chance_36 : decode cX0_chance 36 = .ok (.aload_n 0, 1) := dk_42 (dk_at dksX0_chance_1 12 rfl rfl)
theorem dX0_chance_37 : decode cX0_chance 37 = .ok (.getfield 49, 3) := dk_180 0 49 (dk_at dksX0_chance_1 13 rfl rfl)
theorem dX0_chance_40 : decode cX0_chance 40 = .ok (.getfield 482, 3) := dk_180 1 226 (dk_at dksX0_chance_1 16 rfl rfl)
theorem dX0_chance_43 : decode cX0_chance 43 = .ok (.if_icmp .ge 37, 3) := dk_162 0 37 (dk_at dksX0_chance_1 19 rfl rfl)
theorem dX0_chance_46 : decode cX0_chance 46 = .ok (.aload_n 0, 1) := dk_42 (dk_at dksX0_chance_1 22 rfl rfl)
theorem dX0_chance_47 : decode cX0_chance 47 = .ok (.aload_n 0, 1) := dk_42 (dk_at dksX0_chance_1 23 rfl rfl)
theorem dX0_chance_48 : decode cX0_chance 48 = .ok (.getfield 49, 3) := dk_180 0 49 (dk_at dksX0_chance_2 0 rfl rfl)
theorem dX0_chance_51 : decode cX0_chance 51 = .ok (.getfield 239, 3) := dk_180 0 239 (dk_at dksX0_chance_2 3 rfl rfl)
theorem dX0_chance_54 : decode cX0_chance 54 = .ok (.invokevirtual 479, 3) := dk_182 1 223 (dk_at dksX0_chance_2 6 rfl rfl)
theorem dX0_chance_57 : decode cX0_chance 57 = .ok (.istore 4, 2) := dk_54 4 (dk_at dksX0_chance_2 9 rfl rfl)
theorem dX0_chance_59 : decode cX0_chance 59 = .ok (.aload_n 0, 1) := dk_42 (dk_at dksX0_chance_2 11 rfl rfl)
theorem dX0_chance_60 : decode cX0_chance 60 = .ok (.getfield 111, 3) := dk_180 0 111 (dk_at dksX0_chance_2 12 rfl rfl)
theorem dX0_chance_63 : decode cX0_chance 63 = .ok (.iload 4, 2) := dk_21 4 (dk_at dksX0_chance_2 15 rfl rfl)
theorem dX0_chance_65 : decode cX0_chance 65 = .ok (.aload_n 0, 1) := dk_42 (dk_at dksX0_chance_2 17 rfl rfl)
theorem dX0_chance_66 : decode cX0_chance 66 = .ok (.aload_n 0, 1) := dk_42 (dk_at dksX0_chance_2 18 rfl rfl)
theorem dX0_chance_67 : decode cX0_chance 67 = .ok (.invokevirtual 245, 3) := dk_182 0 245 (dk_at dksX0_chance_2 19 rfl rfl)
theorem dX0_chance_70 : decode cX0_chance 70 = .ok (.invokevirtual 479, 3) := dk_182 1 223 (dk_at dksX0_chance_3 0 rfl rfl)
theorem dX0_chance_73 : decode cX0_chance 73 = .ok (.invokevirtual 485, 3) := dk_182 1 229 (dk_at dksX0_chance_3 3 rfl rfl)
theorem dX0_chance_76 : decode cX0_chance 76 = .ok (.pop, 1) := dk_87 (dk_at dksX0_chance_3 6 rfl rfl)
theorem dX0_chance_77 : decode cX0_chance 77 = .ok (.iinc 2 1, 3) := dk_132 2 1 (dk_at dksX0_chance_3 7 rfl rfl)
theorem dX0_chance_80 : decode cX0_chance 80 = .ok (.aload_n 0, 1) := dk_42 (dk_at dksX0_chance_3 10 rfl rfl)
theorem dX0_chance_81 : decode cX0_chance 81 = .ok (.getfield 111, 3) := dk_180 0 111 (dk_at dksX0_chance_3 11 rfl rfl)
theorem dX0_chance_84 : decode cX0_chance 84 = .ok (.iconst (-1), 1) := dk_2 (dk_at dksX0_chance_3 14 rfl rfl)
theorem dX0_chance_85 : decode cX0_chance 85 = .ok (.invokevirtual 394, 3) := dk_182 1 138 (dk_at dksX0_chance_3 15 rfl rfl)
theorem dX0_chance_88 : decode cX0_chance 88 = .ok (.pop, 1) := dk_87 (dk_at dksX0_chance_3 18 rfl rfl)
theorem dX0_chance_89 : decode cX0_chance 89 = .ok (.iinc 3 1, 3) := dk_132 3 1 (dk_at dksX0_chance_3 19 rfl rfl)
theorem dX0_chance_92 : decode cX0_chance 92 = .ok (.goto (-67), 3) := dk_167 255 189 (dk_at dksX0_chance_4 0 rfl rfl)
theorem dX0_chance_95 : decode cX0_chance 95 = .ok (.iload_n 2, 1) := dk_28 (dk_at dksX0_chance_4 3 rfl rfl)
theorem dX0_chance_96 : decode cX0_chance 96 = .ok (.ireturn, 1) := dk_172 (dk_at dksX0_chance_4 4 rfl rfl)
abbrev cX0_draw : ByteArray := prog_1_method_62_code
def yX0_draw : MethodName := ⟨RX0, "draw", "(I)I"⟩
def dkwX0_draw_1 : List UInt8 := [20, 1, 221, 109, 27, 133, 113, 136, 172]
abbrev dktX0_draw_1 : List UInt8 := dkwX0_draw_1 ++ []
def dkwX0_draw_0 : List UInt8 := [42, 20, 1, 215, 42, 180, 0, 148, 105, 20, 1, 217, 97, 20, 1, 219, 113, 181, 0, 148, 42, 180, 0, 148]
abbrev dktX0_draw_0 : List UInt8 := dkwX0_draw_0 ++ dktX0_draw_1
theorem dksX0_draw_0 : cX0_draw.data.toList.drop 0 = dktX0_draw_0 := by decide +kernel
theorem dksX0_draw_1 : cX0_draw.data.toList.drop 24 = dktX0_draw_1 := dk_seg dksX0_draw_0 24 rfl rfl
theorem dX0_draw_0 : decode cX0_draw 0 = .ok (.aload_n 0, 1) := dk_42 (dk_at dksX0_draw_0 0 rfl rfl)
theorem dX0_draw_1 : decode cX0_draw 1 = .ok (.ldc2_w 471, 3) := dk_20 1 215 (dk_at dksX0_draw_0 1 rfl rfl)
theorem dX0_draw_4 : decode cX0_draw 4 = .ok (.aload_n 0, 1) := dk_42 (dk_at dksX0_draw_0 4 rfl rfl)
theorem dX0_draw_5 : decode cX0_draw 5 = .ok (.getfield 148, 3) := dk_180 0 148 (dk_at dksX0_draw_0 5 rfl rfl)
theorem dX0_draw_8 : decode cX0_draw 8 = .ok (.lmul, 1) := dk_105 (dk_at dksX0_draw_0 8 rfl rfl)
theorem dX0_draw_9 : decode cX0_draw 9 = .ok (.ldc2_w 473, 3) := dk_20 1 217 (dk_at dksX0_draw_0 9 rfl rfl)
theorem dX0_draw_12 : decode cX0_draw 12 = .ok (.ladd, 1) := dk_97 (dk_at dksX0_draw_0 12 rfl rfl)
theorem dX0_draw_13 : decode cX0_draw 13 = .ok (.ldc2_w 475, 3) := dk_20 1 219 (dk_at dksX0_draw_0 13 rfl rfl)
theorem dX0_draw_16 : decode cX0_draw 16 = .ok (.lrem, 1) := dk_113 (dk_at dksX0_draw_0 16 rfl rfl)
theorem dX0_draw_17 : decode cX0_draw 17 = .ok (.putfield 148, 3) := dk_181 0 148 (dk_at dksX0_draw_0 17 rfl rfl)
theorem dX0_draw_20 : decode cX0_draw 20 = .ok (.aload_n 0, 1) := dk_42 (dk_at dksX0_draw_0 20 rfl rfl)
theorem dX0_draw_21 : decode cX0_draw 21 = .ok (.getfield 148, 3) := dk_180 0 148 (dk_at dksX0_draw_0 21 rfl rfl)
theorem dX0_draw_24 : decode cX0_draw 24 = .ok (.ldc2_w 477, 3) := dk_20 1 221 (dk_at dksX0_draw_1 0 rfl rfl)
theorem dX0_draw_27 : decode cX0_draw 27 = .ok (.ldiv, 1) := dk_109 (dk_at dksX0_draw_1 3 rfl rfl)
theorem dX0_draw_28 : decode cX0_draw 28 = .ok (.iload_n 1, 1) := dk_27 (dk_at dksX0_draw_1 4 rfl rfl)
theorem dX0_draw_29 : decode cX0_draw 29 = .ok (.i2l, 1) := dk_133 (dk_at dksX0_draw_1 5 rfl rfl)
theorem dX0_draw_30 : decode cX0_draw 30 = .ok (.lrem, 1) := dk_113 (dk_at dksX0_draw_1 6 rfl rfl)
theorem dX0_draw_31 : decode cX0_draw 31 = .ok (.l2i, 1) := dk_136 (dk_at dksX0_draw_1 7 rfl rfl)
theorem dX0_draw_32 : decode cX0_draw 32 = .ok (.ireturn, 1) := dk_172 (dk_at dksX0_draw_1 8 rfl rfl)
abbrev cX0_snap : ByteArray := prog_1_method_64_code
def yX0_snap : MethodName := ⟨RX0, "snap", "()I"⟩
def dkwX0_snap_2 : List UInt8 := [182, 1, 232, 172]
abbrev dktX0_snap_2 : List UInt8 := dkwX0_snap_2 ++ []
def dkwX0_snap_1 : List UInt8 := [42, 180, 0, 111, 180, 1, 25, 160, 0, 9, 42, 7, 182, 0, 162, 172, 42, 182, 1, 211, 42, 180, 0, 111]
abbrev dktX0_snap_1 : List UInt8 := dkwX0_snap_1 ++ dktX0_snap_2
def dkwX0_snap_0 : List UInt8 := [42, 182, 1, 12, 153, 0, 30, 42, 180, 0, 111, 180, 1, 56, 154, 0, 20, 42, 180, 0, 111, 180, 1, 37]
abbrev dktX0_snap_0 : List UInt8 := dkwX0_snap_0 ++ dktX0_snap_1
theorem dksX0_snap_0 : cX0_snap.data.toList.drop 0 = dktX0_snap_0 := by decide +kernel
theorem dksX0_snap_1 : cX0_snap.data.toList.drop 24 = dktX0_snap_1 := dk_seg dksX0_snap_0 24 rfl rfl
theorem dksX0_snap_2 : cX0_snap.data.toList.drop 48 = dktX0_snap_2 := dk_seg dksX0_snap_1 24 rfl rfl
theorem dX0_snap_0 : decode cX0_snap 0 = .ok (.aload_n 0, 1) := dk_42 (dk_at dksX0_snap_0 0 rfl rfl)
theorem dX0_snap_1 : decode cX0_snap 1 = .ok (.invokevirtual 268, 3) := dk_182 1 12 (dk_at dksX0_snap_0 1 rfl rfl)
theorem dX0_snap_4 : decode cX0_snap 4 = .ok (.ifCond .eq 30, 3) := dk_153 0 30 (dk_at dksX0_snap_0 4 rfl rfl)
theorem dX0_snap_7 : decode cX0_snap 7 = .ok (.aload_n 0, 1) := dk_42 (dk_at dksX0_snap_0 7 rfl rfl)
theorem dX0_snap_8 : decode cX0_snap 8 = .ok (.getfield 111, 3) := dk_180 0 111 (dk_at dksX0_snap_0 8 rfl rfl)
theorem dX0_snap_11 : decode cX0_snap 11 = .ok (.getfield 312, 3) := dk_180 1 56 (dk_at dksX0_snap_0 11 rfl rfl)
theorem dX0_snap_14 : decode cX0_snap 14 = .ok (.ifCond .ne 20, 3) := dk_154 0 20 (dk_at dksX0_snap_0 14 rfl rfl)
theorem dX0_snap_17 : decode cX0_snap 17 = .ok (.aload_n 0, 1) := dk_42 (dk_at dksX0_snap_0 17 rfl rfl)
theorem dX0_snap_18 : decode cX0_snap 18 = .ok (.getfield 111, 3) := dk_180 0 111 (dk_at dksX0_snap_0 18 rfl rfl)
theorem dX0_snap_21 : decode cX0_snap 21 = .ok (.getfield 293, 3) := dk_180 1 37 (dk_at dksX0_snap_0 21 rfl rfl)
theorem dX0_snap_24 : decode cX0_snap 24 = .ok (.aload_n 0, 1) := dk_42 (dk_at dksX0_snap_1 0 rfl rfl)
theorem dX0_snap_25 : decode cX0_snap 25 = .ok (.getfield 111, 3) := dk_180 0 111 (dk_at dksX0_snap_1 1 rfl rfl)
theorem dX0_snap_28 : decode cX0_snap 28 = .ok (.getfield 281, 3) := dk_180 1 25 (dk_at dksX0_snap_1 4 rfl rfl)
theorem dX0_snap_31 : decode cX0_snap 31 = .ok (.if_icmp .ne 9, 3) := dk_160 0 9 (dk_at dksX0_snap_1 7 rfl rfl)
theorem dX0_snap_34 : decode cX0_snap 34 = .ok (.aload_n 0, 1) := dk_42 (dk_at dksX0_snap_1 10 rfl rfl)
theorem dX0_snap_35 : decode cX0_snap 35 = .ok (.iconst 4, 1) := dk_7 (dk_at dksX0_snap_1 11 rfl rfl)
theorem dX0_snap_36 : decode cX0_snap 36 = .ok (.invokevirtual 162, 3) := dk_182 0 162 (dk_at dksX0_snap_1 12 rfl rfl)
theorem dX0_snap_39 : decode cX0_snap 39 = .ok (.ireturn, 1) := dk_172 (dk_at dksX0_snap_1 15 rfl rfl)
theorem dX0_snap_40 : decode cX0_snap 40 = .ok (.aload_n 0, 1) := dk_42 (dk_at dksX0_snap_1 16 rfl rfl)
theorem dX0_snap_41 : decode cX0_snap 41 = .ok (.invokevirtual 467, 3) := dk_182 1 211 (dk_at dksX0_snap_1 17 rfl rfl)
theorem dX0_snap_44 : decode cX0_snap 44 = .ok (.aload_n 0, 1) := dk_42 (dk_at dksX0_snap_1 20 rfl rfl)
theorem dX0_snap_45 : decode cX0_snap 45 = .ok (.getfield 111, 3) := dk_180 0 111 (dk_at dksX0_snap_1 21 rfl rfl)
theorem dX0_snap_48 : decode cX0_snap 48 = .ok (.invokevirtual 488, 3) := dk_182 1 232 (dk_at dksX0_snap_2 0 rfl rfl)
theorem dX0_snap_51 : decode cX0_snap 51 = .ok (.ireturn, 1) := dk_172 (dk_at dksX0_snap_2 3 rfl rfl)
abbrev cX0_crash : ByteArray := prog_1_method_65_code
def yX0_crash : MethodName := ⟨RX0, "crash", "(I)I"⟩
def dkwX0_crash_1 : List UInt8 := [182, 0, 162, 172, 42, 182, 1, 211, 42, 180, 0, 111, 27, 182, 1, 235, 172]
abbrev dktX0_crash_1 : List UInt8 := dkwX0_crash_1 ++ []
def dkwX0_crash_0 : List UInt8 := [42, 182, 1, 12, 153, 0, 18, 27, 3, 42, 180, 0, 111, 180, 1, 31, 184, 1, 16, 154, 0, 9, 42, 7]
abbrev dktX0_crash_0 : List UInt8 := dkwX0_crash_0 ++ dktX0_crash_1
theorem dksX0_crash_0 : cX0_crash.data.toList.drop 0 = dktX0_crash_0 := by decide +kernel
theorem dksX0_crash_1 : cX0_crash.data.toList.drop 24 = dktX0_crash_1 := dk_seg dksX0_crash_0 24 rfl rfl
theorem dX0_crash_0 : decode cX0_crash 0 = .ok (.aload_n 0, 1) := dk_42 (dk_at dksX0_crash_0 0 rfl rfl)
theorem dX0_crash_1 : decode cX0_crash 1 = .ok (.invokevirtual 268, 3) := dk_182 1 12 (dk_at dksX0_crash_0 1 rfl rfl)
theorem dX0_crash_4 : decode cX0_crash 4 = .ok (.ifCond .eq 18, 3) := dk_153 0 18 (dk_at dksX0_crash_0 4 rfl rfl)
theorem dX0_crash_7 : decode cX0_crash 7 = .ok (.iload_n 1, 1) := dk_27 (dk_at dksX0_crash_0 7 rfl rfl)
theorem dX0_crash_8 : decode cX0_crash 8 = .ok (.iconst 0, 1) := dk_3 (dk_at dksX0_crash_0 8 rfl rfl)
theorem dX0_crash_9 : decode cX0_crash 9 = .ok (.aload_n 0, 1) := dk_42 (dk_at dksX0_crash_0 9 rfl rfl)
theorem dX0_crash_10 : decode cX0_crash 10 = .ok (.getfield 111, 3) := dk_180 0 111 (dk_at dksX0_crash_0 10 rfl rfl)
theorem dX0_crash_13 : decode cX0_crash 13 = .ok (.getfield 287, 3) := dk_180 1 31 (dk_at dksX0_crash_0 13 rfl rfl)
theorem dX0_crash_16 : decode cX0_crash 16 = .ok (.invokestatic 272, 3) := dk_184 1 16 (dk_at dksX0_crash_0 16 rfl rfl)
theorem dX0_crash_19 : decode cX0_crash 19 = .ok (.ifCond .ne 9, 3) := dk_154 0 9 (dk_at dksX0_crash_0 19 rfl rfl)
theorem dX0_crash_22 : decode cX0_crash 22 = .ok (.aload_n 0, 1) := dk_42 (dk_at dksX0_crash_0 22 rfl rfl)
theorem dX0_crash_23 : decode cX0_crash 23 = .ok (.iconst 4, 1) := dk_7 (dk_at dksX0_crash_0 23 rfl rfl)
theorem dX0_crash_24 : decode cX0_crash 24 = .ok (.invokevirtual 162, 3) := dk_182 0 162 (dk_at dksX0_crash_1 0 rfl rfl)
theorem dX0_crash_27 : decode cX0_crash 27 = .ok (.ireturn, 1) := dk_172 (dk_at dksX0_crash_1 3 rfl rfl)
theorem dX0_crash_28 : decode cX0_crash 28 = .ok (.aload_n 0, 1) := dk_42 (dk_at dksX0_crash_1 4 rfl rfl)
theorem dX0_crash_29 : decode cX0_crash 29 = .ok (.invokevirtual 467, 3) := dk_182 1 211 (dk_at dksX0_crash_1 5 rfl rfl)
theorem dX0_crash_32 : decode cX0_crash 32 = .ok (.aload_n 0, 1) := dk_42 (dk_at dksX0_crash_1 8 rfl rfl)
theorem dX0_crash_33 : decode cX0_crash 33 = .ok (.getfield 111, 3) := dk_180 0 111 (dk_at dksX0_crash_1 9 rfl rfl)
theorem dX0_crash_36 : decode cX0_crash 36 = .ok (.iload_n 1, 1) := dk_27 (dk_at dksX0_crash_1 12 rfl rfl)
theorem dX0_crash_37 : decode cX0_crash 37 = .ok (.invokevirtual 491, 3) := dk_182 1 235 (dk_at dksX0_crash_1 13 rfl rfl)
theorem dX0_crash_40 : decode cX0_crash 40 = .ok (.ireturn, 1) := dk_172 (dk_at dksX0_crash_1 16 rfl rfl)
abbrev cX0_giveUp : ByteArray := prog_1_method_66_code
def yX0_giveUp : MethodName := ⟨RX0, "giveUp", "()I"⟩
def dkwX0_giveUp_1 : List UInt8 := [182, 1, 211, 42, 180, 0, 111, 182, 1, 238, 172]
abbrev dktX0_giveUp_1 : List UInt8 := dkwX0_giveUp_1 ++ []
def dkwX0_giveUp_0 : List UInt8 := [42, 182, 1, 12, 153, 0, 13, 42, 180, 0, 111, 180, 1, 56, 154, 0, 9, 42, 7, 182, 0, 162, 172, 42]
abbrev dktX0_giveUp_0 : List UInt8 := dkwX0_giveUp_0 ++ dktX0_giveUp_1
theorem dksX0_giveUp_0 : cX0_giveUp.data.toList.drop 0 = dktX0_giveUp_0 := by decide +kernel
theorem dksX0_giveUp_1 : cX0_giveUp.data.toList.drop 24 = dktX0_giveUp_1 := dk_seg dksX0_giveUp_0 24 rfl rfl
theorem dX0_giveUp_0 : decode cX0_giveUp 0 = .ok (.aload_n 0, 1) := dk_42 (dk_at dksX0_giveUp_0 0 rfl rfl)
theorem dX0_giveUp_1 : decode cX0_giveUp 1 = .ok (.invokevirtual 268, 3) := dk_182 1 12 (dk_at dksX0_giveUp_0 1 rfl rfl)
theorem dX0_giveUp_4 : decode cX0_giveUp 4 = .ok (.ifCond .eq 13, 3) := dk_153 0 13 (dk_at dksX0_giveUp_0 4 rfl rfl)
theorem dX0_giveUp_7 : decode cX0_giveUp 7 = .ok (.aload_n 0, 1) := dk_42 (dk_at dksX0_giveUp_0 7 rfl rfl)
theorem dX0_giveUp_8 : decode cX0_giveUp 8 = .ok (.getfield 111, 3) := dk_180 0 111 (dk_at dksX0_giveUp_0 8 rfl rfl)
theorem dX0_giveUp_11 : decode cX0_giveUp 11 = .ok (.getfield 312, 3) := dk_180 1 56 (dk_at dksX0_giveUp_0 11 rfl rfl)
theorem dX0_giveUp_14 : decode cX0_giveUp 14 = .ok (.ifCond .ne 9, 3) := dk_154 0 9 (dk_at dksX0_giveUp_0 14 rfl rfl)
theorem dX0_giveUp_17 : decode cX0_giveUp 17 = .ok (.aload_n 0, 1) := dk_42 (dk_at dksX0_giveUp_0 17 rfl rfl)
theorem dX0_giveUp_18 : decode cX0_giveUp 18 = .ok (.iconst 4, 1) := dk_7 (dk_at dksX0_giveUp_0 18 rfl rfl)
theorem dX0_giveUp_19 : decode cX0_giveUp 19 = .ok (.invokevirtual 162, 3) := dk_182 0 162 (dk_at dksX0_giveUp_0 19 rfl rfl)
theorem dX0_giveUp_22 : decode cX0_giveUp 22 = .ok (.ireturn, 1) := dk_172 (dk_at dksX0_giveUp_0 22 rfl rfl)
theorem dX0_giveUp_23 : decode cX0_giveUp 23 = .ok (.aload_n 0, 1) := dk_42 (dk_at dksX0_giveUp_0 23 rfl rfl)
theorem dX0_giveUp_24 : decode cX0_giveUp 24 = .ok (.invokevirtual 467, 3) := dk_182 1 211 (dk_at dksX0_giveUp_1 0 rfl rfl)
theorem dX0_giveUp_27 : decode cX0_giveUp 27 = .ok (.aload_n 0, 1) := dk_42 (dk_at dksX0_giveUp_1 3 rfl rfl)
theorem dX0_giveUp_28 : decode cX0_giveUp 28 = .ok (.getfield 111, 3) := dk_180 0 111 (dk_at dksX0_giveUp_1 4 rfl rfl)
theorem dX0_giveUp_31 : decode cX0_giveUp 31 = .ok (.invokevirtual 494, 3) := dk_182 1 238 (dk_at dksX0_giveUp_1 7 rfl rfl)
theorem dX0_giveUp_34 : decode cX0_giveUp 34 = .ok (.ireturn, 1) := dk_172 (dk_at dksX0_giveUp_1 10 rfl rfl)
abbrev cX0_flip : ByteArray := prog_1_method_67_code
def yX0_flip : MethodName := ⟨RX0, "flip", "(II)I"⟩
def dkwX0_flip_1 : List UInt8 := [182, 0, 162, 172, 42, 182, 1, 211, 42, 180, 0, 111, 27, 28, 182, 1, 229, 172]
abbrev dktX0_flip_1 : List UInt8 := dkwX0_flip_1 ++ []
def dkwX0_flip_0 : List UInt8 := [42, 27, 182, 1, 60, 153, 0, 17, 28, 3, 42, 182, 0, 245, 4, 100, 184, 1, 16, 154, 0, 9, 42, 7]
abbrev dktX0_flip_0 : List UInt8 := dkwX0_flip_0 ++ dktX0_flip_1
theorem dksX0_flip_0 : cX0_flip.data.toList.drop 0 = dktX0_flip_0 := by decide +kernel
theorem dksX0_flip_1 : cX0_flip.data.toList.drop 24 = dktX0_flip_1 := dk_seg dksX0_flip_0 24 rfl rfl
theorem dX0_flip_0 : decode cX0_flip 0 = .ok (.aload_n 0, 1) := dk_42 (dk_at dksX0_flip_0 0 rfl rfl)
theorem dX0_flip_1 : decode cX0_flip 1 = .ok (.iload_n 1, 1) := dk_27 (dk_at dksX0_flip_0 1 rfl rfl)
theorem dX0_flip_2 : decode cX0_flip 2 = .ok (.invokevirtual 316, 3) := dk_182 1 60 (dk_at dksX0_flip_0 2 rfl rfl)
theorem dX0_flip_5 : decode cX0_flip 5 = .ok (.ifCond .eq 17, 3) := dk_153 0 17 (dk_at dksX0_flip_0 5 rfl rfl)
theorem dX0_flip_8 : decode cX0_flip 8 = .ok (.iload_n 2, 1) := dk_28 (dk_at dksX0_flip_0 8 rfl rfl)
theorem dX0_flip_9 : decode cX0_flip 9 = .ok (.iconst 0, 1) := dk_3 (dk_at dksX0_flip_0 9 rfl rfl)
theorem dX0_flip_10 : decode cX0_flip 10 = .ok (.aload_n 0, 1) := dk_42 (dk_at dksX0_flip_0 10 rfl rfl)
theorem dX0_flip_11 : decode cX0_flip 11 = .ok (.invokevirtual 245, 3) := dk_182 0 245 (dk_at dksX0_flip_0 11 rfl rfl)
theorem dX0_flip_14 : decode cX0_flip 14 = .ok (.iconst 1, 1) := dk_4 (dk_at dksX0_flip_0 14 rfl rfl)
theorem dX0_flip_15 : decode cX0_flip 15 = .ok (.isub, 1) := dk_100 (dk_at dksX0_flip_0 15 rfl rfl)
theorem dX0_flip_16 : decode cX0_flip 16 = .ok (.invokestatic 272, 3) := dk_184 1 16 (dk_at dksX0_flip_0 16 rfl rfl)
theorem dX0_flip_19 : decode cX0_flip 19 = .ok (.ifCond .ne 9, 3) := dk_154 0 9 (dk_at dksX0_flip_0 19 rfl rfl)
theorem dX0_flip_22 : decode cX0_flip 22 = .ok (.aload_n 0, 1) := dk_42 (dk_at dksX0_flip_0 22 rfl rfl)
theorem dX0_flip_23 : decode cX0_flip 23 = .ok (.iconst 4, 1) := dk_7 (dk_at dksX0_flip_0 23 rfl rfl)
theorem dX0_flip_24 : decode cX0_flip 24 = .ok (.invokevirtual 162, 3) := dk_182 0 162 (dk_at dksX0_flip_1 0 rfl rfl)
theorem dX0_flip_27 : decode cX0_flip 27 = .ok (.ireturn, 1) := dk_172 (dk_at dksX0_flip_1 3 rfl rfl)
theorem dX0_flip_28 : decode cX0_flip 28 = .ok (.aload_n 0, 1) := dk_42 (dk_at dksX0_flip_1 4 rfl rfl)
theorem dX0_flip_29 : decode cX0_flip 29 = .ok (.invokevirtual 467, 3) := dk_182 1 211 (dk_at dksX0_flip_1 5 rfl rfl)
theorem dX0_flip_32 : decode cX0_flip 32 = .ok (.aload_n 0, 1) := dk_42 (dk_at dksX0_flip_1 8 rfl rfl)
theorem dX0_flip_33 : decode cX0_flip 33 = .ok (.getfield 111, 3) := dk_180 0 111 (dk_at dksX0_flip_1 9 rfl rfl)
theorem dX0_flip_36 : decode cX0_flip 36 = .ok (.iload_n 1, 1) := dk_27 (dk_at dksX0_flip_1 12 rfl rfl)
theorem dX0_flip_37 : decode cX0_flip 37 = .ok (.iload_n 2, 1) := dk_28 (dk_at dksX0_flip_1 13 rfl rfl)
theorem dX0_flip_38 : decode cX0_flip 38 = .ok (.invokevirtual 485, 3) := dk_182 1 229 (dk_at dksX0_flip_1 14 rfl rfl)
theorem dX0_flip_41 : decode cX0_flip 41 = .ok (.ireturn, 1) := dk_172 (dk_at dksX0_flip_1 17 rfl rfl)
abbrev cX0_seed : ByteArray := prog_1_method_68_code
def yX0_seed : MethodName := ⟨RX0, "seed", "(I)Z"⟩
def dkwX0_seed_1 : List UInt8 := [181, 0, 148, 4, 172]
abbrev dktX0_seed_1 : List UInt8 := dkwX0_seed_1 ++ []
def dkwX0_seed_0 : List UInt8 := [27, 156, 0, 18, 42, 16, 6, 182, 0, 162, 155, 0, 7, 4, 167, 0, 4, 3, 172, 42, 27, 133]
abbrev dktX0_seed_0 : List UInt8 := dkwX0_seed_0 ++ dktX0_seed_1
theorem dksX0_seed_0 : cX0_seed.data.toList.drop 0 = dktX0_seed_0 := by decide +kernel
theorem dksX0_seed_1 : cX0_seed.data.toList.drop 22 = dktX0_seed_1 := dk_seg dksX0_seed_0 22 rfl rfl
theorem dX0_seed_0 : decode cX0_seed 0 = .ok (.iload_n 1, 1) := dk_27 (dk_at dksX0_seed_0 0 rfl rfl)
theorem dX0_seed_1 : decode cX0_seed 1 = .ok (.ifCond .ge 18, 3) := dk_156 0 18 (dk_at dksX0_seed_0 1 rfl rfl)
theorem dX0_seed_4 : decode cX0_seed 4 = .ok (.aload_n 0, 1) := dk_42 (dk_at dksX0_seed_0 4 rfl rfl)
theorem dX0_seed_5 : decode cX0_seed 5 = .ok (.bipush 6, 2) := dk_16 6 (dk_at dksX0_seed_0 5 rfl rfl)
theorem dX0_seed_7 : decode cX0_seed 7 = .ok (.invokevirtual 162, 3) := dk_182 0 162 (dk_at dksX0_seed_0 7 rfl rfl)
theorem dX0_seed_10 : decode cX0_seed 10 = .ok (.ifCond .lt 7, 3) := dk_155 0 7 (dk_at dksX0_seed_0 10 rfl rfl)
theorem dX0_seed_13 : decode cX0_seed 13 = .ok (.iconst 1, 1) := dk_4 (dk_at dksX0_seed_0 13 rfl rfl)
theorem dX0_seed_14 : decode cX0_seed 14 = .ok (.goto 4, 3) := dk_167 0 4 (dk_at dksX0_seed_0 14 rfl rfl)
theorem dX0_seed_17 : decode cX0_seed 17 = .ok (.iconst 0, 1) := dk_3 (dk_at dksX0_seed_0 17 rfl rfl)
theorem dX0_seed_18 : decode cX0_seed 18 = .ok (.ireturn, 1) := dk_172 (dk_at dksX0_seed_0 18 rfl rfl)
theorem dX0_seed_19 : decode cX0_seed 19 = .ok (.aload_n 0, 1) := dk_42 (dk_at dksX0_seed_0 19 rfl rfl)
theorem dX0_seed_20 : decode cX0_seed 20 = .ok (.iload_n 1, 1) := dk_27 (dk_at dksX0_seed_0 20 rfl rfl)
theorem dX0_seed_21 : decode cX0_seed 21 = .ok (.i2l, 1) := dk_133 (dk_at dksX0_seed_0 21 rfl rfl)
theorem dX0_seed_22 : decode cX0_seed 22 = .ok (.putfield 148, 3) := dk_181 0 148 (dk_at dksX0_seed_1 0 rfl rfl)
theorem dX0_seed_25 : decode cX0_seed 25 = .ok (.iconst 1, 1) := dk_4 (dk_at dksX0_seed_1 3 rfl rfl)
theorem dX0_seed_26 : decode cX0_seed 26 = .ok (.ireturn, 1) := dk_172 (dk_at dksX0_seed_1 4 rfl rfl)
abbrev cX0_ask : ByteArray := prog_1_method_70_code
def yX0_ask : MethodName := ⟨RX0, "ask", "()J"⟩
def dkwX0_ask_8 : List UInt8 := [182, 2, 1, 42, 89, 180, 1, 241, 4, 96, 181, 1, 241, 167, 255, 121, 44, 182, 2, 7, 173]
abbrev dktX0_ask_8 : List UInt8 := dkwX0_ask_8 ++ []
def dkwX0_ask_7 : List UInt8 := [16, 8, 42, 42, 180, 1, 241, 6, 182, 1, 255, 133, 80, 44, 42, 180, 1, 241, 42, 180, 0, 77]
abbrev dktX0_ask_7 : List UInt8 := dkwX0_ask_7 ++ dktX0_ask_8
def dkwX0_ask_6 : List UInt8 := [16, 7, 3, 42, 42, 180, 1, 241, 4, 182, 1, 255, 184, 1, 173, 133, 80, 42, 180, 0, 77, 180, 1, 252]
abbrev dktX0_ask_6 : List UInt8 := dkwX0_ask_6 ++ dktX0_ask_7
def dkwX0_ask_5 : List UInt8 := [16, 6, 3, 42, 42, 180, 1, 241, 3, 182, 1, 255, 184, 1, 173, 133, 80, 42, 180, 0, 77, 180, 1, 252]
abbrev dktX0_ask_5 : List UInt8 := dkwX0_ask_5 ++ dktX0_ask_6
def dkwX0_ask_4 : List UInt8 := [133, 80, 42, 180, 0, 77, 180, 1, 252, 8, 42, 180, 1, 241, 133, 80, 42, 180, 0, 77, 180, 1, 252]
abbrev dktX0_ask_4 : List UInt8 := dkwX0_ask_4 ++ dktX0_ask_5
def dkwX0_ask_3 : List UInt8 := [180, 0, 49, 180, 0, 239, 162, 0, 127, 42, 180, 0, 77, 180, 1, 252, 3, 42, 180, 0, 111, 180, 1, 19]
abbrev dktX0_ask_3 : List UInt8 := dkwX0_ask_3 ++ dktX0_ask_4
def dkwX0_ask_2 : List UInt8 := [42, 45, 180, 0, 185, 181, 0, 57, 20, 1, 246, 173, 42, 3, 181, 1, 241, 42, 180, 1, 241, 42]
abbrev dktX0_ask_2 : List UInt8 := dkwX0_ask_2 ++ dktX0_ask_3
def dkwX0_ask_1 : List UInt8 := [181, 0, 57, 42, 180, 0, 66, 27, 182, 1, 248, 77, 167, 0, 24, 78, 42, 45, 180, 0, 182, 181, 0, 169]
abbrev dktX0_ask_1 : List UInt8 := dkwX0_ask_1 ++ dktX0_ask_2
def dkwX0_ask_0 : List UInt8 := [42, 182, 0, 172, 60, 42, 182, 1, 12, 154, 0, 7, 20, 1, 246, 173, 42, 3, 181, 0, 169, 42, 2]
abbrev dktX0_ask_0 : List UInt8 := dkwX0_ask_0 ++ dktX0_ask_1
theorem dksX0_ask_0 : cX0_ask.data.toList.drop 0 = dktX0_ask_0 := by decide +kernel
theorem dksX0_ask_1 : cX0_ask.data.toList.drop 23 = dktX0_ask_1 := dk_seg dksX0_ask_0 23 rfl rfl
theorem dksX0_ask_2 : cX0_ask.data.toList.drop 47 = dktX0_ask_2 := dk_seg dksX0_ask_1 24 rfl rfl
theorem dksX0_ask_3 : cX0_ask.data.toList.drop 69 = dktX0_ask_3 := dk_seg dksX0_ask_2 22 rfl rfl
theorem dksX0_ask_4 : cX0_ask.data.toList.drop 93 = dktX0_ask_4 := dk_seg dksX0_ask_3 24 rfl rfl
theorem dksX0_ask_5 : cX0_ask.data.toList.drop 116 = dktX0_ask_5 := dk_seg dksX0_ask_4 23 rfl rfl
theorem dksX0_ask_6 : cX0_ask.data.toList.drop 140 = dktX0_ask_6 := dk_seg dksX0_ask_5 24 rfl rfl
theorem dksX0_ask_7 : cX0_ask.data.toList.drop 164 = dktX0_ask_7 := dk_seg dksX0_ask_6 24 rfl rfl
theorem dksX0_ask_8 : cX0_ask.data.toList.drop 186 = dktX0_ask_8 := dk_seg dksX0_ask_7 22 rfl rfl
theorem dX0_ask_0 : decode cX0_ask 0 = .ok (.aload_n 0, 1) := dk_42 (dk_at dksX0_ask_0 0 rfl rfl)
theorem dX0_ask_1 : decode cX0_ask 1 = .ok (.invokevirtual 172, 3) := dk_182 0 172 (dk_at dksX0_ask_0 1 rfl rfl)
theorem dX0_ask_4 : decode cX0_ask 4 = .ok (.istore_n 1, 1) := dk_60 (dk_at dksX0_ask_0 4 rfl rfl)
theorem dX0_ask_5 : decode cX0_ask 5 = .ok (.aload_n 0, 1) := dk_42 (dk_at dksX0_ask_0 5 rfl rfl)
theorem dX0_ask_6 : decode cX0_ask 6 = .ok (.invokevirtual 268, 3) := dk_182 1 12 (dk_at dksX0_ask_0 6 rfl rfl)
theorem dX0_ask_9 : decode cX0_ask 9 = .ok (.ifCond .ne 7, 3) := dk_154 0 7 (dk_at dksX0_ask_0 9 rfl rfl)
theorem dX0_ask_12 : decode cX0_ask 12 = .ok (.ldc2_w 502, 3) := dk_20 1 246 (dk_at dksX0_ask_0 12 rfl rfl)
theorem dX0_ask_15 : decode cX0_ask 15 = .ok (.lreturn, 1) := dk_173 (dk_at dksX0_ask_0 15 rfl rfl)
theorem dX0_ask_16 : decode cX0_ask 16 = .ok (.aload_n 0, 1) := dk_42 (dk_at dksX0_ask_0 16 rfl rfl)
theorem dX0_ask_17 : decode cX0_ask 17 = .ok (.iconst 0, 1) := dk_3 (dk_at dksX0_ask_0 17 rfl rfl)
theorem dX0_ask_18 : decode cX0_ask 18 = .ok (.putfield 169, 3) := dk_181 0 169 (dk_at dksX0_ask_0 18 rfl rfl)
theorem dX0_ask_21 : decode cX0_ask 21 = .ok (.aload_n 0, 1) := dk_42 (dk_at dksX0_ask_0 21 rfl rfl)
theorem dX0_ask_22 : decode cX0_ask 22 = .ok (.iconst (-1), 1) := dk_2 (dk_at dksX0_ask_0 22 rfl rfl)
theorem dX0_ask_23 : decode cX0_ask 23 = .ok (.putfield 57, 3) := dk_181 0 57 (dk_at dksX0_ask_1 0 rfl rfl)
theorem dX0_ask_26 : decode cX0_ask 26 = .ok (.aload_n 0, 1) := dk_42 (dk_at dksX0_ask_1 3 rfl rfl)
theorem dX0_ask_27 : decode cX0_ask 27 = .ok (.getfield 66, 3) := dk_180 0 66 (dk_at dksX0_ask_1 4 rfl rfl)
theorem dX0_ask_30 : decode cX0_ask 30 = .ok (.iload_n 1, 1) := dk_27 (dk_at dksX0_ask_1 7 rfl rfl)
theorem dX0_ask_31 : decode cX0_ask 31 = .ok (.invokevirtual 504, 3) := dk_182 1 248 (dk_at dksX0_ask_1 8 rfl rfl)
theorem dX0_ask_34 : decode cX0_ask 34 = .ok (.astore_n 2, 1) := dk_77 (dk_at dksX0_ask_1 11 rfl rfl)
theorem dX0_ask_35 : decode cX0_ask 35 = .ok (.goto 24, 3) := dk_167 0 24 (dk_at dksX0_ask_1 12 rfl rfl)
theorem dX0_ask_38 : decode cX0_ask 38 = .ok (.astore_n 3, 1) := dk_78 (dk_at dksX0_ask_1 15 rfl rfl)
theorem dX0_ask_39 : decode cX0_ask 39 = .ok (.aload_n 0, 1) := dk_42 (dk_at dksX0_ask_1 16 rfl rfl)
theorem dX0_ask_40 : decode cX0_ask 40 = .ok (.aload_n 3, 1) := dk_45 (dk_at dksX0_ask_1 17 rfl rfl)
theorem dX0_ask_41 : decode cX0_ask 41 = .ok (.getfield 182, 3) := dk_180 0 182 (dk_at dksX0_ask_1 18 rfl rfl)
theorem dX0_ask_44 : decode cX0_ask 44 = .ok (.putfield 169, 3) := dk_181 0 169 (dk_at dksX0_ask_1 21 rfl rfl)
theorem dX0_ask_47 : decode cX0_ask 47 = .ok (.aload_n 0, 1) := dk_42 (dk_at dksX0_ask_2 0 rfl rfl)
theorem dX0_ask_48 : decode cX0_ask 48 = .ok (.aload_n 3, 1) := dk_45 (dk_at dksX0_ask_2 1 rfl rfl)
theorem dX0_ask_49 : decode cX0_ask 49 = .ok (.getfield 185, 3) := dk_180 0 185 (dk_at dksX0_ask_2 2 rfl rfl)
theorem dX0_ask_52 : decode cX0_ask 52 = .ok (.putfield 57, 3) := dk_181 0 57 (dk_at dksX0_ask_2 5 rfl rfl)
theorem dX0_ask_55 : decode cX0_ask 55 = .ok (.ldc2_w 502, 3) := dk_20 1 246 (dk_at dksX0_ask_2 8 rfl rfl)
theorem dX0_ask_58 : decode cX0_ask 58 = .ok (.lreturn, 1) := dk_173 (dk_at dksX0_ask_2 11 rfl rfl)
theorem dX0_ask_59 : decode cX0_ask 59 = .ok (.aload_n 0, 1) := dk_42 (dk_at dksX0_ask_2 12 rfl rfl)
theorem dX0_ask_60 : decode cX0_ask 60 = .ok (.iconst 0, 1) := dk_3 (dk_at dksX0_ask_2 13 rfl rfl)
theorem dX0_ask_61 : decode cX0_ask 61 = .ok (.putfield 497, 3) := dk_181 1 241 (dk_at dksX0_ask_2 14 rfl rfl)
theorem dX0_ask_64 : decode cX0_ask 64 = .ok (.aload_n 0, 1) := dk_42 (dk_at dksX0_ask_2 17 rfl rfl)
theorem dX0_ask_65 : decode cX0_ask 65 = .ok (.getfield 497, 3) := dk_180 1 241 (dk_at dksX0_ask_2 18 rfl rfl)
theorem dX0_ask_68 : decode cX0_ask 68 = .ok (.aload_n 0, 1) := dk_42 (dk_at dksX0_ask_2 21 rfl rfl)
theorem dX0_ask_69 : decode cX0_ask 69 = .ok (.getfield 49, 3) := dk_180 0 49 (dk_at dksX0_ask_3 0 rfl rfl)
theorem dX0_ask_72 : decode cX0_ask 72 = .ok (.getfield 239, 3) := dk_180 0 239 (dk_at dksX0_ask_3 3 rfl rfl)
theorem dX0_ask_75 : decode cX0_ask 75 = .ok (.if_icmp .ge 127, 3) := dk_162 0 127 (dk_at dksX0_ask_3 6 rfl rfl)
theorem dX0_ask_78 : decode cX0_ask 78 = .ok (.aload_n 0, 1) := dk_42 (dk_at dksX0_ask_3 9 rfl rfl)
theorem dX0_ask_79 : decode cX0_ask 79 = .ok (.getfield 77, 3) := dk_180 0 77 (dk_at dksX0_ask_3 10 rfl rfl)
theorem dX0_ask_82 : decode cX0_ask 82 = .ok (.getfield 508, 3) := dk_180 1 252 (dk_at dksX0_ask_3 13 rfl rfl)
theorem dX0_ask_85 : decode cX0_ask 85 = .ok (.iconst 0, 1) := dk_3 (dk_at dksX0_ask_3 16 rfl rfl)
theorem dX0_ask_86 : decode cX0_ask 86 = .ok (.aload_n 0, 1) := dk_42 (dk_at dksX0_ask_3 17 rfl rfl)
theorem dX0_ask_87 : decode cX0_ask 87 = .ok (.getfield 111, 3) := dk_180 0 111 (dk_at dksX0_ask_3 18 rfl rfl)
theorem dX0_ask_90 : decode cX0_ask 90 = .ok (.getfield 275, 3) := dk_180 1 19 (dk_at dksX0_ask_3 21 rfl rfl)
theorem dX0_ask_93 : decode cX0_ask 93 = .ok (.i2l, 1) := dk_133 (dk_at dksX0_ask_4 0 rfl rfl)
theorem dX0_ask_94 : decode cX0_ask 94 = .ok (.lastore, 1) := dk_80 (dk_at dksX0_ask_4 1 rfl rfl)
theorem dX0_ask_95 : decode cX0_ask 95 = .ok (.aload_n 0, 1) := dk_42 (dk_at dksX0_ask_4 2 rfl rfl)
theorem dX0_ask_96 : decode cX0_ask 96 = .ok (.getfield 77, 3) := dk_180 0 77 (dk_at dksX0_ask_4 3 rfl rfl)
theorem dX0_ask_99 : decode cX0_ask 99 = .ok (.getfield 508, 3) := dk_180 1 252 (dk_at dksX0_ask_4 6 rfl rfl)
theorem dX0_ask_102 : decode cX0_ask 102 = .ok (.iconst 5, 1) := dk_8 (dk_at dksX0_ask_4 9 rfl rfl)
theorem dX0_ask_103 : decode cX0_ask 103 = .ok (.aload_n 0, 1) := dk_42 (dk_at dksX0_ask_4 10 rfl rfl)
theorem dX0_ask_104 : decode cX0_ask 104 = .ok (.getfield 497, 3) := dk_180 1 241 (dk_at dksX0_ask_4 11 rfl rfl)
theorem dX0_ask_107 : decode cX0_ask 107 = .ok (.i2l, 1) := dk_133 (dk_at dksX0_ask_4 14 rfl rfl)
theorem dX0_ask_108 : decode cX0_ask 108 = .ok (.lastore, 1) := dk_80 (dk_at dksX0_ask_4 15 rfl rfl)
theorem dX0_ask_109 : decode cX0_ask 109 = .ok (.aload_n 0, 1) := dk_42 (dk_at dksX0_ask_4 16 rfl rfl)
theorem dX0_ask_110 : decode cX0_ask 110 = .ok (.getfield 77, 3) := dk_180 0 77 (dk_at dksX0_ask_4 17 rfl rfl)
theorem dX0_ask_113 : decode cX0_ask 113 = .ok (.getfield 508, 3) := dk_180 1 252 (dk_at dksX0_ask_4 20 rfl rfl)
theorem dX0_ask_116 : decode cX0_ask 116 = .ok (.bipush 6, 2) := dk_16 6 (dk_at dksX0_ask_5 0 rfl rfl)
theorem dX0_ask_118 : decode cX0_ask 118 = .ok (.iconst 0, 1) := dk_3 (dk_at dksX0_ask_5 2 rfl rfl)
theorem dX0_ask_119 : decode cX0_ask 119 = .ok (.aload_n 0, 1) := dk_42 (dk_at dksX0_ask_5 3 rfl rfl)
theorem dX0_ask_120 : decode cX0_ask 120 = .ok (.aload_n 0, 1) := dk_42 (dk_at dksX0_ask_5 4 rfl rfl)
theorem dX0_ask_121 : decode cX0_ask 121 = .ok (.getfield 497, 3) := dk_180 1 241 (dk_at dksX0_ask_5 5 rfl rfl)
theorem dX0_ask_124 : decode cX0_ask 124 = .ok (.iconst 0, 1) := dk_3 (dk_at dksX0_ask_5 8 rfl rfl)
theorem dX0_ask_125 : decode cX0_ask 125 = .ok (.invokevirtual 511, 3) := dk_182 1 255 (dk_at dksX0_ask_5 9 rfl rfl)
theorem dX0_ask_128 : decode cX0_ask 128 = .ok (.invokestatic 429, 3) := dk_184 1 173 (dk_at dksX0_ask_5 12 rfl rfl)
theorem dX0_ask_131 : decode cX0_ask 131 = .ok (.i2l, 1) := dk_133 (dk_at dksX0_ask_5 15 rfl rfl)
theorem dX0_ask_132 : decode cX0_ask 132 = .ok (.lastore, 1) := dk_80 (dk_at dksX0_ask_5 16 rfl rfl)
theorem dX0_ask_133 : decode cX0_ask 133 = .ok (.aload_n 0, 1) := dk_42 (dk_at dksX0_ask_5 17 rfl rfl)
theorem dX0_ask_134 : decode cX0_ask 134 = .ok (.getfield 77, 3) := dk_180 0 77 (dk_at dksX0_ask_5 18 rfl rfl)
theorem dX0_ask_137 : decode cX0_ask 137 = .ok (.getfield 508, 3) := dk_180 1 252 (dk_at dksX0_ask_5 21 rfl rfl)
theorem dX0_ask_140 : decode cX0_ask 140 = .ok (.bipush 7, 2) := dk_16 7 (dk_at dksX0_ask_6 0 rfl rfl)
theorem dX0_ask_142 : decode cX0_ask 142 = .ok (.iconst 0, 1) := dk_3 (dk_at dksX0_ask_6 2 rfl rfl)
theorem dX0_ask_143 : decode cX0_ask 143 = .ok (.aload_n 0, 1) := dk_42 (dk_at dksX0_ask_6 3 rfl rfl)
theorem dX0_ask_144 : decode cX0_ask 144 = .ok (.aload_n 0, 1) := dk_42 (dk_at dksX0_ask_6 4 rfl rfl)
theorem dX0_ask_145 : decode cX0_ask 145 = .ok (.getfield 497, 3) := dk_180 1 241 (dk_at dksX0_ask_6 5 rfl rfl)
theorem dX0_ask_148 : decode cX0_ask 148 = .ok (.iconst 1, 1) := dk_4 (dk_at dksX0_ask_6 8 rfl rfl)
theorem dX0_ask_149 : decode cX0_ask 149 = .ok (.invokevirtual 511, 3) := dk_182 1 255 (dk_at dksX0_ask_6 9 rfl rfl)
theorem dX0_ask_152 : decode cX0_ask 152 = .ok (.invokestatic 429, 3) := dk_184 1 173 (dk_at dksX0_ask_6 12 rfl rfl)
theorem dX0_ask_155 : decode cX0_ask 155 = .ok (.i2l, 1) := dk_133 (dk_at dksX0_ask_6 15 rfl rfl)
theorem dX0_ask_156 : decode cX0_ask 156 = .ok (.lastore, 1) := dk_80 (dk_at dksX0_ask_6 16 rfl rfl)
theorem dX0_ask_157 : decode cX0_ask 157 = .ok (.aload_n 0, 1) := dk_42 (dk_at dksX0_ask_6 17 rfl rfl)
theorem dX0_ask_158 : decode cX0_ask 158 = .ok (.getfield 77, 3) := dk_180 0 77 (dk_at dksX0_ask_6 18 rfl rfl)
theorem dX0_ask_161 : decode cX0_ask 161 = .ok (.getfield 508, 3) := dk_180 1 252 (dk_at dksX0_ask_6 21 rfl rfl)
theorem dX0_ask_164 : decode cX0_ask 164 = .ok (.bipush 8, 2) := dk_16 8 (dk_at dksX0_ask_7 0 rfl rfl)
theorem dX0_ask_166 : decode cX0_ask 166 = .ok (.aload_n 0, 1) := dk_42 (dk_at dksX0_ask_7 2 rfl rfl)
theorem dX0_ask_167 : decode cX0_ask 167 = .ok (.aload_n 0, 1) := dk_42 (dk_at dksX0_ask_7 3 rfl rfl)
theorem dX0_ask_168 : decode cX0_ask 168 = .ok (.getfield 497, 3) := dk_180 1 241 (dk_at dksX0_ask_7 4 rfl rfl)
theorem dX0_ask_171 : decode cX0_ask 171 = .ok (.iconst 3, 1) := dk_6 (dk_at dksX0_ask_7 7 rfl rfl)
theorem dX0_ask_172 : decode cX0_ask 172 = .ok (.invokevirtual 511, 3) := dk_182 1 255 (dk_at dksX0_ask_7 8 rfl rfl)
theorem dX0_ask_175 : decode cX0_ask 175 = .ok (.i2l, 1) := dk_133 (dk_at dksX0_ask_7 11 rfl rfl)
theorem dX0_ask_176 : decode cX0_ask 176 = .ok (.lastore, 1) := dk_80 (dk_at dksX0_ask_7 12 rfl rfl)
theorem dX0_ask_177 : decode cX0_ask 177 = .ok (.aload_n 2, 1) := dk_44 (dk_at dksX0_ask_7 13 rfl rfl)
theorem dX0_ask_178 : decode cX0_ask 178 = .ok (.aload_n 0, 1) := dk_42 (dk_at dksX0_ask_7 14 rfl rfl)
theorem dX0_ask_179 : decode cX0_ask 179 = .ok (.getfield 497, 3) := dk_180 1 241 (dk_at dksX0_ask_7 15 rfl rfl)
theorem dX0_ask_182 : decode cX0_ask 182 = .ok (.aload_n 0, 1) := dk_42 (dk_at dksX0_ask_7 18 rfl rfl)
theorem dX0_ask_183 : decode cX0_ask 183 = .ok (.getfield 77, 3) := dk_180 0 77 (dk_at dksX0_ask_7 19 rfl rfl)
theorem dX0_ask_186 : decode cX0_ask 186 = .ok (.invokevirtual 513, 3) := dk_182 2 1 (dk_at dksX0_ask_8 0 rfl rfl)
theorem dX0_ask_189 : decode cX0_ask 189 = .ok (.aload_n 0, 1) := dk_42 (dk_at dksX0_ask_8 3 rfl rfl)
theorem dX0_ask_190 : decode cX0_ask 190 = .ok (.dup, 1) := dk_89 (dk_at dksX0_ask_8 4 rfl rfl)
theorem dX0_ask_191 : decode cX0_ask 191 = .ok (.getfield 497, 3) := dk_180 1 241 (dk_at dksX0_ask_8 5 rfl rfl)
theorem dX0_ask_194 : decode cX0_ask 194 = .ok (.iconst 1, 1) := dk_4 (dk_at dksX0_ask_8 8 rfl rfl)
theorem dX0_ask_195 : decode cX0_ask 195 = .ok (.iadd, 1) := dk_96 (dk_at dksX0_ask_8 9 rfl rfl)
theorem dX0_ask_196 : decode cX0_ask 196 = .ok (.putfield 497, 3) := dk_181 1 241 (dk_at dksX0_ask_8 10 rfl rfl)
theorem dX0_ask_199 : decode cX0_ask 199 = .ok (.goto (-135), 3) := dk_167 255 121 (dk_at dksX0_ask_8 13 rfl rfl)
theorem dX0_ask_202 : decode cX0_ask 202 = .ok (.aload_n 2, 1) := dk_44 (dk_at dksX0_ask_8 16 rfl rfl)
theorem dX0_ask_203 : decode cX0_ask 203 = .ok (.invokevirtual 519, 3) := dk_182 2 7 (dk_at dksX0_ask_8 17 rfl rfl)
theorem dX0_ask_206 : decode cX0_ask 206 = .ok (.lreturn, 1) := dk_173 (dk_at dksX0_ask_8 20 rfl rfl)
abbrev cX0_image : ByteArray := prog_1_method_74_code
def yX0_image : MethodName := ⟨RX0, "image", "()I"⟩
def dkwX0_image_5 : List UInt8 := [167, 255, 211, 42, 42, 180, 0, 152, 42, 180, 2, 11, 184, 2, 24, 182, 2, 14, 42, 180, 2, 11, 172]
abbrev dktX0_image_5 : List UInt8 := dkwX0_image_5 ++ []
def dkwX0_image_4 : List UInt8 := [180, 0, 111, 180, 1, 67, 27, 50, 28, 46, 182, 2, 14, 132, 2, 1, 167, 255, 230, 132, 1, 1]
abbrev dktX0_image_4 : List UInt8 := dkwX0_image_4 ++ dktX0_image_5
def dkwX0_image_3 : List UInt8 := [27, 42, 180, 0, 49, 180, 0, 239, 162, 0, 40, 3, 61, 28, 42, 182, 0, 245, 162, 0, 24, 42, 42]
abbrev dktX0_image_3 : List UInt8 := dkwX0_image_3 ++ dktX0_image_4
def dkwX0_image_2 : List UInt8 := [42, 28, 2, 160, 0, 9, 19, 2, 23, 167, 0, 4, 28, 182, 2, 17, 132, 1, 1, 167, 255, 218, 3, 60]
abbrev dktX0_image_2 : List UInt8 := dkwX0_image_2 ++ dktX0_image_3
def dkwX0_image_1 : List UInt8 := [182, 2, 17, 3, 60, 27, 16, 16, 162, 0, 38, 42, 42, 180, 0, 111, 180, 2, 20, 27, 182, 1, 106, 61]
abbrev dktX0_image_1 : List UInt8 := dkwX0_image_1 ++ dktX0_image_2
def dkwX0_image_0 : List UInt8 := [42, 182, 1, 12, 154, 0, 5, 2, 172, 42, 3, 181, 2, 11, 42, 42, 180, 0, 111, 180, 1, 37]
abbrev dktX0_image_0 : List UInt8 := dkwX0_image_0 ++ dktX0_image_1
theorem dksX0_image_0 : cX0_image.data.toList.drop 0 = dktX0_image_0 := by decide +kernel
theorem dksX0_image_1 : cX0_image.data.toList.drop 22 = dktX0_image_1 := dk_seg dksX0_image_0 22 rfl rfl
theorem dksX0_image_2 : cX0_image.data.toList.drop 46 = dktX0_image_2 := dk_seg dksX0_image_1 24 rfl rfl
theorem dksX0_image_3 : cX0_image.data.toList.drop 70 = dktX0_image_3 := dk_seg dksX0_image_2 24 rfl rfl
theorem dksX0_image_4 : cX0_image.data.toList.drop 93 = dktX0_image_4 := dk_seg dksX0_image_3 23 rfl rfl
theorem dksX0_image_5 : cX0_image.data.toList.drop 115 = dktX0_image_5 := dk_seg dksX0_image_4 22 rfl rfl
theorem dX0_image_0 : decode cX0_image 0 = .ok (.aload_n 0, 1) := dk_42 (dk_at dksX0_image_0 0 rfl rfl)
theorem dX0_image_1 : decode cX0_image 1 = .ok (.invokevirtual 268, 3) := dk_182 1 12 (dk_at dksX0_image_0 1 rfl rfl)
theorem dX0_image_4 : decode cX0_image 4 = .ok (.ifCond .ne 5, 3) := dk_154 0 5 (dk_at dksX0_image_0 4 rfl rfl)
theorem dX0_image_7 : decode cX0_image 7 = .ok (.iconst (-1), 1) := dk_2 (dk_at dksX0_image_0 7 rfl rfl)
theorem dX0_image_8 : decode cX0_image 8 = .ok (.ireturn, 1) := dk_172 (dk_at dksX0_image_0 8 rfl rfl)
theorem dX0_image_9 : decode cX0_image 9 = .ok (.aload_n 0, 1) := dk_42 (dk_at dksX0_image_0 9 rfl rfl)
theorem dX0_image_10 : decode cX0_image 10 = .ok (.iconst 0, 1) := dk_3 (dk_at dksX0_image_0 10 rfl rfl)
theorem dX0_image_11 : decode cX0_image 11 = .ok (.putfield 523, 3) := dk_181 2 11 (dk_at dksX0_image_0 11 rfl rfl)
theorem dX0_image_14 : decode cX0_image 14 = .ok (.aload_n 0, 1) := dk_42 (dk_at dksX0_image_0 14 rfl rfl)
theorem dX0_image_15 : decode cX0_image 15 = .ok (.aload_n 0, 1) := dk_42 (dk_at dksX0_image_0 15 rfl rfl)
theorem dX0_image_16 : decode cX0_image 16 = .ok (.getfield 111, 3) := dk_180 0 111 (dk_at dksX0_image_0 16 rfl rfl)
theorem dX0_image_19 : decode cX0_image 19 = .ok (.getfield 293, 3) := dk_180 1 37 (dk_at dksX0_image_0 19 rfl rfl)
theorem dX0_image_22 : decode cX0_image 22 = .ok (.invokevirtual 529, 3) := dk_182 2 17 (dk_at dksX0_image_1 0 rfl rfl)
theorem dX0_image_25 : decode cX0_image 25 = .ok (.iconst 0, 1) := dk_3 (dk_at dksX0_image_1 3 rfl rfl)
theorem dX0_image_26 : decode cX0_image 26 = .ok (.istore_n 1, 1) := dk_60 (dk_at dksX0_image_1 4 rfl rfl)
theorem dX0_image_27 : decode cX0_image 27 = .ok (.iload_n 1, 1) := dk_27 (dk_at dksX0_image_1 5 rfl rfl)
theorem dX0_image_28 : decode cX0_image 28 = .ok (.bipush 16, 2) := dk_16 16 (dk_at dksX0_image_1 6 rfl rfl)
theorem dX0_image_30 : decode cX0_image 30 = .ok (.if_icmp .ge 38, 3) := dk_162 0 38 (dk_at dksX0_image_1 8 rfl rfl)
theorem dX0_image_33 : decode cX0_image 33 = .ok (.aload_n 0, 1) := dk_42 (dk_at dksX0_image_1 11 rfl rfl)
theorem dX0_image_34 : decode cX0_image 34 = .ok (.aload_n 0, 1) := dk_42 (dk_at dksX0_image_1 12 rfl rfl)
theorem dX0_image_35 : decode cX0_image 35 = .ok (.getfield 111, 3) := dk_180 0 111 (dk_at dksX0_image_1 13 rfl rfl)
theorem dX0_image_38 : decode cX0_image 38 = .ok (.getfield 532, 3) := dk_180 2 20 (dk_at dksX0_image_1 16 rfl rfl)
theorem dX0_image_41 : decode cX0_image 41 = .ok (.iload_n 1, 1) := dk_27 (dk_at dksX0_image_1 19 rfl rfl)
theorem dX0_image_42 : decode cX0_image 42 = .ok (.invokevirtual 362, 3) := dk_182 1 106 (dk_at dksX0_image_1 20 rfl rfl)
theorem dX0_image_45 : decode cX0_image 45 = .ok (.istore_n 2, 1) := dk_61 (dk_at dksX0_image_1 23 rfl rfl)
theorem dX0_image_46 : decode cX0_image 46 = .ok (.aload_n 0, 1) := dk_42 (dk_at dksX0_image_2 0 rfl rfl)
theorem dX0_image_47 : decode cX0_image 47 = .ok (.iload_n 2, 1) := dk_28 (dk_at dksX0_image_2 1 rfl rfl)
theorem dX0_image_48 : decode cX0_image 48 = .ok (.iconst (-1), 1) := dk_2 (dk_at dksX0_image_2 2 rfl rfl)
theorem dX0_image_49 : decode cX0_image 49 = .ok (.if_icmp .ne 9, 3) := dk_160 0 9 (dk_at dksX0_image_2 3 rfl rfl)
theorem dX0_image_52 : decode cX0_image 52 = .ok (.ldc_w 535, 3) := dk_19 2 23 (dk_at dksX0_image_2 6 rfl rfl)
theorem dX0_image_55 : decode cX0_image 55 = .ok (.goto 4, 3) := dk_167 0 4 (dk_at dksX0_image_2 9 rfl rfl)
theorem dX0_image_58 : decode cX0_image 58 = .ok (.iload_n 2, 1) := dk_28 (dk_at dksX0_image_2 12 rfl rfl)
theorem dX0_image_59 : decode cX0_image 59 = .ok (.invokevirtual 529, 3) := dk_182 2 17 (dk_at dksX0_image_2 13 rfl rfl)
theorem dX0_image_62 : decode cX0_image 62 = .ok (.iinc 1 1, 3) := dk_132 1 1 (dk_at dksX0_image_2 16 rfl rfl)
theorem dX0_image_65 : decode cX0_image 65 = .ok (.goto (-38), 3) := dk_167 255 218 (dk_at dksX0_image_2 19 rfl rfl)
theorem dX0_image_68 : decode cX0_image 68 = .ok (.iconst 0, 1) := dk_3 (dk_at dksX0_image_2 22 rfl rfl)
theorem dX0_image_69 : decode cX0_image 69 = .ok (.istore_n 1, 1) := dk_60 (dk_at dksX0_image_2 23 rfl rfl)
theorem dX0_image_70 : decode cX0_image 70 = .ok (.iload_n 1, 1) := dk_27 (dk_at dksX0_image_3 0 rfl rfl)
theorem dX0_image_71 : decode cX0_image 71 = .ok (.aload_n 0, 1) := dk_42 (dk_at dksX0_image_3 1 rfl rfl)
theorem dX0_image_72 : decode cX0_image 72 = .ok (.getfield 49, 3) := dk_180 0 49 (dk_at dksX0_image_3 2 rfl rfl)
theorem dX0_image_75 : decode cX0_image 75 = .ok (.getfield 239, 3) := dk_180 0 239 (dk_at dksX0_image_3 5 rfl rfl)
theorem dX0_image_78 : decode cX0_image 78 = .ok (.if_icmp .ge 40, 3) := dk_162 0 40 (dk_at dksX0_image_3 8 rfl rfl)
theorem dX0_image_81 : decode cX0_image 81 = .ok (.iconst 0, 1) := dk_3 (dk_at dksX0_image_3 11 rfl rfl)
theorem dX0_image_82 : decode cX0_image 82 = .ok (.istore_n 2, 1) := dk_61 (dk_at dksX0_image_3 12 rfl rfl)
theorem dX0_image_83 : decode cX0_image 83 = .ok (.iload_n 2, 1) := dk_28 (dk_at dksX0_image_3 13 rfl rfl)
theorem dX0_image_84 : decode cX0_image 84 = .ok (.aload_n 0, 1) := dk_42 (dk_at dksX0_image_3 14 rfl rfl)
theorem dX0_image_85 : decode cX0_image 85 = .ok (.invokevirtual 245, 3) := dk_182 0 245 (dk_at dksX0_image_3 15 rfl rfl)
theorem dX0_image_88 : decode cX0_image 88 = .ok (.if_icmp .ge 24, 3) := dk_162 0 24 (dk_at dksX0_image_3 18 rfl rfl)
theorem dX0_image_91 : decode cX0_image 91 = .ok (.aload_n 0, 1) := dk_42 (dk_at dksX0_image_3 21 rfl rfl)
theorem dX0_image_92 : decode cX0_image 92 = .ok (.aload_n 0, 1) := dk_42 (dk_at dksX0_image_3 22 rfl rfl)
theorem dX0_image_93 : decode cX0_image 93 = .ok (.getfield 111, 3) := dk_180 0 111 (dk_at dksX0_image_4 0 rfl rfl)
theorem dX0_image_96 : decode cX0_image 96 = .ok (.getfield 323, 3) := dk_180 1 67 (dk_at dksX0_image_4 3 rfl rfl)
theorem dX0_image_99 : decode cX0_image 99 = .ok (.iload_n 1, 1) := dk_27 (dk_at dksX0_image_4 6 rfl rfl)
theorem dX0_image_100 : decode cX0_image 100 = .ok (.aaload, 1) := dk_50 (dk_at dksX0_image_4 7 rfl rfl)
theorem dX0_image_101 : decode cX0_image 101 = .ok (.iload_n 2, 1) := dk_28 (dk_at dksX0_image_4 8 rfl rfl)
theorem dX0_image_102 : decode cX0_image 102 = .ok (.iaload, 1) := dk_46 (dk_at dksX0_image_4 9 rfl rfl)
theorem dX0_image_103 : decode cX0_image 103 = .ok (.invokevirtual 526, 3) := dk_182 2 14 (dk_at dksX0_image_4 10 rfl rfl)
theorem dX0_image_106 : decode cX0_image 106 = .ok (.iinc 2 1, 3) := dk_132 2 1 (dk_at dksX0_image_4 13 rfl rfl)
theorem dX0_image_109 : decode cX0_image 109 = .ok (.goto (-26), 3) := dk_167 255 230 (dk_at dksX0_image_4 16 rfl rfl)
theorem dX0_image_112 : decode cX0_image 112 = .ok (.iinc 1 1, 3) := dk_132 1 1 (dk_at dksX0_image_4 19 rfl rfl)
theorem dX0_image_115 : decode cX0_image 115 = .ok (.goto (-45), 3) := dk_167 255 211 (dk_at dksX0_image_5 0 rfl rfl)
theorem dX0_image_118 : decode cX0_image 118 = .ok (.aload_n 0, 1) := dk_42 (dk_at dksX0_image_5 3 rfl rfl)
theorem dX0_image_119 : decode cX0_image 119 = .ok (.aload_n 0, 1) := dk_42 (dk_at dksX0_image_5 4 rfl rfl)
theorem dX0_image_120 : decode cX0_image 120 = .ok (.getfield 152, 3) := dk_180 0 152 (dk_at dksX0_image_5 5 rfl rfl)
theorem dX0_image_123 : decode cX0_image 123 = .ok (.aload_n 0, 1) := dk_42 (dk_at dksX0_image_5 8 rfl rfl)
theorem dX0_image_124 : decode cX0_image 124 = .ok (.getfield 523, 3) := dk_180 2 11 (dk_at dksX0_image_5 9 rfl rfl)
theorem dX0_image_127 : decode cX0_image 127 = .ok (.invokestatic 536, 3) := dk_184 2 24 (dk_at dksX0_image_5 12 rfl rfl)
theorem dX0_image_130 : decode cX0_image 130 = .ok (.invokevirtual 526, 3) := dk_182 2 14 (dk_at dksX0_image_5 15 rfl rfl)
theorem dX0_image_133 : decode cX0_image 133 = .ok (.aload_n 0, 1) := dk_42 (dk_at dksX0_image_5 18 rfl rfl)
theorem dX0_image_134 : decode cX0_image 134 = .ok (.getfield 523, 3) := dk_180 2 11 (dk_at dksX0_image_5 19 rfl rfl)
theorem dX0_image_137 : decode cX0_image 137 = .ok (.ireturn, 1) := dk_172 (dk_at dksX0_image_5 22 rfl rfl)
abbrev cX0_saysTwo : ByteArray := prog_1_method_72_code
def yX0_saysTwo : MethodName := ⟨RX0, "saysTwo", "(I)V"⟩
def dkwX0_saysTwo_0 : List UInt8 := [42, 27, 16, 8, 122, 182, 2, 14, 42, 27, 182, 2, 14, 177]
abbrev dktX0_saysTwo_0 : List UInt8 := dkwX0_saysTwo_0 ++ []
theorem dksX0_saysTwo_0 : cX0_saysTwo.data.toList.drop 0 = dktX0_saysTwo_0 := by decide +kernel
theorem dX0_saysTwo_0 : decode cX0_saysTwo 0 = .ok (.aload_n 0, 1) := dk_42 (dk_at dksX0_saysTwo_0 0 rfl rfl)
theorem dX0_saysTwo_1 : decode cX0_saysTwo 1 = .ok (.iload_n 1, 1) := dk_27 (dk_at dksX0_saysTwo_0 1 rfl rfl)
theorem dX0_saysTwo_2 : decode cX0_saysTwo 2 = .ok (.bipush 8, 2) := dk_16 8 (dk_at dksX0_saysTwo_0 2 rfl rfl)
theorem dX0_saysTwo_4 : decode cX0_saysTwo 4 = .ok (.ishr, 1) := dk_122 (dk_at dksX0_saysTwo_0 4 rfl rfl)
theorem dX0_saysTwo_5 : decode cX0_saysTwo 5 = .ok (.invokevirtual 526, 3) := dk_182 2 14 (dk_at dksX0_saysTwo_0 5 rfl rfl)
theorem dX0_saysTwo_8 : decode cX0_saysTwo 8 = .ok (.aload_n 0, 1) := dk_42 (dk_at dksX0_saysTwo_0 8 rfl rfl)
theorem dX0_saysTwo_9 : decode cX0_saysTwo 9 = .ok (.iload_n 1, 1) := dk_27 (dk_at dksX0_saysTwo_0 9 rfl rfl)
theorem dX0_saysTwo_10 : decode cX0_saysTwo 10 = .ok (.invokevirtual 526, 3) := dk_182 2 14 (dk_at dksX0_saysTwo_0 10 rfl rfl)
theorem dX0_saysTwo_13 : decode cX0_saysTwo 13 = .ok (.return_, 1) := dk_177 (dk_at dksX0_saysTwo_0 13 rfl rfl)
abbrev cX0_says : ByteArray := prog_1_method_71_code
def yX0_says : MethodName := ⟨RX0, "says", "(I)V"⟩
def dkwX0_says_0 : List UInt8 := [42, 180, 0, 152, 42, 89, 180, 2, 11, 90, 4, 96, 181, 2, 11, 27, 145, 84, 177]
abbrev dktX0_says_0 : List UInt8 := dkwX0_says_0 ++ []
theorem dksX0_says_0 : cX0_says.data.toList.drop 0 = dktX0_says_0 := by decide +kernel
theorem dX0_says_0 : decode cX0_says 0 = .ok (.aload_n 0, 1) := dk_42 (dk_at dksX0_says_0 0 rfl rfl)
theorem dX0_says_1 : decode cX0_says 1 = .ok (.getfield 152, 3) := dk_180 0 152 (dk_at dksX0_says_0 1 rfl rfl)
theorem dX0_says_4 : decode cX0_says 4 = .ok (.aload_n 0, 1) := dk_42 (dk_at dksX0_says_0 4 rfl rfl)
theorem dX0_says_5 : decode cX0_says 5 = .ok (.dup, 1) := dk_89 (dk_at dksX0_says_0 5 rfl rfl)
theorem dX0_says_6 : decode cX0_says 6 = .ok (.getfield 523, 3) := dk_180 2 11 (dk_at dksX0_says_0 6 rfl rfl)
theorem dX0_says_9 : decode cX0_says 9 = .ok (.dup_x1, 1) := dk_90 (dk_at dksX0_says_0 9 rfl rfl)
theorem dX0_says_10 : decode cX0_says 10 = .ok (.iconst 1, 1) := dk_4 (dk_at dksX0_says_0 10 rfl rfl)
theorem dX0_says_11 : decode cX0_says 11 = .ok (.iadd, 1) := dk_96 (dk_at dksX0_says_0 11 rfl rfl)
theorem dX0_says_12 : decode cX0_says 12 = .ok (.putfield 523, 3) := dk_181 2 11 (dk_at dksX0_says_0 12 rfl rfl)
theorem dX0_says_15 : decode cX0_says 15 = .ok (.iload_n 1, 1) := dk_27 (dk_at dksX0_says_0 15 rfl rfl)
theorem dX0_says_16 : decode cX0_says 16 = .ok (.i2b, 1) := dk_145 (dk_at dksX0_says_0 16 rfl rfl)
theorem dX0_says_17 : decode cX0_says 17 = .ok (.bastore, 1) := dk_84 (dk_at dksX0_says_0 17 rfl rfl)
theorem dX0_says_18 : decode cX0_says 18 = .ok (.return_, 1) := dk_177 (dk_at dksX0_says_0 18 rfl rfl)
abbrev cX0_checkOf : ByteArray := prog_1_method_73_code
def yX0_checkOf : MethodName := ⟨RX0, "checkOf", "([BI)I"⟩
def dkwX0_checkOf_1 : List UInt8 := [17, 0, 251, 112, 61, 132, 3, 1, 167, 255, 232, 28, 172]
abbrev dktX0_checkOf_1 : List UInt8 := dkwX0_checkOf_1 ++ []
def dkwX0_checkOf_0 : List UInt8 := [17, 0, 139, 61, 3, 62, 29, 27, 162, 0, 25, 6, 28, 104, 42, 29, 51, 17, 0, 255, 126, 96]
abbrev dktX0_checkOf_0 : List UInt8 := dkwX0_checkOf_0 ++ dktX0_checkOf_1
theorem dksX0_checkOf_0 : cX0_checkOf.data.toList.drop 0 = dktX0_checkOf_0 := by decide +kernel
theorem dksX0_checkOf_1 : cX0_checkOf.data.toList.drop 22 = dktX0_checkOf_1 := dk_seg dksX0_checkOf_0 22 rfl rfl
theorem dX0_checkOf_0 : decode cX0_checkOf 0 = .ok (.sipush 139, 3) := dk_17 0 139 (dk_at dksX0_checkOf_0 0 rfl rfl)
theorem dX0_checkOf_3 : decode cX0_checkOf 3 = .ok (.istore_n 2, 1) := dk_61 (dk_at dksX0_checkOf_0 3 rfl rfl)
theorem dX0_checkOf_4 : decode cX0_checkOf 4 = .ok (.iconst 0, 1) := dk_3 (dk_at dksX0_checkOf_0 4 rfl rfl)
theorem dX0_checkOf_5 : decode cX0_checkOf 5 = .ok (.istore_n 3, 1) := dk_62 (dk_at dksX0_checkOf_0 5 rfl rfl)
theorem dX0_checkOf_6 : decode cX0_checkOf 6 = .ok (.iload_n 3, 1) := dk_29 (dk_at dksX0_checkOf_0 6 rfl rfl)
theorem dX0_checkOf_7 : decode cX0_checkOf 7 = .ok (.iload_n 1, 1) := dk_27 (dk_at dksX0_checkOf_0 7 rfl rfl)
theorem dX0_checkOf_8 : decode cX0_checkOf 8 = .ok (.if_icmp .ge 25, 3) := dk_162 0 25 (dk_at dksX0_checkOf_0 8 rfl rfl)
theorem dX0_checkOf_11 : decode cX0_checkOf 11 = .ok (.iconst 3, 1) := dk_6 (dk_at dksX0_checkOf_0 11 rfl rfl)
theorem dX0_checkOf_12 : decode cX0_checkOf 12 = .ok (.iload_n 2, 1) := dk_28 (dk_at dksX0_checkOf_0 12 rfl rfl)
theorem dX0_checkOf_13 : decode cX0_checkOf 13 = .ok (.imul, 1) := dk_104 (dk_at dksX0_checkOf_0 13 rfl rfl)
theorem dX0_checkOf_14 : decode cX0_checkOf 14 = .ok (.aload_n 0, 1) := dk_42 (dk_at dksX0_checkOf_0 14 rfl rfl)
theorem dX0_checkOf_15 : decode cX0_checkOf 15 = .ok (.iload_n 3, 1) := dk_29 (dk_at dksX0_checkOf_0 15 rfl rfl)
theorem dX0_checkOf_16 : decode cX0_checkOf 16 = .ok (.baload, 1) := dk_51 (dk_at dksX0_checkOf_0 16 rfl rfl)
theorem dX0_checkOf_17 : decode cX0_checkOf 17 = .ok (.sipush 255, 3) := dk_17 0 255 (dk_at dksX0_checkOf_0 17 rfl rfl)
theorem dX0_checkOf_20 : decode cX0_checkOf 20 = .ok (.iand, 1) := dk_126 (dk_at dksX0_checkOf_0 20 rfl rfl)
theorem dX0_checkOf_21 : decode cX0_checkOf 21 = .ok (.iadd, 1) := dk_96 (dk_at dksX0_checkOf_0 21 rfl rfl)
theorem dX0_checkOf_22 : decode cX0_checkOf 22 = .ok (.sipush 251, 3) := dk_17 0 251 (dk_at dksX0_checkOf_1 0 rfl rfl)
theorem dX0_checkOf_25 : decode cX0_checkOf 25 = .ok (.irem, 1) := dk_112 (dk_at dksX0_checkOf_1 3 rfl rfl)
theorem dX0_checkOf_26 : decode cX0_checkOf 26 = .ok (.istore_n 2, 1) := dk_61 (dk_at dksX0_checkOf_1 4 rfl rfl)
theorem dX0_checkOf_27 : decode cX0_checkOf 27 = .ok (.iinc 3 1, 3) := dk_132 3 1 (dk_at dksX0_checkOf_1 5 rfl rfl)
theorem dX0_checkOf_30 : decode cX0_checkOf 30 = .ok (.goto (-24), 3) := dk_167 255 232 (dk_at dksX0_checkOf_1 8 rfl rfl)
theorem dX0_checkOf_33 : decode cX0_checkOf 33 = .ok (.iload_n 2, 1) := dk_28 (dk_at dksX0_checkOf_1 11 rfl rfl)
theorem dX0_checkOf_34 : decode cX0_checkOf 34 = .ok (.ireturn, 1) := dk_172 (dk_at dksX0_checkOf_1 12 rfl rfl)
abbrev cX0_octet : ByteArray := prog_1_method_75_code
def yX0_octet : MethodName := ⟨RX0, "octet", "(I)I"⟩
def dkwX0_octet_1 : List UInt8 := [17, 0, 255, 126, 172]
abbrev dktX0_octet_1 : List UInt8 := dkwX0_octet_1 ++ []
def dkwX0_octet_0 : List UInt8 := [27, 155, 0, 11, 27, 42, 180, 2, 11, 161, 0, 7, 2, 167, 0, 13, 42, 180, 0, 152, 27, 51]
abbrev dktX0_octet_0 : List UInt8 := dkwX0_octet_0 ++ dktX0_octet_1
theorem dksX0_octet_0 : cX0_octet.data.toList.drop 0 = dktX0_octet_0 := by decide +kernel
theorem dksX0_octet_1 : cX0_octet.data.toList.drop 22 = dktX0_octet_1 := dk_seg dksX0_octet_0 22 rfl rfl
theorem dX0_octet_0 : decode cX0_octet 0 = .ok (.iload_n 1, 1) := dk_27 (dk_at dksX0_octet_0 0 rfl rfl)
theorem dX0_octet_1 : decode cX0_octet 1 = .ok (.ifCond .lt 11, 3) := dk_155 0 11 (dk_at dksX0_octet_0 1 rfl rfl)
theorem dX0_octet_4 : decode cX0_octet 4 = .ok (.iload_n 1, 1) := dk_27 (dk_at dksX0_octet_0 4 rfl rfl)
theorem dX0_octet_5 : decode cX0_octet 5 = .ok (.aload_n 0, 1) := dk_42 (dk_at dksX0_octet_0 5 rfl rfl)
theorem dX0_octet_6 : decode cX0_octet 6 = .ok (.getfield 523, 3) := dk_180 2 11 (dk_at dksX0_octet_0 6 rfl rfl)
theorem dX0_octet_9 : decode cX0_octet 9 = .ok (.if_icmp .lt 7, 3) := dk_161 0 7 (dk_at dksX0_octet_0 9 rfl rfl)
theorem dX0_octet_12 : decode cX0_octet 12 = .ok (.iconst (-1), 1) := dk_2 (dk_at dksX0_octet_0 12 rfl rfl)
theorem dX0_octet_13 : decode cX0_octet 13 = .ok (.goto 13, 3) := dk_167 0 13 (dk_at dksX0_octet_0 13 rfl rfl)
theorem dX0_octet_16 : decode cX0_octet 16 = .ok (.aload_n 0, 1) := dk_42 (dk_at dksX0_octet_0 16 rfl rfl)
theorem dX0_octet_17 : decode cX0_octet 17 = .ok (.getfield 152, 3) := dk_180 0 152 (dk_at dksX0_octet_0 17 rfl rfl)
theorem dX0_octet_20 : decode cX0_octet 20 = .ok (.iload_n 1, 1) := dk_27 (dk_at dksX0_octet_0 20 rfl rfl)
theorem dX0_octet_21 : decode cX0_octet 21 = .ok (.baload, 1) := dk_51 (dk_at dksX0_octet_0 21 rfl rfl)
theorem dX0_octet_22 : decode cX0_octet 22 = .ok (.sipush 255, 3) := dk_17 0 255 (dk_at dksX0_octet_1 0 rfl rfl)
theorem dX0_octet_25 : decode cX0_octet 25 = .ok (.iand, 1) := dk_126 (dk_at dksX0_octet_1 3 rfl rfl)
theorem dX0_octet_26 : decode cX0_octet 26 = .ok (.ireturn, 1) := dk_172 (dk_at dksX0_octet_1 4 rfl rfl)
abbrev cX0_on : ByteArray := prog_1_method_78_code
def yX0_on : MethodName := ⟨RX0, "on", "()Z"⟩
def dkwX0_on_1 : List UInt8 := [182, 0, 162, 155, 0, 7, 4, 167, 0, 4, 3, 172, 42, 182, 2, 34, 42, 182, 0, 224, 4, 172]
abbrev dktX0_on_1 : List UInt8 := dkwX0_on_1 ++ []
def dkwX0_on_0 : List UInt8 := [42, 182, 0, 172, 60, 42, 182, 1, 12, 153, 0, 11, 42, 27, 182, 2, 31, 154, 0, 18, 42, 16, 6]
abbrev dktX0_on_0 : List UInt8 := dkwX0_on_0 ++ dktX0_on_1
theorem dksX0_on_0 : cX0_on.data.toList.drop 0 = dktX0_on_0 := by decide +kernel
theorem dksX0_on_1 : cX0_on.data.toList.drop 23 = dktX0_on_1 := dk_seg dksX0_on_0 23 rfl rfl
theorem dX0_on_0 : decode cX0_on 0 = .ok (.aload_n 0, 1) := dk_42 (dk_at dksX0_on_0 0 rfl rfl)
theorem dX0_on_1 : decode cX0_on 1 = .ok (.invokevirtual 172, 3) := dk_182 0 172 (dk_at dksX0_on_0 1 rfl rfl)
theorem dX0_on_4 : decode cX0_on 4 = .ok (.istore_n 1, 1) := dk_60 (dk_at dksX0_on_0 4 rfl rfl)
theorem dX0_on_5 : decode cX0_on 5 = .ok (.aload_n 0, 1) := dk_42 (dk_at dksX0_on_0 5 rfl rfl)
theorem dX0_on_6 : decode cX0_on 6 = .ok (.invokevirtual 268, 3) := dk_182 1 12 (dk_at dksX0_on_0 6 rfl rfl)
theorem dX0_on_9 : decode cX0_on 9 = .ok (.ifCond .eq 11, 3) := dk_153 0 11 (dk_at dksX0_on_0 9 rfl rfl)
theorem dX0_on_12 : decode cX0_on 12 = .ok (.aload_n 0, 1) := dk_42 (dk_at dksX0_on_0 12 rfl rfl)
theorem dX0_on_13 : decode cX0_on 13 = .ok (.iload_n 1, 1) := dk_27 (dk_at dksX0_on_0 13 rfl rfl)
theorem dX0_on_14 : decode cX0_on 14 = .ok (.invokevirtual 543, 3) := dk_182 2 31 (dk_at dksX0_on_0 14 rfl rfl)
theorem dX0_on_17 : decode cX0_on 17 = .ok (.ifCond .ne 18, 3) := dk_154 0 18 (dk_at dksX0_on_0 17 rfl rfl)
theorem dX0_on_20 : decode cX0_on 20 = .ok (.aload_n 0, 1) := dk_42 (dk_at dksX0_on_0 20 rfl rfl)
theorem dX0_on_21 : decode cX0_on 21 = .ok (.bipush 6, 2) := dk_16 6 (dk_at dksX0_on_0 21 rfl rfl)
theorem dX0_on_23 : decode cX0_on 23 = .ok (.invokevirtual 162, 3) := dk_182 0 162 (dk_at dksX0_on_1 0 rfl rfl)
theorem dX0_on_26 : decode cX0_on 26 = .ok (.ifCond .lt 7, 3) := dk_155 0 7 (dk_at dksX0_on_1 3 rfl rfl)
theorem dX0_on_29 : decode cX0_on 29 = .ok (.iconst 1, 1) := dk_4 (dk_at dksX0_on_1 6 rfl rfl)
theorem dX0_on_30 : decode cX0_on 30 = .ok (.goto 4, 3) := dk_167 0 4 (dk_at dksX0_on_1 7 rfl rfl)
theorem dX0_on_33 : decode cX0_on 33 = .ok (.iconst 0, 1) := dk_3 (dk_at dksX0_on_1 10 rfl rfl)
theorem dX0_on_34 : decode cX0_on 34 = .ok (.ireturn, 1) := dk_172 (dk_at dksX0_on_1 11 rfl rfl)
theorem dX0_on_35 : decode cX0_on 35 = .ok (.aload_n 0, 1) := dk_42 (dk_at dksX0_on_1 12 rfl rfl)
theorem dX0_on_36 : decode cX0_on 36 = .ok (.invokevirtual 546, 3) := dk_182 2 34 (dk_at dksX0_on_1 13 rfl rfl)
theorem dX0_on_39 : decode cX0_on 39 = .ok (.aload_n 0, 1) := dk_42 (dk_at dksX0_on_1 16 rfl rfl)
theorem dX0_on_40 : decode cX0_on 40 = .ok (.invokevirtual 224, 3) := dk_182 0 224 (dk_at dksX0_on_1 17 rfl rfl)
theorem dX0_on_43 : decode cX0_on 43 = .ok (.iconst 1, 1) := dk_4 (dk_at dksX0_on_1 20 rfl rfl)
theorem dX0_on_44 : decode cX0_on 44 = .ok (.ireturn, 1) := dk_172 (dk_at dksX0_on_1 21 rfl rfl)
abbrev cX0_isImage : ByteArray := prog_1_method_76_code
def yX0_isImage : MethodName := ⟨RX0, "isImage", "(I)Z"⟩
def dkwX0_isImage_3 : List UInt8 := [159, 0, 5, 3, 172, 132, 2, 1, 167, 255, 221, 4, 172]
abbrev dktX0_isImage_3 : List UInt8 := dkwX0_isImage_3 ++ []
def dkwX0_isImage_2 : List UInt8 := [162, 0, 35, 42, 5, 5, 28, 104, 96, 182, 1, 185, 62, 29, 17, 3, 231, 164, 0, 12, 29, 19, 2, 23]
abbrev dktX0_isImage_2 : List UInt8 := dkwX0_isImage_2 ++ dktX0_isImage_3
def dkwX0_isImage_1 : List UInt8 := [100, 182, 1, 182, 42, 180, 0, 53, 27, 4, 100, 184, 2, 24, 159, 0, 5, 3, 172, 3, 61, 28, 16, 16]
abbrev dktX0_isImage_1 : List UInt8 := dkwX0_isImage_1 ++ dktX0_isImage_2
def dkwX0_isImage_0 : List UInt8 := [27, 16, 34, 42, 180, 0, 49, 180, 0, 239, 42, 182, 0, 245, 104, 96, 4, 96, 160, 0, 23, 42, 27, 4]
abbrev dktX0_isImage_0 : List UInt8 := dkwX0_isImage_0 ++ dktX0_isImage_1
theorem dksX0_isImage_0 : cX0_isImage.data.toList.drop 0 = dktX0_isImage_0 := by decide +kernel
theorem dksX0_isImage_1 : cX0_isImage.data.toList.drop 24 = dktX0_isImage_1 := dk_seg dksX0_isImage_0 24 rfl rfl
theorem dksX0_isImage_2 : cX0_isImage.data.toList.drop 48 = dktX0_isImage_2 := dk_seg dksX0_isImage_1 24 rfl rfl
theorem dksX0_isImage_3 : cX0_isImage.data.toList.drop 72 = dktX0_isImage_3 := dk_seg dksX0_isImage_2 24 rfl rfl
theorem dX0_isImage_0 : decode cX0_isImage 0 = .ok (.iload_n 1, 1) := dk_27 (dk_at dksX0_isImage_0 0 rfl rfl)
theorem dX0_isImage_1 : decode cX0_isImage 1 = .ok (.bipush 34, 2) := dk_16 34 (dk_at dksX0_isImage_0 1 rfl rfl)
theorem dX0_isImage_3 : decode cX0_isImage 3 = .ok (.aload_n 0, 1) := dk_42 (dk_at dksX0_isImage_0 3 rfl rfl)
theorem dX0_isImage_4 : decode cX0_isImage 4 = .ok (.getfield 49, 3) := dk_180 0 49 (dk_at dksX0_isImage_0 4 rfl rfl)
theorem dX0_isImage_7 : decode cX0_isImage 7 = .ok (.getfield 239, 3) := dk_180 0 239 (dk_at dksX0_isImage_0 7 rfl rfl)
theorem dX0_isImage_10 : decode cX0_isImage 10 = .ok (.aload_n 0, 1) := dk_42 (dk_at dksX0_isImage_0 10 rfl rfl)
theorem dX0_isImage_11 : decode cX0_isImage 11 = .ok (.invokevirtual 245, 3) := dk_182 0 245 (dk_at dksX0_isImage_0 11 rfl rfl)
theorem dX0_isImage_14 : decode cX0_isImage 14 = .ok (.imul, 1) := dk_104 (dk_at dksX0_isImage_0 14 rfl rfl)
theorem dX0_isImage_15 : decode cX0_isImage 15 = .ok (.iadd, 1) := dk_96 (dk_at dksX0_isImage_0 15 rfl rfl)
theorem dX0_isImage_16 : decode cX0_isImage 16 = .ok (.iconst 1, 1) := dk_4 (dk_at dksX0_isImage_0 16 rfl rfl)
theorem dX0_isImage_17 : decode cX0_isImage 17 = .ok (.iadd, 1) := dk_96 (dk_at dksX0_isImage_0 17 rfl rfl)
theorem dX0_isImage_18 : decode cX0_isImage 18 = .ok (.if_icmp .ne 23, 3) := dk_160 0 23 (dk_at dksX0_isImage_0 18 rfl rfl)
theorem dX0_isImage_21 : decode cX0_isImage 21 = .ok (.aload_n 0, 1) := dk_42 (dk_at dksX0_isImage_0 21 rfl rfl)
theorem dX0_isImage_22 : decode cX0_isImage 22 = .ok (.iload_n 1, 1) := dk_27 (dk_at dksX0_isImage_0 22 rfl rfl)
theorem dX0_isImage_23 : decode cX0_isImage 23 = .ok (.iconst 1, 1) := dk_4 (dk_at dksX0_isImage_0 23 rfl rfl)
theorem dX0_isImage_24 : decode cX0_isImage 24 = .ok (.isub, 1) := dk_100 (dk_at dksX0_isImage_1 0 rfl rfl)
theorem dX0_isImage_25 : decode cX0_isImage 25 = .ok (.invokevirtual 438, 3) := dk_182 1 182 (dk_at dksX0_isImage_1 1 rfl rfl)
theorem dX0_isImage_28 : decode cX0_isImage 28 = .ok (.aload_n 0, 1) := dk_42 (dk_at dksX0_isImage_1 4 rfl rfl)
theorem dX0_isImage_29 : decode cX0_isImage 29 = .ok (.getfield 53, 3) := dk_180 0 53 (dk_at dksX0_isImage_1 5 rfl rfl)
theorem dX0_isImage_32 : decode cX0_isImage 32 = .ok (.iload_n 1, 1) := dk_27 (dk_at dksX0_isImage_1 8 rfl rfl)
theorem dX0_isImage_33 : decode cX0_isImage 33 = .ok (.iconst 1, 1) := dk_4 (dk_at dksX0_isImage_1 9 rfl rfl)
theorem dX0_isImage_34 : decode cX0_isImage 34 = .ok (.isub, 1) := dk_100 (dk_at dksX0_isImage_1 10 rfl rfl)
theorem dX0_isImage_35 : decode cX0_isImage 35 = .ok (.invokestatic 536, 3) := dk_184 2 24 (dk_at dksX0_isImage_1 11 rfl rfl)
theorem dX0_isImage_38 : decode cX0_isImage 38 = .ok (.if_icmp .eq 5, 3) := dk_159 0 5 (dk_at dksX0_isImage_1 14 rfl rfl)
theorem dX0_isImage_41 : decode cX0_isImage 41 = .ok (.iconst 0, 1) := dk_3 (dk_at dksX0_isImage_1 17 rfl rfl)
theorem dX0_isImage_42 : decode cX0_isImage 42 = .ok (.ireturn, 1) := dk_172 (dk_at dksX0_isImage_1 18 rfl rfl)
theorem dX0_isImage_43 : decode cX0_isImage 43 = .ok (.iconst 0, 1) := dk_3 (dk_at dksX0_isImage_1 19 rfl rfl)
theorem dX0_isImage_44 : decode cX0_isImage 44 = .ok (.istore_n 2, 1) := dk_61 (dk_at dksX0_isImage_1 20 rfl rfl)
theorem dX0_isImage_45 : decode cX0_isImage 45 = .ok (.iload_n 2, 1) := dk_28 (dk_at dksX0_isImage_1 21 rfl rfl)
theorem dX0_isImage_46 : decode cX0_isImage 46 = .ok (.bipush 16, 2) := dk_16 16 (dk_at dksX0_isImage_1 22 rfl rfl)
theorem dX0_isImage_48 : decode cX0_isImage 48 = .ok (.if_icmp .ge 35, 3) := dk_162 0 35 (dk_at dksX0_isImage_2 0 rfl rfl)
theorem dX0_isImage_51 : decode cX0_isImage 51 = .ok (.aload_n 0, 1) := dk_42 (dk_at dksX0_isImage_2 3 rfl rfl)
theorem dX0_isImage_52 : decode cX0_isImage 52 = .ok (.iconst 2, 1) := dk_5 (dk_at dksX0_isImage_2 4 rfl rfl)
theorem dX0_isImage_53 : decode cX0_isImage 53 = .ok (.iconst 2, 1) := dk_5 (dk_at dksX0_isImage_2 5 rfl rfl)
theorem dX0_isImage_54 : decode cX0_isImage 54 = .ok (.iload_n 2, 1) := dk_28 (dk_at dksX0_isImage_2 6 rfl rfl)
theorem dX0_isImage_55 : decode cX0_isImage 55 = .ok (.imul, 1) := dk_104 (dk_at dksX0_isImage_2 7 rfl rfl)
theorem dX0_isImage_56 : decode cX0_isImage 56 = .ok (.iadd, 1) := dk_96 (dk_at dksX0_isImage_2 8 rfl rfl)
theorem dX0_isImage_57 : decode cX0_isImage 57 = .ok (.invokevirtual 441, 3) := dk_182 1 185 (dk_at dksX0_isImage_2 9 rfl rfl)
theorem dX0_isImage_60 : decode cX0_isImage 60 = .ok (.istore_n 3, 1) := dk_62 (dk_at dksX0_isImage_2 12 rfl rfl)
theorem dX0_isImage_61 : decode cX0_isImage 61 = .ok (.iload_n 3, 1) := dk_29 (dk_at dksX0_isImage_2 13 rfl rfl)
theorem dX0_isImage_62 : decode cX0_isImage 62 = .ok (.sipush 999, 3) := dk_17 3 231 (dk_at dksX0_isImage_2 14 rfl rfl)
theorem dX0_isImage_65 : decode cX0_isImage 65 = .ok (.if_icmp .le 12, 3) := dk_164 0 12 (dk_at dksX0_isImage_2 17 rfl rfl)
theorem dX0_isImage_68 : decode cX0_isImage 68 = .ok (.iload_n 3, 1) := dk_29 (dk_at dksX0_isImage_2 20 rfl rfl)
theorem dX0_isImage_69 : decode cX0_isImage 69 = .ok (.ldc_w 535, 3) := dk_19 2 23 (dk_at dksX0_isImage_2 21 rfl rfl)
theorem dX0_isImage_72 : decode cX0_isImage 72 = .ok (.if_icmp .eq 5, 3) := dk_159 0 5 (dk_at dksX0_isImage_3 0 rfl rfl)
theorem dX0_isImage_75 : decode cX0_isImage 75 = .ok (.iconst 0, 1) := dk_3 (dk_at dksX0_isImage_3 3 rfl rfl)
theorem dX0_isImage_76 : decode cX0_isImage 76 = .ok (.ireturn, 1) := dk_172 (dk_at dksX0_isImage_3 4 rfl rfl)
theorem dX0_isImage_77 : decode cX0_isImage 77 = .ok (.iinc 2 1, 3) := dk_132 2 1 (dk_at dksX0_isImage_3 5 rfl rfl)
theorem dX0_isImage_80 : decode cX0_isImage 80 = .ok (.goto (-35), 3) := dk_167 255 221 (dk_at dksX0_isImage_3 8 rfl rfl)
theorem dX0_isImage_83 : decode cX0_isImage 83 = .ok (.iconst 1, 1) := dk_4 (dk_at dksX0_isImage_3 11 rfl rfl)
theorem dX0_isImage_84 : decode cX0_isImage 84 = .ok (.ireturn, 1) := dk_172 (dk_at dksX0_isImage_3 12 rfl rfl)
abbrev cX0_comesOn : ByteArray := prog_1_method_77_code
def yX0_comesOn : MethodName := ⟨RX0, "comesOn", "()V"⟩
def dkwX0_comesOn_8 : List UInt8 := [177]
abbrev dktX0_comesOn_8 : List UInt8 := dkwX0_comesOn_8 ++ []
def dkwX0_comesOn_7 : List UInt8 := [184, 1, 74, 184, 1, 173, 181, 2, 28, 132, 2, 1, 167, 255, 157, 42, 180, 0, 111, 3, 182, 1, 235, 87]
abbrev dktX0_comesOn_7 : List UInt8 := dkwX0_comesOn_7 ++ dktX0_comesOn_8
def dkwX0_comesOn_6 : List UInt8 := [153, 0, 32, 42, 180, 0, 111, 42, 180, 0, 111, 180, 2, 28, 42, 180, 0, 111, 180, 1, 67, 28, 50]
abbrev dktX0_comesOn_6 : List UInt8 := dkwX0_comesOn_6 ++ dktX0_comesOn_7
def dkwX0_comesOn_5 : List UInt8 := [182, 1, 182, 79, 132, 3, 1, 167, 255, 220, 42, 180, 0, 111, 180, 1, 67, 28, 50, 184, 1, 70]
abbrev dktX0_comesOn_5 : List UInt8 := dkwX0_comesOn_5 ++ dktX0_comesOn_6
def dkwX0_comesOn_4 : List UInt8 := [162, 0, 34, 42, 180, 0, 111, 180, 1, 67, 28, 50, 29, 42, 27, 28, 42, 182, 0, 245, 104, 96, 29, 96]
abbrev dktX0_comesOn_4 : List UInt8 := dkwX0_comesOn_4 ++ dktX0_comesOn_5
def dkwX0_comesOn_3 : List UInt8 := [16, 34, 60, 3, 61, 28, 42, 180, 0, 49, 180, 0, 239, 162, 0, 94, 3, 62, 29, 42, 182, 0, 245]
abbrev dktX0_comesOn_3 : List UInt8 := dkwX0_comesOn_3 ++ dktX0_comesOn_4
def dkwX0_comesOn_2 : List UInt8 := [180, 2, 20, 42, 180, 0, 30, 27, 50, 28, 184, 1, 122, 182, 1, 8, 87, 132, 1, 1, 167, 255, 209]
abbrev dktX0_comesOn_2 : List UInt8 := dkwX0_comesOn_2 ++ dktX0_comesOn_3
def dkwX0_comesOn_1 : List UInt8 := [162, 0, 47, 42, 5, 5, 27, 104, 96, 182, 1, 185, 61, 28, 19, 2, 23, 159, 0, 24, 42, 180, 0, 111]
abbrev dktX0_comesOn_1 : List UInt8 := dkwX0_comesOn_1 ++ dktX0_comesOn_2
def dkwX0_comesOn_0 : List UInt8 := [42, 180, 0, 111, 182, 0, 188, 42, 180, 0, 111, 42, 3, 182, 1, 185, 181, 1, 37, 3, 60, 27, 16, 16]
abbrev dktX0_comesOn_0 : List UInt8 := dkwX0_comesOn_0 ++ dktX0_comesOn_1
theorem dksX0_comesOn_0 : cX0_comesOn.data.toList.drop 0 = dktX0_comesOn_0 := by decide +kernel
theorem dksX0_comesOn_1 : cX0_comesOn.data.toList.drop 24 = dktX0_comesOn_1 := dk_seg dksX0_comesOn_0 24 rfl rfl
theorem dksX0_comesOn_2 : cX0_comesOn.data.toList.drop 48 = dktX0_comesOn_2 := dk_seg dksX0_comesOn_1 24 rfl rfl
theorem dksX0_comesOn_3 : cX0_comesOn.data.toList.drop 71 = dktX0_comesOn_3 := dk_seg dksX0_comesOn_2 23 rfl rfl
theorem dksX0_comesOn_4 : cX0_comesOn.data.toList.drop 94 = dktX0_comesOn_4 := dk_seg dksX0_comesOn_3 23 rfl rfl
theorem dksX0_comesOn_5 : cX0_comesOn.data.toList.drop 118 = dktX0_comesOn_5 := dk_seg dksX0_comesOn_4 24 rfl rfl
theorem dksX0_comesOn_6 : cX0_comesOn.data.toList.drop 140 = dktX0_comesOn_6 := dk_seg dksX0_comesOn_5 22 rfl rfl
theorem dksX0_comesOn_7 : cX0_comesOn.data.toList.drop 163 = dktX0_comesOn_7 := dk_seg dksX0_comesOn_6 23 rfl rfl
theorem dksX0_comesOn_8 : cX0_comesOn.data.toList.drop 187 = dktX0_comesOn_8 := dk_seg dksX0_comesOn_7 24 rfl rfl
theorem dX0_comesOn_0 : decode cX0_comesOn 0 = .ok (.aload_n 0, 1) := dk_42 (dk_at dksX0_comesOn_0 0 rfl rfl)
theorem dX0_comesOn_1 : decode cX0_comesOn 1 = .ok (.getfield 111, 3) := dk_180 0 111 (dk_at dksX0_comesOn_0 1 rfl rfl)
theorem dX0_comesOn_4 : decode cX0_comesOn 4 = .ok (.invokevirtual 188, 3) := dk_182 0 188 (dk_at dksX0_comesOn_0 4 rfl rfl)
theorem dX0_comesOn_7 : decode cX0_comesOn 7 = .ok (.aload_n 0, 1) := dk_42 (dk_at dksX0_comesOn_0 7 rfl rfl)
theorem dX0_comesOn_8 : decode cX0_comesOn 8 = .ok (.getfield 111, 3) := dk_180 0 111 (dk_at dksX0_comesOn_0 8 rfl rfl)
theorem dX0_comesOn_11 : decode cX0_comesOn 11 = .ok (.aload_n 0, 1) := dk_42 (dk_at dksX0_comesOn_0 11 rfl rfl)
theorem dX0_comesOn_12 : decode cX0_comesOn 12 = .ok (.iconst 0, 1) := dk_3 (dk_at dksX0_comesOn_0 12 rfl rfl)
theorem dX0_comesOn_13 : decode cX0_comesOn 13 = .ok (.invokevirtual 441, 3) := dk_182 1 185 (dk_at dksX0_comesOn_0 13 rfl rfl)
theorem dX0_comesOn_16 : decode cX0_comesOn 16 = .ok (.putfield 293, 3) := dk_181 1 37 (dk_at dksX0_comesOn_0 16 rfl rfl)
theorem dX0_comesOn_19 : decode cX0_comesOn 19 = .ok (.iconst 0, 1) := dk_3 (dk_at dksX0_comesOn_0 19 rfl rfl)
theorem dX0_comesOn_20 : decode cX0_comesOn 20 = .ok (.istore_n 1, 1) := dk_60 (dk_at dksX0_comesOn_0 20 rfl rfl)
theorem dX0_comesOn_21 : decode cX0_comesOn 21 = .ok (.iload_n 1, 1) := dk_27 (dk_at dksX0_comesOn_0 21 rfl rfl)
theorem dX0_comesOn_22 : decode cX0_comesOn 22 = .ok (.bipush 16, 2) := dk_16 16 (dk_at dksX0_comesOn_0 22 rfl rfl)
theorem dX0_comesOn_24 : decode cX0_comesOn 24 = .ok (.if_icmp .ge 47, 3) := dk_162 0 47 (dk_at dksX0_comesOn_1 0 rfl rfl)
theorem dX0_comesOn_27 : decode cX0_comesOn 27 = .ok (.aload_n 0, 1) := dk_42 (dk_at dksX0_comesOn_1 3 rfl rfl)
theorem dX0_comesOn_28 : decode cX0_comesOn 28 = .ok (.iconst 2, 1) := dk_5 (dk_at dksX0_comesOn_1 4 rfl rfl)
theorem dX0_comesOn_29 : decode cX0_comesOn 29 = .ok (.iconst 2, 1) := dk_5 (dk_at dksX0_comesOn_1 5 rfl rfl)
theorem dX0_comesOn_30 : decode cX0_comesOn 30 = .ok (.iload_n 1, 1) := dk_27 (dk_at dksX0_comesOn_1 6 rfl rfl)
theorem dX0_comesOn_31 : decode cX0_comesOn 31 = .ok (.imul, 1) := dk_104 (dk_at dksX0_comesOn_1 7 rfl rfl)
theorem dX0_comesOn_32 : decode cX0_comesOn 32 = .ok (.iadd, 1) := dk_96 (dk_at dksX0_comesOn_1 8 rfl rfl)
theorem dX0_comesOn_33 : decode cX0_comesOn 33 = .ok (.invokevirtual 441, 3) := dk_182 1 185 (dk_at dksX0_comesOn_1 9 rfl rfl)
theorem dX0_comesOn_36 : decode cX0_comesOn 36 = .ok (.istore_n 2, 1) := dk_61 (dk_at dksX0_comesOn_1 12 rfl rfl)
theorem dX0_comesOn_37 : decode cX0_comesOn 37 = .ok (.iload_n 2, 1) := dk_28 (dk_at dksX0_comesOn_1 13 rfl rfl)
theorem dX0_comesOn_38 : decode cX0_comesOn 38 = .ok (.ldc_w 535, 3) := dk_19 2 23 (dk_at dksX0_comesOn_1 14 rfl rfl)
theorem dX0_comesOn_41 : decode cX0_comesOn 41 = .ok (.if_icmp .eq 24, 3) := dk_159 0 24 (dk_at dksX0_comesOn_1 17 rfl rfl)
theorem dX0_comesOn_44 : decode cX0_comesOn 44 = .ok (.aload_n 0, 1) := dk_42 (dk_at dksX0_comesOn_1 20 rfl rfl)
theorem dX0_comesOn_45 : decode cX0_comesOn 45 = .ok (.getfield 111, 3) := dk_180 0 111 (dk_at dksX0_comesOn_1 21 rfl rfl)
theorem dX0_comesOn_48 : decode cX0_comesOn 48 = .ok (.getfield 532, 3) := dk_180 2 20 (dk_at dksX0_comesOn_2 0 rfl rfl)
theorem dX0_comesOn_51 : decode cX0_comesOn 51 = .ok (.aload_n 0, 1) := dk_42 (dk_at dksX0_comesOn_2 3 rfl rfl)
theorem dX0_comesOn_52 : decode cX0_comesOn 52 = .ok (.getfield 30, 3) := dk_180 0 30 (dk_at dksX0_comesOn_2 4 rfl rfl)
theorem dX0_comesOn_55 : decode cX0_comesOn 55 = .ok (.iload_n 1, 1) := dk_27 (dk_at dksX0_comesOn_2 7 rfl rfl)
theorem dX0_comesOn_56 : decode cX0_comesOn 56 = .ok (.aaload, 1) := dk_50 (dk_at dksX0_comesOn_2 8 rfl rfl)
theorem dX0_comesOn_57 : decode cX0_comesOn 57 = .ok (.iload_n 2, 1) := dk_28 (dk_at dksX0_comesOn_2 9 rfl rfl)
theorem dX0_comesOn_58 : decode cX0_comesOn 58 = .ok (.invokestatic 378, 3) := dk_184 1 122 (dk_at dksX0_comesOn_2 10 rfl rfl)
theorem dX0_comesOn_61 : decode cX0_comesOn 61 = .ok (.invokevirtual 264, 3) := dk_182 1 8 (dk_at dksX0_comesOn_2 13 rfl rfl)
theorem dX0_comesOn_64 : decode cX0_comesOn 64 = .ok (.pop, 1) := dk_87 (dk_at dksX0_comesOn_2 16 rfl rfl)
theorem dX0_comesOn_65 : decode cX0_comesOn 65 = .ok (.iinc 1 1, 3) := dk_132 1 1 (dk_at dksX0_comesOn_2 17 rfl rfl)
theorem dX0_comesOn_68 : decode cX0_comesOn 68 = .ok (.goto (-47), 3) := dk_167 255 209 (dk_at dksX0_comesOn_2 20 rfl rfl)
theorem dX0_comesOn_71 : decode cX0_comesOn 71 = .ok (.bipush 34, 2) := dk_16 34 (dk_at dksX0_comesOn_3 0 rfl rfl)
theorem dX0_comesOn_73 : decode cX0_comesOn 73 = .ok (.istore_n 1, 1) := dk_60 (dk_at dksX0_comesOn_3 2 rfl rfl)
theorem dX0_comesOn_74 : decode cX0_comesOn 74 = .ok (.iconst 0, 1) := dk_3 (dk_at dksX0_comesOn_3 3 rfl rfl)
theorem dX0_comesOn_75 : decode cX0_comesOn 75 = .ok (.istore_n 2, 1) := dk_61 (dk_at dksX0_comesOn_3 4 rfl rfl)
theorem dX0_comesOn_76 : decode cX0_comesOn 76 = .ok (.iload_n 2, 1) := dk_28 (dk_at dksX0_comesOn_3 5 rfl rfl)
theorem dX0_comesOn_77 : decode cX0_comesOn 77 = .ok (.aload_n 0, 1) := dk_42 (dk_at dksX0_comesOn_3 6 rfl rfl)
theorem dX0_comesOn_78 : decode cX0_comesOn 78 = .ok (.getfield 49, 3) := dk_180 0 49 (dk_at dksX0_comesOn_3 7 rfl rfl)
theorem dX0_comesOn_81 : decode cX0_comesOn 81 = .ok (.getfield 239, 3) := dk_180 0 239 (dk_at dksX0_comesOn_3 10 rfl rfl)
theorem dX0_comesOn_84 : decode cX0_comesOn 84 = .ok (.if_icmp .ge 94, 3) := dk_162 0 94 (dk_at dksX0_comesOn_3 13 rfl rfl)
theorem dX0_comesOn_87 : decode cX0_comesOn 87 = .ok (.iconst 0, 1) := dk_3 (dk_at dksX0_comesOn_3 16 rfl rfl)
theorem dX0_comesOn_88 : decode cX0_comesOn 88 = .ok (.istore_n 3, 1) := dk_62 (dk_at dksX0_comesOn_3 17 rfl rfl)
theorem dX0_comesOn_89 : decode cX0_comesOn 89 = .ok (.iload_n 3, 1) := dk_29 (dk_at dksX0_comesOn_3 18 rfl rfl)
theorem dX0_comesOn_90 : decode cX0_comesOn 90 = .ok (.aload_n 0, 1) := dk_42 (dk_at dksX0_comesOn_3 19 rfl rfl)
theorem dX0_comesOn_91 : decode cX0_comesOn 91 = .ok (.invokevirtual 245, 3) := dk_182 0 245 (dk_at dksX0_comesOn_3 20 rfl rfl)
theorem dX0_comesOn_94 : decode cX0_comesOn 94 = .ok (.if_icmp .ge 34, 3) := dk_162 0 34 (dk_at dksX0_comesOn_4 0 rfl rfl)
theorem dX0_comesOn_97 : decode cX0_comesOn 97 = .ok (.aload_n 0, 1) := dk_42 (dk_at dksX0_comesOn_4 3 rfl rfl)
theorem dX0_comesOn_98 : decode cX0_comesOn 98 = .ok (.getfield 111, 3) := dk_180 0 111 (dk_at dksX0_comesOn_4 4 rfl rfl)
theorem dX0_comesOn_101 : decode cX0_comesOn 101 = .ok (.getfield 323, 3) := dk_180 1 67 (dk_at dksX0_comesOn_4 7 rfl rfl)
theorem dX0_comesOn_104 : decode cX0_comesOn 104 = .ok (.iload_n 2, 1) := dk_28 (dk_at dksX0_comesOn_4 10 rfl rfl)
theorem dX0_comesOn_105 : decode cX0_comesOn 105 = .ok (.aaload, 1) := dk_50 (dk_at dksX0_comesOn_4 11 rfl rfl)
theorem dX0_comesOn_106 : decode cX0_comesOn 106 = .ok (.iload_n 3, 1) := dk_29 (dk_at dksX0_comesOn_4 12 rfl rfl)
theorem dX0_comesOn_107 : decode cX0_comesOn 107 = .ok (.aload_n 0, 1) := dk_42 (dk_at dksX0_comesOn_4 13 rfl rfl)
theorem dX0_comesOn_108 : decode cX0_comesOn 108 = .ok (.iload_n 1, 1) := dk_27 (dk_at dksX0_comesOn_4 14 rfl rfl)
theorem dX0_comesOn_109 : decode cX0_comesOn 109 = .ok (.iload_n 2, 1) := dk_28 (dk_at dksX0_comesOn_4 15 rfl rfl)
theorem dX0_comesOn_110 : decode cX0_comesOn 110 = .ok (.aload_n 0, 1) := dk_42 (dk_at dksX0_comesOn_4 16 rfl rfl)
theorem dX0_comesOn_111 : decode cX0_comesOn 111 = .ok (.invokevirtual 245, 3) := dk_182 0 245 (dk_at dksX0_comesOn_4 17 rfl rfl)
theorem dX0_comesOn_114 : decode cX0_comesOn 114 = .ok (.imul, 1) := dk_104 (dk_at dksX0_comesOn_4 20 rfl rfl)
theorem dX0_comesOn_115 : decode cX0_comesOn 115 = .ok (.iadd, 1) := dk_96 (dk_at dksX0_comesOn_4 21 rfl rfl)
theorem dX0_comesOn_116 : decode cX0_comesOn 116 = .ok (.iload_n 3, 1) := dk_29 (dk_at dksX0_comesOn_4 22 rfl rfl)
theorem dX0_comesOn_117 : decode cX0_comesOn 117 = .ok (.iadd, 1) := dk_96 (dk_at dksX0_comesOn_4 23 rfl rfl)
theorem dX0_comesOn_118 : decode cX0_comesOn 118 = .ok (.invokevirtual 438, 3) := dk_182 1 182 (dk_at dksX0_comesOn_5 0 rfl rfl)
theorem dX0_comesOn_121 : decode cX0_comesOn 121 = .ok (.iastore, 1) := dk_79 (dk_at dksX0_comesOn_5 3 rfl rfl)
theorem dX0_comesOn_122 : decode cX0_comesOn 122 = .ok (.iinc 3 1, 3) := dk_132 3 1 (dk_at dksX0_comesOn_5 4 rfl rfl)
theorem dX0_comesOn_125 : decode cX0_comesOn 125 = .ok (.goto (-36), 3) := dk_167 255 220 (dk_at dksX0_comesOn_5 7 rfl rfl)
theorem dX0_comesOn_128 : decode cX0_comesOn 128 = .ok (.aload_n 0, 1) := dk_42 (dk_at dksX0_comesOn_5 10 rfl rfl)
theorem dX0_comesOn_129 : decode cX0_comesOn 129 = .ok (.getfield 111, 3) := dk_180 0 111 (dk_at dksX0_comesOn_5 11 rfl rfl)
theorem dX0_comesOn_132 : decode cX0_comesOn 132 = .ok (.getfield 323, 3) := dk_180 1 67 (dk_at dksX0_comesOn_5 14 rfl rfl)
theorem dX0_comesOn_135 : decode cX0_comesOn 135 = .ok (.iload_n 2, 1) := dk_28 (dk_at dksX0_comesOn_5 17 rfl rfl)
theorem dX0_comesOn_136 : decode cX0_comesOn 136 = .ok (.aaload, 1) := dk_50 (dk_at dksX0_comesOn_5 18 rfl rfl)
theorem dX0_comesOn_137 : decode cX0_comesOn 137 = .ok (.invokestatic 326, 3) := dk_184 1 70 (dk_at dksX0_comesOn_5 19 rfl rfl)
theorem dX0_comesOn_140 : decode cX0_comesOn 140 = .ok (.ifCond .eq 32, 3) := dk_153 0 32 (dk_at dksX0_comesOn_6 0 rfl rfl)
theorem dX0_comesOn_143 : decode cX0_comesOn 143 = .ok (.aload_n 0, 1) := dk_42 (dk_at dksX0_comesOn_6 3 rfl rfl)
theorem dX0_comesOn_144 : decode cX0_comesOn 144 = .ok (.getfield 111, 3) := dk_180 0 111 (dk_at dksX0_comesOn_6 4 rfl rfl)
theorem dX0_comesOn_147 : decode cX0_comesOn 147 = .ok (.aload_n 0, 1) := dk_42 (dk_at dksX0_comesOn_6 7 rfl rfl)
theorem dX0_comesOn_148 : decode cX0_comesOn 148 = .ok (.getfield 111, 3) := dk_180 0 111 (dk_at dksX0_comesOn_6 8 rfl rfl)
theorem dX0_comesOn_151 : decode cX0_comesOn 151 = .ok (.getfield 540, 3) := dk_180 2 28 (dk_at dksX0_comesOn_6 11 rfl rfl)
theorem dX0_comesOn_154 : decode cX0_comesOn 154 = .ok (.aload_n 0, 1) := dk_42 (dk_at dksX0_comesOn_6 14 rfl rfl)
theorem dX0_comesOn_155 : decode cX0_comesOn 155 = .ok (.getfield 111, 3) := dk_180 0 111 (dk_at dksX0_comesOn_6 15 rfl rfl)
theorem dX0_comesOn_158 : decode cX0_comesOn 158 = .ok (.getfield 323, 3) := dk_180 1 67 (dk_at dksX0_comesOn_6 18 rfl rfl)
theorem dX0_comesOn_161 : decode cX0_comesOn 161 = .ok (.iload_n 2, 1) := dk_28 (dk_at dksX0_comesOn_6 21 rfl rfl)
theorem dX0_comesOn_162 : decode cX0_comesOn 162 = .ok (.aaload, 1) := dk_50 (dk_at dksX0_comesOn_6 22 rfl rfl)
theorem dX0_comesOn_163 : decode cX0_comesOn 163 = .ok (.invokestatic 330, 3) := dk_184 1 74 (dk_at dksX0_comesOn_7 0 rfl rfl)
theorem dX0_comesOn_166 : decode cX0_comesOn 166 = .ok (.invokestatic 429, 3) := dk_184 1 173 (dk_at dksX0_comesOn_7 3 rfl rfl)
theorem dX0_comesOn_169 : decode cX0_comesOn 169 = .ok (.putfield 540, 3) := dk_181 2 28 (dk_at dksX0_comesOn_7 6 rfl rfl)
theorem dX0_comesOn_172 : decode cX0_comesOn 172 = .ok (.iinc 2 1, 3) := dk_132 2 1 (dk_at dksX0_comesOn_7 9 rfl rfl)
theorem dX0_comesOn_175 : decode cX0_comesOn 175 = .ok (.goto (-99), 3) := dk_167 255 157 (dk_at dksX0_comesOn_7 12 rfl rfl)
theorem dX0_comesOn_178 : decode cX0_comesOn 178 = .ok (.aload_n 0, 1) := dk_42 (dk_at dksX0_comesOn_7 15 rfl rfl)
theorem dX0_comesOn_179 : decode cX0_comesOn 179 = .ok (.getfield 111, 3) := dk_180 0 111 (dk_at dksX0_comesOn_7 16 rfl rfl)
theorem dX0_comesOn_182 : decode cX0_comesOn 182 = .ok (.iconst 0, 1) := dk_3 (dk_at dksX0_comesOn_7 19 rfl rfl)
theorem dX0_comesOn_183 : decode cX0_comesOn 183 = .ok (.invokevirtual 491, 3) := dk_182 1 235 (dk_at dksX0_comesOn_7 20 rfl rfl)
theorem dX0_comesOn_186 : decode cX0_comesOn 186 = .ok (.pop, 1) := dk_87 (dk_at dksX0_comesOn_7 23 rfl rfl)
theorem dX0_comesOn_187 : decode cX0_comesOn 187 = .ok (.return_, 1) := dk_177 (dk_at dksX0_comesOn_8 0 rfl rfl)
abbrev cX0_status : ByteArray := prog_1_method_79_code
def yX0_status : MethodName := ⟨RX0, "status", "(I)I"⟩
def dkwX0_status_0 : List UInt8 := [27, 3, 16, 6, 184, 1, 16, 153, 0, 12, 42, 180, 0, 80, 27, 46, 167, 0, 4, 2, 172]
abbrev dktX0_status_0 : List UInt8 := dkwX0_status_0 ++ []
theorem dksX0_status_0 : cX0_status.data.toList.drop 0 = dktX0_status_0 := by decide +kernel
theorem dX0_status_0 : decode cX0_status 0 = .ok (.iload_n 1, 1) := dk_27 (dk_at dksX0_status_0 0 rfl rfl)
theorem dX0_status_1 : decode cX0_status 1 = .ok (.iconst 0, 1) := dk_3 (dk_at dksX0_status_0 1 rfl rfl)
theorem dX0_status_2 : decode cX0_status 2 = .ok (.bipush 6, 2) := dk_16 6 (dk_at dksX0_status_0 2 rfl rfl)
theorem dX0_status_4 : decode cX0_status 4 = .ok (.invokestatic 272, 3) := dk_184 1 16 (dk_at dksX0_status_0 4 rfl rfl)
theorem dX0_status_7 : decode cX0_status 7 = .ok (.ifCond .eq 12, 3) := dk_153 0 12 (dk_at dksX0_status_0 7 rfl rfl)
theorem dX0_status_10 : decode cX0_status 10 = .ok (.aload_n 0, 1) := dk_42 (dk_at dksX0_status_0 10 rfl rfl)
theorem dX0_status_11 : decode cX0_status 11 = .ok (.getfield 80, 3) := dk_180 0 80 (dk_at dksX0_status_0 11 rfl rfl)
theorem dX0_status_14 : decode cX0_status 14 = .ok (.iload_n 1, 1) := dk_27 (dk_at dksX0_status_0 14 rfl rfl)
theorem dX0_status_15 : decode cX0_status 15 = .ok (.iaload, 1) := dk_46 (dk_at dksX0_status_0 15 rfl rfl)
theorem dX0_status_16 : decode cX0_status 16 = .ok (.goto 4, 3) := dk_167 0 4 (dk_at dksX0_status_0 16 rfl rfl)
theorem dX0_status_19 : decode cX0_status 19 = .ok (.iconst (-1), 1) := dk_2 (dk_at dksX0_status_0 19 rfl rfl)
theorem dX0_status_20 : decode cX0_status 20 = .ok (.ireturn, 1) := dk_172 (dk_at dksX0_status_0 20 rfl rfl)
theorem q188 : (Jvm.Cond.initialized "GroupJournal") ∈ lw_all := lw_g (lw_at lw_m1 1 rfl) rfl
theorem q254 : (Jvm.Cond.instantiable "GroupJournal" (30 : Nat)) ∈ lw_all := lw_g (lw_at lw_m1 67 rfl) rfl
theorem q256 : (Jvm.Cond.instanceMethod ({ cls := "GroupJournal", name := "<init>", desc := "()V" } : Jvm.MethodName)) ∈ lw_all := lw_g (lw_at lw_m1 69 rfl) rfl
theorem q257 : (Jvm.Cond.code ({ cls := "GroupJournal", name := "<init>", desc := "()V" } : Jvm.MethodName) prog_1_method_7_code (2 : Nat) (Option.none : Option Jvm.ClassFile.FieldType)) ∈ lw_all := lw_g (lw_at lw_m1 70 rfl) rfl
theorem q258 : (Jvm.Cond.methodLink "GroupJournal" (22 : Nat) ({ cls := "java/lang/Object", name := "<init>", desc := "()V" } : Jvm.MethodName)) ∈ lw_all := lw_g (lw_at lw_m1 71 rfl) rfl
theorem q261 : (Jvm.Cond.classLink "GroupJournal" (28 : Nat) "GroupJournal$Key") ∈ lw_all := lw_g (lw_at lw_m1 74 rfl) rfl
theorem q264 : (Jvm.Cond.methodLinkNest "GroupJournal" (34 : Nat) ({ cls := "GroupJournal$Key", name := "<init>", desc := "()V" } : Jvm.MethodName) "GroupJournal") ∈ lw_tbl := lw_at lw_m1 77 rfl
theorem q275 : (Jvm.Cond.classLink "GroupJournal" (39 : Nat) "GroupJournal$Spot") ∈ lw_all := lw_g (lw_at lw_m1 88 rfl) rfl
theorem q277 : (Jvm.Cond.methodLinkNest "GroupJournal" (41 : Nat) ({ cls := "GroupJournal$Spot", name := "<init>", desc := "()V" } : Jvm.MethodName) "GroupJournal") ∈ lw_tbl := lw_at lw_m1 90 rfl
theorem q288 : (Jvm.Cond.classLink "GroupJournal" (46 : Nat) "GroupJournal$Journal") ∈ lw_all := lw_g (lw_at lw_m1 101 rfl) rfl
theorem q290 : (Jvm.Cond.methodLinkNest "GroupJournal" (48 : Nat) ({ cls := "GroupJournal$Journal", name := "<init>", desc := "()V" } : Jvm.MethodName) "GroupJournal") ∈ lw_tbl := lw_at lw_m1 103 rfl
theorem q323 : (Jvm.Cond.fieldLinkNest "GroupJournal" (230 : Nat) "GroupJournal$Journal" "statements" "I" "GroupJournal") ∈ lw_tbl := lw_at lw_m1 136 rfl
theorem q327 : (Jvm.Cond.fieldLinkNest "GroupJournal" (239 : Nat) "GroupJournal$Journal" "segments" "I" "GroupJournal") ∈ lw_tbl := lw_at lw_m1 140 rfl
theorem q330 : (Jvm.Cond.fieldLinkNest "GroupJournal" (233 : Nat) "GroupJournal$Journal" "blocks" "I" "GroupJournal") ∈ lw_tbl := lw_at lw_m1 143 rfl
theorem q334 : (Jvm.Cond.fieldLinkNest "GroupJournal" (236 : Nat) "GroupJournal$Journal" "bytes" "I" "GroupJournal") ∈ lw_tbl := lw_at lw_m1 147 rfl
theorem q336 : (Jvm.Cond.fieldLinkNest "GroupJournal" (482 : Nat) "GroupJournal$Journal" "noise" "I" "GroupJournal") ∈ lw_tbl := lw_at lw_m1 149 rfl
theorem q338 : (Jvm.Cond.fieldLinkNest "GroupJournal" (194 : Nat) "GroupJournal$Journal" "puts" "Ljava/util/List;" "GroupJournal") ∈ lw_tbl := lw_at lw_m1 151 rfl
theorem q361 : (Jvm.Cond.classLink "GroupJournal" (61 : Nat) "GroupJournal$Reader") ∈ lw_all := lw_g (lw_at lw_m1 174 rfl) rfl
theorem q363 : (Jvm.Cond.methodLinkNest "GroupJournal" (63 : Nat) ({ cls := "GroupJournal$Reader", name := "<init>", desc := "(LGroupJournal;)V" } : Jvm.MethodName) "GroupJournal") ∈ lw_tbl := lw_at lw_m1 176 rfl
theorem q419 : (Jvm.Cond.fieldLinkNest "GroupJournal" (182 : Nat) "GroupJournal$Fault" "kind" "I" "GroupJournal") ∈ lw_tbl := lw_at lw_m1 232 rfl
theorem q421 : (Jvm.Cond.fieldLinkNest "GroupJournal" (185 : Nat) "GroupJournal$Fault" "place" "I" "GroupJournal") ∈ lw_tbl := lw_at lw_m1 234 rfl
theorem q465 : (Jvm.Cond.classLink "GroupJournal" (70 : Nat) "GroupJournal$Moment") ∈ lw_all := lw_g (lw_at lw_m2 38 rfl) rfl
theorem q467 : (Jvm.Cond.methodLinkNest "GroupJournal" (72 : Nat) ({ cls := "GroupJournal$Moment", name := "<init>", desc := "()V" } : Jvm.MethodName) "GroupJournal") ∈ lw_tbl := lw_at lw_m2 40 rfl
theorem q474 : (Jvm.Cond.fieldLinkNest "GroupJournal" (508 : Nat) "GroupJournal$Moment" "of" "[J" "GroupJournal") ∈ lw_tbl := lw_at lw_m2 47 rfl
theorem q479 : (Jvm.Cond.classLink "GroupJournal" (84 : Nat) "GroupJournal$Layer") ∈ lw_all := lw_g (lw_at lw_m2 52 rfl) rfl
theorem q481 : (Jvm.Cond.methodLinkNest "GroupJournal" (86 : Nat) ({ cls := "GroupJournal$Layer", name := "<init>", desc := "(LGroupJournal;)V" } : Jvm.MethodName) "GroupJournal") ∈ lw_tbl := lw_at lw_m2 54 rfl
theorem q529 : (Jvm.Cond.classLink "GroupJournal" (91 : Nat) "GroupJournal$Reading") ∈ lw_all := lw_g (lw_at lw_m2 102 rfl) rfl
theorem q531 : (Jvm.Cond.methodLinkNest "GroupJournal" (93 : Nat) ({ cls := "GroupJournal$Reading", name := "<init>", desc := "(LGroupJournal;)V" } : Jvm.MethodName) "GroupJournal") ∈ lw_tbl := lw_at lw_m2 104 rfl
theorem q536 : (Jvm.Cond.fieldLinkNest "GroupJournal" (343 : Nat) "GroupJournal$Reading" "frameAt" "[I" "GroupJournal") ∈ lw_tbl := lw_at lw_m2 109 rfl
theorem q546 : (Jvm.Cond.fieldLinkNest "GroupJournal" (340 : Nat) "GroupJournal$Reading" "frames" "I" "GroupJournal") ∈ lw_tbl := lw_at lw_m2 119 rfl
theorem q576 : (Jvm.Cond.classLink "GroupJournal" (98 : Nat) "GroupJournal$Recovery") ∈ lw_all := lw_g (lw_at lw_m2 149 rfl) rfl
theorem q578 : (Jvm.Cond.methodLinkNest "GroupJournal" (100 : Nat) ({ cls := "GroupJournal$Recovery", name := "<init>", desc := "(LGroupJournal;)V" } : Jvm.MethodName) "GroupJournal") ∈ lw_tbl := lw_at lw_m2 151 rfl
theorem q585 : (Jvm.Cond.fieldLinkNest "GroupJournal" (437 : Nat) "GroupJournal$Recovery" "disk" "[[I" "GroupJournal") ∈ lw_tbl := lw_at lw_m2 158 rfl
theorem q590 : (Jvm.Cond.fieldLinkNest "GroupJournal" (444 : Nat) "GroupJournal$Recovery" "values" "[I" "GroupJournal") ∈ lw_tbl := lw_at lw_m2 163 rfl
theorem q593 : (Jvm.Cond.fieldLinkNest "GroupJournal" (428 : Nat) "GroupJournal$Recovery" "segment" "I" "GroupJournal") ∈ lw_tbl := lw_at lw_m2 166 rfl
theorem q596 : (Jvm.Cond.fieldLinkNest "GroupJournal" (431 : Nat) "GroupJournal$Recovery" "end" "I" "GroupJournal") ∈ lw_tbl := lw_at lw_m2 169 rfl
theorem q601 : (Jvm.Cond.fieldLinkNest "GroupJournal" (424 : Nat) "GroupJournal$Recovery" "next" "I" "GroupJournal") ∈ lw_tbl := lw_at lw_m2 174 rfl
theorem q604 : (Jvm.Cond.fieldLinkNest "GroupJournal" (425 : Nat) "GroupJournal$Recovery" "isDamaged" "Z" "GroupJournal") ∈ lw_tbl := lw_at lw_m2 177 rfl
theorem q625 : (Jvm.Cond.classLink "GroupJournal" (108 : Nat) "GroupJournal$State") ∈ lw_all := lw_g (lw_at lw_m2 198 rfl) rfl
theorem q627 : (Jvm.Cond.methodLinkNest "GroupJournal" (110 : Nat) ({ cls := "GroupJournal$State", name := "<init>", desc := "(LGroupJournal;)V" } : Jvm.MethodName) "GroupJournal") ∈ lw_tbl := lw_at lw_m2 200 rfl
theorem q739 : (Jvm.Cond.fieldLinkNest "GroupJournal" (275 : Nat) "GroupJournal$State" "tick" "I" "GroupJournal") ∈ lw_tbl := lw_at lw_m3 72 rfl
theorem q741 : (Jvm.Cond.fieldLinkNest "GroupJournal" (278 : Nat) "GroupJournal$State" "next" "I" "GroupJournal") ∈ lw_tbl := lw_at lw_m3 74 rfl
theorem q743 : (Jvm.Cond.fieldLinkNest "GroupJournal" (281 : Nat) "GroupJournal$State" "acked" "I" "GroupJournal") ∈ lw_tbl := lw_at lw_m3 76 rfl
theorem q745 : (Jvm.Cond.fieldLinkNest "GroupJournal" (290 : Nat) "GroupJournal$State" "left" "I" "GroupJournal") ∈ lw_tbl := lw_at lw_m3 78 rfl
theorem q748 : (Jvm.Cond.fieldLinkNest "GroupJournal" (293 : Nat) "GroupJournal$State" "snap" "I" "GroupJournal") ∈ lw_tbl := lw_at lw_m3 81 rfl
theorem q751 : (Jvm.Cond.fieldLinkNest "GroupJournal" (346 : Nat) "GroupJournal$State" "segment" "I" "GroupJournal") ∈ lw_tbl := lw_at lw_m3 84 rfl
theorem q754 : (Jvm.Cond.fieldLinkNest "GroupJournal" (349 : Nat) "GroupJournal$State" "at" "I" "GroupJournal") ∈ lw_tbl := lw_at lw_m3 87 rfl
theorem q757 : (Jvm.Cond.fieldLinkNest "GroupJournal" (352 : Nat) "GroupJournal$State" "serial" "I" "GroupJournal") ∈ lw_tbl := lw_at lw_m3 90 rfl
theorem q760 : (Jvm.Cond.fieldLinkNest "GroupJournal" (540 : Nat) "GroupJournal$State" "newest" "I" "GroupJournal") ∈ lw_tbl := lw_at lw_m3 93 rfl
theorem q762 : (Jvm.Cond.fieldLinkNest "GroupJournal" (287 : Nat) "GroupJournal$State" "many" "I" "GroupJournal") ∈ lw_tbl := lw_at lw_m3 95 rfl
theorem q764 : (Jvm.Cond.fieldLinkNest "GroupJournal" (312 : Nat) "GroupJournal$State" "halted" "Z" "GroupJournal") ∈ lw_tbl := lw_at lw_m3 97 rfl
theorem q767 : (Jvm.Cond.fieldLinkNest "GroupJournal" (323 : Nat) "GroupJournal$State" "disk" "[[I" "GroupJournal") ∈ lw_tbl := lw_at lw_m3 100 rfl
theorem q775 : (Jvm.Cond.fieldLinkNest "GroupJournal" (284 : Nat) "GroupJournal$State" "queue" "Ljava/util/List;" "GroupJournal") ∈ lw_tbl := lw_at lw_m3 108 rfl
theorem q777 : (Jvm.Cond.fieldLinkNest "GroupJournal" (368 : Nat) "GroupJournal$State" "going" "Ljava/util/List;" "GroupJournal") ∈ lw_tbl := lw_at lw_m3 110 rfl
theorem q779 : (Jvm.Cond.fieldLinkNest "GroupJournal" (358 : Nat) "GroupJournal$State" "table" "Ljava/util/HashMap;" "GroupJournal") ∈ lw_tbl := lw_at lw_m3 112 rfl
theorem q782 : (Jvm.Cond.fieldLinkNest "GroupJournal" (532 : Nat) "GroupJournal$State" "snapTable" "Ljava/util/HashMap;" "GroupJournal") ∈ lw_tbl := lw_at lw_m3 115 rfl
theorem q784 : (Jvm.Cond.fieldLinkNest "GroupJournal" (296 : Nat) "GroupJournal$State" "waiters" "Ljava/util/LinkedHashMap;" "GroupJournal") ∈ lw_tbl := lw_at lw_m3 117 rfl
theorem q786 : (Jvm.Cond.fieldLinkNest "GroupJournal" (303 : Nat) "GroupJournal$State" "scars" "Ljava/util/HashSet;" "GroupJournal") ∈ lw_tbl := lw_at lw_m3 119 rfl
theorem q788 : (Jvm.Cond.fieldLinkNest "GroupJournal" (310 : Nat) "GroupJournal$State" "rows" "Ljava/util/List;" "GroupJournal") ∈ lw_tbl := lw_at lw_m3 121 rfl
theorem q837 : (Jvm.Cond.classLink "GroupJournal" (124 : Nat) "[[I") ∈ lw_all := lw_g (lw_at lw_m3 170 rfl) rfl
theorem q838 : (Jvm.Cond.classLink "GroupJournal" (136 : Nat) "java/util/ArrayList") ∈ lw_all := lw_g (lw_at lw_m3 171 rfl) rfl
theorem q839 : (Jvm.Cond.methodLink "GroupJournal" (138 : Nat) ({ cls := "java/util/ArrayList", name := "<init>", desc := "(I)V" } : Jvm.MethodName)) ∈ lw_all := lw_g (lw_at lw_m3 172 rfl) rfl
theorem q840 : (Jvm.Cond.methodLink "GroupJournal" (155 : Nat) ({ cls := "GroupJournal$Key", name := "of", desc := "(I)LGroupJournal$Key;" } : Jvm.MethodName)) ∈ lw_all := lw_g (lw_at lw_m3 173 rfl) rfl
theorem q844 : (Jvm.Cond.fieldLink "GroupJournal" (30 : Nat) "GroupJournal" "keys" "[LGroupJournal$Key;") ∈ lw_all := lw_g (lw_at lw_m3 177 rfl) rfl
theorem q846 : (Jvm.Cond.fieldLink "GroupJournal" (35 : Nat) "GroupJournal" "soughtKey" "LGroupJournal$Key;") ∈ lw_all := lw_g (lw_at lw_m3 179 rfl) rfl
theorem q848 : (Jvm.Cond.fieldLink "GroupJournal" (42 : Nat) "GroupJournal" "soughtSpot" "LGroupJournal$Spot;") ∈ lw_all := lw_g (lw_at lw_m3 181 rfl) rfl
theorem q852 : (Jvm.Cond.fieldLink "GroupJournal" (49 : Nat) "GroupJournal" "journal" "LGroupJournal$Journal;") ∈ lw_all := lw_g (lw_at lw_m3 185 rfl) rfl
theorem q855 : (Jvm.Cond.fieldLink "GroupJournal" (53 : Nat) "GroupJournal" "tape" "[B") ∈ lw_all := lw_g (lw_at lw_m3 188 rfl) rfl
theorem q856 : (Jvm.Cond.fieldLink "GroupJournal" (159 : Nat) "GroupJournal" "taped" "I") ∈ lw_all := lw_g (lw_at lw_m3 189 rfl) rfl
theorem q857 : (Jvm.Cond.fieldLink "GroupJournal" (169 : Nat) "GroupJournal" "faultKind" "I") ∈ lw_all := lw_g (lw_at lw_m3 190 rfl) rfl
theorem q858 : (Jvm.Cond.fieldLink "GroupJournal" (57 : Nat) "GroupJournal" "faultPlace" "I") ∈ lw_all := lw_g (lw_at lw_m3 191 rfl) rfl
theorem q859 : (Jvm.Cond.fieldLink "GroupJournal" (66 : Nat) "GroupJournal" "reader" "LGroupJournal$Reader;") ∈ lw_all := lw_g (lw_at lw_m3 192 rfl) rfl
theorem q860 : (Jvm.Cond.fieldLink "GroupJournal" (73 : Nat) "GroupJournal" "moment" "LGroupJournal$Moment;") ∈ lw_all := lw_g (lw_at lw_m3 193 rfl) rfl
theorem q862 : (Jvm.Cond.fieldLink "GroupJournal" (77 : Nat) "GroupJournal" "asked" "LGroupJournal$Moment;") ∈ lw_all := lw_g (lw_at lw_m3 195 rfl) rfl
theorem q863 : (Jvm.Cond.fieldLink "GroupJournal" (80 : Nat) "GroupJournal" "refused" "[I") ∈ lw_all := lw_g (lw_at lw_m3 196 rfl) rfl
theorem q864 : (Jvm.Cond.fieldLink "GroupJournal" (87 : Nat) "GroupJournal" "layer" "LGroupJournal$Layer;") ∈ lw_all := lw_g (lw_at lw_m3 197 rfl) rfl
theorem q867 : (Jvm.Cond.fieldLink "GroupJournal" (94 : Nat) "GroupJournal" "reading" "LGroupJournal$Reading;") ∈ lw_all := lw_g (lw_at lw_m3 200 rfl) rfl
theorem q868 : (Jvm.Cond.fieldLink "GroupJournal" (101 : Nat) "GroupJournal" "recovery" "LGroupJournal$Recovery;") ∈ lw_all := lw_g (lw_at lw_m3 201 rfl) rfl
theorem q870 : (Jvm.Cond.fieldLink "GroupJournal" (105 : Nat) "GroupJournal" "freed" "[I") ∈ lw_all := lw_g (lw_at lw_m3 203 rfl) rfl
theorem q872 : (Jvm.Cond.fieldLink "GroupJournal" (111 : Nat) "GroupJournal" "now" "LGroupJournal$State;") ∈ lw_all := lw_g (lw_at lw_m3 205 rfl) rfl
theorem q873 : (Jvm.Cond.fieldLink "GroupJournal" (115 : Nat) "GroupJournal" "ahead" "LGroupJournal$State;") ∈ lw_all := lw_g (lw_at lw_m3 206 rfl) rfl
theorem q874 : (Jvm.Cond.fieldLink "GroupJournal" (118 : Nat) "GroupJournal" "rowKey" "[I") ∈ lw_all := lw_g (lw_at lw_m3 207 rfl) rfl
theorem q875 : (Jvm.Cond.fieldLink "GroupJournal" (121 : Nat) "GroupJournal" "rowValue" "[I") ∈ lw_all := lw_g (lw_at lw_m3 208 rfl) rfl
theorem q876 : (Jvm.Cond.fieldLink "GroupJournal" (227 : Nat) "GroupJournal" "rows" "I") ∈ lw_all := lw_g (lw_at lw_m3 209 rfl) rfl
theorem q877 : (Jvm.Cond.fieldLink "GroupJournal" (126 : Nat) "GroupJournal" "tables" "[[I") ∈ lw_all := lw_g (lw_at lw_m3 210 rfl) rfl
theorem q878 : (Jvm.Cond.fieldLink "GroupJournal" (129 : Nat) "GroupJournal" "canBe" "[Z") ∈ lw_all := lw_g (lw_at lw_m3 211 rfl) rfl
theorem q879 : (Jvm.Cond.fieldLink "GroupJournal" (133 : Nat) "GroupJournal" "counts" "[I") ∈ lw_all := lw_g (lw_at lw_m3 212 rfl) rfl
theorem q880 : (Jvm.Cond.fieldLink "GroupJournal" (141 : Nat) "GroupJournal" "kept" "Ljava/util/List;") ∈ lw_all := lw_g (lw_at lw_m3 213 rfl) rfl
theorem q881 : (Jvm.Cond.fieldLink "GroupJournal" (145 : Nat) "GroupJournal" "spare" "Ljava/util/List;") ∈ lw_all := lw_g (lw_at lw_m3 214 rfl) rfl
theorem q882 : (Jvm.Cond.fieldLink "GroupJournal" (148 : Nat) "GroupJournal" "seeds" "J") ∈ lw_all := lw_g (lw_at lw_m3 215 rfl) rfl
theorem q883 : (Jvm.Cond.fieldLink "GroupJournal" (497 : Nat) "GroupJournal" "askedSegment" "I") ∈ lw_all := lw_g (lw_at lw_m3 216 rfl) rfl
theorem q884 : (Jvm.Cond.fieldLink "GroupJournal" (152 : Nat) "GroupJournal" "written" "[B") ∈ lw_all := lw_g (lw_at lw_m3 217 rfl) rfl
theorem q885 : (Jvm.Cond.fieldLink "GroupJournal" (523 : Nat) "GroupJournal" "outs" "I") ∈ lw_all := lw_g (lw_at lw_m3 218 rfl) rfl
theorem q886 : (Jvm.Cond.laysFinal "GroupJournal" "GroupJournal" "keys" "[LGroupJournal$Key;") ∈ lw_all := lw_g (lw_at lw_m3 219 rfl) rfl
theorem q887 : (Jvm.Cond.soleField "GroupJournal" "keys") ∈ lw_all := lw_g (lw_at lw_m3 220 rfl) rfl
theorem q888 : (Jvm.Cond.laysFinal "GroupJournal" "GroupJournal" "soughtKey" "LGroupJournal$Key;") ∈ lw_all := lw_g (lw_at lw_m3 221 rfl) rfl
theorem q889 : (Jvm.Cond.soleField "GroupJournal" "soughtKey") ∈ lw_all := lw_g (lw_at lw_m3 222 rfl) rfl
theorem q890 : (Jvm.Cond.laysFinal "GroupJournal" "GroupJournal" "soughtSpot" "LGroupJournal$Spot;") ∈ lw_all := lw_g (lw_at lw_m3 223 rfl) rfl
theorem q891 : (Jvm.Cond.soleField "GroupJournal" "soughtSpot") ∈ lw_all := lw_g (lw_at lw_m3 224 rfl) rfl
theorem q892 : (Jvm.Cond.lays "GroupJournal" "GroupJournal" "journal" "LGroupJournal$Journal;") ∈ lw_all := lw_g (lw_at lw_m3 225 rfl) rfl
theorem q893 : (Jvm.Cond.soleField "GroupJournal" "journal") ∈ lw_all := lw_g (lw_at lw_m3 226 rfl) rfl
theorem q894 : (Jvm.Cond.laysFinal "GroupJournal" "GroupJournal" "tape" "[B") ∈ lw_all := lw_g (lw_at lw_m3 227 rfl) rfl
theorem q895 : (Jvm.Cond.soleField "GroupJournal" "tape") ∈ lw_all := lw_g (lw_at lw_m3 228 rfl) rfl
theorem q896 : (Jvm.Cond.lays "GroupJournal" "GroupJournal" "taped" "I") ∈ lw_all := lw_g (lw_at lw_m3 229 rfl) rfl
theorem q897 : (Jvm.Cond.soleField "GroupJournal" "taped") ∈ lw_all := lw_g (lw_at lw_m3 230 rfl) rfl
theorem q898 : (Jvm.Cond.lays "GroupJournal" "GroupJournal" "faultKind" "I") ∈ lw_all := lw_g (lw_at lw_m3 231 rfl) rfl
theorem q899 : (Jvm.Cond.soleField "GroupJournal" "faultKind") ∈ lw_all := lw_g (lw_at lw_m3 232 rfl) rfl
theorem q900 : (Jvm.Cond.lays "GroupJournal" "GroupJournal" "faultPlace" "I") ∈ lw_all := lw_g (lw_at lw_m3 233 rfl) rfl
theorem q901 : (Jvm.Cond.soleField "GroupJournal" "faultPlace") ∈ lw_all := lw_g (lw_at lw_m3 234 rfl) rfl
theorem q902 : (Jvm.Cond.laysFinal "GroupJournal" "GroupJournal" "reader" "LGroupJournal$Reader;") ∈ lw_all := lw_g (lw_at lw_m3 235 rfl) rfl
theorem q903 : (Jvm.Cond.soleField "GroupJournal" "reader") ∈ lw_all := lw_g (lw_at lw_m3 236 rfl) rfl
theorem q904 : (Jvm.Cond.laysFinal "GroupJournal" "GroupJournal" "moment" "LGroupJournal$Moment;") ∈ lw_all := lw_g (lw_at lw_m3 237 rfl) rfl
theorem q905 : (Jvm.Cond.soleField "GroupJournal" "moment") ∈ lw_all := lw_g (lw_at lw_m3 238 rfl) rfl
theorem q906 : (Jvm.Cond.laysFinal "GroupJournal" "GroupJournal" "asked" "LGroupJournal$Moment;") ∈ lw_all := lw_g (lw_at lw_m3 239 rfl) rfl
theorem q907 : (Jvm.Cond.soleField "GroupJournal" "asked") ∈ lw_all := lw_g (lw_at lw_m4 0 rfl) rfl
theorem q908 : (Jvm.Cond.laysFinal "GroupJournal" "GroupJournal" "refused" "[I") ∈ lw_all := lw_g (lw_at lw_m4 1 rfl) rfl
theorem q909 : (Jvm.Cond.soleField "GroupJournal" "refused") ∈ lw_all := lw_g (lw_at lw_m4 2 rfl) rfl
theorem q910 : (Jvm.Cond.laysFinal "GroupJournal" "GroupJournal" "layer" "LGroupJournal$Layer;") ∈ lw_all := lw_g (lw_at lw_m4 3 rfl) rfl
theorem q911 : (Jvm.Cond.soleField "GroupJournal" "layer") ∈ lw_all := lw_g (lw_at lw_m4 4 rfl) rfl
theorem q912 : (Jvm.Cond.laysFinal "GroupJournal" "GroupJournal" "reading" "LGroupJournal$Reading;") ∈ lw_all := lw_g (lw_at lw_m4 5 rfl) rfl
theorem q913 : (Jvm.Cond.soleField "GroupJournal" "reading") ∈ lw_all := lw_g (lw_at lw_m4 6 rfl) rfl
theorem q914 : (Jvm.Cond.laysFinal "GroupJournal" "GroupJournal" "recovery" "LGroupJournal$Recovery;") ∈ lw_all := lw_g (lw_at lw_m4 7 rfl) rfl
theorem q915 : (Jvm.Cond.soleField "GroupJournal" "recovery") ∈ lw_all := lw_g (lw_at lw_m4 8 rfl) rfl
theorem q916 : (Jvm.Cond.laysFinal "GroupJournal" "GroupJournal" "freed" "[I") ∈ lw_all := lw_g (lw_at lw_m4 9 rfl) rfl
theorem q917 : (Jvm.Cond.soleField "GroupJournal" "freed") ∈ lw_all := lw_g (lw_at lw_m4 10 rfl) rfl
theorem q918 : (Jvm.Cond.lays "GroupJournal" "GroupJournal" "now" "LGroupJournal$State;") ∈ lw_all := lw_g (lw_at lw_m4 11 rfl) rfl
theorem q919 : (Jvm.Cond.soleField "GroupJournal" "now") ∈ lw_all := lw_g (lw_at lw_m4 12 rfl) rfl
theorem q920 : (Jvm.Cond.laysFinal "GroupJournal" "GroupJournal" "ahead" "LGroupJournal$State;") ∈ lw_all := lw_g (lw_at lw_m4 13 rfl) rfl
theorem q921 : (Jvm.Cond.soleField "GroupJournal" "ahead") ∈ lw_all := lw_g (lw_at lw_m4 14 rfl) rfl
theorem q922 : (Jvm.Cond.laysFinal "GroupJournal" "GroupJournal" "rowKey" "[I") ∈ lw_all := lw_g (lw_at lw_m4 15 rfl) rfl
theorem q923 : (Jvm.Cond.soleField "GroupJournal" "rowKey") ∈ lw_all := lw_g (lw_at lw_m4 16 rfl) rfl
theorem q924 : (Jvm.Cond.laysFinal "GroupJournal" "GroupJournal" "rowValue" "[I") ∈ lw_all := lw_g (lw_at lw_m4 17 rfl) rfl
theorem q925 : (Jvm.Cond.soleField "GroupJournal" "rowValue") ∈ lw_all := lw_g (lw_at lw_m4 18 rfl) rfl
theorem q926 : (Jvm.Cond.lays "GroupJournal" "GroupJournal" "rows" "I") ∈ lw_all := lw_g (lw_at lw_m4 19 rfl) rfl
theorem q927 : (Jvm.Cond.soleField "GroupJournal" "rows") ∈ lw_all := lw_g (lw_at lw_m4 20 rfl) rfl
theorem q928 : (Jvm.Cond.laysFinal "GroupJournal" "GroupJournal" "tables" "[[I") ∈ lw_all := lw_g (lw_at lw_m4 21 rfl) rfl
theorem q929 : (Jvm.Cond.soleField "GroupJournal" "tables") ∈ lw_all := lw_g (lw_at lw_m4 22 rfl) rfl
theorem q930 : (Jvm.Cond.laysFinal "GroupJournal" "GroupJournal" "canBe" "[Z") ∈ lw_all := lw_g (lw_at lw_m4 23 rfl) rfl
theorem q931 : (Jvm.Cond.soleField "GroupJournal" "canBe") ∈ lw_all := lw_g (lw_at lw_m4 24 rfl) rfl
theorem q932 : (Jvm.Cond.laysFinal "GroupJournal" "GroupJournal" "counts" "[I") ∈ lw_all := lw_g (lw_at lw_m4 25 rfl) rfl
theorem q933 : (Jvm.Cond.soleField "GroupJournal" "counts") ∈ lw_all := lw_g (lw_at lw_m4 26 rfl) rfl
theorem q934 : (Jvm.Cond.laysFinal "GroupJournal" "GroupJournal" "kept" "Ljava/util/List;") ∈ lw_all := lw_g (lw_at lw_m4 27 rfl) rfl
theorem q935 : (Jvm.Cond.soleField "GroupJournal" "kept") ∈ lw_all := lw_g (lw_at lw_m4 28 rfl) rfl
theorem q936 : (Jvm.Cond.laysFinal "GroupJournal" "GroupJournal" "spare" "Ljava/util/List;") ∈ lw_all := lw_g (lw_at lw_m4 29 rfl) rfl
theorem q937 : (Jvm.Cond.soleField "GroupJournal" "spare") ∈ lw_all := lw_g (lw_at lw_m4 30 rfl) rfl
theorem q938 : (Jvm.Cond.lays "GroupJournal" "GroupJournal" "seeds" "J") ∈ lw_all := lw_g (lw_at lw_m4 31 rfl) rfl
theorem q939 : (Jvm.Cond.soleField "GroupJournal" "seeds") ∈ lw_all := lw_g (lw_at lw_m4 32 rfl) rfl
theorem q940 : (Jvm.Cond.lays "GroupJournal" "GroupJournal" "askedSegment" "I") ∈ lw_all := lw_g (lw_at lw_m4 33 rfl) rfl
theorem q941 : (Jvm.Cond.soleField "GroupJournal" "askedSegment") ∈ lw_all := lw_g (lw_at lw_m4 34 rfl) rfl
theorem q942 : (Jvm.Cond.laysFinal "GroupJournal" "GroupJournal" "written" "[B") ∈ lw_all := lw_g (lw_at lw_m4 35 rfl) rfl
theorem q943 : (Jvm.Cond.soleField "GroupJournal" "written") ∈ lw_all := lw_g (lw_at lw_m4 36 rfl) rfl
theorem q944 : (Jvm.Cond.lays "GroupJournal" "GroupJournal" "outs" "I") ∈ lw_all := lw_g (lw_at lw_m4 37 rfl) rfl
theorem q945 : (Jvm.Cond.soleField "GroupJournal" "outs") ∈ lw_all := lw_g (lw_at lw_m4 38 rfl) rfl
theorem q946 : (Jvm.Cond.superclass "GroupJournal" "java/lang/Object") ∈ lw_all := lw_g (lw_at lw_m4 39 rfl) rfl
theorem q948 : (Jvm.Cond.instanceMethod ({ cls := "GroupJournal", name := "feed", desc := "(IIIII)I" } : Jvm.MethodName)) ∈ lw_all := lw_g (lw_at lw_m4 41 rfl) rfl
theorem q949 : (Jvm.Cond.selects "GroupJournal" ({ cls := "GroupJournal", name := "feed", desc := "(IIIII)I" } : Jvm.MethodName) ({ cls := "GroupJournal", name := "feed", desc := "(IIIII)I" } : Jvm.MethodName)) ∈ lw_all := lw_g (lw_at lw_m4 42 rfl) rfl
theorem q950 : (Jvm.Cond.code ({ cls := "GroupJournal", name := "feed", desc := "(IIIII)I" } : Jvm.MethodName) prog_1_method_10_code (6 : Nat) (Option.some Jvm.ClassFile.FieldType.int)) ∈ lw_all := lw_g (lw_at lw_m4 43 rfl) rfl
theorem q951 : (Jvm.Cond.methodLink "GroupJournal" (162 : Nat) ({ cls := "GroupJournal", name := "refuses", desc := "(I)I" } : Jvm.MethodName)) ∈ lw_all := lw_g (lw_at lw_m4 44 rfl) rfl
theorem q952 : (Jvm.Cond.privateMethod ({ cls := "GroupJournal", name := "refuses", desc := "(I)I" } : Jvm.MethodName)) ∈ lw_tbl := lw_at lw_m4 45 rfl
theorem q953 : (Jvm.Cond.instanceMethod ({ cls := "GroupJournal", name := "refuses", desc := "(I)I" } : Jvm.MethodName)) ∈ lw_all := lw_g (lw_at lw_m4 46 rfl) rfl
theorem q954 : (Jvm.Cond.code ({ cls := "GroupJournal", name := "refuses", desc := "(I)I" } : Jvm.MethodName) prog_1_method_8_code (2 : Nat) (Option.some Jvm.ClassFile.FieldType.int)) ∈ lw_all := lw_g (lw_at lw_m4 47 rfl) rfl
theorem q955 : (Jvm.Cond.methodLink "GroupJournal" (166 : Nat) ({ cls := "GroupJournal", name := "lays", desc := "(I)V" } : Jvm.MethodName)) ∈ lw_all := lw_g (lw_at lw_m4 48 rfl) rfl
theorem q956 : (Jvm.Cond.privateMethod ({ cls := "GroupJournal", name := "lays", desc := "(I)V" } : Jvm.MethodName)) ∈ lw_tbl := lw_at lw_m4 49 rfl
theorem q957 : (Jvm.Cond.instanceMethod ({ cls := "GroupJournal", name := "lays", desc := "(I)V" } : Jvm.MethodName)) ∈ lw_all := lw_g (lw_at lw_m4 50 rfl) rfl
theorem q958 : (Jvm.Cond.code ({ cls := "GroupJournal", name := "lays", desc := "(I)V" } : Jvm.MethodName) prog_1_method_9_code (3 : Nat) (Option.none : Option Jvm.ClassFile.FieldType)) ∈ lw_all := lw_g (lw_at lw_m4 51 rfl) rfl
theorem q960 : (Jvm.Cond.instanceMethod ({ cls := "GroupJournal", name := "end", desc := "(I)Z" } : Jvm.MethodName)) ∈ lw_all := lw_g (lw_at lw_m4 53 rfl) rfl
theorem q961 : (Jvm.Cond.selects "GroupJournal" ({ cls := "GroupJournal", name := "end", desc := "(I)Z" } : Jvm.MethodName) ({ cls := "GroupJournal", name := "end", desc := "(I)Z" } : Jvm.MethodName)) ∈ lw_all := lw_g (lw_at lw_m4 54 rfl) rfl
theorem q962 : (Jvm.Cond.code ({ cls := "GroupJournal", name := "end", desc := "(I)Z" } : Jvm.MethodName) prog_1_method_11_code (2 : Nat) (Option.some Jvm.ClassFile.FieldType.boolean)) ∈ lw_all := lw_g (lw_at lw_m4 55 rfl) rfl
theorem q964 : (Jvm.Cond.instanceMethod ({ cls := "GroupJournal", name := "journal", desc := "()I" } : Jvm.MethodName)) ∈ lw_all := lw_g (lw_at lw_m4 57 rfl) rfl
theorem q965 : (Jvm.Cond.selects "GroupJournal" ({ cls := "GroupJournal", name := "journal", desc := "()I" } : Jvm.MethodName) ({ cls := "GroupJournal", name := "journal", desc := "()I" } : Jvm.MethodName)) ∈ lw_all := lw_g (lw_at lw_m4 58 rfl) rfl
theorem q966 : (Jvm.Cond.codeWith ({ cls := "GroupJournal", name := "journal", desc := "()I" } : Jvm.MethodName) prog_1_method_13_code (3 : Nat) (Option.some Jvm.ClassFile.FieldType.int) [((10 : Nat), (25 : Nat), (28 : Nat), (180 : Nat))]) ∈ lw_all := lw_g (lw_at lw_m4 59 rfl) rfl
theorem q967 : (Jvm.Cond.classLink "GroupJournal" (180 : Nat) "GroupJournal$Fault") ∈ lw_all := lw_g (lw_at lw_m4 60 rfl) rfl
theorem q968 : (Jvm.Cond.methodLink "GroupJournal" (172 : Nat) ({ cls := "GroupJournal", name := "tapeTaken", desc := "()I" } : Jvm.MethodName)) ∈ lw_all := lw_g (lw_at lw_m4 61 rfl) rfl
theorem q969 : (Jvm.Cond.privateMethod ({ cls := "GroupJournal", name := "tapeTaken", desc := "()I" } : Jvm.MethodName)) ∈ lw_tbl := lw_at lw_m4 62 rfl
theorem q970 : (Jvm.Cond.instanceMethod ({ cls := "GroupJournal", name := "tapeTaken", desc := "()I" } : Jvm.MethodName)) ∈ lw_all := lw_g (lw_at lw_m4 63 rfl) rfl
theorem q971 : (Jvm.Cond.code ({ cls := "GroupJournal", name := "tapeTaken", desc := "()I" } : Jvm.MethodName) prog_1_method_12_code (2 : Nat) (Option.some Jvm.ClassFile.FieldType.int)) ∈ lw_all := lw_g (lw_at lw_m4 64 rfl) rfl
theorem q972 : (Jvm.Cond.methodLink "GroupJournal" (176 : Nat) ({ cls := "GroupJournal$Reader", name := "all", desc := "(I)LGroupJournal$Journal;" } : Jvm.MethodName)) ∈ lw_all := lw_g (lw_at lw_m4 65 rfl) rfl
theorem q1000 : (Jvm.Cond.static ({ cls := "GroupJournal", name := "isLetter", desc := "(I)Z" } : Jvm.MethodName)) ∈ lw_all := lw_g (lw_at lw_m4 93 rfl) rfl
theorem q1001 : (Jvm.Cond.code ({ cls := "GroupJournal", name := "isLetter", desc := "(I)Z" } : Jvm.MethodName) prog_1_method_4_code (1 : Nat) (Option.some Jvm.ClassFile.FieldType.boolean)) ∈ lw_all := lw_g (lw_at lw_m4 94 rfl) rfl
theorem q1011 : (Jvm.Cond.static ({ cls := "GroupJournal", name := "isDigit", desc := "(I)Z" } : Jvm.MethodName)) ∈ lw_all := lw_g (lw_at lw_m4 104 rfl) rfl
theorem q1012 : (Jvm.Cond.code ({ cls := "GroupJournal", name := "isDigit", desc := "(I)Z" } : Jvm.MethodName) prog_1_method_5_code (1 : Nat) (Option.some Jvm.ClassFile.FieldType.boolean)) ∈ lw_all := lw_g (lw_at lw_m4 105 rfl) rfl
theorem q1103 : (Jvm.Cond.static ({ cls := "GroupJournal", name := "is", desc := "(III)Z" } : Jvm.MethodName)) ∈ lw_all := lw_g (lw_at lw_m4 196 rfl) rfl
theorem q1104 : (Jvm.Cond.code ({ cls := "GroupJournal", name := "is", desc := "(III)Z" } : Jvm.MethodName) prog_1_method_1_code (3 : Nat) (Option.some Jvm.ClassFile.FieldType.boolean)) ∈ lw_all := lw_g (lw_at lw_m4 197 rfl) rfl
theorem q1210 : (Jvm.Cond.fieldLinkNest "GroupJournal" (375 : Nat) "GroupJournal$Entry" "number" "I" "GroupJournal") ∈ lw_tbl := lw_at lw_m5 63 rfl
theorem q1212 : (Jvm.Cond.fieldLinkNest "GroupJournal" (208 : Nat) "GroupJournal$Entry" "key" "I" "GroupJournal") ∈ lw_tbl := lw_at lw_m5 65 rfl
theorem q1215 : (Jvm.Cond.fieldLinkNest "GroupJournal" (211 : Nat) "GroupJournal$Entry" "value" "I" "GroupJournal") ∈ lw_tbl := lw_at lw_m5 68 rfl
theorem q1217 : (Jvm.Cond.fieldLinkNest "GroupJournal" (214 : Nat) "GroupJournal$Entry" "size" "I" "GroupJournal") ∈ lw_tbl := lw_at lw_m5 70 rfl
theorem q1275 : (Jvm.Cond.selects "GroupJournal" ({ cls := "java/lang/Object", name := "getClass", desc := "()Ljava/lang/Class;" } : Jvm.MethodName) ({ cls := "java/lang/Object", name := "getClass", desc := "()Ljava/lang/Class;" } : Jvm.MethodName)) ∈ lw_all := lw_g (lw_at lw_m5 128 rfl) rfl
theorem q1471 : (Jvm.Cond.laysStatic "GroupJournal" "ASKED" "[Ljava/lang/String;") ∈ lw_tbl := lw_at lw_m6 84 rfl
theorem q1473 : (Jvm.Cond.static ({ cls := "GroupJournal", name := "find", desc := "(Ljava/lang/String;[Ljava/lang/String;)I" } : Jvm.MethodName)) ∈ lw_all := lw_g (lw_at lw_m6 86 rfl) rfl
theorem q1474 : (Jvm.Cond.code ({ cls := "GroupJournal", name := "find", desc := "(Ljava/lang/String;[Ljava/lang/String;)I" } : Jvm.MethodName) prog_1_method_6_code (3 : Nat) (Option.some Jvm.ClassFile.FieldType.int)) ∈ lw_all := lw_g (lw_at lw_m6 87 rfl) rfl
theorem q1475 : (Jvm.Cond.methodLink "GroupJournal" (16 : Nat) ({ cls := "java/lang/String", name := "equals", desc := "(Ljava/lang/Object;)Z" } : Jvm.MethodName)) ∈ lw_all := lw_g (lw_at lw_m6 88 rfl) rfl
theorem q1477 : (Jvm.Cond.static ({ cls := "GroupJournal", name := "has", desc := "(II)Z" } : Jvm.MethodName)) ∈ lw_all := lw_g (lw_at lw_m6 90 rfl) rfl
theorem q1478 : (Jvm.Cond.code ({ cls := "GroupJournal", name := "has", desc := "(II)Z" } : Jvm.MethodName) prog_1_method_2_code (2 : Nat) (Option.some Jvm.ClassFile.FieldType.boolean)) ∈ lw_all := lw_g (lw_at lw_m6 91 rfl) rfl
theorem q1490 : (Jvm.Cond.laysStatic "GroupJournal" "LOOKED" "[Ljava/lang/String;") ∈ lw_tbl := lw_at lw_m6 103 rfl
theorem q1598 : (Jvm.Cond.methodLink "GroupJournal" (188 : Nat) ({ cls := "GroupJournal$State", name := "begins", desc := "()V" } : Jvm.MethodName)) ∈ lw_all := lw_g (lw_at lw_m6 211 rfl) rfl
theorem q1626 : (Jvm.Cond.methodLinkNest "GroupJournal" (191 : Nat) ({ cls := "GroupJournal$State", name := "opensFirst", desc := "()V" } : Jvm.MethodName) "GroupJournal") ∈ lw_tbl := lw_at lw_m6 239 rfl
theorem q1655 : (Jvm.Cond.selects "GroupJournal" ({ cls := "java/lang/Object", name := "hashCode", desc := "()I" } : Jvm.MethodName) ({ cls := "java/lang/Object", name := "hashCode", desc := "()I" } : Jvm.MethodName)) ∈ lw_all := lw_g (lw_at lw_m7 28 rfl) rfl
theorem q1703 : (Jvm.Cond.selects "GroupJournal" ({ cls := "java/lang/Object", name := "equals", desc := "(Ljava/lang/Object;)Z" } : Jvm.MethodName) ({ cls := "java/lang/Object", name := "equals", desc := "(Ljava/lang/Object;)Z" } : Jvm.MethodName)) ∈ lw_all := lw_g (lw_at lw_m7 76 rfl) rfl
theorem q2071 : (Jvm.Cond.static ({ cls := "GroupJournal", name := "checked", desc := "(II)I" } : Jvm.MethodName)) ∈ lw_all := lw_g (lw_at lw_m8 204 rfl) rfl
theorem q2072 : (Jvm.Cond.code ({ cls := "GroupJournal", name := "checked", desc := "(II)I" } : Jvm.MethodName) prog_1_method_20_code (2 : Nat) (Option.some Jvm.ClassFile.FieldType.int)) ∈ lw_all := lw_g (lw_at lw_m8 205 rfl) rfl
theorem q2073 : (Jvm.Cond.interfaceEntry "GroupJournal" (197 : Nat)) ∈ lw_tbl := lw_at lw_m8 206 rfl
theorem q2074 : (Jvm.Cond.methodLink "GroupJournal" (197 : Nat) ({ cls := "java/util/List", name := "size", desc := "()I" } : Jvm.MethodName)) ∈ lw_all := lw_g (lw_at lw_m8 207 rfl) rfl
theorem q2082 : (Jvm.Cond.interfaceEntry "GroupJournal" (202 : Nat)) ∈ lw_tbl := lw_at lw_m8 215 rfl
theorem q2083 : (Jvm.Cond.methodLink "GroupJournal" (202 : Nat) ({ cls := "java/util/List", name := "get", desc := "(I)Ljava/lang/Object;" } : Jvm.MethodName)) ∈ lw_all := lw_g (lw_at lw_m8 216 rfl) rfl
theorem q2099 : (Jvm.Cond.classLink "GroupJournal" (206 : Nat) "GroupJournal$Entry") ∈ lw_all := lw_g (lw_at lw_m8 232 rfl) rfl
theorem q2100 : (Jvm.Cond.methodLink "GroupJournal" (216 : Nat) ({ cls := "GroupJournal", name := "canAppend", desc := "(III)Z" } : Jvm.MethodName)) ∈ lw_all := lw_g (lw_at lw_m8 233 rfl) rfl
theorem q2101 : (Jvm.Cond.privateMethod ({ cls := "GroupJournal", name := "canAppend", desc := "(III)Z" } : Jvm.MethodName)) ∈ lw_tbl := lw_at lw_m8 234 rfl
theorem q2102 : (Jvm.Cond.instanceMethod ({ cls := "GroupJournal", name := "canAppend", desc := "(III)Z" } : Jvm.MethodName)) ∈ lw_all := lw_g (lw_at lw_m8 235 rfl) rfl
theorem q2103 : (Jvm.Cond.code ({ cls := "GroupJournal", name := "canAppend", desc := "(III)Z" } : Jvm.MethodName) prog_1_method_58_code (4 : Nat) (Option.some Jvm.ClassFile.FieldType.boolean)) ∈ lw_all := lw_g (lw_at lw_m8 236 rfl) rfl
theorem q2104 : (Jvm.Cond.methodLink "GroupJournal" (268 : Nat) ({ cls := "GroupJournal", name := "isJournal", desc := "()Z" } : Jvm.MethodName)) ∈ lw_all := lw_g (lw_at lw_m8 237 rfl) rfl
theorem q2105 : (Jvm.Cond.privateMethod ({ cls := "GroupJournal", name := "isJournal", desc := "()Z" } : Jvm.MethodName)) ∈ lw_tbl := lw_at lw_m8 238 rfl
theorem q2106 : (Jvm.Cond.instanceMethod ({ cls := "GroupJournal", name := "isJournal", desc := "()Z" } : Jvm.MethodName)) ∈ lw_all := lw_g (lw_at lw_m8 239 rfl) rfl
theorem q2107 : (Jvm.Cond.code ({ cls := "GroupJournal", name := "isJournal", desc := "()Z" } : Jvm.MethodName) prog_1_method_16_code (1 : Nat) (Option.some Jvm.ClassFile.FieldType.boolean)) ∈ lw_all := lw_g (lw_at lw_m9 0 rfl) rfl
theorem q2108 : (Jvm.Cond.methodLink "GroupJournal" (272 : Nat) ({ cls := "GroupJournal", name := "is", desc := "(III)Z" } : Jvm.MethodName)) ∈ lw_all := lw_g (lw_at lw_m9 1 rfl) rfl
theorem q2109 : (Jvm.Cond.methodLink "GroupJournal" (404 : Nat) ({ cls := "GroupJournal", name := "endOf", desc := "(II)I" } : Jvm.MethodName)) ∈ lw_all := lw_g (lw_at lw_m9 2 rfl) rfl
theorem q2110 : (Jvm.Cond.privateMethod ({ cls := "GroupJournal", name := "endOf", desc := "(II)I" } : Jvm.MethodName)) ∈ lw_tbl := lw_at lw_m9 3 rfl
theorem q2111 : (Jvm.Cond.instanceMethod ({ cls := "GroupJournal", name := "endOf", desc := "(II)I" } : Jvm.MethodName)) ∈ lw_all := lw_g (lw_at lw_m9 4 rfl) rfl
theorem q2112 : (Jvm.Cond.code ({ cls := "GroupJournal", name := "endOf", desc := "(II)I" } : Jvm.MethodName) prog_1_method_19_code (6 : Nat) (Option.some Jvm.ClassFile.FieldType.int)) ∈ lw_all := lw_g (lw_at lw_m9 5 rfl) rfl
theorem q2113 : (Jvm.Cond.methodLink "GroupJournal" (242 : Nat) ({ cls := "GroupJournal", name := "frameFrom", desc := "(I)I" } : Jvm.MethodName)) ∈ lw_all := lw_g (lw_at lw_m9 6 rfl) rfl
theorem q2114 : (Jvm.Cond.privateMethod ({ cls := "GroupJournal", name := "frameFrom", desc := "(I)I" } : Jvm.MethodName)) ∈ lw_tbl := lw_at lw_m9 7 rfl
theorem q2115 : (Jvm.Cond.instanceMethod ({ cls := "GroupJournal", name := "frameFrom", desc := "(I)I" } : Jvm.MethodName)) ∈ lw_all := lw_g (lw_at lw_m9 8 rfl) rfl
theorem q2116 : (Jvm.Cond.code ({ cls := "GroupJournal", name := "frameFrom", desc := "(I)I" } : Jvm.MethodName) prog_1_method_18_code (3 : Nat) (Option.some Jvm.ClassFile.FieldType.int)) ∈ lw_all := lw_g (lw_at lw_m9 9 rfl) rfl
theorem q2117 : (Jvm.Cond.methodLink "GroupJournal" (245 : Nat) ({ cls := "GroupJournal", name := "length", desc := "()I" } : Jvm.MethodName)) ∈ lw_all := lw_g (lw_at lw_m9 10 rfl) rfl
theorem q2118 : (Jvm.Cond.privateMethod ({ cls := "GroupJournal", name := "length", desc := "()I" } : Jvm.MethodName)) ∈ lw_tbl := lw_at lw_m9 11 rfl
theorem q2119 : (Jvm.Cond.instanceMethod ({ cls := "GroupJournal", name := "length", desc := "()I" } : Jvm.MethodName)) ∈ lw_all := lw_g (lw_at lw_m9 12 rfl) rfl
theorem q2120 : (Jvm.Cond.code ({ cls := "GroupJournal", name := "length", desc := "()I" } : Jvm.MethodName) prog_1_method_15_code (1 : Nat) (Option.some Jvm.ClassFile.FieldType.int)) ∈ lw_all := lw_g (lw_at lw_m9 13 rfl) rfl
theorem q2121 : (Jvm.Cond.methodLink "GroupJournal" (248 : Nat) ({ cls := "java/lang/Math", name := "min", desc := "(II)I" } : Jvm.MethodName)) ∈ lw_all := lw_g (lw_at lw_m9 14 rfl) rfl
theorem q2122 : (Jvm.Cond.methodLink "GroupJournal" (220 : Nat) ({ cls := "GroupJournal$State", name := "appends", desc := "(III)I" } : Jvm.MethodName)) ∈ lw_all := lw_g (lw_at lw_m9 15 rfl) rfl
theorem q2130 : (Jvm.Cond.methodLink "GroupJournal" (224 : Nat) ({ cls := "GroupJournal", name := "forgets", desc := "()V" } : Jvm.MethodName)) ∈ lw_all := lw_g (lw_at lw_m9 23 rfl) rfl
theorem q2131 : (Jvm.Cond.privateMethod ({ cls := "GroupJournal", name := "forgets", desc := "()V" } : Jvm.MethodName)) ∈ lw_tbl := lw_at lw_m9 24 rfl
theorem q2132 : (Jvm.Cond.instanceMethod ({ cls := "GroupJournal", name := "forgets", desc := "()V" } : Jvm.MethodName)) ∈ lw_all := lw_g (lw_at lw_m9 25 rfl) rfl
theorem q2133 : (Jvm.Cond.code ({ cls := "GroupJournal", name := "forgets", desc := "()V" } : Jvm.MethodName) prog_1_method_56_code (1 : Nat) (Option.none : Option Jvm.ClassFile.FieldType)) ∈ lw_all := lw_g (lw_at lw_m9 26 rfl) rfl
theorem q2134 : (Jvm.Cond.interfaceEntry "GroupJournal" (452 : Nat)) ∈ lw_tbl := lw_at lw_m9 27 rfl
theorem q2135 : (Jvm.Cond.methodLink "GroupJournal" (452 : Nat) ({ cls := "java/util/List", name := "isEmpty", desc := "()Z" } : Jvm.MethodName)) ∈ lw_all := lw_g (lw_at lw_m9 28 rfl) rfl
theorem q2143 : (Jvm.Cond.interfaceEntry "GroupJournal" (455 : Nat)) ∈ lw_tbl := lw_at lw_m9 36 rfl
theorem q2144 : (Jvm.Cond.methodLink "GroupJournal" (455 : Nat) ({ cls := "java/util/List", name := "remove", desc := "(I)Ljava/lang/Object;" } : Jvm.MethodName)) ∈ lw_all := lw_g (lw_at lw_m9 37 rfl) rfl
theorem q2157 : (Jvm.Cond.interfaceEntry "GroupJournal" (464 : Nat)) ∈ lw_tbl := lw_at lw_m9 50 rfl
theorem q2158 : (Jvm.Cond.methodLink "GroupJournal" (464 : Nat) ({ cls := "java/util/List", name := "add", desc := "(Ljava/lang/Object;)Z" } : Jvm.MethodName)) ∈ lw_all := lw_g (lw_at lw_m9 51 rfl) rfl
theorem q2160 : (Jvm.Cond.instanceMethod ({ cls := "GroupJournal", name := "fault", desc := "(I)I" } : Jvm.MethodName)) ∈ lw_all := lw_g (lw_at lw_m9 53 rfl) rfl
theorem q2161 : (Jvm.Cond.selects "GroupJournal" ({ cls := "GroupJournal", name := "fault", desc := "(I)I" } : Jvm.MethodName) ({ cls := "GroupJournal", name := "fault", desc := "(I)I" } : Jvm.MethodName)) ∈ lw_all := lw_g (lw_at lw_m9 54 rfl) rfl
theorem q2162 : (Jvm.Cond.code ({ cls := "GroupJournal", name := "fault", desc := "(I)I" } : Jvm.MethodName) prog_1_method_14_code (2 : Nat) (Option.some Jvm.ClassFile.FieldType.int)) ∈ lw_all := lw_g (lw_at lw_m9 55 rfl) rfl
theorem q2164 : (Jvm.Cond.instanceMethod ({ cls := "GroupJournal", name := "has", desc := "(I)I" } : Jvm.MethodName)) ∈ lw_all := lw_g (lw_at lw_m9 57 rfl) rfl
theorem q2165 : (Jvm.Cond.selects "GroupJournal" ({ cls := "GroupJournal", name := "has", desc := "(I)I" } : Jvm.MethodName) ({ cls := "GroupJournal", name := "has", desc := "(I)I" } : Jvm.MethodName)) ∈ lw_all := lw_g (lw_at lw_m9 58 rfl) rfl
theorem q2166 : (Jvm.Cond.code ({ cls := "GroupJournal", name := "has", desc := "(I)I" } : Jvm.MethodName) prog_1_method_25_code (2 : Nat) (Option.some Jvm.ClassFile.FieldType.int)) ∈ lw_all := lw_g (lw_at lw_m9 59 rfl) rfl
theorem q2167 : (Jvm.Cond.methodLink "GroupJournal" (300 : Nat) ({ cls := "java/util/LinkedHashMap", name := "size", desc := "()I" } : Jvm.MethodName)) ∈ lw_all := lw_g (lw_at lw_m9 60 rfl) rfl
theorem q2173 : (Jvm.Cond.methodLink "GroupJournal" (307 : Nat) ({ cls := "java/util/HashSet", name := "size", desc := "()I" } : Jvm.MethodName)) ∈ lw_all := lw_g (lw_at lw_m9 66 rfl) rfl
theorem q2179 : (Jvm.Cond.instanceMethod ({ cls := "GroupJournal", name := "segment", desc := "(II)I" } : Jvm.MethodName)) ∈ lw_all := lw_g (lw_at lw_m9 72 rfl) rfl
theorem q2180 : (Jvm.Cond.selects "GroupJournal" ({ cls := "GroupJournal", name := "segment", desc := "(II)I" } : Jvm.MethodName) ({ cls := "GroupJournal", name := "segment", desc := "(II)I" } : Jvm.MethodName)) ∈ lw_all := lw_g (lw_at lw_m9 73 rfl) rfl
theorem q2181 : (Jvm.Cond.code ({ cls := "GroupJournal", name := "segment", desc := "(II)I" } : Jvm.MethodName) prog_1_method_27_code (4 : Nat) (Option.some Jvm.ClassFile.FieldType.int)) ∈ lw_all := lw_g (lw_at lw_m9 74 rfl) rfl
theorem q2182 : (Jvm.Cond.methodLink "GroupJournal" (316 : Nat) ({ cls := "GroupJournal", name := "isSegment", desc := "(I)Z" } : Jvm.MethodName)) ∈ lw_all := lw_g (lw_at lw_m9 75 rfl) rfl
theorem q2183 : (Jvm.Cond.privateMethod ({ cls := "GroupJournal", name := "isSegment", desc := "(I)Z" } : Jvm.MethodName)) ∈ lw_tbl := lw_at lw_m9 76 rfl
theorem q2184 : (Jvm.Cond.instanceMethod ({ cls := "GroupJournal", name := "isSegment", desc := "(I)Z" } : Jvm.MethodName)) ∈ lw_all := lw_g (lw_at lw_m9 77 rfl) rfl
theorem q2185 : (Jvm.Cond.code ({ cls := "GroupJournal", name := "isSegment", desc := "(I)Z" } : Jvm.MethodName) prog_1_method_26_code (2 : Nat) (Option.some Jvm.ClassFile.FieldType.boolean)) ∈ lw_all := lw_g (lw_at lw_m9 78 rfl) rfl
theorem q2186 : (Jvm.Cond.methodLink "GroupJournal" (320 : Nat) ({ cls := "GroupJournal$State", name := "isFree", desc := "(I)Z" } : Jvm.MethodName)) ∈ lw_all := lw_g (lw_at lw_m9 79 rfl) rfl
theorem q2190 : (Jvm.Cond.methodLink "GroupJournal" (326 : Nat) ({ cls := "GroupJournal", name := "isHead", desc := "([I)Z" } : Jvm.MethodName)) ∈ lw_all := lw_g (lw_at lw_m9 83 rfl) rfl
theorem q2191 : (Jvm.Cond.static ({ cls := "GroupJournal", name := "isHead", desc := "([I)Z" } : Jvm.MethodName)) ∈ lw_all := lw_g (lw_at lw_m9 84 rfl) rfl
theorem q2192 : (Jvm.Cond.code ({ cls := "GroupJournal", name := "isHead", desc := "([I)Z" } : Jvm.MethodName) prog_1_method_21_code (3 : Nat) (Option.some Jvm.ClassFile.FieldType.boolean)) ∈ lw_all := lw_g (lw_at lw_m9 85 rfl) rfl
theorem q2193 : (Jvm.Cond.methodLink "GroupJournal" (251 : Nat) ({ cls := "GroupJournal", name := "checked", desc := "(II)I" } : Jvm.MethodName)) ∈ lw_all := lw_g (lw_at lw_m9 86 rfl) rfl
theorem q2194 : (Jvm.Cond.methodLink "GroupJournal" (330 : Nat) ({ cls := "GroupJournal", name := "serialOf", desc := "([I)I" } : Jvm.MethodName)) ∈ lw_all := lw_g (lw_at lw_m9 87 rfl) rfl
theorem q2195 : (Jvm.Cond.static ({ cls := "GroupJournal", name := "serialOf", desc := "([I)I" } : Jvm.MethodName)) ∈ lw_all := lw_g (lw_at lw_m9 88 rfl) rfl
theorem q2196 : (Jvm.Cond.code ({ cls := "GroupJournal", name := "serialOf", desc := "([I)I" } : Jvm.MethodName) prog_1_method_22_code (1 : Nat) (Option.some Jvm.ClassFile.FieldType.int)) ∈ lw_all := lw_g (lw_at lw_m9 89 rfl) rfl
theorem q2197 : (Jvm.Cond.methodLink "GroupJournal" (334 : Nat) ({ cls := "GroupJournal", name := "firstOf", desc := "([I)I" } : Jvm.MethodName)) ∈ lw_all := lw_g (lw_at lw_m9 90 rfl) rfl
theorem q2198 : (Jvm.Cond.static ({ cls := "GroupJournal", name := "firstOf", desc := "([I)I" } : Jvm.MethodName)) ∈ lw_all := lw_g (lw_at lw_m9 91 rfl) rfl
theorem q2199 : (Jvm.Cond.code ({ cls := "GroupJournal", name := "firstOf", desc := "([I)I" } : Jvm.MethodName) prog_1_method_23_code (1 : Nat) (Option.some Jvm.ClassFile.FieldType.int)) ∈ lw_all := lw_g (lw_at lw_m9 92 rfl) rfl
theorem q2200 : (Jvm.Cond.methodLink "GroupJournal" (337 : Nat) ({ cls := "GroupJournal$Reading", name := "of", desc := "([I)LGroupJournal$Reading;" } : Jvm.MethodName)) ∈ lw_all := lw_g (lw_at lw_m9 93 rfl) rfl
theorem q2222 : (Jvm.Cond.instanceMethod ({ cls := "GroupJournal", name := "frame", desc := "(III)I" } : Jvm.MethodName)) ∈ lw_all := lw_g (lw_at lw_m9 115 rfl) rfl
theorem q2223 : (Jvm.Cond.selects "GroupJournal" ({ cls := "GroupJournal", name := "frame", desc := "(III)I" } : Jvm.MethodName) ({ cls := "GroupJournal", name := "frame", desc := "(III)I" } : Jvm.MethodName)) ∈ lw_all := lw_g (lw_at lw_m9 116 rfl) rfl
theorem q2224 : (Jvm.Cond.code ({ cls := "GroupJournal", name := "frame", desc := "(III)I" } : Jvm.MethodName) prog_1_method_28_code (6 : Nat) (Option.some Jvm.ClassFile.FieldType.int)) ∈ lw_all := lw_g (lw_at lw_m9 117 rfl) rfl
theorem q2226 : (Jvm.Cond.instanceMethod ({ cls := "GroupJournal", name := "octetOf", desc := "(II)I" } : Jvm.MethodName)) ∈ lw_all := lw_g (lw_at lw_m9 119 rfl) rfl
theorem q2227 : (Jvm.Cond.selects "GroupJournal" ({ cls := "GroupJournal", name := "octetOf", desc := "(II)I" } : Jvm.MethodName) ({ cls := "GroupJournal", name := "octetOf", desc := "(II)I" } : Jvm.MethodName)) ∈ lw_all := lw_g (lw_at lw_m9 120 rfl) rfl
theorem q2228 : (Jvm.Cond.code ({ cls := "GroupJournal", name := "octetOf", desc := "(II)I" } : Jvm.MethodName) prog_1_method_29_code (3 : Nat) (Option.some Jvm.ClassFile.FieldType.int)) ∈ lw_all := lw_g (lw_at lw_m9 121 rfl) rfl
theorem q2230 : (Jvm.Cond.instanceMethod ({ cls := "GroupJournal", name := "place", desc := "(I)I" } : Jvm.MethodName)) ∈ lw_all := lw_g (lw_at lw_m9 123 rfl) rfl
theorem q2231 : (Jvm.Cond.selects "GroupJournal" ({ cls := "GroupJournal", name := "place", desc := "(I)I" } : Jvm.MethodName) ({ cls := "GroupJournal", name := "place", desc := "(I)I" } : Jvm.MethodName)) ∈ lw_all := lw_g (lw_at lw_m9 124 rfl) rfl
theorem q2232 : (Jvm.Cond.code ({ cls := "GroupJournal", name := "place", desc := "(I)I" } : Jvm.MethodName) prog_1_method_30_code (2 : Nat) (Option.some Jvm.ClassFile.FieldType.int)) ∈ lw_all := lw_g (lw_at lw_m9 125 rfl) rfl
theorem q2234 : (Jvm.Cond.instanceMethod ({ cls := "GroupJournal", name := "value", desc := "(I)I" } : Jvm.MethodName)) ∈ lw_all := lw_g (lw_at lw_m9 127 rfl) rfl
theorem q2235 : (Jvm.Cond.selects "GroupJournal" ({ cls := "GroupJournal", name := "value", desc := "(I)I" } : Jvm.MethodName) ({ cls := "GroupJournal", name := "value", desc := "(I)I" } : Jvm.MethodName)) ∈ lw_all := lw_g (lw_at lw_m9 128 rfl) rfl
theorem q2236 : (Jvm.Cond.code ({ cls := "GroupJournal", name := "value", desc := "(I)I" } : Jvm.MethodName) prog_1_method_32_code (2 : Nat) (Option.some Jvm.ClassFile.FieldType.int)) ∈ lw_all := lw_g (lw_at lw_m9 129 rfl) rfl
theorem q2237 : (Jvm.Cond.methodLink "GroupJournal" (362 : Nat) ({ cls := "GroupJournal", name := "valueIn", desc := "(Ljava/util/HashMap;I)I" } : Jvm.MethodName)) ∈ lw_all := lw_g (lw_at lw_m9 130 rfl) rfl
theorem q2238 : (Jvm.Cond.privateMethod ({ cls := "GroupJournal", name := "valueIn", desc := "(Ljava/util/HashMap;I)I" } : Jvm.MethodName)) ∈ lw_tbl := lw_at lw_m9 131 rfl
theorem q2239 : (Jvm.Cond.instanceMethod ({ cls := "GroupJournal", name := "valueIn", desc := "(Ljava/util/HashMap;I)I" } : Jvm.MethodName)) ∈ lw_all := lw_g (lw_at lw_m9 132 rfl) rfl
theorem q2240 : (Jvm.Cond.code ({ cls := "GroupJournal", name := "valueIn", desc := "(Ljava/util/HashMap;I)I" } : Jvm.MethodName) prog_1_method_31_code (4 : Nat) (Option.some Jvm.ClassFile.FieldType.int)) ∈ lw_all := lw_g (lw_at lw_m9 133 rfl) rfl
theorem q2241 : (Jvm.Cond.methodLink "GroupJournal" (259 : Nat) ({ cls := "java/util/HashMap", name := "get", desc := "(Ljava/lang/Object;)Ljava/lang/Object;" } : Jvm.MethodName)) ∈ lw_all := lw_g (lw_at lw_m9 134 rfl) rfl
theorem q2260 : (Jvm.Cond.classLink "GroupJournal" (262 : Nat) "java/lang/Integer") ∈ lw_all := lw_g (lw_at lw_m9 153 rfl) rfl
theorem q2261 : (Jvm.Cond.methodLink "GroupJournal" (355 : Nat) ({ cls := "java/lang/Integer", name := "intValue", desc := "()I" } : Jvm.MethodName)) ∈ lw_all := lw_g (lw_at lw_m9 154 rfl) rfl
theorem q2263 : (Jvm.Cond.instanceMethod ({ cls := "GroupJournal", name := "soon", desc := "(I)I" } : Jvm.MethodName)) ∈ lw_all := lw_g (lw_at lw_m9 156 rfl) rfl
theorem q2264 : (Jvm.Cond.selects "GroupJournal" ({ cls := "GroupJournal", name := "soon", desc := "(I)I" } : Jvm.MethodName) ({ cls := "GroupJournal", name := "soon", desc := "(I)I" } : Jvm.MethodName)) ∈ lw_all := lw_g (lw_at lw_m9 157 rfl) rfl
theorem q2265 : (Jvm.Cond.code ({ cls := "GroupJournal", name := "soon", desc := "(I)I" } : Jvm.MethodName) prog_1_method_34_code (3 : Nat) (Option.some Jvm.ClassFile.FieldType.int)) ∈ lw_all := lw_g (lw_at lw_m9 158 rfl) rfl
theorem q2266 : (Jvm.Cond.methodLink "GroupJournal" (366 : Nat) ({ cls := "GroupJournal", name := "value", desc := "(I)I" } : Jvm.MethodName)) ∈ lw_all := lw_g (lw_at lw_m9 159 rfl) rfl
theorem q2267 : (Jvm.Cond.methodLink "GroupJournal" (371 : Nat) ({ cls := "GroupJournal", name := "latest", desc := "(Ljava/util/List;II)I" } : Jvm.MethodName)) ∈ lw_all := lw_g (lw_at lw_m9 160 rfl) rfl
theorem q2268 : (Jvm.Cond.static ({ cls := "GroupJournal", name := "latest", desc := "(Ljava/util/List;II)I" } : Jvm.MethodName)) ∈ lw_all := lw_g (lw_at lw_m9 161 rfl) rfl
theorem q2269 : (Jvm.Cond.code ({ cls := "GroupJournal", name := "latest", desc := "(Ljava/util/List;II)I" } : Jvm.MethodName) prog_1_method_33_code (5 : Nat) (Option.some Jvm.ClassFile.FieldType.int)) ∈ lw_all := lw_g (lw_at lw_m9 162 rfl) rfl
theorem q2271 : (Jvm.Cond.instanceMethod ({ cls := "GroupJournal", name := "waiting", desc := "(II)I" } : Jvm.MethodName)) ∈ lw_all := lw_g (lw_at lw_m9 164 rfl) rfl
theorem q2272 : (Jvm.Cond.selects "GroupJournal" ({ cls := "GroupJournal", name := "waiting", desc := "(II)I" } : Jvm.MethodName) ({ cls := "GroupJournal", name := "waiting", desc := "(II)I" } : Jvm.MethodName)) ∈ lw_all := lw_g (lw_at lw_m9 165 rfl) rfl
theorem q2273 : (Jvm.Cond.code ({ cls := "GroupJournal", name := "waiting", desc := "(II)I" } : Jvm.MethodName) prog_1_method_35_code (4 : Nat) (Option.some Jvm.ClassFile.FieldType.int)) ∈ lw_all := lw_g (lw_at lw_m9 166 rfl) rfl
theorem q2275 : (Jvm.Cond.instanceMethod ({ cls := "GroupJournal", name := "waiter", desc := "(I)I" } : Jvm.MethodName)) ∈ lw_all := lw_g (lw_at lw_m9 168 rfl) rfl
theorem q2276 : (Jvm.Cond.selects "GroupJournal" ({ cls := "GroupJournal", name := "waiter", desc := "(I)I" } : Jvm.MethodName) ({ cls := "GroupJournal", name := "waiter", desc := "(I)I" } : Jvm.MethodName)) ∈ lw_all := lw_g (lw_at lw_m9 169 rfl) rfl
theorem q2277 : (Jvm.Cond.code ({ cls := "GroupJournal", name := "waiter", desc := "(I)I" } : Jvm.MethodName) prog_1_method_36_code (2 : Nat) (Option.some Jvm.ClassFile.FieldType.int)) ∈ lw_all := lw_g (lw_at lw_m9 170 rfl) rfl
theorem q2278 : (Jvm.Cond.methodLink "GroupJournal" (378 : Nat) ({ cls := "java/lang/Integer", name := "valueOf", desc := "(I)Ljava/lang/Integer;" } : Jvm.MethodName)) ∈ lw_all := lw_g (lw_at lw_m9 171 rfl) rfl
theorem q2279 : (Jvm.Cond.methodLink "GroupJournal" (382 : Nat) ({ cls := "java/util/LinkedHashMap", name := "containsKey", desc := "(Ljava/lang/Object;)Z" } : Jvm.MethodName)) ∈ lw_all := lw_g (lw_at lw_m9 172 rfl) rfl
theorem q2285 : (Jvm.Cond.methodLink "GroupJournal" (385 : Nat) ({ cls := "java/util/LinkedHashMap", name := "get", desc := "(Ljava/lang/Object;)Ljava/lang/Object;" } : Jvm.MethodName)) ∈ lw_all := lw_g (lw_at lw_m9 178 rfl) rfl
theorem q2287 : (Jvm.Cond.instanceMethod ({ cls := "GroupJournal", name := "kept", desc := "(II)I" } : Jvm.MethodName)) ∈ lw_all := lw_g (lw_at lw_m9 180 rfl) rfl
theorem q2288 : (Jvm.Cond.selects "GroupJournal" ({ cls := "GroupJournal", name := "kept", desc := "(II)I" } : Jvm.MethodName) ({ cls := "GroupJournal", name := "kept", desc := "(II)I" } : Jvm.MethodName)) ∈ lw_all := lw_g (lw_at lw_m9 181 rfl) rfl
theorem q2289 : (Jvm.Cond.code ({ cls := "GroupJournal", name := "kept", desc := "(II)I" } : Jvm.MethodName) prog_1_method_37_code (3 : Nat) (Option.some Jvm.ClassFile.FieldType.int)) ∈ lw_all := lw_g (lw_at lw_m9 182 rfl) rfl
theorem q2290 : (Jvm.Cond.classLink "GroupJournal" (386 : Nat) "[I") ∈ lw_all := lw_g (lw_at lw_m9 183 rfl) rfl
theorem q2292 : (Jvm.Cond.instanceMethod ({ cls := "GroupJournal", name := "later", desc := "(II)I" } : Jvm.MethodName)) ∈ lw_all := lw_g (lw_at lw_m9 185 rfl) rfl
theorem q2293 : (Jvm.Cond.selects "GroupJournal" ({ cls := "GroupJournal", name := "later", desc := "(II)I" } : Jvm.MethodName) ({ cls := "GroupJournal", name := "later", desc := "(II)I" } : Jvm.MethodName)) ∈ lw_all := lw_g (lw_at lw_m9 186 rfl) rfl
theorem q2294 : (Jvm.Cond.code ({ cls := "GroupJournal", name := "later", desc := "(II)I" } : Jvm.MethodName) prog_1_method_39_code (5 : Nat) (Option.some Jvm.ClassFile.FieldType.int)) ∈ lw_all := lw_g (lw_at lw_m9 187 rfl) rfl
theorem q2295 : (Jvm.Cond.methodLink "GroupJournal" (387 : Nat) ({ cls := "GroupJournal", name := "isAhead", desc := "(III)Z" } : Jvm.MethodName)) ∈ lw_all := lw_g (lw_at lw_m9 188 rfl) rfl
theorem q2296 : (Jvm.Cond.privateMethod ({ cls := "GroupJournal", name := "isAhead", desc := "(III)Z" } : Jvm.MethodName)) ∈ lw_tbl := lw_at lw_m9 189 rfl
theorem q2297 : (Jvm.Cond.instanceMethod ({ cls := "GroupJournal", name := "isAhead", desc := "(III)Z" } : Jvm.MethodName)) ∈ lw_all := lw_g (lw_at lw_m9 190 rfl) rfl
theorem q2298 : (Jvm.Cond.code ({ cls := "GroupJournal", name := "isAhead", desc := "(III)Z" } : Jvm.MethodName) prog_1_method_38_code (4 : Nat) (Option.some Jvm.ClassFile.FieldType.boolean)) ∈ lw_all := lw_g (lw_at lw_m9 191 rfl) rfl
theorem q2299 : (Jvm.Cond.methodLink "GroupJournal" (390 : Nat) ({ cls := "GroupJournal$State", name := "goesOnFrom", desc := "(LGroupJournal$State;)LGroupJournal$State;" } : Jvm.MethodName)) ∈ lw_all := lw_g (lw_at lw_m9 192 rfl) rfl
theorem q2674 : (Jvm.Cond.methodLink "GroupJournal" (394 : Nat) ({ cls := "GroupJournal$State", name := "goes", desc := "(I)I" } : Jvm.MethodName)) ∈ lw_all := lw_g (lw_at lw_m11 87 rfl) rfl
theorem q2746 : (Jvm.Cond.static ({ cls := "GroupJournal", name := "held", desc := "(J)J" } : Jvm.MethodName)) ∈ lw_all := lw_g (lw_at lw_m11 159 rfl) rfl
theorem q2747 : (Jvm.Cond.code ({ cls := "GroupJournal", name := "held", desc := "(J)J" } : Jvm.MethodName) prog_1_method_3_code (2 : Nat) (Option.some Jvm.ClassFile.FieldType.long)) ∈ lw_all := lw_g (lw_at lw_m11 160 rfl) rfl
theorem q2748 : (Jvm.Cond.constantLong "GroupJournal" (3 : Nat) (-1000000 : Int64)) ∈ lw_all := lw_g (lw_at lw_m11 161 rfl) rfl
theorem q2749 : (Jvm.Cond.constantLong "GroupJournal" (5 : Nat) (1000000 : Int64)) ∈ lw_all := lw_g (lw_at lw_m11 162 rfl) rfl
theorem q2750 : (Jvm.Cond.methodLink "GroupJournal" (7 : Nat) ({ cls := "java/lang/Math", name := "min", desc := "(JJ)J" } : Jvm.MethodName)) ∈ lw_all := lw_g (lw_at lw_m11 163 rfl) rfl
theorem q2753 : (Jvm.Cond.methodLink "GroupJournal" (13 : Nat) ({ cls := "java/lang/Math", name := "max", desc := "(JJ)J" } : Jvm.MethodName)) ∈ lw_all := lw_g (lw_at lw_m11 166 rfl) rfl
theorem q2772 : (Jvm.Cond.privateMethod ({ cls := "GroupJournal", name := "looked", desc := "(IJ)J" } : Jvm.MethodName)) ∈ lw_tbl := lw_at lw_m11 185 rfl
theorem q2773 : (Jvm.Cond.instanceMethod ({ cls := "GroupJournal", name := "looked", desc := "(IJ)J" } : Jvm.MethodName)) ∈ lw_all := lw_g (lw_at lw_m11 186 rfl) rfl
theorem q2774 : (Jvm.Cond.code ({ cls := "GroupJournal", name := "looked", desc := "(IJ)J" } : Jvm.MethodName) prog_1_method_69_code (4 : Nat) (Option.some Jvm.ClassFile.FieldType.long)) ∈ lw_all := lw_g (lw_at lw_m11 187 rfl) rfl
theorem q2775 : (Jvm.Cond.constantLong "GroupJournal" (500 : Nat) (16 : Int64)) ∈ lw_all := lw_g (lw_at lw_m11 188 rfl) rfl
theorem q2776 : (Jvm.Cond.methodLink "GroupJournal" (429 : Nat) ({ cls := "java/lang/Math", name := "max", desc := "(II)I" } : Jvm.MethodName)) ∈ lw_all := lw_g (lw_at lw_m11 189 rfl) rfl
theorem q2843 : (Jvm.Cond.static ({ cls := "GroupJournal", name := "within", desc := "(JI)I" } : Jvm.MethodName)) ∈ lw_all := lw_g (lw_at lw_m12 16 rfl) rfl
theorem q2844 : (Jvm.Cond.code ({ cls := "GroupJournal", name := "within", desc := "(JI)I" } : Jvm.MethodName) prog_1_method_17_code (3 : Nat) (Option.some Jvm.ClassFile.FieldType.int)) ∈ lw_all := lw_g (lw_at lw_m12 17 rfl) rfl
theorem q2847 : (Jvm.Cond.instanceMethod ({ cls := "GroupJournal", name := "when", desc := "(I)I" } : Jvm.MethodName)) ∈ lw_all := lw_g (lw_at lw_m12 20 rfl) rfl
theorem q2848 : (Jvm.Cond.selects "GroupJournal" ({ cls := "GroupJournal", name := "when", desc := "(I)I" } : Jvm.MethodName) ({ cls := "GroupJournal", name := "when", desc := "(I)I" } : Jvm.MethodName)) ∈ lw_all := lw_g (lw_at lw_m12 21 rfl) rfl
theorem q2849 : (Jvm.Cond.code ({ cls := "GroupJournal", name := "when", desc := "(I)I" } : Jvm.MethodName) prog_1_method_40_code (4 : Nat) (Option.some Jvm.ClassFile.FieldType.int)) ∈ lw_all := lw_g (lw_at lw_m12 22 rfl) rfl
theorem q2851 : (Jvm.Cond.instanceMethod ({ cls := "GroupJournal", name := "rule", desc := "(II)I" } : Jvm.MethodName)) ∈ lw_all := lw_g (lw_at lw_m12 24 rfl) rfl
theorem q2852 : (Jvm.Cond.selects "GroupJournal" ({ cls := "GroupJournal", name := "rule", desc := "(II)I" } : Jvm.MethodName) ({ cls := "GroupJournal", name := "rule", desc := "(II)I" } : Jvm.MethodName)) ∈ lw_all := lw_g (lw_at lw_m12 25 rfl) rfl
theorem q2853 : (Jvm.Cond.code ({ cls := "GroupJournal", name := "rule", desc := "(II)I" } : Jvm.MethodName) prog_1_method_42_code (3 : Nat) (Option.some Jvm.ClassFile.FieldType.int)) ∈ lw_all := lw_g (lw_at lw_m12 26 rfl) rfl
theorem q2854 : (Jvm.Cond.methodLink "GroupJournal" (397 : Nat) ({ cls := "GroupJournal", name := "ruled", desc := "(II)I" } : Jvm.MethodName)) ∈ lw_all := lw_g (lw_at lw_m12 27 rfl) rfl
theorem q2855 : (Jvm.Cond.privateMethod ({ cls := "GroupJournal", name := "ruled", desc := "(II)I" } : Jvm.MethodName)) ∈ lw_tbl := lw_at lw_m12 28 rfl
theorem q2856 : (Jvm.Cond.instanceMethod ({ cls := "GroupJournal", name := "ruled", desc := "(II)I" } : Jvm.MethodName)) ∈ lw_all := lw_g (lw_at lw_m12 29 rfl) rfl
theorem q2857 : (Jvm.Cond.code ({ cls := "GroupJournal", name := "ruled", desc := "(II)I" } : Jvm.MethodName) prog_1_method_41_code (6 : Nat) (Option.some Jvm.ClassFile.FieldType.int)) ∈ lw_all := lw_g (lw_at lw_m12 30 rfl) rfl
theorem q2859 : (Jvm.Cond.instanceMethod ({ cls := "GroupJournal", name := "best", desc := "(I)I" } : Jvm.MethodName)) ∈ lw_all := lw_g (lw_at lw_m12 32 rfl) rfl
theorem q2860 : (Jvm.Cond.selects "GroupJournal" ({ cls := "GroupJournal", name := "best", desc := "(I)I" } : Jvm.MethodName) ({ cls := "GroupJournal", name := "best", desc := "(I)I" } : Jvm.MethodName)) ∈ lw_all := lw_g (lw_at lw_m12 33 rfl) rfl
theorem q2861 : (Jvm.Cond.code ({ cls := "GroupJournal", name := "best", desc := "(I)I" } : Jvm.MethodName) prog_1_method_43_code (6 : Nat) (Option.some Jvm.ClassFile.FieldType.int)) ∈ lw_all := lw_g (lw_at lw_m12 34 rfl) rfl
theorem q2862 : (Jvm.Cond.constant "GroupJournal" (400 : Nat) (100000000 : Int32)) ∈ lw_all := lw_g (lw_at lw_m12 35 rfl) rfl
theorem q2863 : (Jvm.Cond.methodLink "GroupJournal" (401 : Nat) ({ cls := "GroupJournal", name := "rule", desc := "(II)I" } : Jvm.MethodName)) ∈ lw_all := lw_g (lw_at lw_m12 36 rfl) rfl
theorem q2865 : (Jvm.Cond.instanceMethod ({ cls := "GroupJournal", name := "room", desc := "(I)I" } : Jvm.MethodName)) ∈ lw_all := lw_g (lw_at lw_m12 38 rfl) rfl
theorem q2866 : (Jvm.Cond.selects "GroupJournal" ({ cls := "GroupJournal", name := "room", desc := "(I)I" } : Jvm.MethodName) ({ cls := "GroupJournal", name := "room", desc := "(I)I" } : Jvm.MethodName)) ∈ lw_all := lw_g (lw_at lw_m12 39 rfl) rfl
theorem q2867 : (Jvm.Cond.code ({ cls := "GroupJournal", name := "room", desc := "(I)I" } : Jvm.MethodName) prog_1_method_44_code (4 : Nat) (Option.some Jvm.ClassFile.FieldType.int)) ∈ lw_all := lw_g (lw_at lw_m12 40 rfl) rfl
theorem q2868 : (Jvm.Cond.methodLink "GroupJournal" (407 : Nat) ({ cls := "GroupJournal$Layer", name := "begins", desc := "(LGroupJournal$State;)V" } : Jvm.MethodName)) ∈ lw_all := lw_g (lw_at lw_m12 41 rfl) rfl
theorem q2869 : (Jvm.Cond.methodLink "GroupJournal" (410 : Nat) ({ cls := "GroupJournal$Entry", name := "<init>", desc := "(IIIII)V" } : Jvm.MethodName)) ∈ lw_all := lw_g (lw_at lw_m12 42 rfl) rfl
theorem q2870 : (Jvm.Cond.methodLink "GroupJournal" (413 : Nat) ({ cls := "GroupJournal$Layer", name := "lays", desc := "(LGroupJournal$Entry;)Z" } : Jvm.MethodName)) ∈ lw_all := lw_g (lw_at lw_m12 43 rfl) rfl
theorem q2872 : (Jvm.Cond.instanceMethod ({ cls := "GroupJournal", name := "recovers", desc := "(II)I" } : Jvm.MethodName)) ∈ lw_all := lw_g (lw_at lw_m12 45 rfl) rfl
theorem q2873 : (Jvm.Cond.selects "GroupJournal" ({ cls := "GroupJournal", name := "recovers", desc := "(II)I" } : Jvm.MethodName) ({ cls := "GroupJournal", name := "recovers", desc := "(II)I" } : Jvm.MethodName)) ∈ lw_all := lw_g (lw_at lw_m12 46 rfl) rfl
theorem q2874 : (Jvm.Cond.code ({ cls := "GroupJournal", name := "recovers", desc := "(II)I" } : Jvm.MethodName) prog_1_method_45_code (4 : Nat) (Option.some Jvm.ClassFile.FieldType.int)) ∈ lw_all := lw_g (lw_at lw_m12 47 rfl) rfl
theorem q2875 : (Jvm.Cond.methodLink "GroupJournal" (416 : Nat) ({ cls := "GroupJournal$Recovery", name := "takes", desc := "(LGroupJournal$State;I)LGroupJournal$Recovery;" } : Jvm.MethodName)) ∈ lw_all := lw_g (lw_at lw_m12 48 rfl) rfl
theorem q2880 : (Jvm.Cond.methodLink "GroupJournal" (420 : Nat) ({ cls := "GroupJournal$Recovery", name := "reads", desc := "(LGroupJournal$State;)LGroupJournal$Recovery;" } : Jvm.MethodName)) ∈ lw_all := lw_g (lw_at lw_m12 53 rfl) rfl
theorem q2913 : (Jvm.Cond.methodLink "GroupJournal" (434 : Nat) ({ cls := "GroupJournal$Recovery", name := "valued", desc := "()I" } : Jvm.MethodName)) ∈ lw_all := lw_g (lw_at lw_m12 86 rfl) rfl
theorem q2918 : (Jvm.Cond.instanceMethod ({ cls := "GroupJournal", name := "flips", desc := "(I)I" } : Jvm.MethodName)) ∈ lw_all := lw_g (lw_at lw_m12 91 rfl) rfl
theorem q2919 : (Jvm.Cond.selects "GroupJournal" ({ cls := "GroupJournal", name := "flips", desc := "(I)I" } : Jvm.MethodName) ({ cls := "GroupJournal", name := "flips", desc := "(I)I" } : Jvm.MethodName)) ∈ lw_all := lw_g (lw_at lw_m12 92 rfl) rfl
theorem q2920 : (Jvm.Cond.code ({ cls := "GroupJournal", name := "flips", desc := "(I)I" } : Jvm.MethodName) prog_1_method_46_code (8 : Nat) (Option.some Jvm.ClassFile.FieldType.int)) ∈ lw_all := lw_g (lw_at lw_m12 93 rfl) rfl
theorem q2922 : (Jvm.Cond.instanceMethod ({ cls := "GroupJournal", name := "see", desc := "()I" } : Jvm.MethodName)) ∈ lw_all := lw_g (lw_at lw_m12 95 rfl) rfl
theorem q2923 : (Jvm.Cond.selects "GroupJournal" ({ cls := "GroupJournal", name := "see", desc := "()I" } : Jvm.MethodName) ({ cls := "GroupJournal", name := "see", desc := "()I" } : Jvm.MethodName)) ∈ lw_all := lw_g (lw_at lw_m12 96 rfl) rfl
theorem q2924 : (Jvm.Cond.code ({ cls := "GroupJournal", name := "see", desc := "()I" } : Jvm.MethodName) prog_1_method_49_code (4 : Nat) (Option.some Jvm.ClassFile.FieldType.int)) ∈ lw_all := lw_g (lw_at lw_m12 97 rfl) rfl
theorem q2925 : (Jvm.Cond.methodLink "GroupJournal" (438 : Nat) ({ cls := "GroupJournal", name := "byteAt", desc := "(I)I" } : Jvm.MethodName)) ∈ lw_all := lw_g (lw_at lw_m12 98 rfl) rfl
theorem q2926 : (Jvm.Cond.privateMethod ({ cls := "GroupJournal", name := "byteAt", desc := "(I)I" } : Jvm.MethodName)) ∈ lw_tbl := lw_at lw_m12 99 rfl
theorem q2927 : (Jvm.Cond.instanceMethod ({ cls := "GroupJournal", name := "byteAt", desc := "(I)I" } : Jvm.MethodName)) ∈ lw_all := lw_g (lw_at lw_m12 100 rfl) rfl
theorem q2928 : (Jvm.Cond.code ({ cls := "GroupJournal", name := "byteAt", desc := "(I)I" } : Jvm.MethodName) prog_1_method_47_code (2 : Nat) (Option.some Jvm.ClassFile.FieldType.int)) ∈ lw_all := lw_g (lw_at lw_m12 101 rfl) rfl
theorem q2929 : (Jvm.Cond.methodLink "GroupJournal" (441 : Nat) ({ cls := "GroupJournal", name := "twoAt", desc := "(I)I" } : Jvm.MethodName)) ∈ lw_all := lw_g (lw_at lw_m12 102 rfl) rfl
theorem q2930 : (Jvm.Cond.privateMethod ({ cls := "GroupJournal", name := "twoAt", desc := "(I)I" } : Jvm.MethodName)) ∈ lw_tbl := lw_at lw_m12 103 rfl
theorem q2931 : (Jvm.Cond.instanceMethod ({ cls := "GroupJournal", name := "twoAt", desc := "(I)I" } : Jvm.MethodName)) ∈ lw_all := lw_g (lw_at lw_m12 104 rfl) rfl
theorem q2932 : (Jvm.Cond.code ({ cls := "GroupJournal", name := "twoAt", desc := "(I)I" } : Jvm.MethodName) prog_1_method_48_code (2 : Nat) (Option.some Jvm.ClassFile.FieldType.int)) ∈ lw_all := lw_g (lw_at lw_m12 105 rfl) rfl
theorem q2934 : (Jvm.Cond.instanceMethod ({ cls := "GroupJournal", name := "arrived", desc := "(I)I" } : Jvm.MethodName)) ∈ lw_all := lw_g (lw_at lw_m12 107 rfl) rfl
theorem q2935 : (Jvm.Cond.selects "GroupJournal" ({ cls := "GroupJournal", name := "arrived", desc := "(I)I" } : Jvm.MethodName) ({ cls := "GroupJournal", name := "arrived", desc := "(I)I" } : Jvm.MethodName)) ∈ lw_all := lw_g (lw_at lw_m12 108 rfl) rfl
theorem q2936 : (Jvm.Cond.code ({ cls := "GroupJournal", name := "arrived", desc := "(I)I" } : Jvm.MethodName) prog_1_method_51_code (5 : Nat) (Option.some Jvm.ClassFile.FieldType.int)) ∈ lw_all := lw_g (lw_at lw_m12 109 rfl) rfl
theorem q2937 : (Jvm.Cond.methodLink "GroupJournal" (447 : Nat) ({ cls := "GroupJournal", name := "tables", desc := "()I" } : Jvm.MethodName)) ∈ lw_all := lw_g (lw_at lw_m12 110 rfl) rfl
theorem q2938 : (Jvm.Cond.privateMethod ({ cls := "GroupJournal", name := "tables", desc := "()I" } : Jvm.MethodName)) ∈ lw_tbl := lw_at lw_m12 111 rfl
theorem q2939 : (Jvm.Cond.instanceMethod ({ cls := "GroupJournal", name := "tables", desc := "()I" } : Jvm.MethodName)) ∈ lw_all := lw_g (lw_at lw_m12 112 rfl) rfl
theorem q2940 : (Jvm.Cond.code ({ cls := "GroupJournal", name := "tables", desc := "()I" } : Jvm.MethodName) prog_1_method_50_code (4 : Nat) (Option.some Jvm.ClassFile.FieldType.int)) ∈ lw_all := lw_g (lw_at lw_m12 113 rfl) rfl
theorem q2942 : (Jvm.Cond.instanceMethod ({ cls := "GroupJournal", name := "tells", desc := "(I)I" } : Jvm.MethodName)) ∈ lw_all := lw_g (lw_at lw_m12 115 rfl) rfl
theorem q2943 : (Jvm.Cond.selects "GroupJournal" ({ cls := "GroupJournal", name := "tells", desc := "(I)I" } : Jvm.MethodName) ({ cls := "GroupJournal", name := "tells", desc := "(I)I" } : Jvm.MethodName)) ∈ lw_all := lw_g (lw_at lw_m12 116 rfl) rfl
theorem q2944 : (Jvm.Cond.code ({ cls := "GroupJournal", name := "tells", desc := "(I)I" } : Jvm.MethodName) prog_1_method_53_code (7 : Nat) (Option.some Jvm.ClassFile.FieldType.int)) ∈ lw_all := lw_g (lw_at lw_m12 117 rfl) rfl
theorem q2945 : (Jvm.Cond.methodLink "GroupJournal" (449 : Nat) ({ cls := "GroupJournal", name := "mostBy", desc := "(II)I" } : Jvm.MethodName)) ∈ lw_all := lw_g (lw_at lw_m12 118 rfl) rfl
theorem q2946 : (Jvm.Cond.privateMethod ({ cls := "GroupJournal", name := "mostBy", desc := "(II)I" } : Jvm.MethodName)) ∈ lw_tbl := lw_at lw_m12 119 rfl
theorem q2947 : (Jvm.Cond.instanceMethod ({ cls := "GroupJournal", name := "mostBy", desc := "(II)I" } : Jvm.MethodName)) ∈ lw_all := lw_g (lw_at lw_m12 120 rfl) rfl
theorem q2948 : (Jvm.Cond.code ({ cls := "GroupJournal", name := "mostBy", desc := "(II)I" } : Jvm.MethodName) prog_1_method_52_code (6 : Nat) (Option.some Jvm.ClassFile.FieldType.int)) ∈ lw_all := lw_g (lw_at lw_m12 121 rfl) rfl
theorem q2950 : (Jvm.Cond.instanceMethod ({ cls := "GroupJournal", name := "undo", desc := "()Z" } : Jvm.MethodName)) ∈ lw_all := lw_g (lw_at lw_m12 123 rfl) rfl
theorem q2951 : (Jvm.Cond.selects "GroupJournal" ({ cls := "GroupJournal", name := "undo", desc := "()Z" } : Jvm.MethodName) ({ cls := "GroupJournal", name := "undo", desc := "()Z" } : Jvm.MethodName)) ∈ lw_all := lw_g (lw_at lw_m12 124 rfl) rfl
theorem q2952 : (Jvm.Cond.code ({ cls := "GroupJournal", name := "undo", desc := "()Z" } : Jvm.MethodName) prog_1_method_57_code (1 : Nat) (Option.some Jvm.ClassFile.FieldType.boolean)) ∈ lw_all := lw_g (lw_at lw_m12 125 rfl) rfl
theorem q2954 : (Jvm.Cond.instanceMethod ({ cls := "GroupJournal", name := "append", desc := "(III)I" } : Jvm.MethodName)) ∈ lw_all := lw_g (lw_at lw_m12 127 rfl) rfl
theorem q2955 : (Jvm.Cond.selects "GroupJournal" ({ cls := "GroupJournal", name := "append", desc := "(III)I" } : Jvm.MethodName) ({ cls := "GroupJournal", name := "append", desc := "(III)I" } : Jvm.MethodName)) ∈ lw_all := lw_g (lw_at lw_m12 128 rfl) rfl
theorem q2956 : (Jvm.Cond.code ({ cls := "GroupJournal", name := "append", desc := "(III)I" } : Jvm.MethodName) prog_1_method_59_code (4 : Nat) (Option.some Jvm.ClassFile.FieldType.int)) ∈ lw_all := lw_g (lw_at lw_m12 129 rfl) rfl
theorem q2957 : (Jvm.Cond.methodLink "GroupJournal" (467 : Nat) ({ cls := "GroupJournal", name := "remembers", desc := "()V" } : Jvm.MethodName)) ∈ lw_all := lw_g (lw_at lw_m12 130 rfl) rfl
theorem q2958 : (Jvm.Cond.privateMethod ({ cls := "GroupJournal", name := "remembers", desc := "()V" } : Jvm.MethodName)) ∈ lw_tbl := lw_at lw_m12 131 rfl
theorem q2959 : (Jvm.Cond.instanceMethod ({ cls := "GroupJournal", name := "remembers", desc := "()V" } : Jvm.MethodName)) ∈ lw_all := lw_g (lw_at lw_m12 132 rfl) rfl
theorem q2960 : (Jvm.Cond.code ({ cls := "GroupJournal", name := "remembers", desc := "()V" } : Jvm.MethodName) prog_1_method_55_code (2 : Nat) (Option.none : Option Jvm.ClassFile.FieldType)) ∈ lw_all := lw_g (lw_at lw_m12 133 rfl) rfl
theorem q2961 : (Jvm.Cond.methodLink "GroupJournal" (458 : Nat) ({ cls := "GroupJournal", name := "another", desc := "()LGroupJournal$State;" } : Jvm.MethodName)) ∈ lw_all := lw_g (lw_at lw_m12 134 rfl) rfl
theorem q2962 : (Jvm.Cond.privateMethod ({ cls := "GroupJournal", name := "another", desc := "()LGroupJournal$State;" } : Jvm.MethodName)) ∈ lw_tbl := lw_at lw_m12 135 rfl
theorem q2963 : (Jvm.Cond.instanceMethod ({ cls := "GroupJournal", name := "another", desc := "()LGroupJournal$State;" } : Jvm.MethodName)) ∈ lw_all := lw_g (lw_at lw_m12 136 rfl) rfl
theorem q2964 : (Jvm.Cond.code ({ cls := "GroupJournal", name := "another", desc := "()LGroupJournal$State;" } : Jvm.MethodName) prog_1_method_54_code (1 : Nat) (Option.some (Jvm.ClassFile.FieldType.object "GroupJournal$State"))) ∈ lw_all := lw_g (lw_at lw_m12 137 rfl) rfl
theorem q2965 : (Jvm.Cond.methodLink "GroupJournal" (462 : Nat) ({ cls := "GroupJournal$State", name := "takes", desc := "(LGroupJournal$State;)LGroupJournal$State;" } : Jvm.MethodName)) ∈ lw_all := lw_g (lw_at lw_m12 138 rfl) rfl
theorem q2972 : (Jvm.Cond.privateMethod ({ cls := "GroupJournal", name := "takesTable", desc := "(Ljava/util/HashMap;Ljava/util/HashMap;)V" } : Jvm.MethodName)) ∈ lw_tbl := lw_at lw_m12 145 rfl
theorem q2973 : (Jvm.Cond.instanceMethod ({ cls := "GroupJournal", name := "takesTable", desc := "(Ljava/util/HashMap;Ljava/util/HashMap;)V" } : Jvm.MethodName)) ∈ lw_all := lw_g (lw_at lw_m12 146 rfl) rfl
theorem q2974 : (Jvm.Cond.code ({ cls := "GroupJournal", name := "takesTable", desc := "(Ljava/util/HashMap;Ljava/util/HashMap;)V" } : Jvm.MethodName) prog_1_method_24_code (5 : Nat) (Option.none : Option Jvm.ClassFile.FieldType)) ∈ lw_all := lw_g (lw_at lw_m12 147 rfl) rfl
theorem q2975 : (Jvm.Cond.methodLink "GroupJournal" (254 : Nat) ({ cls := "java/util/HashMap", name := "clear", desc := "()V" } : Jvm.MethodName)) ∈ lw_all := lw_g (lw_at lw_m12 148 rfl) rfl
theorem q2976 : (Jvm.Cond.methodLink "GroupJournal" (264 : Nat) ({ cls := "java/util/HashMap", name := "put", desc := "(Ljava/lang/Object;Ljava/lang/Object;)Ljava/lang/Object;" } : Jvm.MethodName)) ∈ lw_all := lw_g (lw_at lw_m12 149 rfl) rfl
theorem q2991 : (Jvm.Cond.instanceMethod ({ cls := "GroupJournal", name := "waits", desc := "(II)Z" } : Jvm.MethodName)) ∈ lw_all := lw_g (lw_at lw_m12 164 rfl) rfl
theorem q2992 : (Jvm.Cond.selects "GroupJournal" ({ cls := "GroupJournal", name := "waits", desc := "(II)Z" } : Jvm.MethodName) ({ cls := "GroupJournal", name := "waits", desc := "(II)Z" } : Jvm.MethodName)) ∈ lw_all := lw_g (lw_at lw_m12 165 rfl) rfl
theorem q2993 : (Jvm.Cond.code ({ cls := "GroupJournal", name := "waits", desc := "(II)Z" } : Jvm.MethodName) prog_1_method_60_code (3 : Nat) (Option.some Jvm.ClassFile.FieldType.boolean)) ∈ lw_all := lw_g (lw_at lw_m12 166 rfl) rfl
theorem q2994 : (Jvm.Cond.methodLink "GroupJournal" (470 : Nat) ({ cls := "java/util/LinkedHashMap", name := "put", desc := "(Ljava/lang/Object;Ljava/lang/Object;)Ljava/lang/Object;" } : Jvm.MethodName)) ∈ lw_all := lw_g (lw_at lw_m12 167 rfl) rfl
theorem q2996 : (Jvm.Cond.instanceMethod ({ cls := "GroupJournal", name := "ticks", desc := "(I)I" } : Jvm.MethodName)) ∈ lw_all := lw_g (lw_at lw_m12 169 rfl) rfl
theorem q2997 : (Jvm.Cond.selects "GroupJournal" ({ cls := "GroupJournal", name := "ticks", desc := "(I)I" } : Jvm.MethodName) ({ cls := "GroupJournal", name := "ticks", desc := "(I)I" } : Jvm.MethodName)) ∈ lw_all := lw_g (lw_at lw_m12 170 rfl) rfl
theorem q2998 : (Jvm.Cond.code ({ cls := "GroupJournal", name := "ticks", desc := "(I)I" } : Jvm.MethodName) prog_1_method_61_code (4 : Nat) (Option.some Jvm.ClassFile.FieldType.int)) ∈ lw_all := lw_g (lw_at lw_m12 171 rfl) rfl
theorem q3000 : (Jvm.Cond.instanceMethod ({ cls := "GroupJournal", name := "chance", desc := "(I)I" } : Jvm.MethodName)) ∈ lw_all := lw_g (lw_at lw_m12 173 rfl) rfl
theorem q3001 : (Jvm.Cond.selects "GroupJournal" ({ cls := "GroupJournal", name := "chance", desc := "(I)I" } : Jvm.MethodName) ({ cls := "GroupJournal", name := "chance", desc := "(I)I" } : Jvm.MethodName)) ∈ lw_all := lw_g (lw_at lw_m12 174 rfl) rfl
theorem q3002 : (Jvm.Cond.code ({ cls := "GroupJournal", name := "chance", desc := "(I)I" } : Jvm.MethodName) prog_1_method_63_code (5 : Nat) (Option.some Jvm.ClassFile.FieldType.int)) ∈ lw_all := lw_g (lw_at lw_m12 175 rfl) rfl
theorem q3003 : (Jvm.Cond.methodLink "GroupJournal" (479 : Nat) ({ cls := "GroupJournal", name := "draw", desc := "(I)I" } : Jvm.MethodName)) ∈ lw_all := lw_g (lw_at lw_m12 176 rfl) rfl
theorem q3004 : (Jvm.Cond.privateMethod ({ cls := "GroupJournal", name := "draw", desc := "(I)I" } : Jvm.MethodName)) ∈ lw_tbl := lw_at lw_m12 177 rfl
theorem q3005 : (Jvm.Cond.instanceMethod ({ cls := "GroupJournal", name := "draw", desc := "(I)I" } : Jvm.MethodName)) ∈ lw_all := lw_g (lw_at lw_m12 178 rfl) rfl
theorem q3006 : (Jvm.Cond.code ({ cls := "GroupJournal", name := "draw", desc := "(I)I" } : Jvm.MethodName) prog_1_method_62_code (2 : Nat) (Option.some Jvm.ClassFile.FieldType.int)) ∈ lw_all := lw_g (lw_at lw_m12 179 rfl) rfl
theorem q3007 : (Jvm.Cond.constantLong "GroupJournal" (471 : Nat) (1103515245 : Int64)) ∈ lw_all := lw_g (lw_at lw_m12 180 rfl) rfl
theorem q3008 : (Jvm.Cond.constantLong "GroupJournal" (473 : Nat) (12345 : Int64)) ∈ lw_all := lw_g (lw_at lw_m12 181 rfl) rfl
theorem q3009 : (Jvm.Cond.constantLong "GroupJournal" (475 : Nat) (2147483648 : Int64)) ∈ lw_all := lw_g (lw_at lw_m12 182 rfl) rfl
theorem q3010 : (Jvm.Cond.constantLong "GroupJournal" (477 : Nat) (64 : Int64)) ∈ lw_all := lw_g (lw_at lw_m12 183 rfl) rfl
theorem q3011 : (Jvm.Cond.methodLink "GroupJournal" (485 : Nat) ({ cls := "GroupJournal$State", name := "flips", desc := "(II)I" } : Jvm.MethodName)) ∈ lw_all := lw_g (lw_at lw_m12 184 rfl) rfl
theorem q3017 : (Jvm.Cond.instanceMethod ({ cls := "GroupJournal", name := "snap", desc := "()I" } : Jvm.MethodName)) ∈ lw_all := lw_g (lw_at lw_m12 190 rfl) rfl
theorem q3018 : (Jvm.Cond.selects "GroupJournal" ({ cls := "GroupJournal", name := "snap", desc := "()I" } : Jvm.MethodName) ({ cls := "GroupJournal", name := "snap", desc := "()I" } : Jvm.MethodName)) ∈ lw_all := lw_g (lw_at lw_m12 191 rfl) rfl
theorem q3019 : (Jvm.Cond.code ({ cls := "GroupJournal", name := "snap", desc := "()I" } : Jvm.MethodName) prog_1_method_64_code (1 : Nat) (Option.some Jvm.ClassFile.FieldType.int)) ∈ lw_all := lw_g (lw_at lw_m12 192 rfl) rfl
theorem q3020 : (Jvm.Cond.methodLink "GroupJournal" (488 : Nat) ({ cls := "GroupJournal$State", name := "snaps", desc := "()I" } : Jvm.MethodName)) ∈ lw_all := lw_g (lw_at lw_m12 193 rfl) rfl
theorem q3025 : (Jvm.Cond.instanceMethod ({ cls := "GroupJournal", name := "crash", desc := "(I)I" } : Jvm.MethodName)) ∈ lw_all := lw_g (lw_at lw_m12 198 rfl) rfl
theorem q3026 : (Jvm.Cond.selects "GroupJournal" ({ cls := "GroupJournal", name := "crash", desc := "(I)I" } : Jvm.MethodName) ({ cls := "GroupJournal", name := "crash", desc := "(I)I" } : Jvm.MethodName)) ∈ lw_all := lw_g (lw_at lw_m12 199 rfl) rfl
theorem q3027 : (Jvm.Cond.code ({ cls := "GroupJournal", name := "crash", desc := "(I)I" } : Jvm.MethodName) prog_1_method_65_code (2 : Nat) (Option.some Jvm.ClassFile.FieldType.int)) ∈ lw_all := lw_g (lw_at lw_m12 200 rfl) rfl
theorem q3028 : (Jvm.Cond.methodLink "GroupJournal" (491 : Nat) ({ cls := "GroupJournal$State", name := "crashes", desc := "(I)I" } : Jvm.MethodName)) ∈ lw_all := lw_g (lw_at lw_m12 201 rfl) rfl
theorem q3039 : (Jvm.Cond.instanceMethod ({ cls := "GroupJournal", name := "giveUp", desc := "()I" } : Jvm.MethodName)) ∈ lw_all := lw_g (lw_at lw_m12 212 rfl) rfl
theorem q3040 : (Jvm.Cond.selects "GroupJournal" ({ cls := "GroupJournal", name := "giveUp", desc := "()I" } : Jvm.MethodName) ({ cls := "GroupJournal", name := "giveUp", desc := "()I" } : Jvm.MethodName)) ∈ lw_all := lw_g (lw_at lw_m12 213 rfl) rfl
theorem q3041 : (Jvm.Cond.code ({ cls := "GroupJournal", name := "giveUp", desc := "()I" } : Jvm.MethodName) prog_1_method_66_code (1 : Nat) (Option.some Jvm.ClassFile.FieldType.int)) ∈ lw_all := lw_g (lw_at lw_m12 214 rfl) rfl
theorem q3042 : (Jvm.Cond.methodLink "GroupJournal" (494 : Nat) ({ cls := "GroupJournal$State", name := "givesUp", desc := "()I" } : Jvm.MethodName)) ∈ lw_all := lw_g (lw_at lw_m12 215 rfl) rfl
theorem q3050 : (Jvm.Cond.instanceMethod ({ cls := "GroupJournal", name := "flip", desc := "(II)I" } : Jvm.MethodName)) ∈ lw_all := lw_g (lw_at lw_m12 223 rfl) rfl
theorem q3051 : (Jvm.Cond.selects "GroupJournal" ({ cls := "GroupJournal", name := "flip", desc := "(II)I" } : Jvm.MethodName) ({ cls := "GroupJournal", name := "flip", desc := "(II)I" } : Jvm.MethodName)) ∈ lw_all := lw_g (lw_at lw_m12 224 rfl) rfl
theorem q3052 : (Jvm.Cond.code ({ cls := "GroupJournal", name := "flip", desc := "(II)I" } : Jvm.MethodName) prog_1_method_67_code (3 : Nat) (Option.some Jvm.ClassFile.FieldType.int)) ∈ lw_all := lw_g (lw_at lw_m12 225 rfl) rfl
theorem q3054 : (Jvm.Cond.instanceMethod ({ cls := "GroupJournal", name := "seed", desc := "(I)Z" } : Jvm.MethodName)) ∈ lw_all := lw_g (lw_at lw_m12 227 rfl) rfl
theorem q3055 : (Jvm.Cond.selects "GroupJournal" ({ cls := "GroupJournal", name := "seed", desc := "(I)Z" } : Jvm.MethodName) ({ cls := "GroupJournal", name := "seed", desc := "(I)Z" } : Jvm.MethodName)) ∈ lw_all := lw_g (lw_at lw_m12 228 rfl) rfl
theorem q3056 : (Jvm.Cond.code ({ cls := "GroupJournal", name := "seed", desc := "(I)Z" } : Jvm.MethodName) prog_1_method_68_code (2 : Nat) (Option.some Jvm.ClassFile.FieldType.boolean)) ∈ lw_all := lw_g (lw_at lw_m12 229 rfl) rfl
theorem q3058 : (Jvm.Cond.instanceMethod ({ cls := "GroupJournal", name := "ask", desc := "()J" } : Jvm.MethodName)) ∈ lw_all := lw_g (lw_at lw_m12 231 rfl) rfl
theorem q3059 : (Jvm.Cond.selects "GroupJournal" ({ cls := "GroupJournal", name := "ask", desc := "()J" } : Jvm.MethodName) ({ cls := "GroupJournal", name := "ask", desc := "()J" } : Jvm.MethodName)) ∈ lw_all := lw_g (lw_at lw_m12 232 rfl) rfl
theorem q3060 : (Jvm.Cond.codeWith ({ cls := "GroupJournal", name := "ask", desc := "()J" } : Jvm.MethodName) prog_1_method_70_code (4 : Nat) (Option.some Jvm.ClassFile.FieldType.long) [((26 : Nat), (35 : Nat), (38 : Nat), (180 : Nat))]) ∈ lw_all := lw_g (lw_at lw_m12 233 rfl) rfl
theorem q3061 : (Jvm.Cond.constantLong "GroupJournal" (502 : Nat) (-1000000000000000 : Int64)) ∈ lw_all := lw_g (lw_at lw_m12 234 rfl) rfl
theorem q3062 : (Jvm.Cond.methodLink "GroupJournal" (504 : Nat) ({ cls := "GroupJournal$Reader", name := "question", desc := "(I)LGroupJournal$Question;" } : Jvm.MethodName)) ∈ lw_all := lw_g (lw_at lw_m12 235 rfl) rfl
theorem q3067 : (Jvm.Cond.laysStatic "GroupJournal" "TOLD_OF" "[Ljava/lang/String;") ∈ lw_tbl := lw_at lw_m13 0 rfl
theorem q3091 : (Jvm.Cond.methodLink "GroupJournal" (511 : Nat) ({ cls := "GroupJournal", name := "segment", desc := "(II)I" } : Jvm.MethodName)) ∈ lw_all := lw_g (lw_at lw_m13 24 rfl) rfl
theorem q3092 : (Jvm.Cond.methodLink "GroupJournal" (513 : Nat) ({ cls := "GroupJournal$Question", name := "meets", desc := "(ILGroupJournal$Moment;)V" } : Jvm.MethodName)) ∈ lw_all := lw_g (lw_at lw_m13 25 rfl) rfl
theorem q3100 : (Jvm.Cond.methodLink "GroupJournal" (519 : Nat) ({ cls := "GroupJournal$Question", name := "answer", desc := "()J" } : Jvm.MethodName)) ∈ lw_all := lw_g (lw_at lw_m13 33 rfl) rfl
theorem q3105 : (Jvm.Cond.instanceMethod ({ cls := "GroupJournal", name := "image", desc := "()I" } : Jvm.MethodName)) ∈ lw_all := lw_g (lw_at lw_m13 38 rfl) rfl
theorem q3106 : (Jvm.Cond.selects "GroupJournal" ({ cls := "GroupJournal", name := "image", desc := "()I" } : Jvm.MethodName) ({ cls := "GroupJournal", name := "image", desc := "()I" } : Jvm.MethodName)) ∈ lw_all := lw_g (lw_at lw_m13 39 rfl) rfl
theorem q3107 : (Jvm.Cond.code ({ cls := "GroupJournal", name := "image", desc := "()I" } : Jvm.MethodName) prog_1_method_74_code (3 : Nat) (Option.some Jvm.ClassFile.FieldType.int)) ∈ lw_all := lw_g (lw_at lw_m13 40 rfl) rfl
theorem q3108 : (Jvm.Cond.methodLink "GroupJournal" (529 : Nat) ({ cls := "GroupJournal", name := "saysTwo", desc := "(I)V" } : Jvm.MethodName)) ∈ lw_all := lw_g (lw_at lw_m13 41 rfl) rfl
theorem q3109 : (Jvm.Cond.privateMethod ({ cls := "GroupJournal", name := "saysTwo", desc := "(I)V" } : Jvm.MethodName)) ∈ lw_tbl := lw_at lw_m13 42 rfl
theorem q3110 : (Jvm.Cond.instanceMethod ({ cls := "GroupJournal", name := "saysTwo", desc := "(I)V" } : Jvm.MethodName)) ∈ lw_all := lw_g (lw_at lw_m13 43 rfl) rfl
theorem q3111 : (Jvm.Cond.code ({ cls := "GroupJournal", name := "saysTwo", desc := "(I)V" } : Jvm.MethodName) prog_1_method_72_code (2 : Nat) (Option.none : Option Jvm.ClassFile.FieldType)) ∈ lw_all := lw_g (lw_at lw_m13 44 rfl) rfl
theorem q3112 : (Jvm.Cond.methodLink "GroupJournal" (526 : Nat) ({ cls := "GroupJournal", name := "says", desc := "(I)V" } : Jvm.MethodName)) ∈ lw_all := lw_g (lw_at lw_m13 45 rfl) rfl
theorem q3113 : (Jvm.Cond.privateMethod ({ cls := "GroupJournal", name := "says", desc := "(I)V" } : Jvm.MethodName)) ∈ lw_tbl := lw_at lw_m13 46 rfl
theorem q3114 : (Jvm.Cond.instanceMethod ({ cls := "GroupJournal", name := "says", desc := "(I)V" } : Jvm.MethodName)) ∈ lw_all := lw_g (lw_at lw_m13 47 rfl) rfl
theorem q3115 : (Jvm.Cond.code ({ cls := "GroupJournal", name := "says", desc := "(I)V" } : Jvm.MethodName) prog_1_method_71_code (2 : Nat) (Option.none : Option Jvm.ClassFile.FieldType)) ∈ lw_all := lw_g (lw_at lw_m13 48 rfl) rfl
theorem q3116 : (Jvm.Cond.constant "GroupJournal" (535 : Nat) (65535 : Int32)) ∈ lw_all := lw_g (lw_at lw_m13 49 rfl) rfl
theorem q3117 : (Jvm.Cond.methodLink "GroupJournal" (536 : Nat) ({ cls := "GroupJournal", name := "checkOf", desc := "([BI)I" } : Jvm.MethodName)) ∈ lw_all := lw_g (lw_at lw_m13 50 rfl) rfl
theorem q3118 : (Jvm.Cond.static ({ cls := "GroupJournal", name := "checkOf", desc := "([BI)I" } : Jvm.MethodName)) ∈ lw_all := lw_g (lw_at lw_m13 51 rfl) rfl
theorem q3119 : (Jvm.Cond.code ({ cls := "GroupJournal", name := "checkOf", desc := "([BI)I" } : Jvm.MethodName) prog_1_method_73_code (4 : Nat) (Option.some Jvm.ClassFile.FieldType.int)) ∈ lw_all := lw_g (lw_at lw_m13 52 rfl) rfl
theorem q3121 : (Jvm.Cond.instanceMethod ({ cls := "GroupJournal", name := "octet", desc := "(I)I" } : Jvm.MethodName)) ∈ lw_all := lw_g (lw_at lw_m13 54 rfl) rfl
theorem q3122 : (Jvm.Cond.selects "GroupJournal" ({ cls := "GroupJournal", name := "octet", desc := "(I)I" } : Jvm.MethodName) ({ cls := "GroupJournal", name := "octet", desc := "(I)I" } : Jvm.MethodName)) ∈ lw_all := lw_g (lw_at lw_m13 55 rfl) rfl
theorem q3123 : (Jvm.Cond.code ({ cls := "GroupJournal", name := "octet", desc := "(I)I" } : Jvm.MethodName) prog_1_method_75_code (2 : Nat) (Option.some Jvm.ClassFile.FieldType.int)) ∈ lw_all := lw_g (lw_at lw_m13 56 rfl) rfl
theorem q3125 : (Jvm.Cond.instanceMethod ({ cls := "GroupJournal", name := "on", desc := "()Z" } : Jvm.MethodName)) ∈ lw_all := lw_g (lw_at lw_m13 58 rfl) rfl
theorem q3126 : (Jvm.Cond.selects "GroupJournal" ({ cls := "GroupJournal", name := "on", desc := "()Z" } : Jvm.MethodName) ({ cls := "GroupJournal", name := "on", desc := "()Z" } : Jvm.MethodName)) ∈ lw_all := lw_g (lw_at lw_m13 59 rfl) rfl
theorem q3127 : (Jvm.Cond.code ({ cls := "GroupJournal", name := "on", desc := "()Z" } : Jvm.MethodName) prog_1_method_78_code (2 : Nat) (Option.some Jvm.ClassFile.FieldType.boolean)) ∈ lw_all := lw_g (lw_at lw_m13 60 rfl) rfl
theorem q3128 : (Jvm.Cond.methodLink "GroupJournal" (543 : Nat) ({ cls := "GroupJournal", name := "isImage", desc := "(I)Z" } : Jvm.MethodName)) ∈ lw_all := lw_g (lw_at lw_m13 61 rfl) rfl
theorem q3129 : (Jvm.Cond.privateMethod ({ cls := "GroupJournal", name := "isImage", desc := "(I)Z" } : Jvm.MethodName)) ∈ lw_tbl := lw_at lw_m13 62 rfl
theorem q3130 : (Jvm.Cond.instanceMethod ({ cls := "GroupJournal", name := "isImage", desc := "(I)Z" } : Jvm.MethodName)) ∈ lw_all := lw_g (lw_at lw_m13 63 rfl) rfl
theorem q3131 : (Jvm.Cond.code ({ cls := "GroupJournal", name := "isImage", desc := "(I)Z" } : Jvm.MethodName) prog_1_method_76_code (4 : Nat) (Option.some Jvm.ClassFile.FieldType.boolean)) ∈ lw_all := lw_g (lw_at lw_m13 64 rfl) rfl
theorem q3132 : (Jvm.Cond.methodLink "GroupJournal" (546 : Nat) ({ cls := "GroupJournal", name := "comesOn", desc := "()V" } : Jvm.MethodName)) ∈ lw_all := lw_g (lw_at lw_m13 65 rfl) rfl
theorem q3133 : (Jvm.Cond.privateMethod ({ cls := "GroupJournal", name := "comesOn", desc := "()V" } : Jvm.MethodName)) ∈ lw_tbl := lw_at lw_m13 66 rfl
theorem q3134 : (Jvm.Cond.instanceMethod ({ cls := "GroupJournal", name := "comesOn", desc := "()V" } : Jvm.MethodName)) ∈ lw_all := lw_g (lw_at lw_m13 67 rfl) rfl
theorem q3135 : (Jvm.Cond.code ({ cls := "GroupJournal", name := "comesOn", desc := "()V" } : Jvm.MethodName) prog_1_method_77_code (4 : Nat) (Option.none : Option Jvm.ClassFile.FieldType)) ∈ lw_all := lw_g (lw_at lw_m13 68 rfl) rfl
theorem q3137 : (Jvm.Cond.instanceMethod ({ cls := "GroupJournal", name := "status", desc := "(I)I" } : Jvm.MethodName)) ∈ lw_all := lw_g (lw_at lw_m13 70 rfl) rfl
theorem q3138 : (Jvm.Cond.selects "GroupJournal" ({ cls := "GroupJournal", name := "status", desc := "(I)I" } : Jvm.MethodName) ({ cls := "GroupJournal", name := "status", desc := "(I)I" } : Jvm.MethodName)) ∈ lw_all := lw_g (lw_at lw_m13 71 rfl) rfl
theorem q3139 : (Jvm.Cond.code ({ cls := "GroupJournal", name := "status", desc := "(I)I" } : Jvm.MethodName) prog_1_method_79_code (2 : Nat) (Option.some Jvm.ClassFile.FieldType.int)) ∈ lw_all := lw_g (lw_at lw_m13 72 rfl) rfl
theorem q4161 : (Jvm.Cond.castable "GroupJournal" "java/lang/Object") ∈ lw_tbl := lw_at lw_m17 134 rfl
theorem q4216 : (Jvm.Cond.stringRef "GroupJournal" (549 : Nat) "tick") ∈ lw_tbl := lw_at lw_m17 189 rfl
theorem q4217 : (Jvm.Cond.stringRef "GroupJournal" (550 : Nat) "records") ∈ lw_tbl := lw_at lw_m17 190 rfl
theorem q4218 : (Jvm.Cond.stringRef "GroupJournal" (552 : Nat) "payload") ∈ lw_tbl := lw_at lw_m17 191 rfl
theorem q4219 : (Jvm.Cond.stringRef "GroupJournal" (554 : Nat) "age") ∈ lw_tbl := lw_at lw_m17 192 rfl
theorem q4220 : (Jvm.Cond.stringRef "GroupJournal" (556 : Nat) "waiters") ∈ lw_tbl := lw_at lw_m17 193 rfl
theorem q4221 : (Jvm.Cond.stringRef "GroupJournal" (557 : Nat) "number") ∈ lw_tbl := lw_at lw_m17 194 rfl
theorem q4222 : (Jvm.Cond.stringRef "GroupJournal" (558 : Nat) "serial") ∈ lw_tbl := lw_at lw_m17 195 rfl
theorem q4223 : (Jvm.Cond.stringRef "GroupJournal" (559 : Nat) "first") ∈ lw_tbl := lw_at lw_m17 196 rfl
theorem q4224 : (Jvm.Cond.stringRef "GroupJournal" (561 : Nat) "frames") ∈ lw_tbl := lw_at lw_m17 197 rfl
theorem q4226 : (Jvm.Cond.stringRef "GroupJournal" (566 : Nat) "octet") ∈ lw_tbl := lw_at lw_m17 199 rfl
theorem q4227 : (Jvm.Cond.stringRef "GroupJournal" (568 : Nat) "value") ∈ lw_tbl := lw_at lw_m17 200 rfl
theorem q4228 : (Jvm.Cond.stringRef "GroupJournal" (572 : Nat) "last") ∈ lw_tbl := lw_at lw_m17 201 rfl
theorem q4229 : (Jvm.Cond.stringRef "GroupJournal" (574 : Nat) "often") ∈ lw_tbl := lw_at lw_m17 202 rfl
theorem q4230 : (Jvm.Cond.stringRef "GroupJournal" (576 : Nat) "total") ∈ lw_tbl := lw_at lw_m17 203 rfl
theorem q4231 : (Jvm.Cond.stringRef "GroupJournal" (578 : Nat) "most") ∈ lw_tbl := lw_at lw_m17 204 rfl
theorem q4232 : (Jvm.Cond.stringRef "GroupJournal" (580 : Nat) "least") ∈ lw_tbl := lw_at lw_m17 205 rfl
theorem in_X0 : ∀ w ∈ wsX00, w ∈ lw_all := lw_in wsX00 [886, 888, 890, 892, 894, 896, 898, 900, 902, 904, 906, 908, 910, 912, 914, 916, 918, 920, 922, 924, 926, 928, 930, 932, 934, 936, 938, 940, 942, 944] (by decide +kernel) (by decide +kernel)

/-! GroupJournal$State -/
set_option maxRecDepth 100000
def RX10 : String := "GroupJournal$State"
def TX10 : u_T := fun k => match k with
  | 0 => ("GroupJournal$State", "tick", "I", false)
  | 1 => ("GroupJournal$State", "next", "I", false)
  | 2 => ("GroupJournal$State", "acked", "I", false)
  | 3 => ("GroupJournal$State", "left", "I", false)
  | 4 => ("GroupJournal$State", "snap", "I", false)
  | 5 => ("GroupJournal$State", "segment", "I", false)
  | 6 => ("GroupJournal$State", "at", "I", false)
  | 7 => ("GroupJournal$State", "serial", "I", false)
  | 8 => ("GroupJournal$State", "newest", "I", false)
  | 9 => ("GroupJournal$State", "many", "I", false)
  | 10 => ("GroupJournal$State", "halted", "Z", false)
  | 11 => ("GroupJournal$State", "disk", "[[I", true)
  | 12 => ("GroupJournal$State", "last", "[I", true)
  | 13 => ("GroupJournal$State", "where", "[I", true)
  | 14 => ("GroupJournal$State", "octets", "[I", true)
  | 15 => ("GroupJournal$State", "queue", "Ljava/util/List;", true)
  | 16 => ("GroupJournal$State", "going", "Ljava/util/List;", true)
  | 17 => ("GroupJournal$State", "table", "Ljava/util/HashMap;", true)
  | 18 => ("GroupJournal$State", "snapTable", "Ljava/util/HashMap;", true)
  | 19 => ("GroupJournal$State", "waiters", "Ljava/util/LinkedHashMap;", true)
  | 20 => ("GroupJournal$State", "scars", "Ljava/util/HashSet;", true)
  | 21 => ("GroupJournal$State", "rows", "Ljava/util/List;", true)
  | _ => ("GroupJournal$State", "this$0", "LGroupJournal;", true)
def tyX10 : Nat → FieldType := fun k => match k with
  | 0 => .int
  | 1 => .int
  | 2 => .int
  | 3 => .int
  | 4 => .int
  | 5 => .int
  | 6 => .int
  | 7 => .int
  | 8 => .int
  | 9 => .int
  | 10 => .boolean
  | 11 => .array (.array .int)
  | 12 => .array .int
  | 13 => .array .int
  | 14 => .array .int
  | 15 => .object "java/util/List"
  | 16 => .object "java/util/List"
  | 17 => .object "java/util/HashMap"
  | 18 => .object "java/util/HashMap"
  | 19 => .object "java/util/LinkedHashMap"
  | 20 => .object "java/util/HashSet"
  | 21 => .object "java/util/List"
  | _ => .object "GroupJournal"
abbrev wsX100 : List Cond := u_ws RX10 TX10 23
set_option maxRecDepth 100000 in
theorem nmX10 : ∀ a, a < 23 → ∀ b, b < 23 → a ≠ b → (TX10 a).2.1 ≠ (TX10 b).2.1 := by decide +kernel
set_option maxRecDepth 100000 in
theorem tyX10_ok : ∀ k, k < 23 → parseFieldDescriptor (TX10 k).2.2.1 = some (tyX10 k) := by decide +kernel
abbrev cX10_init : ByteArray := prog_21_method_1_code
def yX10_init : MethodName := ⟨RX10, "<init>", "(LGroupJournal;)V"⟩
def dkwX10_init_5 : List UInt8 := [183, 0, 61, 181, 0, 62, 42, 187, 0, 30, 89, 16, 41, 183, 0, 32, 181, 0, 66, 177]
abbrev dktX10_init_5 : List UInt8 := dkwX10_init_5 ++ []
def dkwX10_init_4 : List UInt8 := [181, 0, 49, 42, 187, 0, 52, 89, 183, 0, 54, 181, 0, 55, 42, 187, 0, 59, 89, 17, 4, 0]
abbrev dktX10_init_4 : List UInt8 := dkwX10_init_4 ++ dktX10_init_5
def dkwX10_init_3 : List UInt8 := [181, 0, 39, 42, 187, 0, 42, 89, 183, 0, 44, 181, 0, 45, 42, 187, 0, 42, 89, 183, 0, 44]
abbrev dktX10_init_3 : List UInt8 := dkwX10_init_3 ++ dktX10_init_4
def dkwX10_init_2 : List UInt8 := [187, 0, 30, 89, 16, 16, 183, 0, 32, 181, 0, 35, 42, 187, 0, 30, 89, 16, 16, 183, 0, 32]
abbrev dktX10_init_2 : List UInt8 := dkwX10_init_2 ++ dktX10_init_3
def dkwX10_init_1 : List UInt8 := [188, 10, 181, 0, 20, 42, 17, 2, 0, 188, 10, 181, 0, 24, 42, 17, 2, 0, 188, 10, 181, 0, 27, 42]
abbrev dktX10_init_1 : List UInt8 := dkwX10_init_1 ++ dktX10_init_2
def dkwX10_init_0 : List UInt8 := [42, 43, 181, 0, 3, 42, 183, 0, 9, 42, 7, 17, 0, 128, 197, 0, 15, 2, 181, 0, 17, 42, 7]
abbrev dktX10_init_0 : List UInt8 := dkwX10_init_0 ++ dktX10_init_1
theorem dksX10_init_0 : cX10_init.data.toList.drop 0 = dktX10_init_0 := by decide +kernel
theorem dksX10_init_1 : cX10_init.data.toList.drop 23 = dktX10_init_1 := dk_seg dksX10_init_0 23 rfl rfl
theorem dksX10_init_2 : cX10_init.data.toList.drop 47 = dktX10_init_2 := dk_seg dksX10_init_1 24 rfl rfl
theorem dksX10_init_3 : cX10_init.data.toList.drop 69 = dktX10_init_3 := dk_seg dksX10_init_2 22 rfl rfl
theorem dksX10_init_4 : cX10_init.data.toList.drop 91 = dktX10_init_4 := dk_seg dksX10_init_3 22 rfl rfl
theorem dksX10_init_5 : cX10_init.data.toList.drop 113 = dktX10_init_5 := dk_seg dksX10_init_4 22 rfl rfl
theorem dX10_init_0 : decode cX10_init 0 = .ok (.aload_n 0, 1) := dk_42 (dk_at dksX10_init_0 0 rfl rfl)
theorem dX10_init_1 : decode cX10_init 1 = .ok (.aload_n 1, 1) := dk_43 (dk_at dksX10_init_0 1 rfl rfl)
theorem dX10_init_2 : decode cX10_init 2 = .ok (.putfield 3, 3) := dk_181 0 3 (dk_at dksX10_init_0 2 rfl rfl)
theorem dX10_init_5 : decode cX10_init 5 = .ok (.aload_n 0, 1) := dk_42 (dk_at dksX10_init_0 5 rfl rfl)
theorem dX10_init_6 : decode cX10_init 6 = .ok (.invokespecial 9, 3) := dk_183 0 9 (dk_at dksX10_init_0 6 rfl rfl)
theorem dX10_init_9 : decode cX10_init 9 = .ok (.aload_n 0, 1) := dk_42 (dk_at dksX10_init_0 9 rfl rfl)
theorem dX10_init_10 : decode cX10_init 10 = .ok (.iconst 4, 1) := dk_7 (dk_at dksX10_init_0 10 rfl rfl)
theorem dX10_init_11 : decode cX10_init 11 = .ok (.sipush 128, 3) := dk_17 0 128 (dk_at dksX10_init_0 11 rfl rfl)
theorem dX10_init_14 : decode cX10_init 14 = .ok (.multianewarray 15 2, 4) := by decide +kernel
theorem dX10_init_18 : decode cX10_init 18 = .ok (.putfield 17, 3) := dk_181 0 17 (dk_at dksX10_init_0 18 rfl rfl)
theorem dX10_init_21 : decode cX10_init 21 = .ok (.aload_n 0, 1) := dk_42 (dk_at dksX10_init_0 21 rfl rfl)
theorem dX10_init_22 : decode cX10_init 22 = .ok (.iconst 4, 1) := dk_7 (dk_at dksX10_init_0 22 rfl rfl)
theorem dX10_init_23 : decode cX10_init 23 = .ok (.newarray .int, 2) := dk_188_10 (dk_at dksX10_init_1 0 rfl rfl)
theorem dX10_init_25 : decode cX10_init 25 = .ok (.putfield 20, 3) := dk_181 0 20 (dk_at dksX10_init_1 2 rfl rfl)
theorem dX10_init_28 : decode cX10_init 28 = .ok (.aload_n 0, 1) := dk_42 (dk_at dksX10_init_1 5 rfl rfl)
theorem dX10_init_29 : decode cX10_init 29 = .ok (.sipush 512, 3) := dk_17 2 0 (dk_at dksX10_init_1 6 rfl rfl)
theorem dX10_init_32 : decode cX10_init 32 = .ok (.newarray .int, 2) := dk_188_10 (dk_at dksX10_init_1 9 rfl rfl)
theorem dX10_init_34 : decode cX10_init 34 = .ok (.putfield 24, 3) := dk_181 0 24 (dk_at dksX10_init_1 11 rfl rfl)
theorem dX10_init_37 : decode cX10_init 37 = .ok (.aload_n 0, 1) := dk_42 (dk_at dksX10_init_1 14 rfl rfl)
theorem dX10_init_38 : decode cX10_init 38 = .ok (.sipush 512, 3) := dk_17 2 0 (dk_at dksX10_init_1 15 rfl rfl)
theorem dX10_init_41 : decode cX10_init 41 = .ok (.newarray .int, 2) := dk_188_10 (dk_at dksX10_init_1 18 rfl rfl)
theorem dX10_init_43 : decode cX10_init 43 = .ok (.putfield 27, 3) := dk_181 0 27 (dk_at dksX10_init_1 20 rfl rfl)
theorem dX10_init_46 : decode cX10_init 46 = .ok (.aload_n 0, 1) := dk_42 (dk_at dksX10_init_1 23 rfl rfl)
theorem dX10_init_47 : decode cX10_init 47 = .ok (.new 30, 3) := dk_187 0 30 (dk_at dksX10_init_2 0 rfl rfl)
theorem dX10_init_50 : decode cX10_init 50 = .ok (.dup, 1) := dk_89 (dk_at dksX10_init_2 3 rfl rfl)
theorem dX10_init_51 : decode cX10_init 51 = .ok (.bipush 16, 2) := dk_16 16 (dk_at dksX10_init_2 4 rfl rfl)
theorem dX10_init_53 : decode cX10_init 53 = .ok (.invokespecial 32, 3) := dk_183 0 32 (dk_at dksX10_init_2 6 rfl rfl)
theorem dX10_init_56 : decode cX10_init 56 = .ok (.putfield 35, 3) := dk_181 0 35 (dk_at dksX10_init_2 9 rfl rfl)
theorem dX10_init_59 : decode cX10_init 59 = .ok (.aload_n 0, 1) := dk_42 (dk_at dksX10_init_2 12 rfl rfl)
theorem dX10_init_60 : decode cX10_init 60 = .ok (.new 30, 3) := dk_187 0 30 (dk_at dksX10_init_2 13 rfl rfl)
theorem dX10_init_63 : decode cX10_init 63 = .ok (.dup, 1) := dk_89 (dk_at dksX10_init_2 16 rfl rfl)
theorem dX10_init_64 : decode cX10_init 64 = .ok (.bipush 16, 2) := dk_16 16 (dk_at dksX10_init_2 17 rfl rfl)
theorem dX10_init_66 : decode cX10_init 66 = .ok (.invokespecial 32, 3) := dk_183 0 32 (dk_at dksX10_init_2 19 rfl rfl)
theorem dX10_init_69 : decode cX10_init 69 = .ok (.putfield 39, 3) := dk_181 0 39 (dk_at dksX10_init_3 0 rfl rfl)
theorem dX10_init_72 : decode cX10_init 72 = .ok (.aload_n 0, 1) := dk_42 (dk_at dksX10_init_3 3 rfl rfl)
theorem dX10_init_73 : decode cX10_init 73 = .ok (.new 42, 3) := dk_187 0 42 (dk_at dksX10_init_3 4 rfl rfl)
theorem dX10_init_76 : decode cX10_init 76 = .ok (.dup, 1) := dk_89 (dk_at dksX10_init_3 7 rfl rfl)
theorem dX10_init_77 : decode cX10_init 77 = .ok (.invokespecial 44, 3) := dk_183 0 44 (dk_at dksX10_init_3 8 rfl rfl)
theorem dX10_init_80 : decode cX10_init 80 = .ok (.putfield 45, 3) := dk_181 0 45 (dk_at dksX10_init_3 11 rfl rfl)
theorem dX10_init_83 : decode cX10_init 83 = .ok (.aload_n 0, 1) := dk_42 (dk_at dksX10_init_3 14 rfl rfl)
theorem dX10_init_84 : decode cX10_init 84 = .ok (.new 42, 3) := dk_187 0 42 (dk_at dksX10_init_3 15 rfl rfl)
theorem dX10_init_87 : decode cX10_init 87 = .ok (.dup, 1) := dk_89 (dk_at dksX10_init_3 18 rfl rfl)
theorem dX10_init_88 : decode cX10_init 88 = .ok (.invokespecial 44, 3) := dk_183 0 44 (dk_at dksX10_init_3 19 rfl rfl)
theorem dX10_init_91 : decode cX10_init 91 = .ok (.putfield 49, 3) := dk_181 0 49 (dk_at dksX10_init_4 0 rfl rfl)
theorem dX10_init_94 : decode cX10_init 94 = .ok (.aload_n 0, 1) := dk_42 (dk_at dksX10_init_4 3 rfl rfl)
theorem dX10_init_95 : decode cX10_init 95 = .ok (.new 52, 3) := dk_187 0 52 (dk_at dksX10_init_4 4 rfl rfl)
theorem dX10_init_98 : decode cX10_init 98 = .ok (.dup, 1) := dk_89 (dk_at dksX10_init_4 7 rfl rfl)
theorem dX10_init_99 : decode cX10_init 99 = .ok (.invokespecial 54, 3) := dk_183 0 54 (dk_at dksX10_init_4 8 rfl rfl)
theorem dX10_init_102 : decode cX10_init 102 = .ok (.putfield 55, 3) := dk_181 0 55 (dk_at dksX10_init_4 11 rfl rfl)
theorem dX10_init_105 : decode cX10_init 105 = .ok (.aload_n 0, 1) := dk_42 (dk_at dksX10_init_4 14 rfl rfl)
theorem dX10_init_106 : decode cX10_init 106 = .ok (.new 59, 3) := dk_187 0 59 (dk_at dksX10_init_4 15 rfl rfl)
theorem dX10_init_109 : decode cX10_init 109 = .ok (.dup, 1) := dk_89 (dk_at dksX10_init_4 18 rfl rfl)
theorem dX10_init_110 : decode cX10_init 110 = .ok (.sipush 1024, 3) := dk_17 4 0 (dk_at dksX10_init_4 19 rfl rfl)
theorem dX10_init_113 : decode cX10_init 113 = .ok (.invokespecial 61, 3) := dk_183 0 61 (dk_at dksX10_init_5 0 rfl rfl)
theorem dX10_init_116 : decode cX10_init 116 = .ok (.putfield 62, 3) := dk_181 0 62 (dk_at dksX10_init_5 3 rfl rfl)
theorem dX10_init_119 : decode cX10_init 119 = .ok (.aload_n 0, 1) := dk_42 (dk_at dksX10_init_5 6 rfl rfl)
theorem dX10_init_120 : decode cX10_init 120 = .ok (.new 30, 3) := dk_187 0 30 (dk_at dksX10_init_5 7 rfl rfl)
theorem dX10_init_123 : decode cX10_init 123 = .ok (.dup, 1) := dk_89 (dk_at dksX10_init_5 10 rfl rfl)
theorem dX10_init_124 : decode cX10_init 124 = .ok (.bipush 41, 2) := dk_16 41 (dk_at dksX10_init_5 11 rfl rfl)
theorem dX10_init_126 : decode cX10_init 126 = .ok (.invokespecial 32, 3) := dk_183 0 32 (dk_at dksX10_init_5 13 rfl rfl)
theorem dX10_init_129 : decode cX10_init 129 = .ok (.putfield 66, 3) := dk_181 0 66 (dk_at dksX10_init_5 16 rfl rfl)
theorem dX10_init_132 : decode cX10_init 132 = .ok (.return_, 1) := dk_177 (dk_at dksX10_init_5 19 rfl rfl)
abbrev cX10_begins : ByteArray := prog_21_method_2_code
def yX10_begins : MethodName := ⟨RX10, "begins", "()V"⟩
def dkwX10_begins_6 : List UInt8 := [185, 0, 98, 1, 0, 177]
abbrev dktX10_begins_6 : List UInt8 := dkwX10_begins_6 ++ []
def dkwX10_begins_5 : List UInt8 := [180, 0, 49, 182, 0, 103, 42, 180, 0, 55, 182, 0, 104, 42, 180, 0, 62, 182, 0, 105, 42, 180, 0, 66]
abbrev dktX10_begins_5 : List UInt8 := dkwX10_begins_5 ++ dktX10_begins_6
def dkwX10_begins_4 : List UInt8 := [185, 0, 98, 1, 0, 42, 180, 0, 39, 185, 0, 98, 1, 0, 42, 180, 0, 45, 182, 0, 103, 42]
abbrev dktX10_begins_4 : List UInt8 := dkwX10_begins_4 ++ dktX10_begins_5
def dkwX10_begins_3 : List UInt8 := [180, 0, 17, 27, 50, 28, 3, 79, 132, 2, 1, 167, 255, 237, 132, 1, 1, 167, 255, 217, 42, 180, 0, 35]
abbrev dktX10_begins_3 : List UInt8 := dkwX10_begins_3 ++ dktX10_begins_4
def dkwX10_begins_2 : List UInt8 := [60, 27, 7, 162, 0, 40, 42, 180, 0, 20, 27, 2, 79, 3, 61, 28, 17, 0, 128, 162, 0, 18, 42]
abbrev dktX10_begins_2 : List UInt8 := dkwX10_begins_2 ++ dktX10_begins_3
def dkwX10_begins_1 : List UInt8 := [181, 0, 82, 42, 3, 181, 0, 85, 42, 3, 181, 0, 88, 42, 3, 181, 0, 91, 42, 3, 181, 0, 94, 3]
abbrev dktX10_begins_1 : List UInt8 := dkwX10_begins_1 ++ dktX10_begins_2
def dkwX10_begins_0 : List UInt8 := [42, 3, 181, 0, 69, 42, 3, 181, 0, 73, 42, 3, 181, 0, 76, 42, 3, 181, 0, 79, 42, 3]
abbrev dktX10_begins_0 : List UInt8 := dkwX10_begins_0 ++ dktX10_begins_1
theorem dksX10_begins_0 : cX10_begins.data.toList.drop 0 = dktX10_begins_0 := by decide +kernel
theorem dksX10_begins_1 : cX10_begins.data.toList.drop 22 = dktX10_begins_1 := dk_seg dksX10_begins_0 22 rfl rfl
theorem dksX10_begins_2 : cX10_begins.data.toList.drop 46 = dktX10_begins_2 := dk_seg dksX10_begins_1 24 rfl rfl
theorem dksX10_begins_3 : cX10_begins.data.toList.drop 69 = dktX10_begins_3 := dk_seg dksX10_begins_2 23 rfl rfl
theorem dksX10_begins_4 : cX10_begins.data.toList.drop 93 = dktX10_begins_4 := dk_seg dksX10_begins_3 24 rfl rfl
theorem dksX10_begins_5 : cX10_begins.data.toList.drop 115 = dktX10_begins_5 := dk_seg dksX10_begins_4 22 rfl rfl
theorem dksX10_begins_6 : cX10_begins.data.toList.drop 139 = dktX10_begins_6 := dk_seg dksX10_begins_5 24 rfl rfl
theorem dX10_begins_0 : decode cX10_begins 0 = .ok (.aload_n 0, 1) := dk_42 (dk_at dksX10_begins_0 0 rfl rfl)
theorem dX10_begins_1 : decode cX10_begins 1 = .ok (.iconst 0, 1) := dk_3 (dk_at dksX10_begins_0 1 rfl rfl)
theorem dX10_begins_2 : decode cX10_begins 2 = .ok (.putfield 69, 3) := dk_181 0 69 (dk_at dksX10_begins_0 2 rfl rfl)
theorem dX10_begins_5 : decode cX10_begins 5 = .ok (.aload_n 0, 1) := dk_42 (dk_at dksX10_begins_0 5 rfl rfl)
theorem dX10_begins_6 : decode cX10_begins 6 = .ok (.iconst 0, 1) := dk_3 (dk_at dksX10_begins_0 6 rfl rfl)
theorem dX10_begins_7 : decode cX10_begins 7 = .ok (.putfield 73, 3) := dk_181 0 73 (dk_at dksX10_begins_0 7 rfl rfl)
theorem dX10_begins_10 : decode cX10_begins 10 = .ok (.aload_n 0, 1) := dk_42 (dk_at dksX10_begins_0 10 rfl rfl)
theorem dX10_begins_11 : decode cX10_begins 11 = .ok (.iconst 0, 1) := dk_3 (dk_at dksX10_begins_0 11 rfl rfl)
theorem dX10_begins_12 : decode cX10_begins 12 = .ok (.putfield 76, 3) := dk_181 0 76 (dk_at dksX10_begins_0 12 rfl rfl)
theorem dX10_begins_15 : decode cX10_begins 15 = .ok (.aload_n 0, 1) := dk_42 (dk_at dksX10_begins_0 15 rfl rfl)
theorem dX10_begins_16 : decode cX10_begins 16 = .ok (.iconst 0, 1) := dk_3 (dk_at dksX10_begins_0 16 rfl rfl)
theorem dX10_begins_17 : decode cX10_begins 17 = .ok (.putfield 79, 3) := dk_181 0 79 (dk_at dksX10_begins_0 17 rfl rfl)
theorem dX10_begins_20 : decode cX10_begins 20 = .ok (.aload_n 0, 1) := dk_42 (dk_at dksX10_begins_0 20 rfl rfl)
theorem dX10_begins_21 : decode cX10_begins 21 = .ok (.iconst 0, 1) := dk_3 (dk_at dksX10_begins_0 21 rfl rfl)
theorem dX10_begins_22 : decode cX10_begins 22 = .ok (.putfield 82, 3) := dk_181 0 82 (dk_at dksX10_begins_1 0 rfl rfl)
theorem dX10_begins_25 : decode cX10_begins 25 = .ok (.aload_n 0, 1) := dk_42 (dk_at dksX10_begins_1 3 rfl rfl)
theorem dX10_begins_26 : decode cX10_begins 26 = .ok (.iconst 0, 1) := dk_3 (dk_at dksX10_begins_1 4 rfl rfl)
theorem dX10_begins_27 : decode cX10_begins 27 = .ok (.putfield 85, 3) := dk_181 0 85 (dk_at dksX10_begins_1 5 rfl rfl)
theorem dX10_begins_30 : decode cX10_begins 30 = .ok (.aload_n 0, 1) := dk_42 (dk_at dksX10_begins_1 8 rfl rfl)
theorem dX10_begins_31 : decode cX10_begins 31 = .ok (.iconst 0, 1) := dk_3 (dk_at dksX10_begins_1 9 rfl rfl)
theorem dX10_begins_32 : decode cX10_begins 32 = .ok (.putfield 88, 3) := dk_181 0 88 (dk_at dksX10_begins_1 10 rfl rfl)
theorem dX10_begins_35 : decode cX10_begins 35 = .ok (.aload_n 0, 1) := dk_42 (dk_at dksX10_begins_1 13 rfl rfl)
theorem dX10_begins_36 : decode cX10_begins 36 = .ok (.iconst 0, 1) := dk_3 (dk_at dksX10_begins_1 14 rfl rfl)
theorem dX10_begins_37 : decode cX10_begins 37 = .ok (.putfield 91, 3) := dk_181 0 91 (dk_at dksX10_begins_1 15 rfl rfl)
theorem dX10_begins_40 : decode cX10_begins 40 = .ok (.aload_n 0, 1) := dk_42 (dk_at dksX10_begins_1 18 rfl rfl)
theorem dX10_begins_41 : decode cX10_begins 41 = .ok (.iconst 0, 1) := dk_3 (dk_at dksX10_begins_1 19 rfl rfl)
theorem dX10_begins_42 : decode cX10_begins 42 = .ok (.putfield 94, 3) := dk_181 0 94 (dk_at dksX10_begins_1 20 rfl rfl)
theorem dX10_begins_45 : decode cX10_begins 45 = .ok (.iconst 0, 1) := dk_3 (dk_at dksX10_begins_1 23 rfl rfl)
theorem dX10_begins_46 : decode cX10_begins 46 = .ok (.istore_n 1, 1) := dk_60 (dk_at dksX10_begins_2 0 rfl rfl)
theorem dX10_begins_47 : decode cX10_begins 47 = .ok (.iload_n 1, 1) := dk_27 (dk_at dksX10_begins_2 1 rfl rfl)
theorem dX10_begins_48 : decode cX10_begins 48 = .ok (.iconst 4, 1) := dk_7 (dk_at dksX10_begins_2 2 rfl rfl)
theorem dX10_begins_49 : decode cX10_begins 49 = .ok (.if_icmp .ge 40, 3) := dk_162 0 40 (dk_at dksX10_begins_2 3 rfl rfl)
theorem dX10_begins_52 : decode cX10_begins 52 = .ok (.aload_n 0, 1) := dk_42 (dk_at dksX10_begins_2 6 rfl rfl)
theorem dX10_begins_53 : decode cX10_begins 53 = .ok (.getfield 20, 3) := dk_180 0 20 (dk_at dksX10_begins_2 7 rfl rfl)
theorem dX10_begins_56 : decode cX10_begins 56 = .ok (.iload_n 1, 1) := dk_27 (dk_at dksX10_begins_2 10 rfl rfl)
theorem dX10_begins_57 : decode cX10_begins 57 = .ok (.iconst (-1), 1) := dk_2 (dk_at dksX10_begins_2 11 rfl rfl)
theorem dX10_begins_58 : decode cX10_begins 58 = .ok (.iastore, 1) := dk_79 (dk_at dksX10_begins_2 12 rfl rfl)
theorem dX10_begins_59 : decode cX10_begins 59 = .ok (.iconst 0, 1) := dk_3 (dk_at dksX10_begins_2 13 rfl rfl)
theorem dX10_begins_60 : decode cX10_begins 60 = .ok (.istore_n 2, 1) := dk_61 (dk_at dksX10_begins_2 14 rfl rfl)
theorem dX10_begins_61 : decode cX10_begins 61 = .ok (.iload_n 2, 1) := dk_28 (dk_at dksX10_begins_2 15 rfl rfl)
theorem dX10_begins_62 : decode cX10_begins 62 = .ok (.sipush 128, 3) := dk_17 0 128 (dk_at dksX10_begins_2 16 rfl rfl)
theorem dX10_begins_65 : decode cX10_begins 65 = .ok (.if_icmp .ge 18, 3) := dk_162 0 18 (dk_at dksX10_begins_2 19 rfl rfl)
theorem dX10_begins_68 : decode cX10_begins 68 = .ok (.aload_n 0, 1) := dk_42 (dk_at dksX10_begins_2 22 rfl rfl)
theorem dX10_begins_69 : decode cX10_begins 69 = .ok (.getfield 17, 3) := dk_180 0 17 (dk_at dksX10_begins_3 0 rfl rfl)
theorem dX10_begins_72 : decode cX10_begins 72 = .ok (.iload_n 1, 1) := dk_27 (dk_at dksX10_begins_3 3 rfl rfl)
theorem dX10_begins_73 : decode cX10_begins 73 = .ok (.aaload, 1) := dk_50 (dk_at dksX10_begins_3 4 rfl rfl)
theorem dX10_begins_74 : decode cX10_begins 74 = .ok (.iload_n 2, 1) := dk_28 (dk_at dksX10_begins_3 5 rfl rfl)
theorem dX10_begins_75 : decode cX10_begins 75 = .ok (.iconst 0, 1) := dk_3 (dk_at dksX10_begins_3 6 rfl rfl)
theorem dX10_begins_76 : decode cX10_begins 76 = .ok (.iastore, 1) := dk_79 (dk_at dksX10_begins_3 7 rfl rfl)
theorem dX10_begins_77 : decode cX10_begins 77 = .ok (.iinc 2 1, 3) := dk_132 2 1 (dk_at dksX10_begins_3 8 rfl rfl)
theorem dX10_begins_80 : decode cX10_begins 80 = .ok (.goto (-19), 3) := dk_167 255 237 (dk_at dksX10_begins_3 11 rfl rfl)
theorem dX10_begins_83 : decode cX10_begins 83 = .ok (.iinc 1 1, 3) := dk_132 1 1 (dk_at dksX10_begins_3 14 rfl rfl)
theorem dX10_begins_86 : decode cX10_begins 86 = .ok (.goto (-39), 3) := dk_167 255 217 (dk_at dksX10_begins_3 17 rfl rfl)
theorem dX10_begins_89 : decode cX10_begins 89 = .ok (.aload_n 0, 1) := dk_42 (dk_at dksX10_begins_3 20 rfl rfl)
theorem dX10_begins_90 : decode cX10_begins 90 = .ok (.getfield 35, 3) := dk_180 0 35 (dk_at dksX10_begins_3 21 rfl rfl)
theorem dX10_begins_93 : decode cX10_begins 93 = .ok (.invokeinterface 98 1, 5) := by decide +kernel
theorem dX10_begins_98 : decode cX10_begins 98 = .ok (.aload_n 0, 1) := dk_42 (dk_at dksX10_begins_4 5 rfl rfl)
theorem dX10_begins_99 : decode cX10_begins 99 = .ok (.getfield 39, 3) := dk_180 0 39 (dk_at dksX10_begins_4 6 rfl rfl)
theorem dX10_begins_102 : decode cX10_begins 102 = .ok (.invokeinterface 98 1, 5) := by decide +kernel
theorem dX10_begins_107 : decode cX10_begins 107 = .ok (.aload_n 0, 1) := dk_42 (dk_at dksX10_begins_4 14 rfl rfl)
theorem dX10_begins_108 : decode cX10_begins 108 = .ok (.getfield 45, 3) := dk_180 0 45 (dk_at dksX10_begins_4 15 rfl rfl)
theorem dX10_begins_111 : decode cX10_begins 111 = .ok (.invokevirtual 103, 3) := dk_182 0 103 (dk_at dksX10_begins_4 18 rfl rfl)
theorem dX10_begins_114 : decode cX10_begins 114 = .ok (.aload_n 0, 1) := dk_42 (dk_at dksX10_begins_4 21 rfl rfl)
theorem dX10_begins_115 : decode cX10_begins 115 = .ok (.getfield 49, 3) := dk_180 0 49 (dk_at dksX10_begins_5 0 rfl rfl)
theorem dX10_begins_118 : decode cX10_begins 118 = .ok (.invokevirtual 103, 3) := dk_182 0 103 (dk_at dksX10_begins_5 3 rfl rfl)
theorem dX10_begins_121 : decode cX10_begins 121 = .ok (.aload_n 0, 1) := dk_42 (dk_at dksX10_begins_5 6 rfl rfl)
theorem dX10_begins_122 : decode cX10_begins 122 = .ok (.getfield 55, 3) := dk_180 0 55 (dk_at dksX10_begins_5 7 rfl rfl)
theorem dX10_begins_125 : decode cX10_begins 125 = .ok (.invokevirtual 104, 3) := dk_182 0 104 (dk_at dksX10_begins_5 10 rfl rfl)
theorem dX10_begins_128 : decode cX10_begins 128 = .ok (.aload_n 0, 1) := dk_42 (dk_at dksX10_begins_5 13 rfl rfl)
theorem dX10_begins_129 : decode cX10_begins 129 = .ok (.getfield 62, 3) := dk_180 0 62 (dk_at dksX10_begins_5 14 rfl rfl)
theorem dX10_begins_132 : decode cX10_begins 132 = .ok (.invokevirtual 105, 3) := dk_182 0 105 (dk_at dksX10_begins_5 17 rfl rfl)
theorem dX10_begins_135 : decode cX10_begins 135 = .ok (.aload_n 0, 1) := dk_42 (dk_at dksX10_begins_5 20 rfl rfl)
theorem dX10_begins_136 : decode cX10_begins 136 = .ok (.getfield 66, 3) := dk_180 0 66 (dk_at dksX10_begins_5 21 rfl rfl)
theorem dX10_begins_139 : decode cX10_begins 139 = .ok (.invokeinterface 98 1, 5) := by decide +kernel
theorem dX10_begins_144 : decode cX10_begins 144 = .ok (.return_, 1) := dk_177 (dk_at dksX10_begins_6 5 rfl rfl)
abbrev cX10_opensFirst : ByteArray := prog_21_method_3_code
def yX10_opensFirst : MethodName := ⟨RX10, "opensFirst", "()V"⟩
def dkwX10_opensFirst_5 : List UInt8 := [3, 7, 27, 182, 0, 112, 177]
abbrev dktX10_opensFirst_5 : List UInt8 := dkwX10_opensFirst_5 ++ []
def dkwX10_opensFirst_4 : List UInt8 := [7, 162, 0, 22, 27, 42, 180, 0, 17, 3, 50, 28, 46, 184, 0, 116, 60, 132, 2, 1, 167, 255, 235, 42]
abbrev dktX10_opensFirst_4 : List UInt8 := dkwX10_opensFirst_4 ++ dktX10_opensFirst_5
def dkwX10_opensFirst_3 : List UInt8 := [126, 182, 0, 112, 42, 3, 6, 42, 180, 0, 73, 17, 0, 255, 126, 182, 0, 112, 16, 7, 60, 3, 61, 28]
abbrev dktX10_opensFirst_3 : List UInt8 := dkwX10_opensFirst_3 ++ dktX10_opensFirst_4
def dkwX10_opensFirst_2 : List UInt8 := [42, 180, 0, 85, 17, 0, 255, 126, 182, 0, 112, 42, 3, 5, 42, 180, 0, 73, 16, 8, 122, 17, 0, 255]
abbrev dktX10_opensFirst_2 : List UInt8 := dkwX10_opensFirst_2 ++ dktX10_opensFirst_3
def dkwX10_opensFirst_1 : List UInt8 := [8, 181, 0, 109, 42, 3, 3, 42, 180, 0, 85, 16, 8, 122, 17, 0, 255, 126, 182, 0, 112, 42, 3, 4]
abbrev dktX10_opensFirst_1 : List UInt8 := dkwX10_opensFirst_1 ++ dktX10_opensFirst_2
def dkwX10_opensFirst_0 : List UInt8 := [42, 89, 180, 0, 88, 4, 96, 181, 0, 88, 42, 42, 180, 0, 88, 181, 0, 85, 42, 3, 181, 0, 106, 42]
abbrev dktX10_opensFirst_0 : List UInt8 := dkwX10_opensFirst_0 ++ dktX10_opensFirst_1
theorem dksX10_opensFirst_0 : cX10_opensFirst.data.toList.drop 0 = dktX10_opensFirst_0 := by decide +kernel
theorem dksX10_opensFirst_1 : cX10_opensFirst.data.toList.drop 24 = dktX10_opensFirst_1 := dk_seg dksX10_opensFirst_0 24 rfl rfl
theorem dksX10_opensFirst_2 : cX10_opensFirst.data.toList.drop 48 = dktX10_opensFirst_2 := dk_seg dksX10_opensFirst_1 24 rfl rfl
theorem dksX10_opensFirst_3 : cX10_opensFirst.data.toList.drop 72 = dktX10_opensFirst_3 := dk_seg dksX10_opensFirst_2 24 rfl rfl
theorem dksX10_opensFirst_4 : cX10_opensFirst.data.toList.drop 96 = dktX10_opensFirst_4 := dk_seg dksX10_opensFirst_3 24 rfl rfl
theorem dksX10_opensFirst_5 : cX10_opensFirst.data.toList.drop 120 = dktX10_opensFirst_5 := dk_seg dksX10_opensFirst_4 24 rfl rfl
theorem dX10_opensFirst_0 : decode cX10_opensFirst 0 = .ok (.aload_n 0, 1) := dk_42 (dk_at dksX10_opensFirst_0 0 rfl rfl)
theorem dX10_opensFirst_1 : decode cX10_opensFirst 1 = .ok (.dup, 1) := dk_89 (dk_at dksX10_opensFirst_0 1 rfl rfl)
theorem dX10_opensFirst_2 : decode cX10_opensFirst 2 = .ok (.getfield 88, 3) := dk_180 0 88 (dk_at dksX10_opensFirst_0 2 rfl rfl)
theorem dX10_opensFirst_5 : decode cX10_opensFirst 5 = .ok (.iconst 1, 1) := dk_4 (dk_at dksX10_opensFirst_0 5 rfl rfl)
theorem dX10_opensFirst_6 : decode cX10_opensFirst 6 = .ok (.iadd, 1) := dk_96 (dk_at dksX10_opensFirst_0 6 rfl rfl)
theorem dX10_opensFirst_7 : decode cX10_opensFirst 7 = .ok (.putfield 88, 3) := dk_181 0 88 (dk_at dksX10_opensFirst_0 7 rfl rfl)
theorem dX10_opensFirst_10 : decode cX10_opensFirst 10 = .ok (.aload_n 0, 1) := dk_42 (dk_at dksX10_opensFirst_0 10 rfl rfl)
theorem dX10_opensFirst_11 : decode cX10_opensFirst 11 = .ok (.aload_n 0, 1) := dk_42 (dk_at dksX10_opensFirst_0 11 rfl rfl)
theorem dX10_opensFirst_12 : decode cX10_opensFirst 12 = .ok (.getfield 88, 3) := dk_180 0 88 (dk_at dksX10_opensFirst_0 12 rfl rfl)
theorem dX10_opensFirst_15 : decode cX10_opensFirst 15 = .ok (.putfield 85, 3) := dk_181 0 85 (dk_at dksX10_opensFirst_0 15 rfl rfl)
theorem dX10_opensFirst_18 : decode cX10_opensFirst 18 = .ok (.aload_n 0, 1) := dk_42 (dk_at dksX10_opensFirst_0 18 rfl rfl)
theorem dX10_opensFirst_19 : decode cX10_opensFirst 19 = .ok (.iconst 0, 1) := dk_3 (dk_at dksX10_opensFirst_0 19 rfl rfl)
theorem dX10_opensFirst_20 : decode cX10_opensFirst 20 = .ok (.putfield 106, 3) := dk_181 0 106 (dk_at dksX10_opensFirst_0 20 rfl rfl)
theorem dX10_opensFirst_23 : decode cX10_opensFirst 23 = .ok (.aload_n 0, 1) := dk_42 (dk_at dksX10_opensFirst_0 23 rfl rfl)
theorem dX10_opensFirst_24 : decode cX10_opensFirst 24 = .ok (.iconst 5, 1) := dk_8 (dk_at dksX10_opensFirst_1 0 rfl rfl)
theorem dX10_opensFirst_25 : decode cX10_opensFirst 25 = .ok (.putfield 109, 3) := dk_181 0 109 (dk_at dksX10_opensFirst_1 1 rfl rfl)
theorem dX10_opensFirst_28 : decode cX10_opensFirst 28 = .ok (.aload_n 0, 1) := dk_42 (dk_at dksX10_opensFirst_1 4 rfl rfl)
theorem dX10_opensFirst_29 : decode cX10_opensFirst 29 = .ok (.iconst 0, 1) := dk_3 (dk_at dksX10_opensFirst_1 5 rfl rfl)
theorem dX10_opensFirst_30 : decode cX10_opensFirst 30 = .ok (.iconst 0, 1) := dk_3 (dk_at dksX10_opensFirst_1 6 rfl rfl)
theorem dX10_opensFirst_31 : decode cX10_opensFirst 31 = .ok (.aload_n 0, 1) := dk_42 (dk_at dksX10_opensFirst_1 7 rfl rfl)
theorem dX10_opensFirst_32 : decode cX10_opensFirst 32 = .ok (.getfield 85, 3) := dk_180 0 85 (dk_at dksX10_opensFirst_1 8 rfl rfl)
theorem dX10_opensFirst_35 : decode cX10_opensFirst 35 = .ok (.bipush 8, 2) := dk_16 8 (dk_at dksX10_opensFirst_1 11 rfl rfl)
theorem dX10_opensFirst_37 : decode cX10_opensFirst 37 = .ok (.ishr, 1) := dk_122 (dk_at dksX10_opensFirst_1 13 rfl rfl)
theorem dX10_opensFirst_38 : decode cX10_opensFirst 38 = .ok (.sipush 255, 3) := dk_17 0 255 (dk_at dksX10_opensFirst_1 14 rfl rfl)
theorem dX10_opensFirst_41 : decode cX10_opensFirst 41 = .ok (.iand, 1) := dk_126 (dk_at dksX10_opensFirst_1 17 rfl rfl)
theorem dX10_opensFirst_42 : decode cX10_opensFirst 42 = .ok (.invokevirtual 112, 3) := dk_182 0 112 (dk_at dksX10_opensFirst_1 18 rfl rfl)
theorem dX10_opensFirst_45 : decode cX10_opensFirst 45 = .ok (.aload_n 0, 1) := dk_42 (dk_at dksX10_opensFirst_1 21 rfl rfl)
theorem dX10_opensFirst_46 : decode cX10_opensFirst 46 = .ok (.iconst 0, 1) := dk_3 (dk_at dksX10_opensFirst_1 22 rfl rfl)
theorem dX10_opensFirst_47 : decode cX10_opensFirst 47 = .ok (.iconst 1, 1) := dk_4 (dk_at dksX10_opensFirst_1 23 rfl rfl)
theorem dX10_opensFirst_48 : decode cX10_opensFirst 48 = .ok (.aload_n 0, 1) := dk_42 (dk_at dksX10_opensFirst_2 0 rfl rfl)
theorem dX10_opensFirst_49 : decode cX10_opensFirst 49 = .ok (.getfield 85, 3) := dk_180 0 85 (dk_at dksX10_opensFirst_2 1 rfl rfl)
theorem dX10_opensFirst_52 : decode cX10_opensFirst 52 = .ok (.sipush 255, 3) := dk_17 0 255 (dk_at dksX10_opensFirst_2 4 rfl rfl)
theorem dX10_opensFirst_55 : decode cX10_opensFirst 55 = .ok (.iand, 1) := dk_126 (dk_at dksX10_opensFirst_2 7 rfl rfl)
theorem dX10_opensFirst_56 : decode cX10_opensFirst 56 = .ok (.invokevirtual 112, 3) := dk_182 0 112 (dk_at dksX10_opensFirst_2 8 rfl rfl)
theorem dX10_opensFirst_59 : decode cX10_opensFirst 59 = .ok (.aload_n 0, 1) := dk_42 (dk_at dksX10_opensFirst_2 11 rfl rfl)
theorem dX10_opensFirst_60 : decode cX10_opensFirst 60 = .ok (.iconst 0, 1) := dk_3 (dk_at dksX10_opensFirst_2 12 rfl rfl)
theorem dX10_opensFirst_61 : decode cX10_opensFirst 61 = .ok (.iconst 2, 1) := dk_5 (dk_at dksX10_opensFirst_2 13 rfl rfl)
theorem dX10_opensFirst_62 : decode cX10_opensFirst 62 = .ok (.aload_n 0, 1) := dk_42 (dk_at dksX10_opensFirst_2 14 rfl rfl)
theorem dX10_opensFirst_63 : decode cX10_opensFirst 63 = .ok (.getfield 73, 3) := dk_180 0 73 (dk_at dksX10_opensFirst_2 15 rfl rfl)
theorem dX10_opensFirst_66 : decode cX10_opensFirst 66 = .ok (.bipush 8, 2) := dk_16 8 (dk_at dksX10_opensFirst_2 18 rfl rfl)
theorem dX10_opensFirst_68 : decode cX10_opensFirst 68 = .ok (.ishr, 1) := dk_122 (dk_at dksX10_opensFirst_2 20 rfl rfl)
theorem dX10_opensFirst_69 : decode cX10_opensFirst 69 = .ok (.sipush 255, 3) := dk_17 0 255 (dk_at dksX10_opensFirst_2 21 rfl rfl)
theorem dX10_opensFirst_72 : decode cX10_opensFirst 72 = .ok (.iand, 1) := dk_126 (dk_at dksX10_opensFirst_3 0 rfl rfl)
theorem dX10_opensFirst_73 : decode cX10_opensFirst 73 = .ok (.invokevirtual 112, 3) := dk_182 0 112 (dk_at dksX10_opensFirst_3 1 rfl rfl)
theorem dX10_opensFirst_76 : decode cX10_opensFirst 76 = .ok (.aload_n 0, 1) := dk_42 (dk_at dksX10_opensFirst_3 4 rfl rfl)
theorem dX10_opensFirst_77 : decode cX10_opensFirst 77 = .ok (.iconst 0, 1) := dk_3 (dk_at dksX10_opensFirst_3 5 rfl rfl)
theorem dX10_opensFirst_78 : decode cX10_opensFirst 78 = .ok (.iconst 3, 1) := dk_6 (dk_at dksX10_opensFirst_3 6 rfl rfl)
theorem dX10_opensFirst_79 : decode cX10_opensFirst 79 = .ok (.aload_n 0, 1) := dk_42 (dk_at dksX10_opensFirst_3 7 rfl rfl)
theorem dX10_opensFirst_80 : decode cX10_opensFirst 80 = .ok (.getfield 73, 3) := dk_180 0 73 (dk_at dksX10_opensFirst_3 8 rfl rfl)
theorem dX10_opensFirst_83 : decode cX10_opensFirst 83 = .ok (.sipush 255, 3) := dk_17 0 255 (dk_at dksX10_opensFirst_3 11 rfl rfl)
theorem dX10_opensFirst_86 : decode cX10_opensFirst 86 = .ok (.iand, 1) := dk_126 (dk_at dksX10_opensFirst_3 14 rfl rfl)
theorem dX10_opensFirst_87 : decode cX10_opensFirst 87 = .ok (.invokevirtual 112, 3) := dk_182 0 112 (dk_at dksX10_opensFirst_3 15 rfl rfl)
theorem dX10_opensFirst_90 : decode cX10_opensFirst 90 = .ok (.bipush 7, 2) := dk_16 7 (dk_at dksX10_opensFirst_3 18 rfl rfl)
theorem dX10_opensFirst_92 : decode cX10_opensFirst 92 = .ok (.istore_n 1, 1) := dk_60 (dk_at dksX10_opensFirst_3 20 rfl rfl)
theorem dX10_opensFirst_93 : decode cX10_opensFirst 93 = .ok (.iconst 0, 1) := dk_3 (dk_at dksX10_opensFirst_3 21 rfl rfl)
theorem dX10_opensFirst_94 : decode cX10_opensFirst 94 = .ok (.istore_n 2, 1) := dk_61 (dk_at dksX10_opensFirst_3 22 rfl rfl)
theorem dX10_opensFirst_95 : decode cX10_opensFirst 95 = .ok (.iload_n 2, 1) := dk_28 (dk_at dksX10_opensFirst_3 23 rfl rfl)
theorem dX10_opensFirst_96 : decode cX10_opensFirst 96 = .ok (.iconst 4, 1) := dk_7 (dk_at dksX10_opensFirst_4 0 rfl rfl)
theorem dX10_opensFirst_97 : decode cX10_opensFirst 97 = .ok (.if_icmp .ge 22, 3) := dk_162 0 22 (dk_at dksX10_opensFirst_4 1 rfl rfl)
theorem dX10_opensFirst_100 : decode cX10_opensFirst 100 = .ok (.iload_n 1, 1) := dk_27 (dk_at dksX10_opensFirst_4 4 rfl rfl)
theorem dX10_opensFirst_101 : decode cX10_opensFirst 101 = .ok (.aload_n 0, 1) := dk_42 (dk_at dksX10_opensFirst_4 5 rfl rfl)
theorem dX10_opensFirst_102 : decode cX10_opensFirst 102 = .ok (.getfield 17, 3) := dk_180 0 17 (dk_at dksX10_opensFirst_4 6 rfl rfl)
theorem dX10_opensFirst_105 : decode cX10_opensFirst 105 = .ok (.iconst 0, 1) := dk_3 (dk_at dksX10_opensFirst_4 9 rfl rfl)
theorem dX10_opensFirst_106 : decode cX10_opensFirst 106 = .ok (.aaload, 1) := dk_50 (dk_at dksX10_opensFirst_4 10 rfl rfl)
theorem dX10_opensFirst_107 : decode cX10_opensFirst 107 = .ok (.iload_n 2, 1) := dk_28 (dk_at dksX10_opensFirst_4 11 rfl rfl)
theorem dX10_opensFirst_108 : decode cX10_opensFirst 108 = .ok (.iaload, 1) := dk_46 (dk_at dksX10_opensFirst_4 12 rfl rfl)
theorem dX10_opensFirst_109 : decode cX10_opensFirst 109 = .ok (.invokestatic 116, 3) := dk_184 0 116 (dk_at dksX10_opensFirst_4 13 rfl rfl)
theorem dX10_opensFirst_112 : decode cX10_opensFirst 112 = .ok (.istore_n 1, 1) := dk_60 (dk_at dksX10_opensFirst_4 16 rfl rfl)
theorem dX10_opensFirst_113 : decode cX10_opensFirst 113 = .ok (.iinc 2 1, 3) := dk_132 2 1 (dk_at dksX10_opensFirst_4 17 rfl rfl)
theorem dX10_opensFirst_116 : decode cX10_opensFirst 116 = .ok (.goto (-21), 3) := dk_167 255 235 (dk_at dksX10_opensFirst_4 20 rfl rfl)
theorem dX10_opensFirst_119 : decode cX10_opensFirst 119 = .ok (.aload_n 0, 1) := dk_42 (dk_at dksX10_opensFirst_4 23 rfl rfl)
theorem dX10_opensFirst_120 : decode cX10_opensFirst 120 = .ok (.iconst 0, 1) := dk_3 (dk_at dksX10_opensFirst_5 0 rfl rfl)
theorem dX10_opensFirst_121 : decode cX10_opensFirst 121 = .ok (.iconst 4, 1) := dk_7 (dk_at dksX10_opensFirst_5 1 rfl rfl)
theorem dX10_opensFirst_122 : decode cX10_opensFirst 122 = .ok (.iload_n 1, 1) := dk_27 (dk_at dksX10_opensFirst_5 2 rfl rfl)
theorem dX10_opensFirst_123 : decode cX10_opensFirst 123 = .ok (.invokevirtual 112, 3) := dk_182 0 112 (dk_at dksX10_opensFirst_5 3 rfl rfl)
theorem dX10_opensFirst_126 : decode cX10_opensFirst 126 = .ok (.return_, 1) := dk_177 (dk_at dksX10_opensFirst_5 6 rfl rfl)
abbrev cX10_writes : ByteArray := prog_21_method_6_code
def yX10_writes : MethodName := ⟨RX10, "writes", "(III)V"⟩
def dkwX10_writes_1 : List UInt8 := [182, 0, 191, 182, 0, 195, 87, 177]
abbrev dktX10_writes_1 : List UInt8 := dkwX10_writes_1 ++ []
def dkwX10_writes_0 : List UInt8 := [42, 180, 0, 17, 27, 50, 28, 29, 79, 42, 180, 0, 62, 42, 180, 0, 3, 180, 0, 187, 27, 28]
abbrev dktX10_writes_0 : List UInt8 := dkwX10_writes_0 ++ dktX10_writes_1
theorem dksX10_writes_0 : cX10_writes.data.toList.drop 0 = dktX10_writes_0 := by decide +kernel
theorem dksX10_writes_1 : cX10_writes.data.toList.drop 22 = dktX10_writes_1 := dk_seg dksX10_writes_0 22 rfl rfl
theorem dX10_writes_0 : decode cX10_writes 0 = .ok (.aload_n 0, 1) := dk_42 (dk_at dksX10_writes_0 0 rfl rfl)
theorem dX10_writes_1 : decode cX10_writes 1 = .ok (.getfield 17, 3) := dk_180 0 17 (dk_at dksX10_writes_0 1 rfl rfl)
theorem dX10_writes_4 : decode cX10_writes 4 = .ok (.iload_n 1, 1) := dk_27 (dk_at dksX10_writes_0 4 rfl rfl)
theorem dX10_writes_5 : decode cX10_writes 5 = .ok (.aaload, 1) := dk_50 (dk_at dksX10_writes_0 5 rfl rfl)
theorem dX10_writes_6 : decode cX10_writes 6 = .ok (.iload_n 2, 1) := dk_28 (dk_at dksX10_writes_0 6 rfl rfl)
theorem dX10_writes_7 : decode cX10_writes 7 = .ok (.iload_n 3, 1) := dk_29 (dk_at dksX10_writes_0 7 rfl rfl)
theorem dX10_writes_8 : decode cX10_writes 8 = .ok (.iastore, 1) := dk_79 (dk_at dksX10_writes_0 8 rfl rfl)
theorem dX10_writes_9 : decode cX10_writes 9 = .ok (.aload_n 0, 1) := dk_42 (dk_at dksX10_writes_0 9 rfl rfl)
theorem dX10_writes_10 : decode cX10_writes 10 = .ok (.getfield 62, 3) := dk_180 0 62 (dk_at dksX10_writes_0 10 rfl rfl)
theorem dX10_writes_13 : decode cX10_writes 13 = .ok (.aload_n 0, 1) := dk_42 (dk_at dksX10_writes_0 13 rfl rfl)
theorem dX10_writes_14 : decode cX10_writes 14 = .ok (.getfield 3, 3) := dk_180 0 3 (dk_at dksX10_writes_0 14 rfl rfl)
theorem dX10_writes_17 : decode cX10_writes 17 = .ok (.getfield 187, 3) := dk_180 0 187 (dk_at dksX10_writes_0 17 rfl rfl)
theorem dX10_writes_20 : decode cX10_writes 20 = .ok (.iload_n 1, 1) := dk_27 (dk_at dksX10_writes_0 20 rfl rfl)
theorem dX10_writes_21 : decode cX10_writes 21 = .ok (.iload_n 2, 1) := dk_28 (dk_at dksX10_writes_0 21 rfl rfl)
theorem dX10_writes_22 : decode cX10_writes 22 = .ok (.invokevirtual 191, 3) := dk_182 0 191 (dk_at dksX10_writes_1 0 rfl rfl)
theorem dX10_writes_25 : decode cX10_writes 25 = .ok (.invokevirtual 195, 3) := dk_182 0 195 (dk_at dksX10_writes_1 3 rfl rfl)
theorem dX10_writes_28 : decode cX10_writes 28 = .ok (.pop, 1) := dk_87 (dk_at dksX10_writes_1 6 rfl rfl)
theorem dX10_writes_29 : decode cX10_writes 29 = .ok (.return_, 1) := dk_177 (dk_at dksX10_writes_1 7 rfl rfl)
abbrev cX10_appends : ByteArray := prog_21_method_10_code
def yX10_appends : MethodName := ⟨RX10, "appends", "(III)I"⟩
def dkwX10_appends_1 : List UInt8 := [185, 0, 130, 2, 0, 87, 42, 89, 180, 0, 73, 4, 96, 181, 0, 73, 42, 180, 0, 73, 4, 100, 172]
abbrev dktX10_appends_1 : List UInt8 := dkwX10_appends_1 ++ []
def dkwX10_appends_0 : List UInt8 := [42, 180, 0, 35, 187, 0, 128, 89, 42, 180, 0, 73, 27, 28, 29, 42, 180, 0, 69, 183, 0, 201]
abbrev dktX10_appends_0 : List UInt8 := dkwX10_appends_0 ++ dktX10_appends_1
theorem dksX10_appends_0 : cX10_appends.data.toList.drop 0 = dktX10_appends_0 := by decide +kernel
theorem dksX10_appends_1 : cX10_appends.data.toList.drop 22 = dktX10_appends_1 := dk_seg dksX10_appends_0 22 rfl rfl
theorem dX10_appends_0 : decode cX10_appends 0 = .ok (.aload_n 0, 1) := dk_42 (dk_at dksX10_appends_0 0 rfl rfl)
theorem dX10_appends_1 : decode cX10_appends 1 = .ok (.getfield 35, 3) := dk_180 0 35 (dk_at dksX10_appends_0 1 rfl rfl)
theorem dX10_appends_4 : decode cX10_appends 4 = .ok (.new 128, 3) := dk_187 0 128 (dk_at dksX10_appends_0 4 rfl rfl)
theorem dX10_appends_7 : decode cX10_appends 7 = .ok (.dup, 1) := dk_89 (dk_at dksX10_appends_0 7 rfl rfl)
theorem dX10_appends_8 : decode cX10_appends 8 = .ok (.aload_n 0, 1) := dk_42 (dk_at dksX10_appends_0 8 rfl rfl)
theorem dX10_appends_9 : decode cX10_appends 9 = .ok (.getfield 73, 3) := dk_180 0 73 (dk_at dksX10_appends_0 9 rfl rfl)
theorem dX10_appends_12 : decode cX10_appends 12 = .ok (.iload_n 1, 1) := dk_27 (dk_at dksX10_appends_0 12 rfl rfl)
theorem dX10_appends_13 : decode cX10_appends 13 = .ok (.iload_n 2, 1) := dk_28 (dk_at dksX10_appends_0 13 rfl rfl)
theorem dX10_appends_14 : decode cX10_appends 14 = .ok (.iload_n 3, 1) := dk_29 (dk_at dksX10_appends_0 14 rfl rfl)
theorem dX10_appends_15 : decode cX10_appends 15 = .ok (.aload_n 0, 1) := dk_42 (dk_at dksX10_appends_0 15 rfl rfl)
theorem dX10_appends_16 : decode cX10_appends 16 = .ok (.getfield 69, 3) := dk_180 0 69 (dk_at dksX10_appends_0 16 rfl rfl)
theorem dX10_appends_19 : decode cX10_appends 19 = .ok (.invokespecial 201, 3) := dk_183 0 201 (dk_at dksX10_appends_0 19 rfl rfl)
theorem dX10_appends_22 : decode cX10_appends 22 = .ok (.invokeinterface 130 2, 5) := by decide +kernel
theorem dX10_appends_27 : decode cX10_appends 27 = .ok (.pop, 1) := dk_87 (dk_at dksX10_appends_1 5 rfl rfl)
theorem dX10_appends_28 : decode cX10_appends 28 = .ok (.aload_n 0, 1) := dk_42 (dk_at dksX10_appends_1 6 rfl rfl)
theorem dX10_appends_29 : decode cX10_appends 29 = .ok (.dup, 1) := dk_89 (dk_at dksX10_appends_1 7 rfl rfl)
theorem dX10_appends_30 : decode cX10_appends 30 = .ok (.getfield 73, 3) := dk_180 0 73 (dk_at dksX10_appends_1 8 rfl rfl)
theorem dX10_appends_33 : decode cX10_appends 33 = .ok (.iconst 1, 1) := dk_4 (dk_at dksX10_appends_1 11 rfl rfl)
theorem dX10_appends_34 : decode cX10_appends 34 = .ok (.iadd, 1) := dk_96 (dk_at dksX10_appends_1 12 rfl rfl)
theorem dX10_appends_35 : decode cX10_appends 35 = .ok (.putfield 73, 3) := dk_181 0 73 (dk_at dksX10_appends_1 13 rfl rfl)
theorem dX10_appends_38 : decode cX10_appends 38 = .ok (.aload_n 0, 1) := dk_42 (dk_at dksX10_appends_1 16 rfl rfl)
theorem dX10_appends_39 : decode cX10_appends 39 = .ok (.getfield 73, 3) := dk_180 0 73 (dk_at dksX10_appends_1 17 rfl rfl)
theorem dX10_appends_42 : decode cX10_appends 42 = .ok (.iconst 1, 1) := dk_4 (dk_at dksX10_appends_1 20 rfl rfl)
theorem dX10_appends_43 : decode cX10_appends 43 = .ok (.isub, 1) := dk_100 (dk_at dksX10_appends_1 21 rfl rfl)
theorem dX10_appends_44 : decode cX10_appends 44 = .ok (.ireturn, 1) := dk_172 (dk_at dksX10_appends_1 22 rfl rfl)
abbrev cX10_isFree : ByteArray := prog_21_method_8_code
def yX10_isFree : MethodName := ⟨RX10, "isFree", "(I)Z"⟩
def dkwX10_isFree_2 : List UInt8 := [172, 132, 2, 1, 167, 255, 229, 4, 172]
abbrev dktX10_isFree_2 : List UInt8 := dkwX10_isFree_2 ++ []
def dkwX10_isFree_1 : List UInt8 := [61, 28, 42, 180, 0, 91, 162, 0, 25, 42, 180, 0, 24, 28, 46, 17, 0, 128, 108, 27, 160, 0, 5, 3]
abbrev dktX10_isFree_1 : List UInt8 := dkwX10_isFree_1 ++ dktX10_isFree_2
def dkwX10_isFree_0 : List UInt8 := [27, 42, 180, 0, 106, 159, 0, 16, 42, 180, 0, 20, 27, 46, 42, 180, 0, 82, 161, 0, 5, 3, 172, 3]
abbrev dktX10_isFree_0 : List UInt8 := dkwX10_isFree_0 ++ dktX10_isFree_1
theorem dksX10_isFree_0 : cX10_isFree.data.toList.drop 0 = dktX10_isFree_0 := by decide +kernel
theorem dksX10_isFree_1 : cX10_isFree.data.toList.drop 24 = dktX10_isFree_1 := dk_seg dksX10_isFree_0 24 rfl rfl
theorem dksX10_isFree_2 : cX10_isFree.data.toList.drop 48 = dktX10_isFree_2 := dk_seg dksX10_isFree_1 24 rfl rfl
theorem dX10_isFree_0 : decode cX10_isFree 0 = .ok (.iload_n 1, 1) := dk_27 (dk_at dksX10_isFree_0 0 rfl rfl)
theorem dX10_isFree_1 : decode cX10_isFree 1 = .ok (.aload_n 0, 1) := dk_42 (dk_at dksX10_isFree_0 1 rfl rfl)
theorem dX10_isFree_2 : decode cX10_isFree 2 = .ok (.getfield 106, 3) := dk_180 0 106 (dk_at dksX10_isFree_0 2 rfl rfl)
theorem dX10_isFree_5 : decode cX10_isFree 5 = .ok (.if_icmp .eq 16, 3) := dk_159 0 16 (dk_at dksX10_isFree_0 5 rfl rfl)
theorem dX10_isFree_8 : decode cX10_isFree 8 = .ok (.aload_n 0, 1) := dk_42 (dk_at dksX10_isFree_0 8 rfl rfl)
theorem dX10_isFree_9 : decode cX10_isFree 9 = .ok (.getfield 20, 3) := dk_180 0 20 (dk_at dksX10_isFree_0 9 rfl rfl)
theorem dX10_isFree_12 : decode cX10_isFree 12 = .ok (.iload_n 1, 1) := dk_27 (dk_at dksX10_isFree_0 12 rfl rfl)
theorem dX10_isFree_13 : decode cX10_isFree 13 = .ok (.iaload, 1) := dk_46 (dk_at dksX10_isFree_0 13 rfl rfl)
theorem dX10_isFree_14 : decode cX10_isFree 14 = .ok (.aload_n 0, 1) := dk_42 (dk_at dksX10_isFree_0 14 rfl rfl)
theorem dX10_isFree_15 : decode cX10_isFree 15 = .ok (.getfield 82, 3) := dk_180 0 82 (dk_at dksX10_isFree_0 15 rfl rfl)
theorem dX10_isFree_18 : decode cX10_isFree 18 = .ok (.if_icmp .lt 5, 3) := dk_161 0 5 (dk_at dksX10_isFree_0 18 rfl rfl)
theorem dX10_isFree_21 : decode cX10_isFree 21 = .ok (.iconst 0, 1) := dk_3 (dk_at dksX10_isFree_0 21 rfl rfl)
theorem dX10_isFree_22 : decode cX10_isFree 22 = .ok (.ireturn, 1) := dk_172 (dk_at dksX10_isFree_0 22 rfl rfl)
theorem dX10_isFree_23 : decode cX10_isFree 23 = .ok (.iconst 0, 1) := dk_3 (dk_at dksX10_isFree_0 23 rfl rfl)
theorem dX10_isFree_24 : decode cX10_isFree 24 = .ok (.istore_n 2, 1) := dk_61 (dk_at dksX10_isFree_1 0 rfl rfl)
theorem dX10_isFree_25 : decode cX10_isFree 25 = .ok (.iload_n 2, 1) := dk_28 (dk_at dksX10_isFree_1 1 rfl rfl)
theorem dX10_isFree_26 : decode cX10_isFree 26 = .ok (.aload_n 0, 1) := dk_42 (dk_at dksX10_isFree_1 2 rfl rfl)
theorem dX10_isFree_27 : decode cX10_isFree 27 = .ok (.getfield 91, 3) := dk_180 0 91 (dk_at dksX10_isFree_1 3 rfl rfl)
theorem dX10_isFree_30 : decode cX10_isFree 30 = .ok (.if_icmp .ge 25, 3) := dk_162 0 25 (dk_at dksX10_isFree_1 6 rfl rfl)
theorem dX10_isFree_33 : decode cX10_isFree 33 = .ok (.aload_n 0, 1) := dk_42 (dk_at dksX10_isFree_1 9 rfl rfl)
theorem dX10_isFree_34 : decode cX10_isFree 34 = .ok (.getfield 24, 3) := dk_180 0 24 (dk_at dksX10_isFree_1 10 rfl rfl)
theorem dX10_isFree_37 : decode cX10_isFree 37 = .ok (.iload_n 2, 1) := dk_28 (dk_at dksX10_isFree_1 13 rfl rfl)
theorem dX10_isFree_38 : decode cX10_isFree 38 = .ok (.iaload, 1) := dk_46 (dk_at dksX10_isFree_1 14 rfl rfl)
theorem dX10_isFree_39 : decode cX10_isFree 39 = .ok (.sipush 128, 3) := dk_17 0 128 (dk_at dksX10_isFree_1 15 rfl rfl)
theorem dX10_isFree_42 : decode cX10_isFree 42 = .ok (.idiv, 1) := dk_108 (dk_at dksX10_isFree_1 18 rfl rfl)
theorem dX10_isFree_43 : decode cX10_isFree 43 = .ok (.iload_n 1, 1) := dk_27 (dk_at dksX10_isFree_1 19 rfl rfl)
theorem dX10_isFree_44 : decode cX10_isFree 44 = .ok (.if_icmp .ne 5, 3) := dk_160 0 5 (dk_at dksX10_isFree_1 20 rfl rfl)
theorem dX10_isFree_47 : decode cX10_isFree 47 = .ok (.iconst 0, 1) := dk_3 (dk_at dksX10_isFree_1 23 rfl rfl)
theorem dX10_isFree_48 : decode cX10_isFree 48 = .ok (.ireturn, 1) := dk_172 (dk_at dksX10_isFree_2 0 rfl rfl)
theorem dX10_isFree_49 : decode cX10_isFree 49 = .ok (.iinc 2 1, 3) := dk_132 2 1 (dk_at dksX10_isFree_2 1 rfl rfl)
theorem dX10_isFree_52 : decode cX10_isFree 52 = .ok (.goto (-27), 3) := dk_167 255 229 (dk_at dksX10_isFree_2 4 rfl rfl)
theorem dX10_isFree_55 : decode cX10_isFree 55 = .ok (.iconst 1, 1) := dk_4 (dk_at dksX10_isFree_2 7 rfl rfl)
theorem dX10_isFree_56 : decode cX10_isFree 56 = .ok (.ireturn, 1) := dk_172 (dk_at dksX10_isFree_2 8 rfl rfl)
abbrev cX10_goesOnFrom : ByteArray := prog_21_method_4_code
def yX10_goesOnFrom : MethodName := ⟨RX10, "goesOnFrom", "(LGroupJournal$State;)LGroupJournal$State;"⟩
def dkwX10_goesOnFrom_14 : List UInt8 := [192, 0, 161, 45, 185, 0, 163, 1, 0, 192, 0, 161, 182, 0, 166, 87, 167, 255, 211, 42, 176]
abbrev dktX10_goesOnFrom_14 : List UInt8 := dkwX10_goesOnFrom_14 ++ []
def dkwX10_goesOnFrom_13 : List UInt8 := [153, 0, 42, 44, 185, 0, 153, 1, 0, 192, 0, 156, 78, 42, 180, 0, 55, 45, 185, 0, 158, 1, 0]
abbrev dktX10_goesOnFrom_13 : List UInt8 := dkwX10_goesOnFrom_13 ++ dktX10_goesOnFrom_14
def dkwX10_goesOnFrom_12 : List UInt8 := [154, 0, 64, 43, 180, 0, 55, 182, 0, 138, 185, 0, 142, 1, 0, 77, 44, 185, 0, 148, 1, 0]
abbrev dktX10_goesOnFrom_12 : List UInt8 := dkwX10_goesOnFrom_12 ++ dktX10_goesOnFrom_13
def dkwX10_goesOnFrom_11 : List UInt8 := [192, 0, 128, 185, 0, 130, 2, 0, 87, 132, 2, 1, 167, 255, 217, 43, 180, 0, 55, 182, 0, 134]
abbrev dktX10_goesOnFrom_11 : List UInt8 := dkwX10_goesOnFrom_11 ++ dktX10_goesOnFrom_12
def dkwX10_goesOnFrom_10 : List UInt8 := [185, 0, 120, 1, 0, 162, 0, 32, 42, 180, 0, 39, 43, 180, 0, 39, 28, 185, 0, 124, 2, 0]
abbrev dktX10_goesOnFrom_10 : List UInt8 := dkwX10_goesOnFrom_10 ++ dktX10_goesOnFrom_11
def dkwX10_goesOnFrom_9 : List UInt8 := [192, 0, 128, 185, 0, 130, 2, 0, 87, 132, 2, 1, 167, 255, 217, 3, 61, 28, 43, 180, 0, 39]
abbrev dktX10_goesOnFrom_9 : List UInt8 := dkwX10_goesOnFrom_9 ++ dktX10_goesOnFrom_10
def dkwX10_goesOnFrom_8 : List UInt8 := [185, 0, 120, 1, 0, 162, 0, 32, 42, 180, 0, 35, 43, 180, 0, 35, 28, 185, 0, 124, 2, 0]
abbrev dktX10_goesOnFrom_8 : List UInt8 := dkwX10_goesOnFrom_8 ++ dktX10_goesOnFrom_9
def dkwX10_goesOnFrom_7 : List UInt8 := [180, 0, 39, 185, 0, 98, 1, 0, 42, 180, 0, 55, 182, 0, 104, 3, 61, 28, 43, 180, 0, 35]
abbrev dktX10_goesOnFrom_7 : List UInt8 := dkwX10_goesOnFrom_7 ++ dktX10_goesOnFrom_8
def dkwX10_goesOnFrom_6 : List UInt8 := [180, 0, 20, 28, 46, 79, 132, 2, 1, 167, 255, 236, 42, 180, 0, 35, 185, 0, 98, 1, 0, 42]
abbrev dktX10_goesOnFrom_6 : List UInt8 := dkwX10_goesOnFrom_6 ++ dktX10_goesOnFrom_7
def dkwX10_goesOnFrom_5 : List UInt8 := [28, 46, 79, 132, 2, 1, 167, 255, 221, 3, 61, 28, 7, 162, 0, 21, 42, 180, 0, 20, 28, 43]
abbrev dktX10_goesOnFrom_5 : List UInt8 := dkwX10_goesOnFrom_5 ++ dktX10_goesOnFrom_6
def dkwX10_goesOnFrom_4 : List UInt8 := [162, 0, 33, 42, 180, 0, 24, 28, 43, 180, 0, 24, 28, 46, 79, 42, 180, 0, 27, 28, 43, 180, 0, 27]
abbrev dktX10_goesOnFrom_4 : List UInt8 := dkwX10_goesOnFrom_4 ++ dktX10_goesOnFrom_5
def dkwX10_goesOnFrom_3 : List UInt8 := [42, 43, 180, 0, 94, 181, 0, 94, 42, 43, 180, 0, 91, 181, 0, 91, 3, 61, 28, 42, 180, 0, 91]
abbrev dktX10_goesOnFrom_3 : List UInt8 := dkwX10_goesOnFrom_3 ++ dktX10_goesOnFrom_4
def dkwX10_goesOnFrom_2 : List UInt8 := [42, 43, 180, 0, 109, 181, 0, 109, 42, 43, 180, 0, 85, 181, 0, 85, 42, 43, 180, 0, 88, 181, 0, 88]
abbrev dktX10_goesOnFrom_2 : List UInt8 := dkwX10_goesOnFrom_2 ++ dktX10_goesOnFrom_3
def dkwX10_goesOnFrom_1 : List UInt8 := [42, 43, 180, 0, 79, 181, 0, 79, 42, 43, 180, 0, 82, 181, 0, 82, 42, 43, 180, 0, 106, 181, 0, 106]
abbrev dktX10_goesOnFrom_1 : List UInt8 := dkwX10_goesOnFrom_1 ++ dktX10_goesOnFrom_2
def dkwX10_goesOnFrom_0 : List UInt8 := [42, 43, 180, 0, 69, 181, 0, 69, 42, 43, 180, 0, 73, 181, 0, 73, 42, 43, 180, 0, 76, 181, 0, 76]
abbrev dktX10_goesOnFrom_0 : List UInt8 := dkwX10_goesOnFrom_0 ++ dktX10_goesOnFrom_1
theorem dksX10_goesOnFrom_0 : cX10_goesOnFrom.data.toList.drop 0 = dktX10_goesOnFrom_0 := by decide +kernel
theorem dksX10_goesOnFrom_1 : cX10_goesOnFrom.data.toList.drop 24 = dktX10_goesOnFrom_1 := dk_seg dksX10_goesOnFrom_0 24 rfl rfl
theorem dksX10_goesOnFrom_2 : cX10_goesOnFrom.data.toList.drop 48 = dktX10_goesOnFrom_2 := dk_seg dksX10_goesOnFrom_1 24 rfl rfl
theorem dksX10_goesOnFrom_3 : cX10_goesOnFrom.data.toList.drop 72 = dktX10_goesOnFrom_3 := dk_seg dksX10_goesOnFrom_2 24 rfl rfl
theorem dksX10_goesOnFrom_4 : cX10_goesOnFrom.data.toList.drop 95 = dktX10_goesOnFrom_4 := dk_seg dksX10_goesOnFrom_3 23 rfl rfl
theorem dksX10_goesOnFrom_5 : cX10_goesOnFrom.data.toList.drop 119 = dktX10_goesOnFrom_5 := dk_seg dksX10_goesOnFrom_4 24 rfl rfl
theorem dksX10_goesOnFrom_6 : cX10_goesOnFrom.data.toList.drop 141 = dktX10_goesOnFrom_6 := dk_seg dksX10_goesOnFrom_5 22 rfl rfl
theorem dksX10_goesOnFrom_7 : cX10_goesOnFrom.data.toList.drop 163 = dktX10_goesOnFrom_7 := dk_seg dksX10_goesOnFrom_6 22 rfl rfl
theorem dksX10_goesOnFrom_8 : cX10_goesOnFrom.data.toList.drop 185 = dktX10_goesOnFrom_8 := dk_seg dksX10_goesOnFrom_7 22 rfl rfl
theorem dksX10_goesOnFrom_9 : cX10_goesOnFrom.data.toList.drop 207 = dktX10_goesOnFrom_9 := dk_seg dksX10_goesOnFrom_8 22 rfl rfl
theorem dksX10_goesOnFrom_10 : cX10_goesOnFrom.data.toList.drop 229 = dktX10_goesOnFrom_10 := dk_seg dksX10_goesOnFrom_9 22 rfl rfl
theorem dksX10_goesOnFrom_11 : cX10_goesOnFrom.data.toList.drop 251 = dktX10_goesOnFrom_11 := dk_seg dksX10_goesOnFrom_10 22 rfl rfl
theorem dksX10_goesOnFrom_12 : cX10_goesOnFrom.data.toList.drop 273 = dktX10_goesOnFrom_12 := dk_seg dksX10_goesOnFrom_11 22 rfl rfl
theorem dksX10_goesOnFrom_13 : cX10_goesOnFrom.data.toList.drop 295 = dktX10_goesOnFrom_13 := dk_seg dksX10_goesOnFrom_12 22 rfl rfl
theorem dksX10_goesOnFrom_14 : cX10_goesOnFrom.data.toList.drop 318 = dktX10_goesOnFrom_14 := dk_seg dksX10_goesOnFrom_13 23 rfl rfl
theorem dX10_goesOnFrom_0 : decode cX10_goesOnFrom 0 = .ok (.aload_n 0, 1) := dk_42 (dk_at dksX10_goesOnFrom_0 0 rfl rfl)
theorem dX10_goesOnFrom_1 : decode cX10_goesOnFrom 1 = .ok (.aload_n 1, 1) := dk_43 (dk_at dksX10_goesOnFrom_0 1 rfl rfl)
theorem dX10_goesOnFrom_2 : decode cX10_goesOnFrom 2 = .ok (.getfield 69, 3) := dk_180 0 69 (dk_at dksX10_goesOnFrom_0 2 rfl rfl)
theorem dX10_goesOnFrom_5 : decode cX10_goesOnFrom 5 = .ok (.putfield 69, 3) := dk_181 0 69 (dk_at dksX10_goesOnFrom_0 5 rfl rfl)
theorem dX10_goesOnFrom_8 : decode cX10_goesOnFrom 8 = .ok (.aload_n 0, 1) := dk_42 (dk_at dksX10_goesOnFrom_0 8 rfl rfl)
theorem dX10_goesOnFrom_9 : decode cX10_goesOnFrom 9 = .ok (.aload_n 1, 1) := dk_43 (dk_at dksX10_goesOnFrom_0 9 rfl rfl)
theorem dX10_goesOnFrom_10 : decode cX10_goesOnFrom 10 = .ok (.getfield 73, 3) := dk_180 0 73 (dk_at dksX10_goesOnFrom_0 10 rfl rfl)
theorem dX10_goesOnFrom_13 : decode cX10_goesOnFrom 13 = .ok (.putfield 73, 3) := dk_181 0 73 (dk_at dksX10_goesOnFrom_0 13 rfl rfl)
theorem dX10_goesOnFrom_16 : decode cX10_goesOnFrom 16 = .ok (.aload_n 0, 1) := dk_42 (dk_at dksX10_goesOnFrom_0 16 rfl rfl)
theorem dX10_goesOnFrom_17 : decode cX10_goesOnFrom 17 = .ok (.aload_n 1, 1) := dk_43 (dk_at dksX10_goesOnFrom_0 17 rfl rfl)
theorem dX10_goesOnFrom_18 : decode cX10_goesOnFrom 18 = .ok (.getfield 76, 3) := dk_180 0 76 (dk_at dksX10_goesOnFrom_0 18 rfl rfl)
theorem dX10_goesOnFrom_21 : decode cX10_goesOnFrom 21 = .ok (.putfield 76, 3) := dk_181 0 76 (dk_at dksX10_goesOnFrom_0 21 rfl rfl)
theorem dX10_goesOnFrom_24 : decode cX10_goesOnFrom 24 = .ok (.aload_n 0, 1) := dk_42 (dk_at dksX10_goesOnFrom_1 0 rfl rfl)
theorem dX10_goesOnFrom_25 : decode cX10_goesOnFrom 25 = .ok (.aload_n 1, 1) := dk_43 (dk_at dksX10_goesOnFrom_1 1 rfl rfl)
theorem dX10_goesOnFrom_26 : decode cX10_goesOnFrom 26 = .ok (.getfield 79, 3) := dk_180 0 79 (dk_at dksX10_goesOnFrom_1 2 rfl rfl)
theorem dX10_goesOnFrom_29 : decode cX10_goesOnFrom 29 = .ok (.putfield 79, 3) := dk_181 0 79 (dk_at dksX10_goesOnFrom_1 5 rfl rfl)
theorem dX10_goesOnFrom_32 : decode cX10_goesOnFrom 32 = .ok (.aload_n 0, 1) := dk_42 (dk_at dksX10_goesOnFrom_1 8 rfl rfl)
theorem dX10_goesOnFrom_33 : decode cX10_goesOnFrom 33 = .ok (.aload_n 1, 1) := dk_43 (dk_at dksX10_goesOnFrom_1 9 rfl rfl)
theorem dX10_goesOnFrom_34 : decode cX10_goesOnFrom 34 = .ok (.getfield 82, 3) := dk_180 0 82 (dk_at dksX10_goesOnFrom_1 10 rfl rfl)
theorem dX10_goesOnFrom_37 : decode cX10_goesOnFrom 37 = .ok (.putfield 82, 3) := dk_181 0 82 (dk_at dksX10_goesOnFrom_1 13 rfl rfl)
theorem dX10_goesOnFrom_40 : decode cX10_goesOnFrom 40 = .ok (.aload_n 0, 1) := dk_42 (dk_at dksX10_goesOnFrom_1 16 rfl rfl)
theorem dX10_goesOnFrom_41 : decode cX10_goesOnFrom 41 = .ok (.aload_n 1, 1) := dk_43 (dk_at dksX10_goesOnFrom_1 17 rfl rfl)
theorem dX10_goesOnFrom_42 : decode cX10_goesOnFrom 42 = .ok (.getfield 106, 3) := dk_180 0 106 (dk_at dksX10_goesOnFrom_1 18 rfl rfl)
theorem dX10_goesOnFrom_45 : decode cX10_goesOnFrom 45 = .ok (.putfield 106, 3) := dk_181 0 106 (dk_at dksX10_goesOnFrom_1 21 rfl rfl)
theorem dX10_goesOnFrom_48 : decode cX10_goesOnFrom 48 = .ok (.aload_n 0, 1) := dk_42 (dk_at dksX10_goesOnFrom_2 0 rfl rfl)
theorem dX10_goesOnFrom_49 : decode cX10_goesOnFrom 49 = .ok (.aload_n 1, 1) := dk_43 (dk_at dksX10_goesOnFrom_2 1 rfl rfl)
theorem dX10_goesOnFrom_50 : decode cX10_goesOnFrom 50 = .ok (.getfield 109, 3) := dk_180 0 109 (dk_at dksX10_goesOnFrom_2 2 rfl rfl)
theorem dX10_goesOnFrom_53 : decode cX10_goesOnFrom 53 = .ok (.putfield 109, 3) := dk_181 0 109 (dk_at dksX10_goesOnFrom_2 5 rfl rfl)
theorem dX10_goesOnFrom_56 : decode cX10_goesOnFrom 56 = .ok (.aload_n 0, 1) := dk_42 (dk_at dksX10_goesOnFrom_2 8 rfl rfl)
theorem dX10_goesOnFrom_57 : decode cX10_goesOnFrom 57 = .ok (.aload_n 1, 1) := dk_43 (dk_at dksX10_goesOnFrom_2 9 rfl rfl)
theorem dX10_goesOnFrom_58 : decode cX10_goesOnFrom 58 = .ok (.getfield 85, 3) := dk_180 0 85 (dk_at dksX10_goesOnFrom_2 10 rfl rfl)
theorem dX10_goesOnFrom_61 : decode cX10_goesOnFrom 61 = .ok (.putfield 85, 3) := dk_181 0 85 (dk_at dksX10_goesOnFrom_2 13 rfl rfl)
theorem dX10_goesOnFrom_64 : decode cX10_goesOnFrom 64 = .ok (.aload_n 0, 1) := dk_42 (dk_at dksX10_goesOnFrom_2 16 rfl rfl)
theorem dX10_goesOnFrom_65 : decode cX10_goesOnFrom 65 = .ok (.aload_n 1, 1) := dk_43 (dk_at dksX10_goesOnFrom_2 17 rfl rfl)
theorem dX10_goesOnFrom_66 : decode cX10_goesOnFrom 66 = .ok (.getfield 88, 3) := dk_180 0 88 (dk_at dksX10_goesOnFrom_2 18 rfl rfl)
theorem dX10_goesOnFrom_69 : decode cX10_goesOnFrom 69 = .ok (.putfield 88, 3) := dk_181 0 88 (dk_at dksX10_goesOnFrom_2 21 rfl rfl)
theorem dX10_goesOnFrom_72 : decode cX10_goesOnFrom 72 = .ok (.aload_n 0, 1) := dk_42 (dk_at dksX10_goesOnFrom_3 0 rfl rfl)
theorem dX10_goesOnFrom_73 : decode cX10_goesOnFrom 73 = .ok (.aload_n 1, 1) := dk_43 (dk_at dksX10_goesOnFrom_3 1 rfl rfl)
theorem dX10_goesOnFrom_74 : decode cX10_goesOnFrom 74 = .ok (.getfield 94, 3) := dk_180 0 94 (dk_at dksX10_goesOnFrom_3 2 rfl rfl)
theorem dX10_goesOnFrom_77 : decode cX10_goesOnFrom 77 = .ok (.putfield 94, 3) := dk_181 0 94 (dk_at dksX10_goesOnFrom_3 5 rfl rfl)
theorem dX10_goesOnFrom_80 : decode cX10_goesOnFrom 80 = .ok (.aload_n 0, 1) := dk_42 (dk_at dksX10_goesOnFrom_3 8 rfl rfl)
theorem dX10_goesOnFrom_81 : decode cX10_goesOnFrom 81 = .ok (.aload_n 1, 1) := dk_43 (dk_at dksX10_goesOnFrom_3 9 rfl rfl)
theorem dX10_goesOnFrom_82 : decode cX10_goesOnFrom 82 = .ok (.getfield 91, 3) := dk_180 0 91 (dk_at dksX10_goesOnFrom_3 10 rfl rfl)
theorem dX10_goesOnFrom_85 : decode cX10_goesOnFrom 85 = .ok (.putfield 91, 3) := dk_181 0 91 (dk_at dksX10_goesOnFrom_3 13 rfl rfl)
theorem dX10_goesOnFrom_88 : decode cX10_goesOnFrom 88 = .ok (.iconst 0, 1) := dk_3 (dk_at dksX10_goesOnFrom_3 16 rfl rfl)
theorem dX10_goesOnFrom_89 : decode cX10_goesOnFrom 89 = .ok (.istore_n 2, 1) := dk_61 (dk_at dksX10_goesOnFrom_3 17 rfl rfl)
theorem dX10_goesOnFrom_90 : decode cX10_goesOnFrom 90 = .ok (.iload_n 2, 1) := dk_28 (dk_at dksX10_goesOnFrom_3 18 rfl rfl)
theorem dX10_goesOnFrom_91 : decode cX10_goesOnFrom 91 = .ok (.aload_n 0, 1) := dk_42 (dk_at dksX10_goesOnFrom_3 19 rfl rfl)
theorem dX10_goesOnFrom_92 : decode cX10_goesOnFrom 92 = .ok (.getfield 91, 3) := dk_180 0 91 (dk_at dksX10_goesOnFrom_3 20 rfl rfl)
theorem dX10_goesOnFrom_95 : decode cX10_goesOnFrom 95 = .ok (.if_icmp .ge 33, 3) := dk_162 0 33 (dk_at dksX10_goesOnFrom_4 0 rfl rfl)
theorem dX10_goesOnFrom_98 : decode cX10_goesOnFrom 98 = .ok (.aload_n 0, 1) := dk_42 (dk_at dksX10_goesOnFrom_4 3 rfl rfl)
theorem dX10_goesOnFrom_99 : decode cX10_goesOnFrom 99 = .ok (.getfield 24, 3) := dk_180 0 24 (dk_at dksX10_goesOnFrom_4 4 rfl rfl)
theorem dX10_goesOnFrom_102 : decode cX10_goesOnFrom 102 = .ok (.iload_n 2, 1) := dk_28 (dk_at dksX10_goesOnFrom_4 7 rfl rfl)
theorem dX10_goesOnFrom_103 : decode cX10_goesOnFrom 103 = .ok (.aload_n 1, 1) := dk_43 (dk_at dksX10_goesOnFrom_4 8 rfl rfl)
theorem dX10_goesOnFrom_104 : decode cX10_goesOnFrom 104 = .ok (.getfield 24, 3) := dk_180 0 24 (dk_at dksX10_goesOnFrom_4 9 rfl rfl)
theorem dX10_goesOnFrom_107 : decode cX10_goesOnFrom 107 = .ok (.iload_n 2, 1) := dk_28 (dk_at dksX10_goesOnFrom_4 12 rfl rfl)
theorem dX10_goesOnFrom_108 : decode cX10_goesOnFrom 108 = .ok (.iaload, 1) := dk_46 (dk_at dksX10_goesOnFrom_4 13 rfl rfl)
theorem dX10_goesOnFrom_109 : decode cX10_goesOnFrom 109 = .ok (.iastore, 1) := dk_79 (dk_at dksX10_goesOnFrom_4 14 rfl rfl)
theorem dX10_goesOnFrom_110 : decode cX10_goesOnFrom 110 = .ok (.aload_n 0, 1) := dk_42 (dk_at dksX10_goesOnFrom_4 15 rfl rfl)
theorem dX10_goesOnFrom_111 : decode cX10_goesOnFrom 111 = .ok (.getfield 27, 3) := dk_180 0 27 (dk_at dksX10_goesOnFrom_4 16 rfl rfl)
theorem dX10_goesOnFrom_114 : decode cX10_goesOnFrom 114 = .ok (.iload_n 2, 1) := dk_28 (dk_at dksX10_goesOnFrom_4 19 rfl rfl)
theorem dX10_goesOnFrom_115 : decode cX10_goesOnFrom 115 = .ok (.aload_n 1, 1) := dk_43 (dk_at dksX10_goesOnFrom_4 20 rfl rfl)
theorem dX10_goesOnFrom_116 : decode cX10_goesOnFrom 116 = .ok (.getfield 27, 3) := dk_180 0 27 (dk_at dksX10_goesOnFrom_4 21 rfl rfl)
theorem dX10_goesOnFrom_119 : decode cX10_goesOnFrom 119 = .ok (.iload_n 2, 1) := dk_28 (dk_at dksX10_goesOnFrom_5 0 rfl rfl)
theorem dX10_goesOnFrom_120 : decode cX10_goesOnFrom 120 = .ok (.iaload, 1) := dk_46 (dk_at dksX10_goesOnFrom_5 1 rfl rfl)
theorem dX10_goesOnFrom_121 : decode cX10_goesOnFrom 121 = .ok (.iastore, 1) := dk_79 (dk_at dksX10_goesOnFrom_5 2 rfl rfl)
theorem dX10_goesOnFrom_122 : decode cX10_goesOnFrom 122 = .ok (.iinc 2 1, 3) := dk_132 2 1 (dk_at dksX10_goesOnFrom_5 3 rfl rfl)
theorem dX10_goesOnFrom_125 : decode cX10_goesOnFrom 125 = .ok (.goto (-35), 3) := dk_167 255 221 (dk_at dksX10_goesOnFrom_5 6 rfl rfl)
theorem dX10_goesOnFrom_128 : decode cX10_goesOnFrom 128 = .ok (.iconst 0, 1) := dk_3 (dk_at dksX10_goesOnFrom_5 9 rfl rfl)
theorem dX10_goesOnFrom_129 : decode cX10_goesOnFrom 129 = .ok (.istore_n 2, 1) := dk_61 (dk_at dksX10_goesOnFrom_5 10 rfl rfl)
theorem dX10_goesOnFrom_130 : decode cX10_goesOnFrom 130 = .ok (.iload_n 2, 1) := dk_28 (dk_at dksX10_goesOnFrom_5 11 rfl rfl)
theorem dX10_goesOnFrom_131 : decode cX10_goesOnFrom 131 = .ok (.iconst 4, 1) := dk_7 (dk_at dksX10_goesOnFrom_5 12 rfl rfl)
theorem dX10_goesOnFrom_132 : decode cX10_goesOnFrom 132 = .ok (.if_icmp .ge 21, 3) := dk_162 0 21 (dk_at dksX10_goesOnFrom_5 13 rfl rfl)
theorem dX10_goesOnFrom_135 : decode cX10_goesOnFrom 135 = .ok (.aload_n 0, 1) := dk_42 (dk_at dksX10_goesOnFrom_5 16 rfl rfl)
theorem dX10_goesOnFrom_136 : decode cX10_goesOnFrom 136 = .ok (.getfield 20, 3) := dk_180 0 20 (dk_at dksX10_goesOnFrom_5 17 rfl rfl)
theorem dX10_goesOnFrom_139 : decode cX10_goesOnFrom 139 = .ok (.iload_n 2, 1) := dk_28 (dk_at dksX10_goesOnFrom_5 20 rfl rfl)
theorem dX10_goesOnFrom_140 : decode cX10_goesOnFrom 140 = .ok (.aload_n 1, 1) := dk_43 (dk_at dksX10_goesOnFrom_5 21 rfl rfl)
theorem dX10_goesOnFrom_141 : decode cX10_goesOnFrom 141 = .ok (.getfield 20, 3) := dk_180 0 20 (dk_at dksX10_goesOnFrom_6 0 rfl rfl)
theorem dX10_goesOnFrom_144 : decode cX10_goesOnFrom 144 = .ok (.iload_n 2, 1) := dk_28 (dk_at dksX10_goesOnFrom_6 3 rfl rfl)
theorem dX10_goesOnFrom_145 : decode cX10_goesOnFrom 145 = .ok (.iaload, 1) := dk_46 (dk_at dksX10_goesOnFrom_6 4 rfl rfl)
theorem dX10_goesOnFrom_146 : decode cX10_goesOnFrom 146 = .ok (.iastore, 1) := dk_79 (dk_at dksX10_goesOnFrom_6 5 rfl rfl)
theorem dX10_goesOnFrom_147 : decode cX10_goesOnFrom 147 = .ok (.iinc 2 1, 3) := dk_132 2 1 (dk_at dksX10_goesOnFrom_6 6 rfl rfl)
theorem dX10_goesOnFrom_150 : decode cX10_goesOnFrom 150 = .ok (.goto (-20), 3) := dk_167 255 236 (dk_at dksX10_goesOnFrom_6 9 rfl rfl)
theorem dX10_goesOnFrom_153 : decode cX10_goesOnFrom 153 = .ok (.aload_n 0, 1) := dk_42 (dk_at dksX10_goesOnFrom_6 12 rfl rfl)
theorem dX10_goesOnFrom_154 : decode cX10_goesOnFrom 154 = .ok (.getfield 35, 3) := dk_180 0 35 (dk_at dksX10_goesOnFrom_6 13 rfl rfl)
theorem dX10_goesOnFrom_157 : decode cX10_goesOnFrom 157 = .ok (.invokeinterface 98 1, 5) := by decide +kernel
theorem dX10_goesOnFrom_162 : decode cX10_goesOnFrom 162 = .ok (.aload_n 0, 1) := dk_42 (dk_at dksX10_goesOnFrom_6 21 rfl rfl)
theorem dX10_goesOnFrom_163 : decode cX10_goesOnFrom 163 = .ok (.getfield 39, 3) := dk_180 0 39 (dk_at dksX10_goesOnFrom_7 0 rfl rfl)
theorem dX10_goesOnFrom_166 : decode cX10_goesOnFrom 166 = .ok (.invokeinterface 98 1, 5) := by decide +kernel
theorem dX10_goesOnFrom_171 : decode cX10_goesOnFrom 171 = .ok (.aload_n 0, 1) := dk_42 (dk_at dksX10_goesOnFrom_7 8 rfl rfl)
theorem dX10_goesOnFrom_172 : decode cX10_goesOnFrom 172 = .ok (.getfield 55, 3) := dk_180 0 55 (dk_at dksX10_goesOnFrom_7 9 rfl rfl)
theorem dX10_goesOnFrom_175 : decode cX10_goesOnFrom 175 = .ok (.invokevirtual 104, 3) := dk_182 0 104 (dk_at dksX10_goesOnFrom_7 12 rfl rfl)
theorem dX10_goesOnFrom_178 : decode cX10_goesOnFrom 178 = .ok (.iconst 0, 1) := dk_3 (dk_at dksX10_goesOnFrom_7 15 rfl rfl)
theorem dX10_goesOnFrom_179 : decode cX10_goesOnFrom 179 = .ok (.istore_n 2, 1) := dk_61 (dk_at dksX10_goesOnFrom_7 16 rfl rfl)
theorem dX10_goesOnFrom_180 : decode cX10_goesOnFrom 180 = .ok (.iload_n 2, 1) := dk_28 (dk_at dksX10_goesOnFrom_7 17 rfl rfl)
theorem dX10_goesOnFrom_181 : decode cX10_goesOnFrom 181 = .ok (.aload_n 1, 1) := dk_43 (dk_at dksX10_goesOnFrom_7 18 rfl rfl)
theorem dX10_goesOnFrom_182 : decode cX10_goesOnFrom 182 = .ok (.getfield 35, 3) := dk_180 0 35 (dk_at dksX10_goesOnFrom_7 19 rfl rfl)
theorem dX10_goesOnFrom_185 : decode cX10_goesOnFrom 185 = .ok (.invokeinterface 120 1, 5) := by decide +kernel
theorem dX10_goesOnFrom_190 : decode cX10_goesOnFrom 190 = .ok (.if_icmp .ge 32, 3) := dk_162 0 32 (dk_at dksX10_goesOnFrom_8 5 rfl rfl)
theorem dX10_goesOnFrom_193 : decode cX10_goesOnFrom 193 = .ok (.aload_n 0, 1) := dk_42 (dk_at dksX10_goesOnFrom_8 8 rfl rfl)
theorem dX10_goesOnFrom_194 : decode cX10_goesOnFrom 194 = .ok (.getfield 35, 3) := dk_180 0 35 (dk_at dksX10_goesOnFrom_8 9 rfl rfl)
theorem dX10_goesOnFrom_197 : decode cX10_goesOnFrom 197 = .ok (.aload_n 1, 1) := dk_43 (dk_at dksX10_goesOnFrom_8 12 rfl rfl)
theorem dX10_goesOnFrom_198 : decode cX10_goesOnFrom 198 = .ok (.getfield 35, 3) := dk_180 0 35 (dk_at dksX10_goesOnFrom_8 13 rfl rfl)
theorem dX10_goesOnFrom_201 : decode cX10_goesOnFrom 201 = .ok (.iload_n 2, 1) := dk_28 (dk_at dksX10_goesOnFrom_8 16 rfl rfl)
theorem dX10_goesOnFrom_202 : decode cX10_goesOnFrom 202 = .ok (.invokeinterface 124 2, 5) := by decide +kernel
theorem dX10_goesOnFrom_207 : decode cX10_goesOnFrom 207 = .ok (.checkcast 128, 3) := dk_192 0 128 (dk_at dksX10_goesOnFrom_9 0 rfl rfl)
theorem dX10_goesOnFrom_210 : decode cX10_goesOnFrom 210 = .ok (.invokeinterface 130 2, 5) := by decide +kernel
theorem dX10_goesOnFrom_215 : decode cX10_goesOnFrom 215 = .ok (.pop, 1) := dk_87 (dk_at dksX10_goesOnFrom_9 8 rfl rfl)
theorem dX10_goesOnFrom_216 : decode cX10_goesOnFrom 216 = .ok (.iinc 2 1, 3) := dk_132 2 1 (dk_at dksX10_goesOnFrom_9 9 rfl rfl)
theorem dX10_goesOnFrom_219 : decode cX10_goesOnFrom 219 = .ok (.goto (-39), 3) := dk_167 255 217 (dk_at dksX10_goesOnFrom_9 12 rfl rfl)
theorem dX10_goesOnFrom_222 : decode cX10_goesOnFrom 222 = .ok (.iconst 0, 1) := dk_3 (dk_at dksX10_goesOnFrom_9 15 rfl rfl)
theorem dX10_goesOnFrom_223 : decode cX10_goesOnFrom 223 = .ok (.istore_n 2, 1) := dk_61 (dk_at dksX10_goesOnFrom_9 16 rfl rfl)
theorem dX10_goesOnFrom_224 : decode cX10_goesOnFrom 224 = .ok (.iload_n 2, 1) := dk_28 (dk_at dksX10_goesOnFrom_9 17 rfl rfl)
theorem dX10_goesOnFrom_225 : decode cX10_goesOnFrom 225 = .ok (.aload_n 1, 1) := dk_43 (dk_at dksX10_goesOnFrom_9 18 rfl rfl)
theorem dX10_goesOnFrom_226 : decode cX10_goesOnFrom 226 = .ok (.getfield 39, 3) := dk_180 0 39 (dk_at dksX10_goesOnFrom_9 19 rfl rfl)
theorem dX10_goesOnFrom_229 : decode cX10_goesOnFrom 229 = .ok (.invokeinterface 120 1, 5) := by decide +kernel
theorem dX10_goesOnFrom_234 : decode cX10_goesOnFrom 234 = .ok (.if_icmp .ge 32, 3) := dk_162 0 32 (dk_at dksX10_goesOnFrom_10 5 rfl rfl)
theorem dX10_goesOnFrom_237 : decode cX10_goesOnFrom 237 = .ok (.aload_n 0, 1) := dk_42 (dk_at dksX10_goesOnFrom_10 8 rfl rfl)
theorem dX10_goesOnFrom_238 : decode cX10_goesOnFrom 238 = .ok (.getfield 39, 3) := dk_180 0 39 (dk_at dksX10_goesOnFrom_10 9 rfl rfl)
theorem dX10_goesOnFrom_241 : decode cX10_goesOnFrom 241 = .ok (.aload_n 1, 1) := dk_43 (dk_at dksX10_goesOnFrom_10 12 rfl rfl)
theorem dX10_goesOnFrom_242 : decode cX10_goesOnFrom 242 = .ok (.getfield 39, 3) := dk_180 0 39 (dk_at dksX10_goesOnFrom_10 13 rfl rfl)
theorem dX10_goesOnFrom_245 : decode cX10_goesOnFrom 245 = .ok (.iload_n 2, 1) := dk_28 (dk_at dksX10_goesOnFrom_10 16 rfl rfl)
theorem dX10_goesOnFrom_246 : decode cX10_goesOnFrom 246 = .ok (.invokeinterface 124 2, 5) := by decide +kernel
theorem dX10_goesOnFrom_251 : decode cX10_goesOnFrom 251 = .ok (.checkcast 128, 3) := dk_192 0 128 (dk_at dksX10_goesOnFrom_11 0 rfl rfl)
theorem dX10_goesOnFrom_254 : decode cX10_goesOnFrom 254 = .ok (.invokeinterface 130 2, 5) := by decide +kernel
theorem dX10_goesOnFrom_259 : decode cX10_goesOnFrom 259 = .ok (.pop, 1) := dk_87 (dk_at dksX10_goesOnFrom_11 8 rfl rfl)
theorem dX10_goesOnFrom_260 : decode cX10_goesOnFrom 260 = .ok (.iinc 2 1, 3) := dk_132 2 1 (dk_at dksX10_goesOnFrom_11 9 rfl rfl)
theorem dX10_goesOnFrom_263 : decode cX10_goesOnFrom 263 = .ok (.goto (-39), 3) := dk_167 255 217 (dk_at dksX10_goesOnFrom_11 12 rfl rfl)
theorem dX10_goesOnFrom_266 : decode cX10_goesOnFrom 266 = .ok (.aload_n 1, 1) := dk_43 (dk_at dksX10_goesOnFrom_11 15 rfl rfl)
theorem dX10_goesOnFrom_267 : decode cX10_goesOnFrom 267 = .ok (.getfield 55, 3) := dk_180 0 55 (dk_at dksX10_goesOnFrom_11 16 rfl rfl)
theorem dX10_goesOnFrom_270 : decode cX10_goesOnFrom 270 = .ok (.invokevirtual 134, 3) := dk_182 0 134 (dk_at dksX10_goesOnFrom_11 19 rfl rfl)
theorem dX10_goesOnFrom_273 : decode cX10_goesOnFrom 273 = .ok (.ifCond .ne 64, 3) := dk_154 0 64 (dk_at dksX10_goesOnFrom_12 0 rfl rfl)
theorem dX10_goesOnFrom_276 : decode cX10_goesOnFrom 276 = .ok (.aload_n 1, 1) := dk_43 (dk_at dksX10_goesOnFrom_12 3 rfl rfl)
theorem dX10_goesOnFrom_277 : decode cX10_goesOnFrom 277 = .ok (.getfield 55, 3) := dk_180 0 55 (dk_at dksX10_goesOnFrom_12 4 rfl rfl)
theorem dX10_goesOnFrom_280 : decode cX10_goesOnFrom 280 = .ok (.invokevirtual 138, 3) := dk_182 0 138 (dk_at dksX10_goesOnFrom_12 7 rfl rfl)
theorem dX10_goesOnFrom_283 : decode cX10_goesOnFrom 283 = .ok (.invokeinterface 142 1, 5) := by decide +kernel
theorem dX10_goesOnFrom_288 : decode cX10_goesOnFrom 288 = .ok (.astore_n 2, 1) := dk_77 (dk_at dksX10_goesOnFrom_12 15 rfl rfl)
theorem dX10_goesOnFrom_289 : decode cX10_goesOnFrom 289 = .ok (.aload_n 2, 1) := dk_44 (dk_at dksX10_goesOnFrom_12 16 rfl rfl)
theorem dX10_goesOnFrom_290 : decode cX10_goesOnFrom 290 = .ok (.invokeinterface 148 1, 5) := by decide +kernel
theorem dX10_goesOnFrom_295 : decode cX10_goesOnFrom 295 = .ok (.ifCond .eq 42, 3) := dk_153 0 42 (dk_at dksX10_goesOnFrom_13 0 rfl rfl)
theorem dX10_goesOnFrom_298 : decode cX10_goesOnFrom 298 = .ok (.aload_n 2, 1) := dk_44 (dk_at dksX10_goesOnFrom_13 3 rfl rfl)
theorem dX10_goesOnFrom_299 : decode cX10_goesOnFrom 299 = .ok (.invokeinterface 153 1, 5) := by decide +kernel
theorem dX10_goesOnFrom_304 : decode cX10_goesOnFrom 304 = .ok (.checkcast 156, 3) := dk_192 0 156 (dk_at dksX10_goesOnFrom_13 9 rfl rfl)
theorem dX10_goesOnFrom_307 : decode cX10_goesOnFrom 307 = .ok (.astore_n 3, 1) := dk_78 (dk_at dksX10_goesOnFrom_13 12 rfl rfl)
theorem dX10_goesOnFrom_308 : decode cX10_goesOnFrom 308 = .ok (.aload_n 0, 1) := dk_42 (dk_at dksX10_goesOnFrom_13 13 rfl rfl)
theorem dX10_goesOnFrom_309 : decode cX10_goesOnFrom 309 = .ok (.getfield 55, 3) := dk_180 0 55 (dk_at dksX10_goesOnFrom_13 14 rfl rfl)
theorem dX10_goesOnFrom_312 : decode cX10_goesOnFrom 312 = .ok (.aload_n 3, 1) := dk_45 (dk_at dksX10_goesOnFrom_13 17 rfl rfl)
theorem dX10_goesOnFrom_313 : decode cX10_goesOnFrom 313 = .ok (.invokeinterface 158 1, 5) := by decide +kernel
theorem dX10_goesOnFrom_318 : decode cX10_goesOnFrom 318 = .ok (.checkcast 161, 3) := dk_192 0 161 (dk_at dksX10_goesOnFrom_14 0 rfl rfl)
theorem dX10_goesOnFrom_321 : decode cX10_goesOnFrom 321 = .ok (.aload_n 3, 1) := dk_45 (dk_at dksX10_goesOnFrom_14 3 rfl rfl)
theorem dX10_goesOnFrom_322 : decode cX10_goesOnFrom 322 = .ok (.invokeinterface 163 1, 5) := by decide +kernel
theorem dX10_goesOnFrom_327 : decode cX10_goesOnFrom 327 = .ok (.checkcast 161, 3) := dk_192 0 161 (dk_at dksX10_goesOnFrom_14 9 rfl rfl)
theorem dX10_goesOnFrom_330 : decode cX10_goesOnFrom 330 = .ok (.invokevirtual 166, 3) := dk_182 0 166 (dk_at dksX10_goesOnFrom_14 12 rfl rfl)
theorem dX10_goesOnFrom_333 : decode cX10_goesOnFrom 333 = .ok (.pop, 1) := dk_87 (dk_at dksX10_goesOnFrom_14 15 rfl rfl)
theorem dX10_goesOnFrom_334 : decode cX10_goesOnFrom 334 = .ok (.goto (-45), 3) := dk_167 255 211 (dk_at dksX10_goesOnFrom_14 16 rfl rfl)
theorem dX10_goesOnFrom_337 : decode cX10_goesOnFrom 337 = .ok (.aload_n 0, 1) := dk_42 (dk_at dksX10_goesOnFrom_14 19 rfl rfl)
theorem dX10_goesOnFrom_338 : decode cX10_goesOnFrom 338 = .ok (.areturn, 1) := dk_176 (dk_at dksX10_goesOnFrom_14 20 rfl rfl)
abbrev cX10_goes : ByteArray := prog_21_method_16_code
def yX10_goes : MethodName := ⟨RX10, "goes", "(I)I"⟩
def dkwX10_goes_4 : List UInt8 := [185, 0, 120, 1, 0, 184, 0, 255, 182, 1, 68, 42, 89, 180, 0, 69, 4, 96, 181, 0, 69, 28, 172]
abbrev dktX10_goes_4 : List UInt8 := dkwX10_goes_4 ++ []
def dkwX10_goes_3 : List UInt8 := [27, 2, 160, 0, 15, 42, 180, 0, 35, 185, 0, 120, 1, 0, 167, 0, 16, 27, 42, 180, 0, 35]
abbrev dktX10_goes_3 : List UInt8 := dkwX10_goes_3 ++ dktX10_goes_4
def dkwX10_goes_2 : List UInt8 := [180, 0, 35, 185, 1, 64, 1, 0, 154, 0, 49, 27, 2, 160, 0, 10, 42, 182, 1, 65, 153, 0, 37, 42]
abbrev dktX10_goes_2 : List UInt8 := dkwX10_goes_2 ++ dktX10_goes_3
def dkwX10_goes_1 : List UInt8 := [154, 0, 8, 42, 182, 1, 61, 61, 42, 180, 0, 79, 154, 0, 68, 42, 180, 0, 94, 154, 0, 61, 42]
abbrev dktX10_goes_1 : List UInt8 := dkwX10_goes_1 ++ dktX10_goes_2
def dkwX10_goes_0 : List UInt8 := [3, 61, 42, 180, 0, 79, 158, 0, 25, 42, 89, 180, 0, 79, 4, 100, 181, 0, 79, 42, 180, 0, 79]
abbrev dktX10_goes_0 : List UInt8 := dkwX10_goes_0 ++ dktX10_goes_1
theorem dksX10_goes_0 : cX10_goes.data.toList.drop 0 = dktX10_goes_0 := by decide +kernel
theorem dksX10_goes_1 : cX10_goes.data.toList.drop 23 = dktX10_goes_1 := dk_seg dksX10_goes_0 23 rfl rfl
theorem dksX10_goes_2 : cX10_goes.data.toList.drop 46 = dktX10_goes_2 := dk_seg dksX10_goes_1 23 rfl rfl
theorem dksX10_goes_3 : cX10_goes.data.toList.drop 70 = dktX10_goes_3 := dk_seg dksX10_goes_2 24 rfl rfl
theorem dksX10_goes_4 : cX10_goes.data.toList.drop 92 = dktX10_goes_4 := dk_seg dksX10_goes_3 22 rfl rfl
theorem dX10_goes_0 : decode cX10_goes 0 = .ok (.iconst 0, 1) := dk_3 (dk_at dksX10_goes_0 0 rfl rfl)
theorem dX10_goes_1 : decode cX10_goes 1 = .ok (.istore_n 2, 1) := dk_61 (dk_at dksX10_goes_0 1 rfl rfl)
theorem dX10_goes_2 : decode cX10_goes 2 = .ok (.aload_n 0, 1) := dk_42 (dk_at dksX10_goes_0 2 rfl rfl)
theorem dX10_goes_3 : decode cX10_goes 3 = .ok (.getfield 79, 3) := dk_180 0 79 (dk_at dksX10_goes_0 3 rfl rfl)
theorem dX10_goes_6 : decode cX10_goes 6 = .ok (.ifCond .le 25, 3) := dk_158 0 25 (dk_at dksX10_goes_0 6 rfl rfl)
theorem dX10_goes_9 : decode cX10_goes 9 = .ok (.aload_n 0, 1) := dk_42 (dk_at dksX10_goes_0 9 rfl rfl)
theorem dX10_goes_10 : decode cX10_goes 10 = .ok (.dup, 1) := dk_89 (dk_at dksX10_goes_0 10 rfl rfl)
theorem dX10_goes_11 : decode cX10_goes 11 = .ok (.getfield 79, 3) := dk_180 0 79 (dk_at dksX10_goes_0 11 rfl rfl)
theorem dX10_goes_14 : decode cX10_goes 14 = .ok (.iconst 1, 1) := dk_4 (dk_at dksX10_goes_0 14 rfl rfl)
theorem dX10_goes_15 : decode cX10_goes 15 = .ok (.isub, 1) := dk_100 (dk_at dksX10_goes_0 15 rfl rfl)
theorem dX10_goes_16 : decode cX10_goes 16 = .ok (.putfield 79, 3) := dk_181 0 79 (dk_at dksX10_goes_0 16 rfl rfl)
theorem dX10_goes_19 : decode cX10_goes 19 = .ok (.aload_n 0, 1) := dk_42 (dk_at dksX10_goes_0 19 rfl rfl)
theorem dX10_goes_20 : decode cX10_goes 20 = .ok (.getfield 79, 3) := dk_180 0 79 (dk_at dksX10_goes_0 20 rfl rfl)
theorem dX10_goes_23 : decode cX10_goes 23 = .ok (.ifCond .ne 8, 3) := dk_154 0 8 (dk_at dksX10_goes_1 0 rfl rfl)
theorem dX10_goes_26 : decode cX10_goes 26 = .ok (.aload_n 0, 1) := dk_42 (dk_at dksX10_goes_1 3 rfl rfl)
theorem dX10_goes_27 : decode cX10_goes 27 = .ok (.invokevirtual 317, 3) := dk_182 1 61 (dk_at dksX10_goes_1 4 rfl rfl)
theorem dX10_goes_30 : decode cX10_goes 30 = .ok (.istore_n 2, 1) := dk_61 (dk_at dksX10_goes_1 7 rfl rfl)
theorem dX10_goes_31 : decode cX10_goes 31 = .ok (.aload_n 0, 1) := dk_42 (dk_at dksX10_goes_1 8 rfl rfl)
theorem dX10_goes_32 : decode cX10_goes 32 = .ok (.getfield 79, 3) := dk_180 0 79 (dk_at dksX10_goes_1 9 rfl rfl)
theorem dX10_goes_35 : decode cX10_goes 35 = .ok (.ifCond .ne 68, 3) := dk_154 0 68 (dk_at dksX10_goes_1 12 rfl rfl)
theorem dX10_goes_38 : decode cX10_goes 38 = .ok (.aload_n 0, 1) := dk_42 (dk_at dksX10_goes_1 15 rfl rfl)
theorem dX10_goes_39 : decode cX10_goes 39 = .ok (.getfield 94, 3) := dk_180 0 94 (dk_at dksX10_goes_1 16 rfl rfl)
theorem dX10_goes_42 : decode cX10_goes 42 = .ok (.ifCond .ne 61, 3) := dk_154 0 61 (dk_at dksX10_goes_1 19 rfl rfl)
theorem dX10_goes_45 : decode cX10_goes 45 = .ok (.aload_n 0, 1) := dk_42 (dk_at dksX10_goes_1 22 rfl rfl)
theorem dX10_goes_46 : decode cX10_goes 46 = .ok (.getfield 35, 3) := dk_180 0 35 (dk_at dksX10_goes_2 0 rfl rfl)
theorem dX10_goes_49 : decode cX10_goes 49 = .ok (.invokeinterface 320 1, 5) := by decide +kernel
theorem dX10_goes_54 : decode cX10_goes 54 = .ok (.ifCond .ne 49, 3) := dk_154 0 49 (dk_at dksX10_goes_2 8 rfl rfl)
theorem dX10_goes_57 : decode cX10_goes 57 = .ok (.iload_n 1, 1) := dk_27 (dk_at dksX10_goes_2 11 rfl rfl)
theorem dX10_goes_58 : decode cX10_goes 58 = .ok (.iconst (-1), 1) := dk_2 (dk_at dksX10_goes_2 12 rfl rfl)
theorem dX10_goes_59 : decode cX10_goes 59 = .ok (.if_icmp .ne 10, 3) := dk_160 0 10 (dk_at dksX10_goes_2 13 rfl rfl)
theorem dX10_goes_62 : decode cX10_goes 62 = .ok (.aload_n 0, 1) := dk_42 (dk_at dksX10_goes_2 16 rfl rfl)
theorem dX10_goes_63 : decode cX10_goes 63 = .ok (.invokevirtual 321, 3) := dk_182 1 65 (dk_at dksX10_goes_2 17 rfl rfl)
theorem dX10_goes_66 : decode cX10_goes 66 = .ok (.ifCond .eq 37, 3) := dk_153 0 37 (dk_at dksX10_goes_2 20 rfl rfl)
theorem dX10_goes_69 : decode cX10_goes 69 = .ok (.aload_n 0, 1) := dk_42 (dk_at dksX10_goes_2 23 rfl rfl)
theorem dX10_goes_70 : decode cX10_goes 70 = .ok (.iload_n 1, 1) := dk_27 (dk_at dksX10_goes_3 0 rfl rfl)
theorem dX10_goes_71 : decode cX10_goes 71 = .ok (.iconst (-1), 1) := dk_2 (dk_at dksX10_goes_3 1 rfl rfl)
theorem dX10_goes_72 : decode cX10_goes 72 = .ok (.if_icmp .ne 15, 3) := dk_160 0 15 (dk_at dksX10_goes_3 2 rfl rfl)
theorem dX10_goes_75 : decode cX10_goes 75 = .ok (.aload_n 0, 1) := dk_42 (dk_at dksX10_goes_3 5 rfl rfl)
theorem dX10_goes_76 : decode cX10_goes 76 = .ok (.getfield 35, 3) := dk_180 0 35 (dk_at dksX10_goes_3 6 rfl rfl)
theorem dX10_goes_79 : decode cX10_goes 79 = .ok (.invokeinterface 120 1, 5) := by decide +kernel
theorem dX10_goes_84 : decode cX10_goes 84 = .ok (.goto 16, 3) := dk_167 0 16 (dk_at dksX10_goes_3 14 rfl rfl)
theorem dX10_goes_87 : decode cX10_goes 87 = .ok (.iload_n 1, 1) := dk_27 (dk_at dksX10_goes_3 17 rfl rfl)
theorem dX10_goes_88 : decode cX10_goes 88 = .ok (.aload_n 0, 1) := dk_42 (dk_at dksX10_goes_3 18 rfl rfl)
theorem dX10_goes_89 : decode cX10_goes 89 = .ok (.getfield 35, 3) := dk_180 0 35 (dk_at dksX10_goes_3 19 rfl rfl)
theorem dX10_goes_92 : decode cX10_goes 92 = .ok (.invokeinterface 120 1, 5) := by decide +kernel
theorem dX10_goes_97 : decode cX10_goes 97 = .ok (.invokestatic 255, 3) := dk_184 0 255 (dk_at dksX10_goes_4 5 rfl rfl)
theorem dX10_goes_100 : decode cX10_goes 100 = .ok (.invokevirtual 324, 3) := dk_182 1 68 (dk_at dksX10_goes_4 8 rfl rfl)
theorem dX10_goes_103 : decode cX10_goes 103 = .ok (.aload_n 0, 1) := dk_42 (dk_at dksX10_goes_4 11 rfl rfl)
theorem dX10_goes_104 : decode cX10_goes 104 = .ok (.dup, 1) := dk_89 (dk_at dksX10_goes_4 12 rfl rfl)
theorem dX10_goes_105 : decode cX10_goes 105 = .ok (.getfield 69, 3) := dk_180 0 69 (dk_at dksX10_goes_4 13 rfl rfl)
theorem dX10_goes_108 : decode cX10_goes 108 = .ok (.iconst 1, 1) := dk_4 (dk_at dksX10_goes_4 16 rfl rfl)
theorem dX10_goes_109 : decode cX10_goes 109 = .ok (.iadd, 1) := dk_96 (dk_at dksX10_goes_4 17 rfl rfl)
theorem dX10_goes_110 : decode cX10_goes 110 = .ok (.putfield 69, 3) := dk_181 0 69 (dk_at dksX10_goes_4 18 rfl rfl)
theorem dX10_goes_113 : decode cX10_goes 113 = .ok (.iload_n 2, 1) := dk_28 (dk_at dksX10_goes_4 21 rfl rfl)
theorem dX10_goes_114 : decode cX10_goes 114 = .ok (.ireturn, 1) := dk_172 (dk_at dksX10_goes_4 22 rfl rfl)
abbrev cX10_arrives : ByteArray := prog_21_method_15_code
def yX10_arrives : MethodName := ⟨RX10, "arrives", "()I"⟩
def dkwX10_arrives_4 : List UInt8 := [180, 0, 39, 185, 0, 98, 1, 0, 27, 172]
abbrev dktX10_arrives_4 : List UInt8 := dkwX10_arrives_4 ++ []
def dkwX10_arrives_3 : List UInt8 := [4, 96, 181, 0, 76, 27, 42, 45, 180, 1, 54, 182, 1, 57, 96, 60, 132, 2, 1, 167, 255, 181, 42]
abbrev dktX10_arrives_3 : List UInt8 := dkwX10_arrives_3 ++ dktX10_arrives_4
def dkwX10_arrives_2 : List UInt8 := [180, 0, 3, 180, 1, 42, 45, 180, 1, 46, 50, 45, 180, 1, 49, 182, 1, 53, 87, 42, 45, 180, 1, 54]
abbrev dktX10_arrives_2 : List UInt8 := dkwX10_arrives_2 ++ dktX10_arrives_3
def dkwX10_arrives_1 : List UInt8 := [162, 0, 68, 42, 180, 0, 39, 28, 185, 0, 124, 2, 0, 192, 0, 128, 78, 42, 180, 0, 45, 42]
abbrev dktX10_arrives_1 : List UInt8 := dkwX10_arrives_1 ++ dktX10_arrives_2
def dkwX10_arrives_0 : List UInt8 := [42, 42, 180, 0, 91, 182, 1, 39, 3, 60, 3, 61, 28, 42, 180, 0, 39, 185, 0, 120, 1, 0]
abbrev dktX10_arrives_0 : List UInt8 := dkwX10_arrives_0 ++ dktX10_arrives_1
theorem dksX10_arrives_0 : cX10_arrives.data.toList.drop 0 = dktX10_arrives_0 := by decide +kernel
theorem dksX10_arrives_1 : cX10_arrives.data.toList.drop 22 = dktX10_arrives_1 := dk_seg dksX10_arrives_0 22 rfl rfl
theorem dksX10_arrives_2 : cX10_arrives.data.toList.drop 44 = dktX10_arrives_2 := dk_seg dksX10_arrives_1 22 rfl rfl
theorem dksX10_arrives_3 : cX10_arrives.data.toList.drop 68 = dktX10_arrives_3 := dk_seg dksX10_arrives_2 24 rfl rfl
theorem dksX10_arrives_4 : cX10_arrives.data.toList.drop 91 = dktX10_arrives_4 := dk_seg dksX10_arrives_3 23 rfl rfl
theorem dX10_arrives_0 : decode cX10_arrives 0 = .ok (.aload_n 0, 1) := dk_42 (dk_at dksX10_arrives_0 0 rfl rfl)
theorem dX10_arrives_1 : decode cX10_arrives 1 = .ok (.aload_n 0, 1) := dk_42 (dk_at dksX10_arrives_0 1 rfl rfl)
theorem dX10_arrives_2 : decode cX10_arrives 2 = .ok (.getfield 91, 3) := dk_180 0 91 (dk_at dksX10_arrives_0 2 rfl rfl)
theorem dX10_arrives_5 : decode cX10_arrives 5 = .ok (.invokevirtual 295, 3) := dk_182 1 39 (dk_at dksX10_arrives_0 5 rfl rfl)
theorem dX10_arrives_8 : decode cX10_arrives 8 = .ok (.iconst 0, 1) := dk_3 (dk_at dksX10_arrives_0 8 rfl rfl)
theorem dX10_arrives_9 : decode cX10_arrives 9 = .ok (.istore_n 1, 1) := dk_60 (dk_at dksX10_arrives_0 9 rfl rfl)
theorem dX10_arrives_10 : decode cX10_arrives 10 = .ok (.iconst 0, 1) := dk_3 (dk_at dksX10_arrives_0 10 rfl rfl)
theorem dX10_arrives_11 : decode cX10_arrives 11 = .ok (.istore_n 2, 1) := dk_61 (dk_at dksX10_arrives_0 11 rfl rfl)
theorem dX10_arrives_12 : decode cX10_arrives 12 = .ok (.iload_n 2, 1) := dk_28 (dk_at dksX10_arrives_0 12 rfl rfl)
theorem dX10_arrives_13 : decode cX10_arrives 13 = .ok (.aload_n 0, 1) := dk_42 (dk_at dksX10_arrives_0 13 rfl rfl)
theorem dX10_arrives_14 : decode cX10_arrives 14 = .ok (.getfield 39, 3) := dk_180 0 39 (dk_at dksX10_arrives_0 14 rfl rfl)
theorem dX10_arrives_17 : decode cX10_arrives 17 = .ok (.invokeinterface 120 1, 5) := by decide +kernel
theorem dX10_arrives_22 : decode cX10_arrives 22 = .ok (.if_icmp .ge 68, 3) := dk_162 0 68 (dk_at dksX10_arrives_1 0 rfl rfl)
theorem dX10_arrives_25 : decode cX10_arrives 25 = .ok (.aload_n 0, 1) := dk_42 (dk_at dksX10_arrives_1 3 rfl rfl)
theorem dX10_arrives_26 : decode cX10_arrives 26 = .ok (.getfield 39, 3) := dk_180 0 39 (dk_at dksX10_arrives_1 4 rfl rfl)
theorem dX10_arrives_29 : decode cX10_arrives 29 = .ok (.iload_n 2, 1) := dk_28 (dk_at dksX10_arrives_1 7 rfl rfl)
theorem dX10_arrives_30 : decode cX10_arrives 30 = .ok (.invokeinterface 124 2, 5) := by decide +kernel
theorem dX10_arrives_35 : decode cX10_arrives 35 = .ok (.checkcast 128, 3) := dk_192 0 128 (dk_at dksX10_arrives_1 13 rfl rfl)
theorem dX10_arrives_38 : decode cX10_arrives 38 = .ok (.astore_n 3, 1) := dk_78 (dk_at dksX10_arrives_1 16 rfl rfl)
theorem dX10_arrives_39 : decode cX10_arrives 39 = .ok (.aload_n 0, 1) := dk_42 (dk_at dksX10_arrives_1 17 rfl rfl)
theorem dX10_arrives_40 : decode cX10_arrives 40 = .ok (.getfield 45, 3) := dk_180 0 45 (dk_at dksX10_arrives_1 18 rfl rfl)
theorem dX10_arrives_43 : decode cX10_arrives 43 = .ok (.aload_n 0, 1) := dk_42 (dk_at dksX10_arrives_1 21 rfl rfl)
theorem dX10_arrives_44 : decode cX10_arrives 44 = .ok (.getfield 3, 3) := dk_180 0 3 (dk_at dksX10_arrives_2 0 rfl rfl)
theorem dX10_arrives_47 : decode cX10_arrives 47 = .ok (.getfield 298, 3) := dk_180 1 42 (dk_at dksX10_arrives_2 3 rfl rfl)
theorem dX10_arrives_50 : decode cX10_arrives 50 = .ok (.aload_n 3, 1) := dk_45 (dk_at dksX10_arrives_2 6 rfl rfl)
theorem dX10_arrives_51 : decode cX10_arrives 51 = .ok (.getfield 302, 3) := dk_180 1 46 (dk_at dksX10_arrives_2 7 rfl rfl)
theorem dX10_arrives_54 : decode cX10_arrives 54 = .ok (.aaload, 1) := dk_50 (dk_at dksX10_arrives_2 10 rfl rfl)
theorem dX10_arrives_55 : decode cX10_arrives 55 = .ok (.aload_n 3, 1) := dk_45 (dk_at dksX10_arrives_2 11 rfl rfl)
theorem dX10_arrives_56 : decode cX10_arrives 56 = .ok (.getfield 305, 3) := dk_180 1 49 (dk_at dksX10_arrives_2 12 rfl rfl)
theorem dX10_arrives_59 : decode cX10_arrives 59 = .ok (.invokevirtual 309, 3) := dk_182 1 53 (dk_at dksX10_arrives_2 15 rfl rfl)
theorem dX10_arrives_62 : decode cX10_arrives 62 = .ok (.pop, 1) := dk_87 (dk_at dksX10_arrives_2 18 rfl rfl)
theorem dX10_arrives_63 : decode cX10_arrives 63 = .ok (.aload_n 0, 1) := dk_42 (dk_at dksX10_arrives_2 19 rfl rfl)
theorem dX10_arrives_64 : decode cX10_arrives 64 = .ok (.aload_n 3, 1) := dk_45 (dk_at dksX10_arrives_2 20 rfl rfl)
theorem dX10_arrives_65 : decode cX10_arrives 65 = .ok (.getfield 310, 3) := dk_180 1 54 (dk_at dksX10_arrives_2 21 rfl rfl)
theorem dX10_arrives_68 : decode cX10_arrives 68 = .ok (.iconst 1, 1) := dk_4 (dk_at dksX10_arrives_3 0 rfl rfl)
theorem dX10_arrives_69 : decode cX10_arrives 69 = .ok (.iadd, 1) := dk_96 (dk_at dksX10_arrives_3 1 rfl rfl)
theorem dX10_arrives_70 : decode cX10_arrives 70 = .ok (.putfield 76, 3) := dk_181 0 76 (dk_at dksX10_arrives_3 2 rfl rfl)
theorem dX10_arrives_73 : decode cX10_arrives 73 = .ok (.iload_n 1, 1) := dk_27 (dk_at dksX10_arrives_3 5 rfl rfl)
theorem dX10_arrives_74 : decode cX10_arrives 74 = .ok (.aload_n 0, 1) := dk_42 (dk_at dksX10_arrives_3 6 rfl rfl)
theorem dX10_arrives_75 : decode cX10_arrives 75 = .ok (.aload_n 3, 1) := dk_45 (dk_at dksX10_arrives_3 7 rfl rfl)
theorem dX10_arrives_76 : decode cX10_arrives 76 = .ok (.getfield 310, 3) := dk_180 1 54 (dk_at dksX10_arrives_3 8 rfl rfl)
theorem dX10_arrives_79 : decode cX10_arrives 79 = .ok (.invokevirtual 313, 3) := dk_182 1 57 (dk_at dksX10_arrives_3 11 rfl rfl)
theorem dX10_arrives_82 : decode cX10_arrives 82 = .ok (.iadd, 1) := dk_96 (dk_at dksX10_arrives_3 14 rfl rfl)
theorem dX10_arrives_83 : decode cX10_arrives 83 = .ok (.istore_n 1, 1) := dk_60 (dk_at dksX10_arrives_3 15 rfl rfl)
theorem dX10_arrives_84 : decode cX10_arrives 84 = .ok (.iinc 2 1, 3) := dk_132 2 1 (dk_at dksX10_arrives_3 16 rfl rfl)
theorem dX10_arrives_87 : decode cX10_arrives 87 = .ok (.goto (-75), 3) := dk_167 255 181 (dk_at dksX10_arrives_3 19 rfl rfl)
theorem dX10_arrives_90 : decode cX10_arrives 90 = .ok (.aload_n 0, 1) := dk_42 (dk_at dksX10_arrives_3 22 rfl rfl)
theorem dX10_arrives_91 : decode cX10_arrives 91 = .ok (.getfield 39, 3) := dk_180 0 39 (dk_at dksX10_arrives_4 0 rfl rfl)
theorem dX10_arrives_94 : decode cX10_arrives 94 = .ok (.invokeinterface 98 1, 5) := by decide +kernel
theorem dX10_arrives_99 : decode cX10_arrives 99 = .ok (.iload_n 1, 1) := dk_27 (dk_at dksX10_arrives_4 8 rfl rfl)
theorem dX10_arrives_100 : decode cX10_arrives 100 = .ok (.ireturn, 1) := dk_172 (dk_at dksX10_arrives_4 9 rfl rfl)
abbrev cX10_arrive : ByteArray := prog_21_method_7_code
def yX10_arrive : MethodName := ⟨RX10, "arrive", "(I)V"⟩
def dkwX10_arrive_2 : List UInt8 := [42, 3, 181, 0, 79, 177]
abbrev dktX10_arrive_2 : List UInt8 := dkwX10_arrive_2 ++ []
def dkwX10_arrive_1 : List UInt8 := [17, 0, 128, 112, 42, 180, 0, 27, 28, 46, 182, 0, 112, 132, 2, 1, 167, 255, 218, 42, 3, 181, 0, 91]
abbrev dktX10_arrive_1 : List UInt8 := dkwX10_arrive_1 ++ dktX10_arrive_2
def dkwX10_arrive_0 : List UInt8 := [3, 61, 28, 27, 162, 0, 39, 42, 42, 180, 0, 24, 28, 46, 17, 0, 128, 108, 42, 180, 0, 24, 28, 46]
abbrev dktX10_arrive_0 : List UInt8 := dkwX10_arrive_0 ++ dktX10_arrive_1
theorem dksX10_arrive_0 : cX10_arrive.data.toList.drop 0 = dktX10_arrive_0 := by decide +kernel
theorem dksX10_arrive_1 : cX10_arrive.data.toList.drop 24 = dktX10_arrive_1 := dk_seg dksX10_arrive_0 24 rfl rfl
theorem dksX10_arrive_2 : cX10_arrive.data.toList.drop 48 = dktX10_arrive_2 := dk_seg dksX10_arrive_1 24 rfl rfl
theorem dX10_arrive_0 : decode cX10_arrive 0 = .ok (.iconst 0, 1) := dk_3 (dk_at dksX10_arrive_0 0 rfl rfl)
theorem dX10_arrive_1 : decode cX10_arrive 1 = .ok (.istore_n 2, 1) := dk_61 (dk_at dksX10_arrive_0 1 rfl rfl)
theorem dX10_arrive_2 : decode cX10_arrive 2 = .ok (.iload_n 2, 1) := dk_28 (dk_at dksX10_arrive_0 2 rfl rfl)
theorem dX10_arrive_3 : decode cX10_arrive 3 = .ok (.iload_n 1, 1) := dk_27 (dk_at dksX10_arrive_0 3 rfl rfl)
theorem dX10_arrive_4 : decode cX10_arrive 4 = .ok (.if_icmp .ge 39, 3) := dk_162 0 39 (dk_at dksX10_arrive_0 4 rfl rfl)
theorem dX10_arrive_7 : decode cX10_arrive 7 = .ok (.aload_n 0, 1) := dk_42 (dk_at dksX10_arrive_0 7 rfl rfl)
theorem dX10_arrive_8 : decode cX10_arrive 8 = .ok (.aload_n 0, 1) := dk_42 (dk_at dksX10_arrive_0 8 rfl rfl)
theorem dX10_arrive_9 : decode cX10_arrive 9 = .ok (.getfield 24, 3) := dk_180 0 24 (dk_at dksX10_arrive_0 9 rfl rfl)
theorem dX10_arrive_12 : decode cX10_arrive 12 = .ok (.iload_n 2, 1) := dk_28 (dk_at dksX10_arrive_0 12 rfl rfl)
theorem dX10_arrive_13 : decode cX10_arrive 13 = .ok (.iaload, 1) := dk_46 (dk_at dksX10_arrive_0 13 rfl rfl)
theorem dX10_arrive_14 : decode cX10_arrive 14 = .ok (.sipush 128, 3) := dk_17 0 128 (dk_at dksX10_arrive_0 14 rfl rfl)
theorem dX10_arrive_17 : decode cX10_arrive 17 = .ok (.idiv, 1) := dk_108 (dk_at dksX10_arrive_0 17 rfl rfl)
theorem dX10_arrive_18 : decode cX10_arrive 18 = .ok (.aload_n 0, 1) := dk_42 (dk_at dksX10_arrive_0 18 rfl rfl)
theorem dX10_arrive_19 : decode cX10_arrive 19 = .ok (.getfield 24, 3) := dk_180 0 24 (dk_at dksX10_arrive_0 19 rfl rfl)
theorem dX10_arrive_22 : decode cX10_arrive 22 = .ok (.iload_n 2, 1) := dk_28 (dk_at dksX10_arrive_0 22 rfl rfl)
theorem dX10_arrive_23 : decode cX10_arrive 23 = .ok (.iaload, 1) := dk_46 (dk_at dksX10_arrive_0 23 rfl rfl)
theorem dX10_arrive_24 : decode cX10_arrive 24 = .ok (.sipush 128, 3) := dk_17 0 128 (dk_at dksX10_arrive_1 0 rfl rfl)
theorem dX10_arrive_27 : decode cX10_arrive 27 = .ok (.irem, 1) := dk_112 (dk_at dksX10_arrive_1 3 rfl rfl)
theorem dX10_arrive_28 : decode cX10_arrive 28 = .ok (.aload_n 0, 1) := dk_42 (dk_at dksX10_arrive_1 4 rfl rfl)
theorem dX10_arrive_29 : decode cX10_arrive 29 = .ok (.getfield 27, 3) := dk_180 0 27 (dk_at dksX10_arrive_1 5 rfl rfl)
theorem dX10_arrive_32 : decode cX10_arrive 32 = .ok (.iload_n 2, 1) := dk_28 (dk_at dksX10_arrive_1 8 rfl rfl)
theorem dX10_arrive_33 : decode cX10_arrive 33 = .ok (.iaload, 1) := dk_46 (dk_at dksX10_arrive_1 9 rfl rfl)
theorem dX10_arrive_34 : decode cX10_arrive 34 = .ok (.invokevirtual 112, 3) := dk_182 0 112 (dk_at dksX10_arrive_1 10 rfl rfl)
theorem dX10_arrive_37 : decode cX10_arrive 37 = .ok (.iinc 2 1, 3) := dk_132 2 1 (dk_at dksX10_arrive_1 13 rfl rfl)
theorem dX10_arrive_40 : decode cX10_arrive 40 = .ok (.goto (-38), 3) := dk_167 255 218 (dk_at dksX10_arrive_1 16 rfl rfl)
theorem dX10_arrive_43 : decode cX10_arrive 43 = .ok (.aload_n 0, 1) := dk_42 (dk_at dksX10_arrive_1 19 rfl rfl)
theorem dX10_arrive_44 : decode cX10_arrive 44 = .ok (.iconst 0, 1) := dk_3 (dk_at dksX10_arrive_1 20 rfl rfl)
theorem dX10_arrive_45 : decode cX10_arrive 45 = .ok (.putfield 91, 3) := dk_181 0 91 (dk_at dksX10_arrive_1 21 rfl rfl)
theorem dX10_arrive_48 : decode cX10_arrive 48 = .ok (.aload_n 0, 1) := dk_42 (dk_at dksX10_arrive_2 0 rfl rfl)
theorem dX10_arrive_49 : decode cX10_arrive 49 = .ok (.iconst 0, 1) := dk_3 (dk_at dksX10_arrive_2 1 rfl rfl)
theorem dX10_arrive_50 : decode cX10_arrive 50 = .ok (.putfield 79, 3) := dk_181 0 79 (dk_at dksX10_arrive_2 2 rfl rfl)
theorem dX10_arrive_53 : decode cX10_arrive 53 = .ok (.return_, 1) := dk_177 (dk_at dksX10_arrive_2 5 rfl rfl)
abbrev cX10_releases : ByteArray := prog_21_method_14_code
def yX10_releases : MethodName := ⟨RX10, "releases", "(I)I"⟩
def dkwX10_releases_8 : List UInt8 := [167, 255, 167, 28, 172]
abbrev dktX10_releases_8 : List UInt8 := dkwX10_releases_8 ++ []
def dkwX10_releases_7 : List UInt8 := [185, 0, 120, 1, 0, 16, 40, 164, 0, 14, 42, 180, 0, 66, 3, 185, 1, 16, 2, 0, 87, 132, 3, 1]
abbrev dktX10_releases_7 : List UInt8 := dkwX10_releases_7 ++ dktX10_releases_8
def dkwX10_releases_6 : List UInt8 := [180, 1, 29, 29, 46, 79, 89, 5, 27, 79, 185, 0, 130, 2, 0, 87, 42, 180, 0, 66]
abbrev dktX10_releases_6 : List UInt8 := dkwX10_releases_6 ++ dktX10_releases_7
def dkwX10_releases_5 : List UInt8 := [182, 1, 36, 87, 42, 180, 0, 66, 6, 188, 10, 89, 3, 42, 180, 0, 69, 79, 89, 4, 42, 180, 0, 3]
abbrev dktX10_releases_5 : List UInt8 := dkwX10_releases_5 ++ dktX10_releases_6
def dkwX10_releases_4 : List UInt8 := [3, 62, 29, 28, 162, 0, 90, 42, 180, 0, 55, 42, 180, 0, 3, 180, 1, 29, 29, 46, 184, 1, 32]
abbrev dktX10_releases_4 : List UInt8 := dkwX10_releases_4 ++ dktX10_releases_5
def dkwX10_releases_3 : List UInt8 := [180, 1, 29, 28, 132, 2, 1, 25, 4, 185, 0, 158, 1, 0, 192, 0, 161, 182, 1, 26, 79, 167, 255, 194]
abbrev dktX10_releases_3 : List UInt8 := dkwX10_releases_3 ++ dktX10_releases_4
def dkwX10_releases_2 : List UInt8 := [58, 4, 25, 4, 185, 0, 163, 1, 0, 192, 0, 161, 182, 1, 26, 27, 160, 0, 28, 42, 180, 0, 3]
abbrev dktX10_releases_2 : List UInt8 := dkwX10_releases_2 ++ dktX10_releases_3
def dkwX10_releases_1 : List UInt8 := [185, 0, 142, 1, 0, 78, 45, 185, 0, 148, 1, 0, 153, 0, 59, 45, 185, 0, 153, 1, 0, 192, 0, 156]
abbrev dktX10_releases_1 : List UInt8 := dkwX10_releases_1 ++ dktX10_releases_2
def dkwX10_releases_0 : List UInt8 := [3, 61, 42, 180, 0, 55, 182, 0, 134, 153, 0, 5, 28, 172, 42, 180, 0, 55, 182, 0, 138]
abbrev dktX10_releases_0 : List UInt8 := dkwX10_releases_0 ++ dktX10_releases_1
theorem dksX10_releases_0 : cX10_releases.data.toList.drop 0 = dktX10_releases_0 := by decide +kernel
theorem dksX10_releases_1 : cX10_releases.data.toList.drop 21 = dktX10_releases_1 := dk_seg dksX10_releases_0 21 rfl rfl
theorem dksX10_releases_2 : cX10_releases.data.toList.drop 45 = dktX10_releases_2 := dk_seg dksX10_releases_1 24 rfl rfl
theorem dksX10_releases_3 : cX10_releases.data.toList.drop 68 = dktX10_releases_3 := dk_seg dksX10_releases_2 23 rfl rfl
theorem dksX10_releases_4 : cX10_releases.data.toList.drop 92 = dktX10_releases_4 := dk_seg dksX10_releases_3 24 rfl rfl
theorem dksX10_releases_5 : cX10_releases.data.toList.drop 115 = dktX10_releases_5 := dk_seg dksX10_releases_4 23 rfl rfl
theorem dksX10_releases_6 : cX10_releases.data.toList.drop 139 = dktX10_releases_6 := dk_seg dksX10_releases_5 24 rfl rfl
theorem dksX10_releases_7 : cX10_releases.data.toList.drop 159 = dktX10_releases_7 := dk_seg dksX10_releases_6 20 rfl rfl
theorem dksX10_releases_8 : cX10_releases.data.toList.drop 183 = dktX10_releases_8 := dk_seg dksX10_releases_7 24 rfl rfl
theorem dX10_releases_0 : decode cX10_releases 0 = .ok (.iconst 0, 1) := dk_3 (dk_at dksX10_releases_0 0 rfl rfl)
theorem dX10_releases_1 : decode cX10_releases 1 = .ok (.istore_n 2, 1) := dk_61 (dk_at dksX10_releases_0 1 rfl rfl)
theorem dX10_releases_2 : decode cX10_releases 2 = .ok (.aload_n 0, 1) := dk_42 (dk_at dksX10_releases_0 2 rfl rfl)
theorem dX10_releases_3 : decode cX10_releases 3 = .ok (.getfield 55, 3) := dk_180 0 55 (dk_at dksX10_releases_0 3 rfl rfl)
theorem dX10_releases_6 : decode cX10_releases 6 = .ok (.invokevirtual 134, 3) := dk_182 0 134 (dk_at dksX10_releases_0 6 rfl rfl)
theorem dX10_releases_9 : decode cX10_releases 9 = .ok (.ifCond .eq 5, 3) := dk_153 0 5 (dk_at dksX10_releases_0 9 rfl rfl)
theorem dX10_releases_12 : decode cX10_releases 12 = .ok (.iload_n 2, 1) := dk_28 (dk_at dksX10_releases_0 12 rfl rfl)
theorem dX10_releases_13 : decode cX10_releases 13 = .ok (.ireturn, 1) := dk_172 (dk_at dksX10_releases_0 13 rfl rfl)
theorem dX10_releases_14 : decode cX10_releases 14 = .ok (.aload_n 0, 1) := dk_42 (dk_at dksX10_releases_0 14 rfl rfl)
theorem dX10_releases_15 : decode cX10_releases 15 = .ok (.getfield 55, 3) := dk_180 0 55 (dk_at dksX10_releases_0 15 rfl rfl)
theorem dX10_releases_18 : decode cX10_releases 18 = .ok (.invokevirtual 138, 3) := dk_182 0 138 (dk_at dksX10_releases_0 18 rfl rfl)
theorem dX10_releases_21 : decode cX10_releases 21 = .ok (.invokeinterface 142 1, 5) := by decide +kernel
theorem dX10_releases_26 : decode cX10_releases 26 = .ok (.astore_n 3, 1) := dk_78 (dk_at dksX10_releases_1 5 rfl rfl)
theorem dX10_releases_27 : decode cX10_releases 27 = .ok (.aload_n 3, 1) := dk_45 (dk_at dksX10_releases_1 6 rfl rfl)
theorem dX10_releases_28 : decode cX10_releases 28 = .ok (.invokeinterface 148 1, 5) := by decide +kernel
theorem dX10_releases_33 : decode cX10_releases 33 = .ok (.ifCond .eq 59, 3) := dk_153 0 59 (dk_at dksX10_releases_1 12 rfl rfl)
theorem dX10_releases_36 : decode cX10_releases 36 = .ok (.aload_n 3, 1) := dk_45 (dk_at dksX10_releases_1 15 rfl rfl)
theorem dX10_releases_37 : decode cX10_releases 37 = .ok (.invokeinterface 153 1, 5) := by decide +kernel
theorem dX10_releases_42 : decode cX10_releases 42 = .ok (.checkcast 156, 3) := dk_192 0 156 (dk_at dksX10_releases_1 21 rfl rfl)
theorem dX10_releases_45 : decode cX10_releases 45 = .ok (.astore 4, 2) := dk_58 4 (dk_at dksX10_releases_2 0 rfl rfl)
theorem dX10_releases_47 : decode cX10_releases 47 = .ok (.aload 4, 2) := dk_25 4 (dk_at dksX10_releases_2 2 rfl rfl)
theorem dX10_releases_49 : decode cX10_releases 49 = .ok (.invokeinterface 163 1, 5) := by decide +kernel
theorem dX10_releases_54 : decode cX10_releases 54 = .ok (.checkcast 161, 3) := dk_192 0 161 (dk_at dksX10_releases_2 9 rfl rfl)
theorem dX10_releases_57 : decode cX10_releases 57 = .ok (.invokevirtual 282, 3) := dk_182 1 26 (dk_at dksX10_releases_2 12 rfl rfl)
theorem dX10_releases_60 : decode cX10_releases 60 = .ok (.iload_n 1, 1) := dk_27 (dk_at dksX10_releases_2 15 rfl rfl)
theorem dX10_releases_61 : decode cX10_releases 61 = .ok (.if_icmp .ne 28, 3) := dk_160 0 28 (dk_at dksX10_releases_2 16 rfl rfl)
theorem dX10_releases_64 : decode cX10_releases 64 = .ok (.aload_n 0, 1) := dk_42 (dk_at dksX10_releases_2 19 rfl rfl)
theorem dX10_releases_65 : decode cX10_releases 65 = .ok (.getfield 3, 3) := dk_180 0 3 (dk_at dksX10_releases_2 20 rfl rfl)
theorem dX10_releases_68 : decode cX10_releases 68 = .ok (.getfield 285, 3) := dk_180 1 29 (dk_at dksX10_releases_3 0 rfl rfl)
theorem dX10_releases_71 : decode cX10_releases 71 = .ok (.iload_n 2, 1) := dk_28 (dk_at dksX10_releases_3 3 rfl rfl)
theorem dX10_releases_72 : decode cX10_releases 72 = .ok (.iinc 2 1, 3) := dk_132 2 1 (dk_at dksX10_releases_3 4 rfl rfl)
theorem dX10_releases_75 : decode cX10_releases 75 = .ok (.aload 4, 2) := dk_25 4 (dk_at dksX10_releases_3 7 rfl rfl)
theorem dX10_releases_77 : decode cX10_releases 77 = .ok (.invokeinterface 158 1, 5) := by decide +kernel
theorem dX10_releases_82 : decode cX10_releases 82 = .ok (.checkcast 161, 3) := dk_192 0 161 (dk_at dksX10_releases_3 14 rfl rfl)
theorem dX10_releases_85 : decode cX10_releases 85 = .ok (.invokevirtual 282, 3) := dk_182 1 26 (dk_at dksX10_releases_3 17 rfl rfl)
theorem dX10_releases_88 : decode cX10_releases 88 = .ok (.iastore, 1) := dk_79 (dk_at dksX10_releases_3 20 rfl rfl)
theorem dX10_releases_89 : decode cX10_releases 89 = .ok (.goto (-62), 3) := dk_167 255 194 (dk_at dksX10_releases_3 21 rfl rfl)
theorem dX10_releases_92 : decode cX10_releases 92 = .ok (.iconst 0, 1) := dk_3 (dk_at dksX10_releases_4 0 rfl rfl)
theorem dX10_releases_93 : decode cX10_releases 93 = .ok (.istore_n 3, 1) := dk_62 (dk_at dksX10_releases_4 1 rfl rfl)
theorem dX10_releases_94 : decode cX10_releases 94 = .ok (.iload_n 3, 1) := dk_29 (dk_at dksX10_releases_4 2 rfl rfl)
theorem dX10_releases_95 : decode cX10_releases 95 = .ok (.iload_n 2, 1) := dk_28 (dk_at dksX10_releases_4 3 rfl rfl)
theorem dX10_releases_96 : decode cX10_releases 96 = .ok (.if_icmp .ge 90, 3) := dk_162 0 90 (dk_at dksX10_releases_4 4 rfl rfl)
theorem dX10_releases_99 : decode cX10_releases 99 = .ok (.aload_n 0, 1) := dk_42 (dk_at dksX10_releases_4 7 rfl rfl)
theorem dX10_releases_100 : decode cX10_releases 100 = .ok (.getfield 55, 3) := dk_180 0 55 (dk_at dksX10_releases_4 8 rfl rfl)
theorem dX10_releases_103 : decode cX10_releases 103 = .ok (.aload_n 0, 1) := dk_42 (dk_at dksX10_releases_4 11 rfl rfl)
theorem dX10_releases_104 : decode cX10_releases 104 = .ok (.getfield 3, 3) := dk_180 0 3 (dk_at dksX10_releases_4 12 rfl rfl)
theorem dX10_releases_107 : decode cX10_releases 107 = .ok (.getfield 285, 3) := dk_180 1 29 (dk_at dksX10_releases_4 15 rfl rfl)
theorem dX10_releases_110 : decode cX10_releases 110 = .ok (.iload_n 3, 1) := dk_29 (dk_at dksX10_releases_4 18 rfl rfl)
theorem dX10_releases_111 : decode cX10_releases 111 = .ok (.iaload, 1) := dk_46 (dk_at dksX10_releases_4 19 rfl rfl)
theorem dX10_releases_112 : decode cX10_releases 112 = .ok (.invokestatic 288, 3) := dk_184 1 32 (dk_at dksX10_releases_4 20 rfl rfl)
theorem dX10_releases_115 : decode cX10_releases 115 = .ok (.invokevirtual 292, 3) := dk_182 1 36 (dk_at dksX10_releases_5 0 rfl rfl)
theorem dX10_releases_118 : decode cX10_releases 118 = .ok (.pop, 1) := dk_87 (dk_at dksX10_releases_5 3 rfl rfl)
theorem dX10_releases_119 : decode cX10_releases 119 = .ok (.aload_n 0, 1) := dk_42 (dk_at dksX10_releases_5 4 rfl rfl)
theorem dX10_releases_120 : decode cX10_releases 120 = .ok (.getfield 66, 3) := dk_180 0 66 (dk_at dksX10_releases_5 5 rfl rfl)
theorem dX10_releases_123 : decode cX10_releases 123 = .ok (.iconst 3, 1) := dk_6 (dk_at dksX10_releases_5 8 rfl rfl)
theorem dX10_releases_124 : decode cX10_releases 124 = .ok (.newarray .int, 2) := dk_188_10 (dk_at dksX10_releases_5 9 rfl rfl)
theorem dX10_releases_126 : decode cX10_releases 126 = .ok (.dup, 1) := dk_89 (dk_at dksX10_releases_5 11 rfl rfl)
theorem dX10_releases_127 : decode cX10_releases 127 = .ok (.iconst 0, 1) := dk_3 (dk_at dksX10_releases_5 12 rfl rfl)
theorem dX10_releases_128 : decode cX10_releases 128 = .ok (.aload_n 0, 1) := dk_42 (dk_at dksX10_releases_5 13 rfl rfl)
theorem dX10_releases_129 : decode cX10_releases 129 = .ok (.getfield 69, 3) := dk_180 0 69 (dk_at dksX10_releases_5 14 rfl rfl)
theorem dX10_releases_132 : decode cX10_releases 132 = .ok (.iastore, 1) := dk_79 (dk_at dksX10_releases_5 17 rfl rfl)
theorem dX10_releases_133 : decode cX10_releases 133 = .ok (.dup, 1) := dk_89 (dk_at dksX10_releases_5 18 rfl rfl)
theorem dX10_releases_134 : decode cX10_releases 134 = .ok (.iconst 1, 1) := dk_4 (dk_at dksX10_releases_5 19 rfl rfl)
theorem dX10_releases_135 : decode cX10_releases 135 = .ok (.aload_n 0, 1) := dk_42 (dk_at dksX10_releases_5 20 rfl rfl)
theorem dX10_releases_136 : decode cX10_releases 136 = .ok (.getfield 3, 3) := dk_180 0 3 (dk_at dksX10_releases_5 21 rfl rfl)
theorem dX10_releases_139 : decode cX10_releases 139 = .ok (.getfield 285, 3) := dk_180 1 29 (dk_at dksX10_releases_6 0 rfl rfl)
theorem dX10_releases_142 : decode cX10_releases 142 = .ok (.iload_n 3, 1) := dk_29 (dk_at dksX10_releases_6 3 rfl rfl)
theorem dX10_releases_143 : decode cX10_releases 143 = .ok (.iaload, 1) := dk_46 (dk_at dksX10_releases_6 4 rfl rfl)
theorem dX10_releases_144 : decode cX10_releases 144 = .ok (.iastore, 1) := dk_79 (dk_at dksX10_releases_6 5 rfl rfl)
theorem dX10_releases_145 : decode cX10_releases 145 = .ok (.dup, 1) := dk_89 (dk_at dksX10_releases_6 6 rfl rfl)
theorem dX10_releases_146 : decode cX10_releases 146 = .ok (.iconst 2, 1) := dk_5 (dk_at dksX10_releases_6 7 rfl rfl)
theorem dX10_releases_147 : decode cX10_releases 147 = .ok (.iload_n 1, 1) := dk_27 (dk_at dksX10_releases_6 8 rfl rfl)
theorem dX10_releases_148 : decode cX10_releases 148 = .ok (.iastore, 1) := dk_79 (dk_at dksX10_releases_6 9 rfl rfl)
theorem dX10_releases_149 : decode cX10_releases 149 = .ok (.invokeinterface 130 2, 5) := by decide +kernel
theorem dX10_releases_154 : decode cX10_releases 154 = .ok (.pop, 1) := dk_87 (dk_at dksX10_releases_6 15 rfl rfl)
theorem dX10_releases_155 : decode cX10_releases 155 = .ok (.aload_n 0, 1) := dk_42 (dk_at dksX10_releases_6 16 rfl rfl)
theorem dX10_releases_156 : decode cX10_releases 156 = .ok (.getfield 66, 3) := dk_180 0 66 (dk_at dksX10_releases_6 17 rfl rfl)
theorem dX10_releases_159 : decode cX10_releases 159 = .ok (.invokeinterface 120 1, 5) := by decide +kernel
theorem dX10_releases_164 : decode cX10_releases 164 = .ok (.bipush 40, 2) := dk_16 40 (dk_at dksX10_releases_7 5 rfl rfl)
theorem dX10_releases_166 : decode cX10_releases 166 = .ok (.if_icmp .le 14, 3) := dk_164 0 14 (dk_at dksX10_releases_7 7 rfl rfl)
theorem dX10_releases_169 : decode cX10_releases 169 = .ok (.aload_n 0, 1) := dk_42 (dk_at dksX10_releases_7 10 rfl rfl)
theorem dX10_releases_170 : decode cX10_releases 170 = .ok (.getfield 66, 3) := dk_180 0 66 (dk_at dksX10_releases_7 11 rfl rfl)
theorem dX10_releases_173 : decode cX10_releases 173 = .ok (.iconst 0, 1) := dk_3 (dk_at dksX10_releases_7 14 rfl rfl)
theorem dX10_releases_174 : decode cX10_releases 174 = .ok (.invokeinterface 272 2, 5) := by decide +kernel
theorem dX10_releases_179 : decode cX10_releases 179 = .ok (.pop, 1) := dk_87 (dk_at dksX10_releases_7 20 rfl rfl)
theorem dX10_releases_180 : decode cX10_releases 180 = .ok (.iinc 3 1, 3) := dk_132 3 1 (dk_at dksX10_releases_7 21 rfl rfl)
theorem dX10_releases_183 : decode cX10_releases 183 = .ok (.goto (-89), 3) := dk_167 255 167 (dk_at dksX10_releases_8 0 rfl rfl)
theorem dX10_releases_186 : decode cX10_releases 186 = .ok (.iload_n 2, 1) := dk_28 (dk_at dksX10_releases_8 3 rfl rfl)
theorem dX10_releases_187 : decode cX10_releases 187 = .ok (.ireturn, 1) := dk_172 (dk_at dksX10_releases_8 4 rfl rfl)
abbrev cX10_isClosing : ByteArray := prog_21_method_12_code
def yX10_isClosing : MethodName := ⟨RX10, "isClosing", "()Z"⟩
def dkwX10_isClosing_3 : List UInt8 := [180, 0, 3, 180, 0, 220, 180, 0, 224, 42, 180, 0, 3, 180, 0, 204, 182, 0, 232, 172]
abbrev dktX10_isClosing_3 : List UInt8 := dkwX10_isClosing_3 ++ []
def dkwX10_isClosing_2 : List UInt8 := [180, 0, 204, 180, 0, 208, 6, 47, 20, 0, 230, 148, 158, 0, 7, 4, 167, 0, 27, 3, 167, 0, 23, 42]
abbrev dktX10_isClosing_2 : List UInt8 := dkwX10_isClosing_2 ++ dktX10_isClosing_3
def dkwX10_isClosing_1 : List UInt8 := [180, 0, 224, 199, 0, 43, 42, 180, 0, 35, 185, 0, 120, 1, 0, 6, 163, 0, 22, 42, 180, 0, 3]
abbrev dktX10_isClosing_1 : List UInt8 := dkwX10_isClosing_1 ++ dktX10_isClosing_2
def dkwX10_isClosing_0 : List UInt8 := [42, 42, 180, 0, 35, 185, 0, 120, 1, 0, 42, 182, 0, 215, 182, 0, 216, 42, 180, 0, 3, 180, 0, 220]
abbrev dktX10_isClosing_0 : List UInt8 := dkwX10_isClosing_0 ++ dktX10_isClosing_1
theorem dksX10_isClosing_0 : cX10_isClosing.data.toList.drop 0 = dktX10_isClosing_0 := by decide +kernel
theorem dksX10_isClosing_1 : cX10_isClosing.data.toList.drop 24 = dktX10_isClosing_1 := dk_seg dksX10_isClosing_0 24 rfl rfl
theorem dksX10_isClosing_2 : cX10_isClosing.data.toList.drop 47 = dktX10_isClosing_2 := dk_seg dksX10_isClosing_1 23 rfl rfl
theorem dksX10_isClosing_3 : cX10_isClosing.data.toList.drop 71 = dktX10_isClosing_3 := dk_seg dksX10_isClosing_2 24 rfl rfl
theorem dX10_isClosing_0 : decode cX10_isClosing 0 = .ok (.aload_n 0, 1) := dk_42 (dk_at dksX10_isClosing_0 0 rfl rfl)
theorem dX10_isClosing_1 : decode cX10_isClosing 1 = .ok (.aload_n 0, 1) := dk_42 (dk_at dksX10_isClosing_0 1 rfl rfl)
theorem dX10_isClosing_2 : decode cX10_isClosing 2 = .ok (.getfield 35, 3) := dk_180 0 35 (dk_at dksX10_isClosing_0 2 rfl rfl)
theorem dX10_isClosing_5 : decode cX10_isClosing 5 = .ok (.invokeinterface 120 1, 5) := by decide +kernel
theorem dX10_isClosing_10 : decode cX10_isClosing 10 = .ok (.aload_n 0, 1) := dk_42 (dk_at dksX10_isClosing_0 10 rfl rfl)
theorem dX10_isClosing_11 : decode cX10_isClosing 11 = .ok (.invokevirtual 215, 3) := dk_182 0 215 (dk_at dksX10_isClosing_0 11 rfl rfl)
theorem dX10_isClosing_14 : decode cX10_isClosing 14 = .ok (.invokevirtual 216, 3) := dk_182 0 216 (dk_at dksX10_isClosing_0 14 rfl rfl)
theorem dX10_isClosing_17 : decode cX10_isClosing 17 = .ok (.aload_n 0, 1) := dk_42 (dk_at dksX10_isClosing_0 17 rfl rfl)
theorem dX10_isClosing_18 : decode cX10_isClosing 18 = .ok (.getfield 3, 3) := dk_180 0 3 (dk_at dksX10_isClosing_0 18 rfl rfl)
theorem dX10_isClosing_21 : decode cX10_isClosing 21 = .ok (.getfield 220, 3) := dk_180 0 220 (dk_at dksX10_isClosing_0 21 rfl rfl)
theorem dX10_isClosing_24 : decode cX10_isClosing 24 = .ok (.getfield 224, 3) := dk_180 0 224 (dk_at dksX10_isClosing_1 0 rfl rfl)
theorem dX10_isClosing_27 : decode cX10_isClosing 27 = .ok (.ifnonnull 43, 3) := dk_199 0 43 (dk_at dksX10_isClosing_1 3 rfl rfl)
theorem dX10_isClosing_30 : decode cX10_isClosing 30 = .ok (.aload_n 0, 1) := dk_42 (dk_at dksX10_isClosing_1 6 rfl rfl)
theorem dX10_isClosing_31 : decode cX10_isClosing 31 = .ok (.getfield 35, 3) := dk_180 0 35 (dk_at dksX10_isClosing_1 7 rfl rfl)
theorem dX10_isClosing_34 : decode cX10_isClosing 34 = .ok (.invokeinterface 120 1, 5) := by decide +kernel
theorem dX10_isClosing_39 : decode cX10_isClosing 39 = .ok (.iconst 3, 1) := dk_6 (dk_at dksX10_isClosing_1 15 rfl rfl)
theorem dX10_isClosing_40 : decode cX10_isClosing 40 = .ok (.if_icmp .gt 22, 3) := dk_163 0 22 (dk_at dksX10_isClosing_1 16 rfl rfl)
theorem dX10_isClosing_43 : decode cX10_isClosing 43 = .ok (.aload_n 0, 1) := dk_42 (dk_at dksX10_isClosing_1 19 rfl rfl)
theorem dX10_isClosing_44 : decode cX10_isClosing 44 = .ok (.getfield 3, 3) := dk_180 0 3 (dk_at dksX10_isClosing_1 20 rfl rfl)
theorem dX10_isClosing_47 : decode cX10_isClosing 47 = .ok (.getfield 204, 3) := dk_180 0 204 (dk_at dksX10_isClosing_2 0 rfl rfl)
theorem dX10_isClosing_50 : decode cX10_isClosing 50 = .ok (.getfield 208, 3) := dk_180 0 208 (dk_at dksX10_isClosing_2 3 rfl rfl)
theorem dX10_isClosing_53 : decode cX10_isClosing 53 = .ok (.iconst 3, 1) := dk_6 (dk_at dksX10_isClosing_2 6 rfl rfl)
theorem dX10_isClosing_54 : decode cX10_isClosing 54 = .ok (.laload, 1) := dk_47 (dk_at dksX10_isClosing_2 7 rfl rfl)
theorem dX10_isClosing_55 : decode cX10_isClosing 55 = .ok (.ldc2_w 230, 3) := dk_20 0 230 (dk_at dksX10_isClosing_2 8 rfl rfl)
theorem dX10_isClosing_58 : decode cX10_isClosing 58 = .ok (.lcmp, 1) := dk_148 (dk_at dksX10_isClosing_2 11 rfl rfl)
theorem dX10_isClosing_59 : decode cX10_isClosing 59 = .ok (.ifCond .le 7, 3) := dk_158 0 7 (dk_at dksX10_isClosing_2 12 rfl rfl)
theorem dX10_isClosing_62 : decode cX10_isClosing 62 = .ok (.iconst 1, 1) := dk_4 (dk_at dksX10_isClosing_2 15 rfl rfl)
theorem dX10_isClosing_63 : decode cX10_isClosing 63 = .ok (.goto 27, 3) := dk_167 0 27 (dk_at dksX10_isClosing_2 16 rfl rfl)
theorem dX10_isClosing_66 : decode cX10_isClosing 66 = .ok (.iconst 0, 1) := dk_3 (dk_at dksX10_isClosing_2 19 rfl rfl)
theorem dX10_isClosing_67 : decode cX10_isClosing 67 = .ok (.goto 23, 3) := dk_167 0 23 (dk_at dksX10_isClosing_2 20 rfl rfl)
theorem dX10_isClosing_70 : decode cX10_isClosing 70 = .ok (.aload_n 0, 1) := dk_42 (dk_at dksX10_isClosing_2 23 rfl rfl)
theorem dX10_isClosing_71 : decode cX10_isClosing 71 = .ok (.getfield 3, 3) := dk_180 0 3 (dk_at dksX10_isClosing_3 0 rfl rfl)
theorem dX10_isClosing_74 : decode cX10_isClosing 74 = .ok (.getfield 220, 3) := dk_180 0 220 (dk_at dksX10_isClosing_3 3 rfl rfl)
theorem dX10_isClosing_77 : decode cX10_isClosing 77 = .ok (.getfield 224, 3) := dk_180 0 224 (dk_at dksX10_isClosing_3 6 rfl rfl)
theorem dX10_isClosing_80 : decode cX10_isClosing 80 = .ok (.aload_n 0, 1) := dk_42 (dk_at dksX10_isClosing_3 9 rfl rfl)
theorem dX10_isClosing_81 : decode cX10_isClosing 81 = .ok (.getfield 3, 3) := dk_180 0 3 (dk_at dksX10_isClosing_3 10 rfl rfl)
theorem dX10_isClosing_84 : decode cX10_isClosing 84 = .ok (.getfield 204, 3) := dk_180 0 204 (dk_at dksX10_isClosing_3 13 rfl rfl)
theorem dX10_isClosing_87 : decode cX10_isClosing 87 = .ok (.invokevirtual 232, 3) := dk_182 0 232 (dk_at dksX10_isClosing_3 16 rfl rfl)
theorem dX10_isClosing_90 : decode cX10_isClosing 90 = .ok (.ireturn, 1) := dk_172 (dk_at dksX10_isClosing_3 19 rfl rfl)
abbrev cX10_payload : ByteArray := prog_21_method_9_code
def yX10_payload : MethodName := ⟨RX10, "payload", "()I"⟩
def dkwX10_payload_1 : List UInt8 := [185, 0, 124, 2, 0, 192, 0, 128, 182, 0, 198, 96, 60, 132, 2, 1, 167, 255, 221, 27, 172]
abbrev dktX10_payload_1 : List UInt8 := dkwX10_payload_1 ++ []
def dkwX10_payload_0 : List UInt8 := [3, 60, 3, 61, 28, 42, 180, 0, 35, 185, 0, 120, 1, 0, 162, 0, 28, 27, 42, 180, 0, 35, 28]
abbrev dktX10_payload_0 : List UInt8 := dkwX10_payload_0 ++ dktX10_payload_1
theorem dksX10_payload_0 : cX10_payload.data.toList.drop 0 = dktX10_payload_0 := by decide +kernel
theorem dksX10_payload_1 : cX10_payload.data.toList.drop 23 = dktX10_payload_1 := dk_seg dksX10_payload_0 23 rfl rfl
theorem dX10_payload_0 : decode cX10_payload 0 = .ok (.iconst 0, 1) := dk_3 (dk_at dksX10_payload_0 0 rfl rfl)
theorem dX10_payload_1 : decode cX10_payload 1 = .ok (.istore_n 1, 1) := dk_60 (dk_at dksX10_payload_0 1 rfl rfl)
theorem dX10_payload_2 : decode cX10_payload 2 = .ok (.iconst 0, 1) := dk_3 (dk_at dksX10_payload_0 2 rfl rfl)
theorem dX10_payload_3 : decode cX10_payload 3 = .ok (.istore_n 2, 1) := dk_61 (dk_at dksX10_payload_0 3 rfl rfl)
theorem dX10_payload_4 : decode cX10_payload 4 = .ok (.iload_n 2, 1) := dk_28 (dk_at dksX10_payload_0 4 rfl rfl)
theorem dX10_payload_5 : decode cX10_payload 5 = .ok (.aload_n 0, 1) := dk_42 (dk_at dksX10_payload_0 5 rfl rfl)
theorem dX10_payload_6 : decode cX10_payload 6 = .ok (.getfield 35, 3) := dk_180 0 35 (dk_at dksX10_payload_0 6 rfl rfl)
theorem dX10_payload_9 : decode cX10_payload 9 = .ok (.invokeinterface 120 1, 5) := by decide +kernel
theorem dX10_payload_14 : decode cX10_payload 14 = .ok (.if_icmp .ge 28, 3) := dk_162 0 28 (dk_at dksX10_payload_0 14 rfl rfl)
theorem dX10_payload_17 : decode cX10_payload 17 = .ok (.iload_n 1, 1) := dk_27 (dk_at dksX10_payload_0 17 rfl rfl)
theorem dX10_payload_18 : decode cX10_payload 18 = .ok (.aload_n 0, 1) := dk_42 (dk_at dksX10_payload_0 18 rfl rfl)
theorem dX10_payload_19 : decode cX10_payload 19 = .ok (.getfield 35, 3) := dk_180 0 35 (dk_at dksX10_payload_0 19 rfl rfl)
theorem dX10_payload_22 : decode cX10_payload 22 = .ok (.iload_n 2, 1) := dk_28 (dk_at dksX10_payload_0 22 rfl rfl)
theorem dX10_payload_23 : decode cX10_payload 23 = .ok (.invokeinterface 124 2, 5) := by decide +kernel
theorem dX10_payload_28 : decode cX10_payload 28 = .ok (.checkcast 128, 3) := dk_192 0 128 (dk_at dksX10_payload_1 5 rfl rfl)
theorem dX10_payload_31 : decode cX10_payload 31 = .ok (.invokevirtual 198, 3) := dk_182 0 198 (dk_at dksX10_payload_1 8 rfl rfl)
theorem dX10_payload_34 : decode cX10_payload 34 = .ok (.iadd, 1) := dk_96 (dk_at dksX10_payload_1 11 rfl rfl)
theorem dX10_payload_35 : decode cX10_payload 35 = .ok (.istore_n 1, 1) := dk_60 (dk_at dksX10_payload_1 12 rfl rfl)
theorem dX10_payload_36 : decode cX10_payload 36 = .ok (.iinc 2 1, 3) := dk_132 2 1 (dk_at dksX10_payload_1 13 rfl rfl)
theorem dX10_payload_39 : decode cX10_payload 39 = .ok (.goto (-35), 3) := dk_167 255 221 (dk_at dksX10_payload_1 16 rfl rfl)
theorem dX10_payload_42 : decode cX10_payload 42 = .ok (.iload_n 1, 1) := dk_27 (dk_at dksX10_payload_1 19 rfl rfl)
theorem dX10_payload_43 : decode cX10_payload 43 = .ok (.ireturn, 1) := dk_172 (dk_at dksX10_payload_1 20 rfl rfl)
abbrev cX10_lays : ByteArray := prog_21_method_11_code
def yX10_lays : MethodName := ⟨RX10, "lays", "(II)V"⟩
def dkwX10_lays_4 : List UInt8 := [182, 0, 214, 133, 80, 177]
abbrev dktX10_lays_4 : List UInt8 := dkwX10_lays_4 ++ []
def dkwX10_lays_3 : List UInt8 := [192, 0, 128, 180, 0, 213, 100, 133, 80, 42, 180, 0, 3, 180, 0, 204, 180, 0, 208, 7, 42, 180, 0, 55]
abbrev dktX10_lays_3 : List UInt8 := dkwX10_lays_3 ++ dktX10_lays_4
def dkwX10_lays_2 : List UInt8 := [180, 0, 3, 180, 0, 204, 180, 0, 208, 6, 42, 180, 0, 69, 42, 180, 0, 35, 3, 185, 0, 124, 2, 0]
abbrev dktX10_lays_2 : List UInt8 := dkwX10_lays_2 ++ dktX10_lays_3
def dkwX10_lays_1 : List UInt8 := [180, 0, 208, 4, 27, 133, 80, 42, 180, 0, 3, 180, 0, 204, 180, 0, 208, 5, 28, 133, 80, 42]
abbrev dktX10_lays_1 : List UInt8 := dkwX10_lays_1 ++ dktX10_lays_2
def dkwX10_lays_0 : List UInt8 := [42, 180, 0, 3, 180, 0, 204, 180, 0, 208, 3, 42, 180, 0, 69, 133, 80, 42, 180, 0, 3, 180, 0, 204]
abbrev dktX10_lays_0 : List UInt8 := dkwX10_lays_0 ++ dktX10_lays_1
theorem dksX10_lays_0 : cX10_lays.data.toList.drop 0 = dktX10_lays_0 := by decide +kernel
theorem dksX10_lays_1 : cX10_lays.data.toList.drop 24 = dktX10_lays_1 := dk_seg dksX10_lays_0 24 rfl rfl
theorem dksX10_lays_2 : cX10_lays.data.toList.drop 46 = dktX10_lays_2 := dk_seg dksX10_lays_1 22 rfl rfl
theorem dksX10_lays_3 : cX10_lays.data.toList.drop 70 = dktX10_lays_3 := dk_seg dksX10_lays_2 24 rfl rfl
theorem dksX10_lays_4 : cX10_lays.data.toList.drop 94 = dktX10_lays_4 := dk_seg dksX10_lays_3 24 rfl rfl
theorem dX10_lays_0 : decode cX10_lays 0 = .ok (.aload_n 0, 1) := dk_42 (dk_at dksX10_lays_0 0 rfl rfl)
theorem dX10_lays_1 : decode cX10_lays 1 = .ok (.getfield 3, 3) := dk_180 0 3 (dk_at dksX10_lays_0 1 rfl rfl)
theorem dX10_lays_4 : decode cX10_lays 4 = .ok (.getfield 204, 3) := dk_180 0 204 (dk_at dksX10_lays_0 4 rfl rfl)
theorem dX10_lays_7 : decode cX10_lays 7 = .ok (.getfield 208, 3) := dk_180 0 208 (dk_at dksX10_lays_0 7 rfl rfl)
theorem dX10_lays_10 : decode cX10_lays 10 = .ok (.iconst 0, 1) := dk_3 (dk_at dksX10_lays_0 10 rfl rfl)
theorem dX10_lays_11 : decode cX10_lays 11 = .ok (.aload_n 0, 1) := dk_42 (dk_at dksX10_lays_0 11 rfl rfl)
theorem dX10_lays_12 : decode cX10_lays 12 = .ok (.getfield 69, 3) := dk_180 0 69 (dk_at dksX10_lays_0 12 rfl rfl)
theorem dX10_lays_15 : decode cX10_lays 15 = .ok (.i2l, 1) := dk_133 (dk_at dksX10_lays_0 15 rfl rfl)
theorem dX10_lays_16 : decode cX10_lays 16 = .ok (.lastore, 1) := dk_80 (dk_at dksX10_lays_0 16 rfl rfl)
theorem dX10_lays_17 : decode cX10_lays 17 = .ok (.aload_n 0, 1) := dk_42 (dk_at dksX10_lays_0 17 rfl rfl)
theorem dX10_lays_18 : decode cX10_lays 18 = .ok (.getfield 3, 3) := dk_180 0 3 (dk_at dksX10_lays_0 18 rfl rfl)
theorem dX10_lays_21 : decode cX10_lays 21 = .ok (.getfield 204, 3) := dk_180 0 204 (dk_at dksX10_lays_0 21 rfl rfl)
theorem dX10_lays_24 : decode cX10_lays 24 = .ok (.getfield 208, 3) := dk_180 0 208 (dk_at dksX10_lays_1 0 rfl rfl)
theorem dX10_lays_27 : decode cX10_lays 27 = .ok (.iconst 1, 1) := dk_4 (dk_at dksX10_lays_1 3 rfl rfl)
theorem dX10_lays_28 : decode cX10_lays 28 = .ok (.iload_n 1, 1) := dk_27 (dk_at dksX10_lays_1 4 rfl rfl)
theorem dX10_lays_29 : decode cX10_lays 29 = .ok (.i2l, 1) := dk_133 (dk_at dksX10_lays_1 5 rfl rfl)
theorem dX10_lays_30 : decode cX10_lays 30 = .ok (.lastore, 1) := dk_80 (dk_at dksX10_lays_1 6 rfl rfl)
theorem dX10_lays_31 : decode cX10_lays 31 = .ok (.aload_n 0, 1) := dk_42 (dk_at dksX10_lays_1 7 rfl rfl)
theorem dX10_lays_32 : decode cX10_lays 32 = .ok (.getfield 3, 3) := dk_180 0 3 (dk_at dksX10_lays_1 8 rfl rfl)
theorem dX10_lays_35 : decode cX10_lays 35 = .ok (.getfield 204, 3) := dk_180 0 204 (dk_at dksX10_lays_1 11 rfl rfl)
theorem dX10_lays_38 : decode cX10_lays 38 = .ok (.getfield 208, 3) := dk_180 0 208 (dk_at dksX10_lays_1 14 rfl rfl)
theorem dX10_lays_41 : decode cX10_lays 41 = .ok (.iconst 2, 1) := dk_5 (dk_at dksX10_lays_1 17 rfl rfl)
theorem dX10_lays_42 : decode cX10_lays 42 = .ok (.iload_n 2, 1) := dk_28 (dk_at dksX10_lays_1 18 rfl rfl)
theorem dX10_lays_43 : decode cX10_lays 43 = .ok (.i2l, 1) := dk_133 (dk_at dksX10_lays_1 19 rfl rfl)
theorem dX10_lays_44 : decode cX10_lays 44 = .ok (.lastore, 1) := dk_80 (dk_at dksX10_lays_1 20 rfl rfl)
theorem dX10_lays_45 : decode cX10_lays 45 = .ok (.aload_n 0, 1) := dk_42 (dk_at dksX10_lays_1 21 rfl rfl)
theorem dX10_lays_46 : decode cX10_lays 46 = .ok (.getfield 3, 3) := dk_180 0 3 (dk_at dksX10_lays_2 0 rfl rfl)
theorem dX10_lays_49 : decode cX10_lays 49 = .ok (.getfield 204, 3) := dk_180 0 204 (dk_at dksX10_lays_2 3 rfl rfl)
theorem dX10_lays_52 : decode cX10_lays 52 = .ok (.getfield 208, 3) := dk_180 0 208 (dk_at dksX10_lays_2 6 rfl rfl)
theorem dX10_lays_55 : decode cX10_lays 55 = .ok (.iconst 3, 1) := dk_6 (dk_at dksX10_lays_2 9 rfl rfl)
theorem dX10_lays_56 : decode cX10_lays 56 = .ok (.aload_n 0, 1) := dk_42 (dk_at dksX10_lays_2 10 rfl rfl)
theorem dX10_lays_57 : decode cX10_lays 57 = .ok (.getfield 69, 3) := dk_180 0 69 (dk_at dksX10_lays_2 11 rfl rfl)
theorem dX10_lays_60 : decode cX10_lays 60 = .ok (.aload_n 0, 1) := dk_42 (dk_at dksX10_lays_2 14 rfl rfl)
theorem dX10_lays_61 : decode cX10_lays 61 = .ok (.getfield 35, 3) := dk_180 0 35 (dk_at dksX10_lays_2 15 rfl rfl)
theorem dX10_lays_64 : decode cX10_lays 64 = .ok (.iconst 0, 1) := dk_3 (dk_at dksX10_lays_2 18 rfl rfl)
theorem dX10_lays_65 : decode cX10_lays 65 = .ok (.invokeinterface 124 2, 5) := by decide +kernel
theorem dX10_lays_70 : decode cX10_lays 70 = .ok (.checkcast 128, 3) := dk_192 0 128 (dk_at dksX10_lays_3 0 rfl rfl)
theorem dX10_lays_73 : decode cX10_lays 73 = .ok (.getfield 213, 3) := dk_180 0 213 (dk_at dksX10_lays_3 3 rfl rfl)
theorem dX10_lays_76 : decode cX10_lays 76 = .ok (.isub, 1) := dk_100 (dk_at dksX10_lays_3 6 rfl rfl)
theorem dX10_lays_77 : decode cX10_lays 77 = .ok (.i2l, 1) := dk_133 (dk_at dksX10_lays_3 7 rfl rfl)
theorem dX10_lays_78 : decode cX10_lays 78 = .ok (.lastore, 1) := dk_80 (dk_at dksX10_lays_3 8 rfl rfl)
theorem dX10_lays_79 : decode cX10_lays 79 = .ok (.aload_n 0, 1) := dk_42 (dk_at dksX10_lays_3 9 rfl rfl)
theorem dX10_lays_80 : decode cX10_lays 80 = .ok (.getfield 3, 3) := dk_180 0 3 (dk_at dksX10_lays_3 10 rfl rfl)
theorem dX10_lays_83 : decode cX10_lays 83 = .ok (.getfield 204, 3) := dk_180 0 204 (dk_at dksX10_lays_3 13 rfl rfl)
theorem dX10_lays_86 : decode cX10_lays 86 = .ok (.getfield 208, 3) := dk_180 0 208 (dk_at dksX10_lays_3 16 rfl rfl)
theorem dX10_lays_89 : decode cX10_lays 89 = .ok (.iconst 4, 1) := dk_7 (dk_at dksX10_lays_3 19 rfl rfl)
theorem dX10_lays_90 : decode cX10_lays 90 = .ok (.aload_n 0, 1) := dk_42 (dk_at dksX10_lays_3 20 rfl rfl)
theorem dX10_lays_91 : decode cX10_lays 91 = .ok (.getfield 55, 3) := dk_180 0 55 (dk_at dksX10_lays_3 21 rfl rfl)
theorem dX10_lays_94 : decode cX10_lays 94 = .ok (.invokevirtual 214, 3) := dk_182 0 214 (dk_at dksX10_lays_4 0 rfl rfl)
theorem dX10_lays_97 : decode cX10_lays 97 = .ok (.i2l, 1) := dk_133 (dk_at dksX10_lays_4 3 rfl rfl)
theorem dX10_lays_98 : decode cX10_lays 98 = .ok (.lastore, 1) := dk_80 (dk_at dksX10_lays_4 4 rfl rfl)
theorem dX10_lays_99 : decode cX10_lays 99 = .ok (.return_, 1) := dk_177 (dk_at dksX10_lays_4 5 rfl rfl)
abbrev cX10_closes : ByteArray := prog_21_method_13_code
def yX10_closes : MethodName := ⟨RX10, "closes", "(I)V"⟩
def dkwX10_closes_14 : List UInt8 := [177]
abbrev dktX10_closes_14 : List UInt8 := dkwX10_closes_14 ++ []
def dkwX10_closes_13 : List UInt8 := [42, 180, 0, 20, 29, 42, 180, 0, 3, 180, 0, 238, 180, 1, 25, 29, 46, 79, 132, 3, 1, 167, 255, 230]
abbrev dktX10_closes_13 : List UInt8 := dkwX10_closes_13 ++ dktX10_closes_14
def dkwX10_closes_12 : List UInt8 := [181, 0, 85, 42, 42, 180, 0, 3, 180, 0, 238, 180, 1, 24, 181, 0, 88, 3, 62, 29, 7, 162, 0, 27]
abbrev dktX10_closes_12 : List UInt8 := dkwX10_closes_12 ++ dktX10_closes_13
def dkwX10_closes_11 : List UInt8 := [42, 180, 0, 3, 180, 0, 238, 180, 1, 22, 181, 0, 109, 42, 42, 180, 0, 3, 180, 0, 238, 180, 1, 23]
abbrev dktX10_closes_11 : List UInt8 := dkwX10_closes_11 ++ dktX10_closes_12
def dkwX10_closes_10 : List UInt8 := [29, 46, 79, 132, 3, 1, 167, 255, 209, 42, 42, 180, 0, 3, 180, 0, 238, 180, 1, 21, 181, 0, 106, 42]
abbrev dktX10_closes_10 : List UInt8 := dkwX10_closes_10 ++ dktX10_closes_11
def dkwX10_closes_9 : List UInt8 := [180, 0, 238, 180, 1, 19, 29, 46, 79, 42, 180, 0, 27, 29, 42, 180, 0, 3, 180, 0, 238, 180, 1, 20]
abbrev dktX10_closes_9 : List UInt8 := dkwX10_closes_9 ++ dktX10_closes_10
def dkwX10_closes_8 : List UInt8 := [181, 0, 91, 3, 62, 29, 42, 180, 0, 91, 162, 0, 45, 42, 180, 0, 24, 29, 42, 180, 0, 3]
abbrev dktX10_closes_8 : List UInt8 := dkwX10_closes_8 ++ dktX10_closes_9
def dkwX10_closes_7 : List UInt8 := [185, 0, 130, 2, 0, 87, 132, 3, 1, 167, 255, 225, 42, 42, 180, 0, 3, 180, 0, 238, 180, 1, 18]
abbrev dktX10_closes_7 : List UInt8 := dkwX10_closes_7 ++ dktX10_closes_8
def dkwX10_closes_6 : List UInt8 := [162, 0, 32, 42, 180, 0, 39, 42, 180, 0, 35, 3, 185, 1, 16, 2, 0, 192, 0, 128]
abbrev dktX10_closes_6 : List UInt8 := dkwX10_closes_6 ++ dktX10_closes_7
def dkwX10_closes_5 : List UInt8 := [180, 0, 3, 180, 0, 204, 182, 1, 4, 16, 99, 184, 1, 9, 184, 1, 13, 181, 0, 79, 3, 62, 29, 27]
abbrev dktX10_closes_5 : List UInt8 := dkwX10_closes_5 ++ dktX10_closes_6
def dkwX10_closes_4 : List UInt8 := [16, 16, 108, 96, 184, 0, 255, 167, 0, 32, 4, 42, 180, 0, 3, 180, 0, 220, 180, 0, 251, 42]
abbrev dktX10_closes_4 : List UInt8 := dkwX10_closes_4 ++ dktX10_closes_5
def dkwX10_closes_3 : List UInt8 := [42, 27, 28, 182, 0, 216, 42, 42, 180, 0, 3, 180, 0, 220, 180, 0, 251, 199, 0, 17, 16, 99, 4, 28]
abbrev dktX10_closes_3 : List UInt8 := dkwX10_closes_3 ++ dktX10_closes_4
def dkwX10_closes_2 : List UInt8 := [42, 180, 0, 35, 29, 185, 0, 124, 2, 0, 192, 0, 128, 182, 0, 198, 96, 61, 132, 3, 1, 167, 255, 202]
abbrev dktX10_closes_2 : List UInt8 := dkwX10_closes_2 ++ dktX10_closes_3
def dkwX10_closes_1 : List UInt8 := [180, 0, 238, 42, 180, 0, 35, 29, 185, 0, 124, 2, 0, 192, 0, 128, 182, 0, 248, 154, 0, 4, 177, 28]
abbrev dktX10_closes_1 : List UInt8 := dkwX10_closes_1 ++ dktX10_closes_2
def dkwX10_closes_0 : List UInt8 := [42, 180, 0, 3, 180, 0, 238, 42, 182, 0, 242, 3, 61, 3, 62, 29, 27, 162, 0, 55, 42, 180, 0, 3]
abbrev dktX10_closes_0 : List UInt8 := dkwX10_closes_0 ++ dktX10_closes_1
theorem dksX10_closes_0 : cX10_closes.data.toList.drop 0 = dktX10_closes_0 := by decide +kernel
theorem dksX10_closes_1 : cX10_closes.data.toList.drop 24 = dktX10_closes_1 := dk_seg dksX10_closes_0 24 rfl rfl
theorem dksX10_closes_2 : cX10_closes.data.toList.drop 48 = dktX10_closes_2 := dk_seg dksX10_closes_1 24 rfl rfl
theorem dksX10_closes_3 : cX10_closes.data.toList.drop 72 = dktX10_closes_3 := dk_seg dksX10_closes_2 24 rfl rfl
theorem dksX10_closes_4 : cX10_closes.data.toList.drop 96 = dktX10_closes_4 := dk_seg dksX10_closes_3 24 rfl rfl
theorem dksX10_closes_5 : cX10_closes.data.toList.drop 118 = dktX10_closes_5 := dk_seg dksX10_closes_4 22 rfl rfl
theorem dksX10_closes_6 : cX10_closes.data.toList.drop 142 = dktX10_closes_6 := dk_seg dksX10_closes_5 24 rfl rfl
theorem dksX10_closes_7 : cX10_closes.data.toList.drop 162 = dktX10_closes_7 := dk_seg dksX10_closes_6 20 rfl rfl
theorem dksX10_closes_8 : cX10_closes.data.toList.drop 185 = dktX10_closes_8 := dk_seg dksX10_closes_7 23 rfl rfl
theorem dksX10_closes_9 : cX10_closes.data.toList.drop 207 = dktX10_closes_9 := dk_seg dksX10_closes_8 22 rfl rfl
theorem dksX10_closes_10 : cX10_closes.data.toList.drop 231 = dktX10_closes_10 := dk_seg dksX10_closes_9 24 rfl rfl
theorem dksX10_closes_11 : cX10_closes.data.toList.drop 255 = dktX10_closes_11 := dk_seg dksX10_closes_10 24 rfl rfl
theorem dksX10_closes_12 : cX10_closes.data.toList.drop 279 = dktX10_closes_12 := dk_seg dksX10_closes_11 24 rfl rfl
theorem dksX10_closes_13 : cX10_closes.data.toList.drop 303 = dktX10_closes_13 := dk_seg dksX10_closes_12 24 rfl rfl
theorem dksX10_closes_14 : cX10_closes.data.toList.drop 327 = dktX10_closes_14 := dk_seg dksX10_closes_13 24 rfl rfl
theorem dX10_closes_0 : decode cX10_closes 0 = .ok (.aload_n 0, 1) := dk_42 (dk_at dksX10_closes_0 0 rfl rfl)
theorem dX10_closes_1 : decode cX10_closes 1 = .ok (.getfield 3, 3) := dk_180 0 3 (dk_at dksX10_closes_0 1 rfl rfl)
theorem dX10_closes_4 : decode cX10_closes 4 = .ok (.getfield 238, 3) := dk_180 0 238 (dk_at dksX10_closes_0 4 rfl rfl)
theorem dX10_closes_7 : decode cX10_closes 7 = .ok (.aload_n 0, 1) := dk_42 (dk_at dksX10_closes_0 7 rfl rfl)
theorem dX10_closes_8 : decode cX10_closes 8 = .ok (.invokevirtual 242, 3) := dk_182 0 242 (dk_at dksX10_closes_0 8 rfl rfl)
theorem dX10_closes_11 : decode cX10_closes 11 = .ok (.iconst 0, 1) := dk_3 (dk_at dksX10_closes_0 11 rfl rfl)
theorem dX10_closes_12 : decode cX10_closes 12 = .ok (.istore_n 2, 1) := dk_61 (dk_at dksX10_closes_0 12 rfl rfl)
theorem dX10_closes_13 : decode cX10_closes 13 = .ok (.iconst 0, 1) := dk_3 (dk_at dksX10_closes_0 13 rfl rfl)
theorem dX10_closes_14 : decode cX10_closes 14 = .ok (.istore_n 3, 1) := dk_62 (dk_at dksX10_closes_0 14 rfl rfl)
theorem dX10_closes_15 : decode cX10_closes 15 = .ok (.iload_n 3, 1) := dk_29 (dk_at dksX10_closes_0 15 rfl rfl)
theorem dX10_closes_16 : decode cX10_closes 16 = .ok (.iload_n 1, 1) := dk_27 (dk_at dksX10_closes_0 16 rfl rfl)
theorem dX10_closes_17 : decode cX10_closes 17 = .ok (.if_icmp .ge 55, 3) := dk_162 0 55 (dk_at dksX10_closes_0 17 rfl rfl)
theorem dX10_closes_20 : decode cX10_closes 20 = .ok (.aload_n 0, 1) := dk_42 (dk_at dksX10_closes_0 20 rfl rfl)
theorem dX10_closes_21 : decode cX10_closes 21 = .ok (.getfield 3, 3) := dk_180 0 3 (dk_at dksX10_closes_0 21 rfl rfl)
theorem dX10_closes_24 : decode cX10_closes 24 = .ok (.getfield 238, 3) := dk_180 0 238 (dk_at dksX10_closes_1 0 rfl rfl)
theorem dX10_closes_27 : decode cX10_closes 27 = .ok (.aload_n 0, 1) := dk_42 (dk_at dksX10_closes_1 3 rfl rfl)
theorem dX10_closes_28 : decode cX10_closes 28 = .ok (.getfield 35, 3) := dk_180 0 35 (dk_at dksX10_closes_1 4 rfl rfl)
theorem dX10_closes_31 : decode cX10_closes 31 = .ok (.iload_n 3, 1) := dk_29 (dk_at dksX10_closes_1 7 rfl rfl)
theorem dX10_closes_32 : decode cX10_closes 32 = .ok (.invokeinterface 124 2, 5) := by decide +kernel
theorem dX10_closes_37 : decode cX10_closes 37 = .ok (.checkcast 128, 3) := dk_192 0 128 (dk_at dksX10_closes_1 13 rfl rfl)
theorem dX10_closes_40 : decode cX10_closes 40 = .ok (.invokevirtual 248, 3) := dk_182 0 248 (dk_at dksX10_closes_1 16 rfl rfl)
theorem dX10_closes_43 : decode cX10_closes 43 = .ok (.ifCond .ne 4, 3) := dk_154 0 4 (dk_at dksX10_closes_1 19 rfl rfl)
theorem dX10_closes_46 : decode cX10_closes 46 = .ok (.return_, 1) := dk_177 (dk_at dksX10_closes_1 22 rfl rfl)
theorem dX10_closes_47 : decode cX10_closes 47 = .ok (.iload_n 2, 1) := dk_28 (dk_at dksX10_closes_1 23 rfl rfl)
theorem dX10_closes_48 : decode cX10_closes 48 = .ok (.aload_n 0, 1) := dk_42 (dk_at dksX10_closes_2 0 rfl rfl)
theorem dX10_closes_49 : decode cX10_closes 49 = .ok (.getfield 35, 3) := dk_180 0 35 (dk_at dksX10_closes_2 1 rfl rfl)
theorem dX10_closes_52 : decode cX10_closes 52 = .ok (.iload_n 3, 1) := dk_29 (dk_at dksX10_closes_2 4 rfl rfl)
theorem dX10_closes_53 : decode cX10_closes 53 = .ok (.invokeinterface 124 2, 5) := by decide +kernel
theorem dX10_closes_58 : decode cX10_closes 58 = .ok (.checkcast 128, 3) := dk_192 0 128 (dk_at dksX10_closes_2 10 rfl rfl)
theorem dX10_closes_61 : decode cX10_closes 61 = .ok (.invokevirtual 198, 3) := dk_182 0 198 (dk_at dksX10_closes_2 13 rfl rfl)
theorem dX10_closes_64 : decode cX10_closes 64 = .ok (.iadd, 1) := dk_96 (dk_at dksX10_closes_2 16 rfl rfl)
theorem dX10_closes_65 : decode cX10_closes 65 = .ok (.istore_n 2, 1) := dk_61 (dk_at dksX10_closes_2 17 rfl rfl)
theorem dX10_closes_66 : decode cX10_closes 66 = .ok (.iinc 3 1, 3) := dk_132 3 1 (dk_at dksX10_closes_2 18 rfl rfl)
theorem dX10_closes_69 : decode cX10_closes 69 = .ok (.goto (-54), 3) := dk_167 255 202 (dk_at dksX10_closes_2 21 rfl rfl)
theorem dX10_closes_72 : decode cX10_closes 72 = .ok (.aload_n 0, 1) := dk_42 (dk_at dksX10_closes_3 0 rfl rfl)
theorem dX10_closes_73 : decode cX10_closes 73 = .ok (.iload_n 1, 1) := dk_27 (dk_at dksX10_closes_3 1 rfl rfl)
theorem dX10_closes_74 : decode cX10_closes 74 = .ok (.iload_n 2, 1) := dk_28 (dk_at dksX10_closes_3 2 rfl rfl)
theorem dX10_closes_75 : decode cX10_closes 75 = .ok (.invokevirtual 216, 3) := dk_182 0 216 (dk_at dksX10_closes_3 3 rfl rfl)
theorem dX10_closes_78 : decode cX10_closes 78 = .ok (.aload_n 0, 1) := dk_42 (dk_at dksX10_closes_3 6 rfl rfl)
theorem dX10_closes_79 : decode cX10_closes 79 = .ok (.aload_n 0, 1) := dk_42 (dk_at dksX10_closes_3 7 rfl rfl)
theorem dX10_closes_80 : decode cX10_closes 80 = .ok (.getfield 3, 3) := dk_180 0 3 (dk_at dksX10_closes_3 8 rfl rfl)
theorem dX10_closes_83 : decode cX10_closes 83 = .ok (.getfield 220, 3) := dk_180 0 220 (dk_at dksX10_closes_3 11 rfl rfl)
theorem dX10_closes_86 : decode cX10_closes 86 = .ok (.getfield 251, 3) := dk_180 0 251 (dk_at dksX10_closes_3 14 rfl rfl)
theorem dX10_closes_89 : decode cX10_closes 89 = .ok (.ifnonnull 17, 3) := dk_199 0 17 (dk_at dksX10_closes_3 17 rfl rfl)
theorem dX10_closes_92 : decode cX10_closes 92 = .ok (.bipush 99, 2) := dk_16 99 (dk_at dksX10_closes_3 20 rfl rfl)
theorem dX10_closes_94 : decode cX10_closes 94 = .ok (.iconst 1, 1) := dk_4 (dk_at dksX10_closes_3 22 rfl rfl)
theorem dX10_closes_95 : decode cX10_closes 95 = .ok (.iload_n 2, 1) := dk_28 (dk_at dksX10_closes_3 23 rfl rfl)
theorem dX10_closes_96 : decode cX10_closes 96 = .ok (.bipush 16, 2) := dk_16 16 (dk_at dksX10_closes_4 0 rfl rfl)
theorem dX10_closes_98 : decode cX10_closes 98 = .ok (.idiv, 1) := dk_108 (dk_at dksX10_closes_4 2 rfl rfl)
theorem dX10_closes_99 : decode cX10_closes 99 = .ok (.iadd, 1) := dk_96 (dk_at dksX10_closes_4 3 rfl rfl)
theorem dX10_closes_100 : decode cX10_closes 100 = .ok (.invokestatic 255, 3) := dk_184 0 255 (dk_at dksX10_closes_4 4 rfl rfl)
theorem dX10_closes_103 : decode cX10_closes 103 = .ok (.goto 32, 3) := dk_167 0 32 (dk_at dksX10_closes_4 7 rfl rfl)
theorem dX10_closes_106 : decode cX10_closes 106 = .ok (.iconst 1, 1) := dk_4 (dk_at dksX10_closes_4 10 rfl rfl)
theorem dX10_closes_107 : decode cX10_closes 107 = .ok (.aload_n 0, 1) := dk_42 (dk_at dksX10_closes_4 11 rfl rfl)
theorem dX10_closes_108 : decode cX10_closes 108 = .ok (.getfield 3, 3) := dk_180 0 3 (dk_at dksX10_closes_4 12 rfl rfl)
theorem dX10_closes_111 : decode cX10_closes 111 = .ok (.getfield 220, 3) := dk_180 0 220 (dk_at dksX10_closes_4 15 rfl rfl)
theorem dX10_closes_114 : decode cX10_closes 114 = .ok (.getfield 251, 3) := dk_180 0 251 (dk_at dksX10_closes_4 18 rfl rfl)
theorem dX10_closes_117 : decode cX10_closes 117 = .ok (.aload_n 0, 1) := dk_42 (dk_at dksX10_closes_4 21 rfl rfl)
theorem dX10_closes_118 : decode cX10_closes 118 = .ok (.getfield 3, 3) := dk_180 0 3 (dk_at dksX10_closes_5 0 rfl rfl)
theorem dX10_closes_121 : decode cX10_closes 121 = .ok (.getfield 204, 3) := dk_180 0 204 (dk_at dksX10_closes_5 3 rfl rfl)
theorem dX10_closes_124 : decode cX10_closes 124 = .ok (.invokevirtual 260, 3) := dk_182 1 4 (dk_at dksX10_closes_5 6 rfl rfl)
theorem dX10_closes_127 : decode cX10_closes 127 = .ok (.bipush 99, 2) := dk_16 99 (dk_at dksX10_closes_5 9 rfl rfl)
theorem dX10_closes_129 : decode cX10_closes 129 = .ok (.invokestatic 265, 3) := dk_184 1 9 (dk_at dksX10_closes_5 11 rfl rfl)
theorem dX10_closes_132 : decode cX10_closes 132 = .ok (.invokestatic 269, 3) := dk_184 1 13 (dk_at dksX10_closes_5 14 rfl rfl)
theorem dX10_closes_135 : decode cX10_closes 135 = .ok (.putfield 79, 3) := dk_181 0 79 (dk_at dksX10_closes_5 17 rfl rfl)
theorem dX10_closes_138 : decode cX10_closes 138 = .ok (.iconst 0, 1) := dk_3 (dk_at dksX10_closes_5 20 rfl rfl)
theorem dX10_closes_139 : decode cX10_closes 139 = .ok (.istore_n 3, 1) := dk_62 (dk_at dksX10_closes_5 21 rfl rfl)
theorem dX10_closes_140 : decode cX10_closes 140 = .ok (.iload_n 3, 1) := dk_29 (dk_at dksX10_closes_5 22 rfl rfl)
theorem dX10_closes_141 : decode cX10_closes 141 = .ok (.iload_n 1, 1) := dk_27 (dk_at dksX10_closes_5 23 rfl rfl)
theorem dX10_closes_142 : decode cX10_closes 142 = .ok (.if_icmp .ge 32, 3) := dk_162 0 32 (dk_at dksX10_closes_6 0 rfl rfl)
theorem dX10_closes_145 : decode cX10_closes 145 = .ok (.aload_n 0, 1) := dk_42 (dk_at dksX10_closes_6 3 rfl rfl)
theorem dX10_closes_146 : decode cX10_closes 146 = .ok (.getfield 39, 3) := dk_180 0 39 (dk_at dksX10_closes_6 4 rfl rfl)
theorem dX10_closes_149 : decode cX10_closes 149 = .ok (.aload_n 0, 1) := dk_42 (dk_at dksX10_closes_6 7 rfl rfl)
theorem dX10_closes_150 : decode cX10_closes 150 = .ok (.getfield 35, 3) := dk_180 0 35 (dk_at dksX10_closes_6 8 rfl rfl)
theorem dX10_closes_153 : decode cX10_closes 153 = .ok (.iconst 0, 1) := dk_3 (dk_at dksX10_closes_6 11 rfl rfl)
theorem dX10_closes_154 : decode cX10_closes 154 = .ok (.invokeinterface 272 2, 5) := by decide +kernel
theorem dX10_closes_159 : decode cX10_closes 159 = .ok (.checkcast 128, 3) := dk_192 0 128 (dk_at dksX10_closes_6 17 rfl rfl)
theorem dX10_closes_162 : decode cX10_closes 162 = .ok (.invokeinterface 130 2, 5) := by decide +kernel
theorem dX10_closes_167 : decode cX10_closes 167 = .ok (.pop, 1) := dk_87 (dk_at dksX10_closes_7 5 rfl rfl)
theorem dX10_closes_168 : decode cX10_closes 168 = .ok (.iinc 3 1, 3) := dk_132 3 1 (dk_at dksX10_closes_7 6 rfl rfl)
theorem dX10_closes_171 : decode cX10_closes 171 = .ok (.goto (-31), 3) := dk_167 255 225 (dk_at dksX10_closes_7 9 rfl rfl)
theorem dX10_closes_174 : decode cX10_closes 174 = .ok (.aload_n 0, 1) := dk_42 (dk_at dksX10_closes_7 12 rfl rfl)
theorem dX10_closes_175 : decode cX10_closes 175 = .ok (.aload_n 0, 1) := dk_42 (dk_at dksX10_closes_7 13 rfl rfl)
theorem dX10_closes_176 : decode cX10_closes 176 = .ok (.getfield 3, 3) := dk_180 0 3 (dk_at dksX10_closes_7 14 rfl rfl)
theorem dX10_closes_179 : decode cX10_closes 179 = .ok (.getfield 238, 3) := dk_180 0 238 (dk_at dksX10_closes_7 17 rfl rfl)
theorem dX10_closes_182 : decode cX10_closes 182 = .ok (.getfield 274, 3) := dk_180 1 18 (dk_at dksX10_closes_7 20 rfl rfl)
theorem dX10_closes_185 : decode cX10_closes 185 = .ok (.putfield 91, 3) := dk_181 0 91 (dk_at dksX10_closes_8 0 rfl rfl)
theorem dX10_closes_188 : decode cX10_closes 188 = .ok (.iconst 0, 1) := dk_3 (dk_at dksX10_closes_8 3 rfl rfl)
theorem dX10_closes_189 : decode cX10_closes 189 = .ok (.istore_n 3, 1) := dk_62 (dk_at dksX10_closes_8 4 rfl rfl)
theorem dX10_closes_190 : decode cX10_closes 190 = .ok (.iload_n 3, 1) := dk_29 (dk_at dksX10_closes_8 5 rfl rfl)
theorem dX10_closes_191 : decode cX10_closes 191 = .ok (.aload_n 0, 1) := dk_42 (dk_at dksX10_closes_8 6 rfl rfl)
theorem dX10_closes_192 : decode cX10_closes 192 = .ok (.getfield 91, 3) := dk_180 0 91 (dk_at dksX10_closes_8 7 rfl rfl)
theorem dX10_closes_195 : decode cX10_closes 195 = .ok (.if_icmp .ge 45, 3) := dk_162 0 45 (dk_at dksX10_closes_8 10 rfl rfl)
theorem dX10_closes_198 : decode cX10_closes 198 = .ok (.aload_n 0, 1) := dk_42 (dk_at dksX10_closes_8 13 rfl rfl)
theorem dX10_closes_199 : decode cX10_closes 199 = .ok (.getfield 24, 3) := dk_180 0 24 (dk_at dksX10_closes_8 14 rfl rfl)
theorem dX10_closes_202 : decode cX10_closes 202 = .ok (.iload_n 3, 1) := dk_29 (dk_at dksX10_closes_8 17 rfl rfl)
theorem dX10_closes_203 : decode cX10_closes 203 = .ok (.aload_n 0, 1) := dk_42 (dk_at dksX10_closes_8 18 rfl rfl)
theorem dX10_closes_204 : decode cX10_closes 204 = .ok (.getfield 3, 3) := dk_180 0 3 (dk_at dksX10_closes_8 19 rfl rfl)
theorem dX10_closes_207 : decode cX10_closes 207 = .ok (.getfield 238, 3) := dk_180 0 238 (dk_at dksX10_closes_9 0 rfl rfl)
theorem dX10_closes_210 : decode cX10_closes 210 = .ok (.getfield 275, 3) := dk_180 1 19 (dk_at dksX10_closes_9 3 rfl rfl)
theorem dX10_closes_213 : decode cX10_closes 213 = .ok (.iload_n 3, 1) := dk_29 (dk_at dksX10_closes_9 6 rfl rfl)
theorem dX10_closes_214 : decode cX10_closes 214 = .ok (.iaload, 1) := dk_46 (dk_at dksX10_closes_9 7 rfl rfl)
theorem dX10_closes_215 : decode cX10_closes 215 = .ok (.iastore, 1) := dk_79 (dk_at dksX10_closes_9 8 rfl rfl)
theorem dX10_closes_216 : decode cX10_closes 216 = .ok (.aload_n 0, 1) := dk_42 (dk_at dksX10_closes_9 9 rfl rfl)
theorem dX10_closes_217 : decode cX10_closes 217 = .ok (.getfield 27, 3) := dk_180 0 27 (dk_at dksX10_closes_9 10 rfl rfl)
theorem dX10_closes_220 : decode cX10_closes 220 = .ok (.iload_n 3, 1) := dk_29 (dk_at dksX10_closes_9 13 rfl rfl)
theorem dX10_closes_221 : decode cX10_closes 221 = .ok (.aload_n 0, 1) := dk_42 (dk_at dksX10_closes_9 14 rfl rfl)
theorem dX10_closes_222 : decode cX10_closes 222 = .ok (.getfield 3, 3) := dk_180 0 3 (dk_at dksX10_closes_9 15 rfl rfl)
theorem dX10_closes_225 : decode cX10_closes 225 = .ok (.getfield 238, 3) := dk_180 0 238 (dk_at dksX10_closes_9 18 rfl rfl)
theorem dX10_closes_228 : decode cX10_closes 228 = .ok (.getfield 276, 3) := dk_180 1 20 (dk_at dksX10_closes_9 21 rfl rfl)
theorem dX10_closes_231 : decode cX10_closes 231 = .ok (.iload_n 3, 1) := dk_29 (dk_at dksX10_closes_10 0 rfl rfl)
theorem dX10_closes_232 : decode cX10_closes 232 = .ok (.iaload, 1) := dk_46 (dk_at dksX10_closes_10 1 rfl rfl)
theorem dX10_closes_233 : decode cX10_closes 233 = .ok (.iastore, 1) := dk_79 (dk_at dksX10_closes_10 2 rfl rfl)
theorem dX10_closes_234 : decode cX10_closes 234 = .ok (.iinc 3 1, 3) := dk_132 3 1 (dk_at dksX10_closes_10 3 rfl rfl)
theorem dX10_closes_237 : decode cX10_closes 237 = .ok (.goto (-47), 3) := dk_167 255 209 (dk_at dksX10_closes_10 6 rfl rfl)
theorem dX10_closes_240 : decode cX10_closes 240 = .ok (.aload_n 0, 1) := dk_42 (dk_at dksX10_closes_10 9 rfl rfl)
theorem dX10_closes_241 : decode cX10_closes 241 = .ok (.aload_n 0, 1) := dk_42 (dk_at dksX10_closes_10 10 rfl rfl)
theorem dX10_closes_242 : decode cX10_closes 242 = .ok (.getfield 3, 3) := dk_180 0 3 (dk_at dksX10_closes_10 11 rfl rfl)
theorem dX10_closes_245 : decode cX10_closes 245 = .ok (.getfield 238, 3) := dk_180 0 238 (dk_at dksX10_closes_10 14 rfl rfl)
theorem dX10_closes_248 : decode cX10_closes 248 = .ok (.getfield 277, 3) := dk_180 1 21 (dk_at dksX10_closes_10 17 rfl rfl)
theorem dX10_closes_251 : decode cX10_closes 251 = .ok (.putfield 106, 3) := dk_181 0 106 (dk_at dksX10_closes_10 20 rfl rfl)
theorem dX10_closes_254 : decode cX10_closes 254 = .ok (.aload_n 0, 1) := dk_42 (dk_at dksX10_closes_10 23 rfl rfl)
theorem dX10_closes_255 : decode cX10_closes 255 = .ok (.aload_n 0, 1) := dk_42 (dk_at dksX10_closes_11 0 rfl rfl)
theorem dX10_closes_256 : decode cX10_closes 256 = .ok (.getfield 3, 3) := dk_180 0 3 (dk_at dksX10_closes_11 1 rfl rfl)
theorem dX10_closes_259 : decode cX10_closes 259 = .ok (.getfield 238, 3) := dk_180 0 238 (dk_at dksX10_closes_11 4 rfl rfl)
theorem dX10_closes_262 : decode cX10_closes 262 = .ok (.getfield 278, 3) := dk_180 1 22 (dk_at dksX10_closes_11 7 rfl rfl)
theorem dX10_closes_265 : decode cX10_closes 265 = .ok (.putfield 109, 3) := dk_181 0 109 (dk_at dksX10_closes_11 10 rfl rfl)
theorem dX10_closes_268 : decode cX10_closes 268 = .ok (.aload_n 0, 1) := dk_42 (dk_at dksX10_closes_11 13 rfl rfl)
theorem dX10_closes_269 : decode cX10_closes 269 = .ok (.aload_n 0, 1) := dk_42 (dk_at dksX10_closes_11 14 rfl rfl)
theorem dX10_closes_270 : decode cX10_closes 270 = .ok (.getfield 3, 3) := dk_180 0 3 (dk_at dksX10_closes_11 15 rfl rfl)
theorem dX10_closes_273 : decode cX10_closes 273 = .ok (.getfield 238, 3) := dk_180 0 238 (dk_at dksX10_closes_11 18 rfl rfl)
theorem dX10_closes_276 : decode cX10_closes 276 = .ok (.getfield 279, 3) := dk_180 1 23 (dk_at dksX10_closes_11 21 rfl rfl)
theorem dX10_closes_279 : decode cX10_closes 279 = .ok (.putfield 85, 3) := dk_181 0 85 (dk_at dksX10_closes_12 0 rfl rfl)
theorem dX10_closes_282 : decode cX10_closes 282 = .ok (.aload_n 0, 1) := dk_42 (dk_at dksX10_closes_12 3 rfl rfl)
theorem dX10_closes_283 : decode cX10_closes 283 = .ok (.aload_n 0, 1) := dk_42 (dk_at dksX10_closes_12 4 rfl rfl)
theorem dX10_closes_284 : decode cX10_closes 284 = .ok (.getfield 3, 3) := dk_180 0 3 (dk_at dksX10_closes_12 5 rfl rfl)
theorem dX10_closes_287 : decode cX10_closes 287 = .ok (.getfield 238, 3) := dk_180 0 238 (dk_at dksX10_closes_12 8 rfl rfl)
theorem dX10_closes_290 : decode cX10_closes 290 = .ok (.getfield 280, 3) := dk_180 1 24 (dk_at dksX10_closes_12 11 rfl rfl)
theorem dX10_closes_293 : decode cX10_closes 293 = .ok (.putfield 88, 3) := dk_181 0 88 (dk_at dksX10_closes_12 14 rfl rfl)
theorem dX10_closes_296 : decode cX10_closes 296 = .ok (.iconst 0, 1) := dk_3 (dk_at dksX10_closes_12 17 rfl rfl)
theorem dX10_closes_297 : decode cX10_closes 297 = .ok (.istore_n 3, 1) := dk_62 (dk_at dksX10_closes_12 18 rfl rfl)
theorem dX10_closes_298 : decode cX10_closes 298 = .ok (.iload_n 3, 1) := dk_29 (dk_at dksX10_closes_12 19 rfl rfl)
theorem dX10_closes_299 : decode cX10_closes 299 = .ok (.iconst 4, 1) := dk_7 (dk_at dksX10_closes_12 20 rfl rfl)
theorem dX10_closes_300 : decode cX10_closes 300 = .ok (.if_icmp .ge 27, 3) := dk_162 0 27 (dk_at dksX10_closes_12 21 rfl rfl)
theorem dX10_closes_303 : decode cX10_closes 303 = .ok (.aload_n 0, 1) := dk_42 (dk_at dksX10_closes_13 0 rfl rfl)
theorem dX10_closes_304 : decode cX10_closes 304 = .ok (.getfield 20, 3) := dk_180 0 20 (dk_at dksX10_closes_13 1 rfl rfl)
theorem dX10_closes_307 : decode cX10_closes 307 = .ok (.iload_n 3, 1) := dk_29 (dk_at dksX10_closes_13 4 rfl rfl)
theorem dX10_closes_308 : decode cX10_closes 308 = .ok (.aload_n 0, 1) := dk_42 (dk_at dksX10_closes_13 5 rfl rfl)
theorem dX10_closes_309 : decode cX10_closes 309 = .ok (.getfield 3, 3) := dk_180 0 3 (dk_at dksX10_closes_13 6 rfl rfl)
theorem dX10_closes_312 : decode cX10_closes 312 = .ok (.getfield 238, 3) := dk_180 0 238 (dk_at dksX10_closes_13 9 rfl rfl)
theorem dX10_closes_315 : decode cX10_closes 315 = .ok (.getfield 281, 3) := dk_180 1 25 (dk_at dksX10_closes_13 12 rfl rfl)
theorem dX10_closes_318 : decode cX10_closes 318 = .ok (.iload_n 3, 1) := dk_29 (dk_at dksX10_closes_13 15 rfl rfl)
theorem dX10_closes_319 : decode cX10_closes 319 = .ok (.iaload, 1) := dk_46 (dk_at dksX10_closes_13 16 rfl rfl)
theorem dX10_closes_320 : decode cX10_closes 320 = .ok (.iastore, 1) := dk_79 (dk_at dksX10_closes_13 17 rfl rfl)
theorem dX10_closes_321 : decode cX10_closes 321 = .ok (.iinc 3 1, 3) := dk_132 3 1 (dk_at dksX10_closes_13 18 rfl rfl)
theorem dX10_closes_324 : decode cX10_closes 324 = .ok (.goto (-26), 3) := dk_167 255 230 (dk_at dksX10_closes_13 21 rfl rfl)
theorem dX10_closes_327 : decode cX10_closes 327 = .ok (.return_, 1) := dk_177 (dk_at dksX10_closes_14 0 rfl rfl)
abbrev cX10_takes : ByteArray := prog_21_method_5_code
def yX10_takes : MethodName := ⟨RX10, "takes", "(LGroupJournal$State;)LGroupJournal$State;"⟩
def dkwX10_takes_8 : List UInt8 := [185, 0, 130, 2, 0, 87, 132, 2, 1, 167, 255, 217, 42, 176]
abbrev dktX10_takes_8 : List UInt8 := dkwX10_takes_8 ++ []
def dkwX10_takes_7 : List UInt8 := [162, 0, 32, 42, 180, 0, 66, 43, 180, 0, 66, 28, 185, 0, 124, 2, 0, 192, 0, 186]
abbrev dktX10_takes_7 : List UInt8 := dkwX10_takes_7 ++ dktX10_takes_8
def dkwX10_takes_6 : List UInt8 := [167, 255, 228, 42, 180, 0, 66, 185, 0, 98, 1, 0, 3, 61, 28, 43, 180, 0, 66, 185, 0, 120, 1, 0]
abbrev dktX10_takes_6 : List UInt8 := dkwX10_takes_6 ++ dktX10_takes_7
def dkwX10_takes_5 : List UInt8 := [153, 0, 25, 44, 185, 0, 153, 1, 0, 192, 0, 183, 78, 42, 180, 0, 62, 45, 182, 0, 185, 87]
abbrev dktX10_takes_5 : List UInt8 := dkwX10_takes_5 ++ dktX10_takes_6
def dkwX10_takes_4 : List UInt8 := [180, 0, 62, 182, 0, 181, 154, 0, 42, 43, 180, 0, 62, 182, 0, 182, 77, 44, 185, 0, 148, 1, 0]
abbrev dktX10_takes_4 : List UInt8 := dkwX10_takes_4 ++ dktX10_takes_5
def dkwX10_takes_3 : List UInt8 := [42, 180, 0, 3, 42, 180, 0, 49, 43, 180, 0, 49, 182, 0, 177, 42, 180, 0, 62, 182, 0, 105, 43]
abbrev dktX10_takes_3 : List UInt8 := dkwX10_takes_3 ++ dktX10_takes_4
def dkwX10_takes_2 : List UInt8 := [167, 255, 226, 132, 2, 1, 167, 255, 213, 42, 180, 0, 3, 42, 180, 0, 45, 43, 180, 0, 45, 182, 0, 177]
abbrev dktX10_takes_2 : List UInt8 := dkwX10_takes_2 ++ dktX10_takes_3
def dkwX10_takes_1 : List UInt8 := [162, 0, 25, 42, 180, 0, 17, 28, 50, 29, 43, 180, 0, 17, 28, 50, 29, 46, 79, 132, 3, 1]
abbrev dktX10_takes_1 : List UInt8 := dkwX10_takes_1 ++ dktX10_takes_2
def dkwX10_takes_0 : List UInt8 := [42, 43, 182, 0, 170, 87, 3, 61, 28, 7, 162, 0, 44, 3, 62, 29, 42, 180, 0, 3, 182, 0, 174]
abbrev dktX10_takes_0 : List UInt8 := dkwX10_takes_0 ++ dktX10_takes_1
theorem dksX10_takes_0 : cX10_takes.data.toList.drop 0 = dktX10_takes_0 := by decide +kernel
theorem dksX10_takes_1 : cX10_takes.data.toList.drop 23 = dktX10_takes_1 := dk_seg dksX10_takes_0 23 rfl rfl
theorem dksX10_takes_2 : cX10_takes.data.toList.drop 45 = dktX10_takes_2 := dk_seg dksX10_takes_1 22 rfl rfl
theorem dksX10_takes_3 : cX10_takes.data.toList.drop 69 = dktX10_takes_3 := dk_seg dksX10_takes_2 24 rfl rfl
theorem dksX10_takes_4 : cX10_takes.data.toList.drop 92 = dktX10_takes_4 := dk_seg dksX10_takes_3 23 rfl rfl
theorem dksX10_takes_5 : cX10_takes.data.toList.drop 115 = dktX10_takes_5 := dk_seg dksX10_takes_4 23 rfl rfl
theorem dksX10_takes_6 : cX10_takes.data.toList.drop 137 = dktX10_takes_6 := dk_seg dksX10_takes_5 22 rfl rfl
theorem dksX10_takes_7 : cX10_takes.data.toList.drop 161 = dktX10_takes_7 := dk_seg dksX10_takes_6 24 rfl rfl
theorem dksX10_takes_8 : cX10_takes.data.toList.drop 181 = dktX10_takes_8 := dk_seg dksX10_takes_7 20 rfl rfl
theorem dX10_takes_0 : decode cX10_takes 0 = .ok (.aload_n 0, 1) := dk_42 (dk_at dksX10_takes_0 0 rfl rfl)
theorem dX10_takes_1 : decode cX10_takes 1 = .ok (.aload_n 1, 1) := dk_43 (dk_at dksX10_takes_0 1 rfl rfl)
theorem dX10_takes_2 : decode cX10_takes 2 = .ok (.invokevirtual 170, 3) := dk_182 0 170 (dk_at dksX10_takes_0 2 rfl rfl)
theorem dX10_takes_5 : decode cX10_takes 5 = .ok (.pop, 1) := dk_87 (dk_at dksX10_takes_0 5 rfl rfl)
theorem dX10_takes_6 : decode cX10_takes 6 = .ok (.iconst 0, 1) := dk_3 (dk_at dksX10_takes_0 6 rfl rfl)
theorem dX10_takes_7 : decode cX10_takes 7 = .ok (.istore_n 2, 1) := dk_61 (dk_at dksX10_takes_0 7 rfl rfl)
theorem dX10_takes_8 : decode cX10_takes 8 = .ok (.iload_n 2, 1) := dk_28 (dk_at dksX10_takes_0 8 rfl rfl)
theorem dX10_takes_9 : decode cX10_takes 9 = .ok (.iconst 4, 1) := dk_7 (dk_at dksX10_takes_0 9 rfl rfl)
theorem dX10_takes_10 : decode cX10_takes 10 = .ok (.if_icmp .ge 44, 3) := dk_162 0 44 (dk_at dksX10_takes_0 10 rfl rfl)
theorem dX10_takes_13 : decode cX10_takes 13 = .ok (.iconst 0, 1) := dk_3 (dk_at dksX10_takes_0 13 rfl rfl)
theorem dX10_takes_14 : decode cX10_takes 14 = .ok (.istore_n 3, 1) := dk_62 (dk_at dksX10_takes_0 14 rfl rfl)
theorem dX10_takes_15 : decode cX10_takes 15 = .ok (.iload_n 3, 1) := dk_29 (dk_at dksX10_takes_0 15 rfl rfl)
theorem dX10_takes_16 : decode cX10_takes 16 = .ok (.aload_n 0, 1) := dk_42 (dk_at dksX10_takes_0 16 rfl rfl)
theorem dX10_takes_17 : decode cX10_takes 17 = .ok (.getfield 3, 3) := dk_180 0 3 (dk_at dksX10_takes_0 17 rfl rfl)
theorem dX10_takes_20 : decode cX10_takes 20 = .ok (.invokevirtual 174, 3) := dk_182 0 174 (dk_at dksX10_takes_0 20 rfl rfl)
theorem dX10_takes_23 : decode cX10_takes 23 = .ok (.if_icmp .ge 25, 3) := dk_162 0 25 (dk_at dksX10_takes_1 0 rfl rfl)
theorem dX10_takes_26 : decode cX10_takes 26 = .ok (.aload_n 0, 1) := dk_42 (dk_at dksX10_takes_1 3 rfl rfl)
theorem dX10_takes_27 : decode cX10_takes 27 = .ok (.getfield 17, 3) := dk_180 0 17 (dk_at dksX10_takes_1 4 rfl rfl)
theorem dX10_takes_30 : decode cX10_takes 30 = .ok (.iload_n 2, 1) := dk_28 (dk_at dksX10_takes_1 7 rfl rfl)
theorem dX10_takes_31 : decode cX10_takes 31 = .ok (.aaload, 1) := dk_50 (dk_at dksX10_takes_1 8 rfl rfl)
theorem dX10_takes_32 : decode cX10_takes 32 = .ok (.iload_n 3, 1) := dk_29 (dk_at dksX10_takes_1 9 rfl rfl)
theorem dX10_takes_33 : decode cX10_takes 33 = .ok (.aload_n 1, 1) := dk_43 (dk_at dksX10_takes_1 10 rfl rfl)
theorem dX10_takes_34 : decode cX10_takes 34 = .ok (.getfield 17, 3) := dk_180 0 17 (dk_at dksX10_takes_1 11 rfl rfl)
theorem dX10_takes_37 : decode cX10_takes 37 = .ok (.iload_n 2, 1) := dk_28 (dk_at dksX10_takes_1 14 rfl rfl)
theorem dX10_takes_38 : decode cX10_takes 38 = .ok (.aaload, 1) := dk_50 (dk_at dksX10_takes_1 15 rfl rfl)
theorem dX10_takes_39 : decode cX10_takes 39 = .ok (.iload_n 3, 1) := dk_29 (dk_at dksX10_takes_1 16 rfl rfl)
theorem dX10_takes_40 : decode cX10_takes 40 = .ok (.iaload, 1) := dk_46 (dk_at dksX10_takes_1 17 rfl rfl)
theorem dX10_takes_41 : decode cX10_takes 41 = .ok (.iastore, 1) := dk_79 (dk_at dksX10_takes_1 18 rfl rfl)
theorem dX10_takes_42 : decode cX10_takes 42 = .ok (.iinc 3 1, 3) := dk_132 3 1 (dk_at dksX10_takes_1 19 rfl rfl)
theorem dX10_takes_45 : decode cX10_takes 45 = .ok (.goto (-30), 3) := dk_167 255 226 (dk_at dksX10_takes_2 0 rfl rfl)
theorem dX10_takes_48 : decode cX10_takes 48 = .ok (.iinc 2 1, 3) := dk_132 2 1 (dk_at dksX10_takes_2 3 rfl rfl)
theorem dX10_takes_51 : decode cX10_takes 51 = .ok (.goto (-43), 3) := dk_167 255 213 (dk_at dksX10_takes_2 6 rfl rfl)
theorem dX10_takes_54 : decode cX10_takes 54 = .ok (.aload_n 0, 1) := dk_42 (dk_at dksX10_takes_2 9 rfl rfl)
theorem dX10_takes_55 : decode cX10_takes 55 = .ok (.getfield 3, 3) := dk_180 0 3 (dk_at dksX10_takes_2 10 rfl rfl)
theorem dX10_takes_58 : decode cX10_takes 58 = .ok (.aload_n 0, 1) := dk_42 (dk_at dksX10_takes_2 13 rfl rfl)
theorem dX10_takes_59 : decode cX10_takes 59 = .ok (.getfield 45, 3) := dk_180 0 45 (dk_at dksX10_takes_2 14 rfl rfl)
theorem dX10_takes_62 : decode cX10_takes 62 = .ok (.aload_n 1, 1) := dk_43 (dk_at dksX10_takes_2 17 rfl rfl)
theorem dX10_takes_63 : decode cX10_takes 63 = .ok (.getfield 45, 3) := dk_180 0 45 (dk_at dksX10_takes_2 18 rfl rfl)
theorem dX10_takes_66 : decode cX10_takes 66 = .ok (.invokevirtual 177, 3) := dk_182 0 177 (dk_at dksX10_takes_2 21 rfl rfl)
theorem dX10_takes_69 : decode cX10_takes 69 = .ok (.aload_n 0, 1) := dk_42 (dk_at dksX10_takes_3 0 rfl rfl)
theorem dX10_takes_70 : decode cX10_takes 70 = .ok (.getfield 3, 3) := dk_180 0 3 (dk_at dksX10_takes_3 1 rfl rfl)
theorem dX10_takes_73 : decode cX10_takes 73 = .ok (.aload_n 0, 1) := dk_42 (dk_at dksX10_takes_3 4 rfl rfl)
theorem dX10_takes_74 : decode cX10_takes 74 = .ok (.getfield 49, 3) := dk_180 0 49 (dk_at dksX10_takes_3 5 rfl rfl)
theorem dX10_takes_77 : decode cX10_takes 77 = .ok (.aload_n 1, 1) := dk_43 (dk_at dksX10_takes_3 8 rfl rfl)
theorem dX10_takes_78 : decode cX10_takes 78 = .ok (.getfield 49, 3) := dk_180 0 49 (dk_at dksX10_takes_3 9 rfl rfl)
theorem dX10_takes_81 : decode cX10_takes 81 = .ok (.invokevirtual 177, 3) := dk_182 0 177 (dk_at dksX10_takes_3 12 rfl rfl)
theorem dX10_takes_84 : decode cX10_takes 84 = .ok (.aload_n 0, 1) := dk_42 (dk_at dksX10_takes_3 15 rfl rfl)
theorem dX10_takes_85 : decode cX10_takes 85 = .ok (.getfield 62, 3) := dk_180 0 62 (dk_at dksX10_takes_3 16 rfl rfl)
theorem dX10_takes_88 : decode cX10_takes 88 = .ok (.invokevirtual 105, 3) := dk_182 0 105 (dk_at dksX10_takes_3 19 rfl rfl)
theorem dX10_takes_91 : decode cX10_takes 91 = .ok (.aload_n 1, 1) := dk_43 (dk_at dksX10_takes_3 22 rfl rfl)
theorem dX10_takes_92 : decode cX10_takes 92 = .ok (.getfield 62, 3) := dk_180 0 62 (dk_at dksX10_takes_4 0 rfl rfl)
theorem dX10_takes_95 : decode cX10_takes 95 = .ok (.invokevirtual 181, 3) := dk_182 0 181 (dk_at dksX10_takes_4 3 rfl rfl)
theorem dX10_takes_98 : decode cX10_takes 98 = .ok (.ifCond .ne 42, 3) := dk_154 0 42 (dk_at dksX10_takes_4 6 rfl rfl)
theorem dX10_takes_101 : decode cX10_takes 101 = .ok (.aload_n 1, 1) := dk_43 (dk_at dksX10_takes_4 9 rfl rfl)
theorem dX10_takes_102 : decode cX10_takes 102 = .ok (.getfield 62, 3) := dk_180 0 62 (dk_at dksX10_takes_4 10 rfl rfl)
theorem dX10_takes_105 : decode cX10_takes 105 = .ok (.invokevirtual 182, 3) := dk_182 0 182 (dk_at dksX10_takes_4 13 rfl rfl)
theorem dX10_takes_108 : decode cX10_takes 108 = .ok (.astore_n 2, 1) := dk_77 (dk_at dksX10_takes_4 16 rfl rfl)
theorem dX10_takes_109 : decode cX10_takes 109 = .ok (.aload_n 2, 1) := dk_44 (dk_at dksX10_takes_4 17 rfl rfl)
theorem dX10_takes_110 : decode cX10_takes 110 = .ok (.invokeinterface 148 1, 5) := by decide +kernel
theorem dX10_takes_115 : decode cX10_takes 115 = .ok (.ifCond .eq 25, 3) := dk_153 0 25 (dk_at dksX10_takes_5 0 rfl rfl)
theorem dX10_takes_118 : decode cX10_takes 118 = .ok (.aload_n 2, 1) := dk_44 (dk_at dksX10_takes_5 3 rfl rfl)
theorem dX10_takes_119 : decode cX10_takes 119 = .ok (.invokeinterface 153 1, 5) := by decide +kernel
theorem dX10_takes_124 : decode cX10_takes 124 = .ok (.checkcast 183, 3) := dk_192 0 183 (dk_at dksX10_takes_5 9 rfl rfl)
theorem dX10_takes_127 : decode cX10_takes 127 = .ok (.astore_n 3, 1) := dk_78 (dk_at dksX10_takes_5 12 rfl rfl)
theorem dX10_takes_128 : decode cX10_takes 128 = .ok (.aload_n 0, 1) := dk_42 (dk_at dksX10_takes_5 13 rfl rfl)
theorem dX10_takes_129 : decode cX10_takes 129 = .ok (.getfield 62, 3) := dk_180 0 62 (dk_at dksX10_takes_5 14 rfl rfl)
theorem dX10_takes_132 : decode cX10_takes 132 = .ok (.aload_n 3, 1) := dk_45 (dk_at dksX10_takes_5 17 rfl rfl)
theorem dX10_takes_133 : decode cX10_takes 133 = .ok (.invokevirtual 185, 3) := dk_182 0 185 (dk_at dksX10_takes_5 18 rfl rfl)
theorem dX10_takes_136 : decode cX10_takes 136 = .ok (.pop, 1) := dk_87 (dk_at dksX10_takes_5 21 rfl rfl)
theorem dX10_takes_137 : decode cX10_takes 137 = .ok (.goto (-28), 3) := dk_167 255 228 (dk_at dksX10_takes_6 0 rfl rfl)
theorem dX10_takes_140 : decode cX10_takes 140 = .ok (.aload_n 0, 1) := dk_42 (dk_at dksX10_takes_6 3 rfl rfl)
theorem dX10_takes_141 : decode cX10_takes 141 = .ok (.getfield 66, 3) := dk_180 0 66 (dk_at dksX10_takes_6 4 rfl rfl)
theorem dX10_takes_144 : decode cX10_takes 144 = .ok (.invokeinterface 98 1, 5) := by decide +kernel
theorem dX10_takes_149 : decode cX10_takes 149 = .ok (.iconst 0, 1) := dk_3 (dk_at dksX10_takes_6 12 rfl rfl)
theorem dX10_takes_150 : decode cX10_takes 150 = .ok (.istore_n 2, 1) := dk_61 (dk_at dksX10_takes_6 13 rfl rfl)
theorem dX10_takes_151 : decode cX10_takes 151 = .ok (.iload_n 2, 1) := dk_28 (dk_at dksX10_takes_6 14 rfl rfl)
theorem dX10_takes_152 : decode cX10_takes 152 = .ok (.aload_n 1, 1) := dk_43 (dk_at dksX10_takes_6 15 rfl rfl)
theorem dX10_takes_153 : decode cX10_takes 153 = .ok (.getfield 66, 3) := dk_180 0 66 (dk_at dksX10_takes_6 16 rfl rfl)
theorem dX10_takes_156 : decode cX10_takes 156 = .ok (.invokeinterface 120 1, 5) := by decide +kernel
theorem dX10_takes_161 : decode cX10_takes 161 = .ok (.if_icmp .ge 32, 3) := dk_162 0 32 (dk_at dksX10_takes_7 0 rfl rfl)
theorem dX10_takes_164 : decode cX10_takes 164 = .ok (.aload_n 0, 1) := dk_42 (dk_at dksX10_takes_7 3 rfl rfl)
theorem dX10_takes_165 : decode cX10_takes 165 = .ok (.getfield 66, 3) := dk_180 0 66 (dk_at dksX10_takes_7 4 rfl rfl)
theorem dX10_takes_168 : decode cX10_takes 168 = .ok (.aload_n 1, 1) := dk_43 (dk_at dksX10_takes_7 7 rfl rfl)
theorem dX10_takes_169 : decode cX10_takes 169 = .ok (.getfield 66, 3) := dk_180 0 66 (dk_at dksX10_takes_7 8 rfl rfl)
theorem dX10_takes_172 : decode cX10_takes 172 = .ok (.iload_n 2, 1) := dk_28 (dk_at dksX10_takes_7 11 rfl rfl)
theorem dX10_takes_173 : decode cX10_takes 173 = .ok (.invokeinterface 124 2, 5) := by decide +kernel
theorem dX10_takes_178 : decode cX10_takes 178 = .ok (.checkcast 186, 3) := dk_192 0 186 (dk_at dksX10_takes_7 17 rfl rfl)
theorem dX10_takes_181 : decode cX10_takes 181 = .ok (.invokeinterface 130 2, 5) := by decide +kernel
theorem dX10_takes_186 : decode cX10_takes 186 = .ok (.pop, 1) := dk_87 (dk_at dksX10_takes_8 5 rfl rfl)
theorem dX10_takes_187 : decode cX10_takes 187 = .ok (.iinc 2 1, 3) := dk_132 2 1 (dk_at dksX10_takes_8 6 rfl rfl)
theorem dX10_takes_190 : decode cX10_takes 190 = .ok (.goto (-39), 3) := dk_167 255 217 (dk_at dksX10_takes_8 9 rfl rfl)
theorem dX10_takes_193 : decode cX10_takes 193 = .ok (.aload_n 0, 1) := dk_42 (dk_at dksX10_takes_8 12 rfl rfl)
theorem dX10_takes_194 : decode cX10_takes 194 = .ok (.areturn, 1) := dk_176 (dk_at dksX10_takes_8 13 rfl rfl)
abbrev cX10_flips : ByteArray := prog_21_method_20_code
def yX10_flips : MethodName := ⟨RX10, "flips", "(II)I"⟩
def dkwX10_flips_3 : List UInt8 := [172]
abbrev dktX10_flips_3 : List UInt8 := dkwX10_flips_3 ++ []
def dkwX10_flips_2 : List UInt8 := [187, 0, 183, 89, 183, 1, 113, 27, 28, 182, 0, 191, 182, 0, 185, 87, 42, 180, 0, 17, 27, 50, 28, 46]
abbrev dktX10_flips_2 : List UInt8 := dkwX10_flips_2 ++ dktX10_flips_3
def dkwX10_flips_1 : List UInt8 := [42, 180, 0, 3, 180, 0, 187, 27, 28, 182, 0, 191, 182, 0, 195, 154, 0, 23, 42, 180, 0, 62]
abbrev dktX10_flips_1 : List UInt8 := dkwX10_flips_1 ++ dktX10_flips_2
def dkwX10_flips_0 : List UInt8 := [42, 180, 0, 17, 27, 50, 28, 17, 0, 255, 42, 180, 0, 17, 27, 50, 28, 46, 100, 79, 42, 180, 0, 62]
abbrev dktX10_flips_0 : List UInt8 := dkwX10_flips_0 ++ dktX10_flips_1
theorem dksX10_flips_0 : cX10_flips.data.toList.drop 0 = dktX10_flips_0 := by decide +kernel
theorem dksX10_flips_1 : cX10_flips.data.toList.drop 24 = dktX10_flips_1 := dk_seg dksX10_flips_0 24 rfl rfl
theorem dksX10_flips_2 : cX10_flips.data.toList.drop 46 = dktX10_flips_2 := dk_seg dksX10_flips_1 22 rfl rfl
theorem dksX10_flips_3 : cX10_flips.data.toList.drop 70 = dktX10_flips_3 := dk_seg dksX10_flips_2 24 rfl rfl
theorem dX10_flips_0 : decode cX10_flips 0 = .ok (.aload_n 0, 1) := dk_42 (dk_at dksX10_flips_0 0 rfl rfl)
theorem dX10_flips_1 : decode cX10_flips 1 = .ok (.getfield 17, 3) := dk_180 0 17 (dk_at dksX10_flips_0 1 rfl rfl)
theorem dX10_flips_4 : decode cX10_flips 4 = .ok (.iload_n 1, 1) := dk_27 (dk_at dksX10_flips_0 4 rfl rfl)
theorem dX10_flips_5 : decode cX10_flips 5 = .ok (.aaload, 1) := dk_50 (dk_at dksX10_flips_0 5 rfl rfl)
theorem dX10_flips_6 : decode cX10_flips 6 = .ok (.iload_n 2, 1) := dk_28 (dk_at dksX10_flips_0 6 rfl rfl)
theorem dX10_flips_7 : decode cX10_flips 7 = .ok (.sipush 255, 3) := dk_17 0 255 (dk_at dksX10_flips_0 7 rfl rfl)
theorem dX10_flips_10 : decode cX10_flips 10 = .ok (.aload_n 0, 1) := dk_42 (dk_at dksX10_flips_0 10 rfl rfl)
theorem dX10_flips_11 : decode cX10_flips 11 = .ok (.getfield 17, 3) := dk_180 0 17 (dk_at dksX10_flips_0 11 rfl rfl)
theorem dX10_flips_14 : decode cX10_flips 14 = .ok (.iload_n 1, 1) := dk_27 (dk_at dksX10_flips_0 14 rfl rfl)
theorem dX10_flips_15 : decode cX10_flips 15 = .ok (.aaload, 1) := dk_50 (dk_at dksX10_flips_0 15 rfl rfl)
theorem dX10_flips_16 : decode cX10_flips 16 = .ok (.iload_n 2, 1) := dk_28 (dk_at dksX10_flips_0 16 rfl rfl)
theorem dX10_flips_17 : decode cX10_flips 17 = .ok (.iaload, 1) := dk_46 (dk_at dksX10_flips_0 17 rfl rfl)
theorem dX10_flips_18 : decode cX10_flips 18 = .ok (.isub, 1) := dk_100 (dk_at dksX10_flips_0 18 rfl rfl)
theorem dX10_flips_19 : decode cX10_flips 19 = .ok (.iastore, 1) := dk_79 (dk_at dksX10_flips_0 19 rfl rfl)
theorem dX10_flips_20 : decode cX10_flips 20 = .ok (.aload_n 0, 1) := dk_42 (dk_at dksX10_flips_0 20 rfl rfl)
theorem dX10_flips_21 : decode cX10_flips 21 = .ok (.getfield 62, 3) := dk_180 0 62 (dk_at dksX10_flips_0 21 rfl rfl)
theorem dX10_flips_24 : decode cX10_flips 24 = .ok (.aload_n 0, 1) := dk_42 (dk_at dksX10_flips_1 0 rfl rfl)
theorem dX10_flips_25 : decode cX10_flips 25 = .ok (.getfield 3, 3) := dk_180 0 3 (dk_at dksX10_flips_1 1 rfl rfl)
theorem dX10_flips_28 : decode cX10_flips 28 = .ok (.getfield 187, 3) := dk_180 0 187 (dk_at dksX10_flips_1 4 rfl rfl)
theorem dX10_flips_31 : decode cX10_flips 31 = .ok (.iload_n 1, 1) := dk_27 (dk_at dksX10_flips_1 7 rfl rfl)
theorem dX10_flips_32 : decode cX10_flips 32 = .ok (.iload_n 2, 1) := dk_28 (dk_at dksX10_flips_1 8 rfl rfl)
theorem dX10_flips_33 : decode cX10_flips 33 = .ok (.invokevirtual 191, 3) := dk_182 0 191 (dk_at dksX10_flips_1 9 rfl rfl)
theorem dX10_flips_36 : decode cX10_flips 36 = .ok (.invokevirtual 195, 3) := dk_182 0 195 (dk_at dksX10_flips_1 12 rfl rfl)
theorem dX10_flips_39 : decode cX10_flips 39 = .ok (.ifCond .ne 23, 3) := dk_154 0 23 (dk_at dksX10_flips_1 15 rfl rfl)
theorem dX10_flips_42 : decode cX10_flips 42 = .ok (.aload_n 0, 1) := dk_42 (dk_at dksX10_flips_1 18 rfl rfl)
theorem dX10_flips_43 : decode cX10_flips 43 = .ok (.getfield 62, 3) := dk_180 0 62 (dk_at dksX10_flips_1 19 rfl rfl)
theorem dX10_flips_46 : decode cX10_flips 46 = .ok (.new 183, 3) := dk_187 0 183 (dk_at dksX10_flips_2 0 rfl rfl)
theorem dX10_flips_49 : decode cX10_flips 49 = .ok (.dup, 1) := dk_89 (dk_at dksX10_flips_2 3 rfl rfl)
theorem dX10_flips_50 : decode cX10_flips 50 = .ok (.invokespecial 369, 3) := dk_183 1 113 (dk_at dksX10_flips_2 4 rfl rfl)
theorem dX10_flips_53 : decode cX10_flips 53 = .ok (.iload_n 1, 1) := dk_27 (dk_at dksX10_flips_2 7 rfl rfl)
theorem dX10_flips_54 : decode cX10_flips 54 = .ok (.iload_n 2, 1) := dk_28 (dk_at dksX10_flips_2 8 rfl rfl)
theorem dX10_flips_55 : decode cX10_flips 55 = .ok (.invokevirtual 191, 3) := dk_182 0 191 (dk_at dksX10_flips_2 9 rfl rfl)
theorem dX10_flips_58 : decode cX10_flips 58 = .ok (.invokevirtual 185, 3) := dk_182 0 185 (dk_at dksX10_flips_2 12 rfl rfl)
theorem dX10_flips_61 : decode cX10_flips 61 = .ok (.pop, 1) := dk_87 (dk_at dksX10_flips_2 15 rfl rfl)
theorem dX10_flips_62 : decode cX10_flips 62 = .ok (.aload_n 0, 1) := dk_42 (dk_at dksX10_flips_2 16 rfl rfl)
theorem dX10_flips_63 : decode cX10_flips 63 = .ok (.getfield 17, 3) := dk_180 0 17 (dk_at dksX10_flips_2 17 rfl rfl)
theorem dX10_flips_66 : decode cX10_flips 66 = .ok (.iload_n 1, 1) := dk_27 (dk_at dksX10_flips_2 20 rfl rfl)
theorem dX10_flips_67 : decode cX10_flips 67 = .ok (.aaload, 1) := dk_50 (dk_at dksX10_flips_2 21 rfl rfl)
theorem dX10_flips_68 : decode cX10_flips 68 = .ok (.iload_n 2, 1) := dk_28 (dk_at dksX10_flips_2 22 rfl rfl)
theorem dX10_flips_69 : decode cX10_flips 69 = .ok (.iaload, 1) := dk_46 (dk_at dksX10_flips_2 23 rfl rfl)
theorem dX10_flips_70 : decode cX10_flips 70 = .ok (.ireturn, 1) := dk_172 (dk_at dksX10_flips_3 0 rfl rfl)
abbrev cX10_snaps : ByteArray := prog_21_method_21_code
def yX10_snaps : MethodName := ⟨RX10, "snaps", "()I"⟩
def dkwX10_snaps_1 : List UInt8 := [180, 0, 82, 172]
abbrev dktX10_snaps_1 : List UInt8 := dkwX10_snaps_1 ++ []
def dkwX10_snaps_0 : List UInt8 := [42, 42, 180, 0, 76, 181, 0, 82, 42, 180, 0, 3, 42, 180, 0, 49, 42, 180, 0, 45, 182, 0, 177, 42]
abbrev dktX10_snaps_0 : List UInt8 := dkwX10_snaps_0 ++ dktX10_snaps_1
theorem dksX10_snaps_0 : cX10_snaps.data.toList.drop 0 = dktX10_snaps_0 := by decide +kernel
theorem dksX10_snaps_1 : cX10_snaps.data.toList.drop 24 = dktX10_snaps_1 := dk_seg dksX10_snaps_0 24 rfl rfl
theorem dX10_snaps_0 : decode cX10_snaps 0 = .ok (.aload_n 0, 1) := dk_42 (dk_at dksX10_snaps_0 0 rfl rfl)
theorem dX10_snaps_1 : decode cX10_snaps 1 = .ok (.aload_n 0, 1) := dk_42 (dk_at dksX10_snaps_0 1 rfl rfl)
theorem dX10_snaps_2 : decode cX10_snaps 2 = .ok (.getfield 76, 3) := dk_180 0 76 (dk_at dksX10_snaps_0 2 rfl rfl)
theorem dX10_snaps_5 : decode cX10_snaps 5 = .ok (.putfield 82, 3) := dk_181 0 82 (dk_at dksX10_snaps_0 5 rfl rfl)
theorem dX10_snaps_8 : decode cX10_snaps 8 = .ok (.aload_n 0, 1) := dk_42 (dk_at dksX10_snaps_0 8 rfl rfl)
theorem dX10_snaps_9 : decode cX10_snaps 9 = .ok (.getfield 3, 3) := dk_180 0 3 (dk_at dksX10_snaps_0 9 rfl rfl)
theorem dX10_snaps_12 : decode cX10_snaps 12 = .ok (.aload_n 0, 1) := dk_42 (dk_at dksX10_snaps_0 12 rfl rfl)
theorem dX10_snaps_13 : decode cX10_snaps 13 = .ok (.getfield 49, 3) := dk_180 0 49 (dk_at dksX10_snaps_0 13 rfl rfl)
theorem dX10_snaps_16 : decode cX10_snaps 16 = .ok (.aload_n 0, 1) := dk_42 (dk_at dksX10_snaps_0 16 rfl rfl)
theorem dX10_snaps_17 : decode cX10_snaps 17 = .ok (.getfield 45, 3) := dk_180 0 45 (dk_at dksX10_snaps_0 17 rfl rfl)
theorem dX10_snaps_20 : decode cX10_snaps 20 = .ok (.invokevirtual 177, 3) := dk_182 0 177 (dk_at dksX10_snaps_0 20 rfl rfl)
theorem dX10_snaps_23 : decode cX10_snaps 23 = .ok (.aload_n 0, 1) := dk_42 (dk_at dksX10_snaps_0 23 rfl rfl)
theorem dX10_snaps_24 : decode cX10_snaps 24 = .ok (.getfield 82, 3) := dk_180 0 82 (dk_at dksX10_snaps_1 0 rfl rfl)
theorem dX10_snaps_27 : decode cX10_snaps 27 = .ok (.ireturn, 1) := dk_172 (dk_at dksX10_snaps_1 3 rfl rfl)
abbrev cX10_crashes : ByteArray := prog_21_method_18_code
def yX10_crashes : MethodName := ⟨RX10, "crashes", "(I)I"⟩
def dkwX10_crashes_8 : List UInt8 := [42, 42, 180, 0, 106, 42, 180, 0, 109, 182, 1, 96, 87, 42, 180, 0, 73, 172]
abbrev dktX10_crashes_8 : List UInt8 := dkwX10_crashes_8 ++ []
def dkwX10_crashes_7 : List UInt8 := [180, 0, 20, 29, 44, 180, 1, 95, 29, 46, 79, 132, 3, 1, 167, 255, 236, 42, 180, 0, 94, 154, 0, 16]
abbrev dktX10_crashes_7 : List UInt8 := dkwX10_crashes_7 ++ dktX10_crashes_8
def dkwX10_crashes_6 : List UInt8 := [44, 180, 1, 91, 181, 0, 109, 42, 44, 180, 1, 94, 181, 0, 85, 3, 62, 29, 7, 162, 0, 21, 42]
abbrev dktX10_crashes_6 : List UInt8 := dkwX10_crashes_6 ++ dktX10_crashes_7
def dkwX10_crashes_5 : List UInt8 := [181, 0, 76, 42, 44, 180, 1, 87, 181, 0, 94, 42, 3, 44, 180, 1, 90, 184, 1, 13, 181, 0, 106, 42]
abbrev dktX10_crashes_5 : List UInt8 := dkwX10_crashes_5 ++ dktX10_crashes_6
def dkwX10_crashes_4 : List UInt8 := [182, 1, 53, 87, 132, 3, 1, 167, 255, 211, 42, 44, 180, 1, 86, 181, 0, 73, 42, 44, 180, 1, 86]
abbrev dktX10_crashes_4 : List UInt8 := dkwX10_crashes_4 ++ dktX10_crashes_5
def dkwX10_crashes_3 : List UInt8 := [42, 180, 0, 45, 42, 180, 0, 3, 180, 1, 42, 29, 50, 44, 180, 1, 83, 29, 46, 184, 1, 32]
abbrev dktX10_crashes_3 : List UInt8 := dkwX10_crashes_3 ++ dktX10_crashes_4
def dkwX10_crashes_2 : List UInt8 := [180, 0, 45, 182, 0, 103, 3, 62, 29, 16, 16, 162, 0, 45, 44, 180, 1, 83, 29, 46, 2, 159, 0, 29]
abbrev dktX10_crashes_2 : List UInt8 := dkwX10_crashes_2 ++ dktX10_crashes_3
def dkwX10_crashes_1 : List UInt8 := [180, 0, 55, 182, 0, 104, 42, 180, 0, 3, 180, 1, 70, 42, 3, 182, 1, 74, 42, 182, 1, 79, 77, 42]
abbrev dktX10_crashes_1 : List UInt8 := dkwX10_crashes_1 ++ dktX10_crashes_2
def dkwX10_crashes_0 : List UInt8 := [42, 27, 182, 1, 39, 42, 180, 0, 35, 185, 0, 98, 1, 0, 42, 180, 0, 39, 185, 0, 98, 1, 0, 42]
abbrev dktX10_crashes_0 : List UInt8 := dkwX10_crashes_0 ++ dktX10_crashes_1
theorem dksX10_crashes_0 : cX10_crashes.data.toList.drop 0 = dktX10_crashes_0 := by decide +kernel
theorem dksX10_crashes_1 : cX10_crashes.data.toList.drop 24 = dktX10_crashes_1 := dk_seg dksX10_crashes_0 24 rfl rfl
theorem dksX10_crashes_2 : cX10_crashes.data.toList.drop 48 = dktX10_crashes_2 := dk_seg dksX10_crashes_1 24 rfl rfl
theorem dksX10_crashes_3 : cX10_crashes.data.toList.drop 72 = dktX10_crashes_3 := dk_seg dksX10_crashes_2 24 rfl rfl
theorem dksX10_crashes_4 : cX10_crashes.data.toList.drop 94 = dktX10_crashes_4 := dk_seg dksX10_crashes_3 22 rfl rfl
theorem dksX10_crashes_5 : cX10_crashes.data.toList.drop 117 = dktX10_crashes_5 := dk_seg dksX10_crashes_4 23 rfl rfl
theorem dksX10_crashes_6 : cX10_crashes.data.toList.drop 141 = dktX10_crashes_6 := dk_seg dksX10_crashes_5 24 rfl rfl
theorem dksX10_crashes_7 : cX10_crashes.data.toList.drop 164 = dktX10_crashes_7 := dk_seg dksX10_crashes_6 23 rfl rfl
theorem dksX10_crashes_8 : cX10_crashes.data.toList.drop 188 = dktX10_crashes_8 := dk_seg dksX10_crashes_7 24 rfl rfl
theorem dX10_crashes_0 : decode cX10_crashes 0 = .ok (.aload_n 0, 1) := dk_42 (dk_at dksX10_crashes_0 0 rfl rfl)
theorem dX10_crashes_1 : decode cX10_crashes 1 = .ok (.iload_n 1, 1) := dk_27 (dk_at dksX10_crashes_0 1 rfl rfl)
theorem dX10_crashes_2 : decode cX10_crashes 2 = .ok (.invokevirtual 295, 3) := dk_182 1 39 (dk_at dksX10_crashes_0 2 rfl rfl)
theorem dX10_crashes_5 : decode cX10_crashes 5 = .ok (.aload_n 0, 1) := dk_42 (dk_at dksX10_crashes_0 5 rfl rfl)
theorem dX10_crashes_6 : decode cX10_crashes 6 = .ok (.getfield 35, 3) := dk_180 0 35 (dk_at dksX10_crashes_0 6 rfl rfl)
theorem dX10_crashes_9 : decode cX10_crashes 9 = .ok (.invokeinterface 98 1, 5) := by decide +kernel
theorem dX10_crashes_14 : decode cX10_crashes 14 = .ok (.aload_n 0, 1) := dk_42 (dk_at dksX10_crashes_0 14 rfl rfl)
theorem dX10_crashes_15 : decode cX10_crashes 15 = .ok (.getfield 39, 3) := dk_180 0 39 (dk_at dksX10_crashes_0 15 rfl rfl)
theorem dX10_crashes_18 : decode cX10_crashes 18 = .ok (.invokeinterface 98 1, 5) := by decide +kernel
theorem dX10_crashes_23 : decode cX10_crashes 23 = .ok (.aload_n 0, 1) := dk_42 (dk_at dksX10_crashes_0 23 rfl rfl)
theorem dX10_crashes_24 : decode cX10_crashes 24 = .ok (.getfield 55, 3) := dk_180 0 55 (dk_at dksX10_crashes_1 0 rfl rfl)
theorem dX10_crashes_27 : decode cX10_crashes 27 = .ok (.invokevirtual 104, 3) := dk_182 0 104 (dk_at dksX10_crashes_1 3 rfl rfl)
theorem dX10_crashes_30 : decode cX10_crashes 30 = .ok (.aload_n 0, 1) := dk_42 (dk_at dksX10_crashes_1 6 rfl rfl)
theorem dX10_crashes_31 : decode cX10_crashes 31 = .ok (.getfield 3, 3) := dk_180 0 3 (dk_at dksX10_crashes_1 7 rfl rfl)
theorem dX10_crashes_34 : decode cX10_crashes 34 = .ok (.getfield 326, 3) := dk_180 1 70 (dk_at dksX10_crashes_1 10 rfl rfl)
theorem dX10_crashes_37 : decode cX10_crashes 37 = .ok (.aload_n 0, 1) := dk_42 (dk_at dksX10_crashes_1 13 rfl rfl)
theorem dX10_crashes_38 : decode cX10_crashes 38 = .ok (.iconst 0, 1) := dk_3 (dk_at dksX10_crashes_1 14 rfl rfl)
theorem dX10_crashes_39 : decode cX10_crashes 39 = .ok (.invokevirtual 330, 3) := dk_182 1 74 (dk_at dksX10_crashes_1 15 rfl rfl)
theorem dX10_crashes_42 : decode cX10_crashes 42 = .ok (.aload_n 0, 1) := dk_42 (dk_at dksX10_crashes_1 18 rfl rfl)
theorem dX10_crashes_43 : decode cX10_crashes 43 = .ok (.invokevirtual 335, 3) := dk_182 1 79 (dk_at dksX10_crashes_1 19 rfl rfl)
theorem dX10_crashes_46 : decode cX10_crashes 46 = .ok (.astore_n 2, 1) := dk_77 (dk_at dksX10_crashes_1 22 rfl rfl)
theorem dX10_crashes_47 : decode cX10_crashes 47 = .ok (.aload_n 0, 1) := dk_42 (dk_at dksX10_crashes_1 23 rfl rfl)
theorem dX10_crashes_48 : decode cX10_crashes 48 = .ok (.getfield 45, 3) := dk_180 0 45 (dk_at dksX10_crashes_2 0 rfl rfl)
theorem dX10_crashes_51 : decode cX10_crashes 51 = .ok (.invokevirtual 103, 3) := dk_182 0 103 (dk_at dksX10_crashes_2 3 rfl rfl)
theorem dX10_crashes_54 : decode cX10_crashes 54 = .ok (.iconst 0, 1) := dk_3 (dk_at dksX10_crashes_2 6 rfl rfl)
theorem dX10_crashes_55 : decode cX10_crashes 55 = .ok (.istore_n 3, 1) := dk_62 (dk_at dksX10_crashes_2 7 rfl rfl)
theorem dX10_crashes_56 : decode cX10_crashes 56 = .ok (.iload_n 3, 1) := dk_29 (dk_at dksX10_crashes_2 8 rfl rfl)
theorem dX10_crashes_57 : decode cX10_crashes 57 = .ok (.bipush 16, 2) := dk_16 16 (dk_at dksX10_crashes_2 9 rfl rfl)
theorem dX10_crashes_59 : decode cX10_crashes 59 = .ok (.if_icmp .ge 45, 3) := dk_162 0 45 (dk_at dksX10_crashes_2 11 rfl rfl)
theorem dX10_crashes_62 : decode cX10_crashes 62 = .ok (.aload_n 2, 1) := dk_44 (dk_at dksX10_crashes_2 14 rfl rfl)
theorem dX10_crashes_63 : decode cX10_crashes 63 = .ok (.getfield 339, 3) := dk_180 1 83 (dk_at dksX10_crashes_2 15 rfl rfl)
theorem dX10_crashes_66 : decode cX10_crashes 66 = .ok (.iload_n 3, 1) := dk_29 (dk_at dksX10_crashes_2 18 rfl rfl)
theorem dX10_crashes_67 : decode cX10_crashes 67 = .ok (.iaload, 1) := dk_46 (dk_at dksX10_crashes_2 19 rfl rfl)
theorem dX10_crashes_68 : decode cX10_crashes 68 = .ok (.iconst (-1), 1) := dk_2 (dk_at dksX10_crashes_2 20 rfl rfl)
theorem dX10_crashes_69 : decode cX10_crashes 69 = .ok (.if_icmp .eq 29, 3) := dk_159 0 29 (dk_at dksX10_crashes_2 21 rfl rfl)
theorem dX10_crashes_72 : decode cX10_crashes 72 = .ok (.aload_n 0, 1) := dk_42 (dk_at dksX10_crashes_3 0 rfl rfl)
theorem dX10_crashes_73 : decode cX10_crashes 73 = .ok (.getfield 45, 3) := dk_180 0 45 (dk_at dksX10_crashes_3 1 rfl rfl)
theorem dX10_crashes_76 : decode cX10_crashes 76 = .ok (.aload_n 0, 1) := dk_42 (dk_at dksX10_crashes_3 4 rfl rfl)
theorem dX10_crashes_77 : decode cX10_crashes 77 = .ok (.getfield 3, 3) := dk_180 0 3 (dk_at dksX10_crashes_3 5 rfl rfl)
theorem dX10_crashes_80 : decode cX10_crashes 80 = .ok (.getfield 298, 3) := dk_180 1 42 (dk_at dksX10_crashes_3 8 rfl rfl)
theorem dX10_crashes_83 : decode cX10_crashes 83 = .ok (.iload_n 3, 1) := dk_29 (dk_at dksX10_crashes_3 11 rfl rfl)
theorem dX10_crashes_84 : decode cX10_crashes 84 = .ok (.aaload, 1) := dk_50 (dk_at dksX10_crashes_3 12 rfl rfl)
theorem dX10_crashes_85 : decode cX10_crashes 85 = .ok (.aload_n 2, 1) := dk_44 (dk_at dksX10_crashes_3 13 rfl rfl)
theorem dX10_crashes_86 : decode cX10_crashes 86 = .ok (.getfield 339, 3) := dk_180 1 83 (dk_at dksX10_crashes_3 14 rfl rfl)
theorem dX10_crashes_89 : decode cX10_crashes 89 = .ok (.iload_n 3, 1) := dk_29 (dk_at dksX10_crashes_3 17 rfl rfl)
theorem dX10_crashes_90 : decode cX10_crashes 90 = .ok (.iaload, 1) := dk_46 (dk_at dksX10_crashes_3 18 rfl rfl)
theorem dX10_crashes_91 : decode cX10_crashes 91 = .ok (.invokestatic 288, 3) := dk_184 1 32 (dk_at dksX10_crashes_3 19 rfl rfl)
theorem dX10_crashes_94 : decode cX10_crashes 94 = .ok (.invokevirtual 309, 3) := dk_182 1 53 (dk_at dksX10_crashes_4 0 rfl rfl)
theorem dX10_crashes_97 : decode cX10_crashes 97 = .ok (.pop, 1) := dk_87 (dk_at dksX10_crashes_4 3 rfl rfl)
theorem dX10_crashes_98 : decode cX10_crashes 98 = .ok (.iinc 3 1, 3) := dk_132 3 1 (dk_at dksX10_crashes_4 4 rfl rfl)
theorem dX10_crashes_101 : decode cX10_crashes 101 = .ok (.goto (-45), 3) := dk_167 255 211 (dk_at dksX10_crashes_4 7 rfl rfl)
theorem dX10_crashes_104 : decode cX10_crashes 104 = .ok (.aload_n 0, 1) := dk_42 (dk_at dksX10_crashes_4 10 rfl rfl)
theorem dX10_crashes_105 : decode cX10_crashes 105 = .ok (.aload_n 2, 1) := dk_44 (dk_at dksX10_crashes_4 11 rfl rfl)
theorem dX10_crashes_106 : decode cX10_crashes 106 = .ok (.getfield 342, 3) := dk_180 1 86 (dk_at dksX10_crashes_4 12 rfl rfl)
theorem dX10_crashes_109 : decode cX10_crashes 109 = .ok (.putfield 73, 3) := dk_181 0 73 (dk_at dksX10_crashes_4 15 rfl rfl)
theorem dX10_crashes_112 : decode cX10_crashes 112 = .ok (.aload_n 0, 1) := dk_42 (dk_at dksX10_crashes_4 18 rfl rfl)
theorem dX10_crashes_113 : decode cX10_crashes 113 = .ok (.aload_n 2, 1) := dk_44 (dk_at dksX10_crashes_4 19 rfl rfl)
theorem dX10_crashes_114 : decode cX10_crashes 114 = .ok (.getfield 342, 3) := dk_180 1 86 (dk_at dksX10_crashes_4 20 rfl rfl)
theorem dX10_crashes_117 : decode cX10_crashes 117 = .ok (.putfield 76, 3) := dk_181 0 76 (dk_at dksX10_crashes_5 0 rfl rfl)
theorem dX10_crashes_120 : decode cX10_crashes 120 = .ok (.aload_n 0, 1) := dk_42 (dk_at dksX10_crashes_5 3 rfl rfl)
theorem dX10_crashes_121 : decode cX10_crashes 121 = .ok (.aload_n 2, 1) := dk_44 (dk_at dksX10_crashes_5 4 rfl rfl)
theorem dX10_crashes_122 : decode cX10_crashes 122 = .ok (.getfield 343, 3) := dk_180 1 87 (dk_at dksX10_crashes_5 5 rfl rfl)
theorem dX10_crashes_125 : decode cX10_crashes 125 = .ok (.putfield 94, 3) := dk_181 0 94 (dk_at dksX10_crashes_5 8 rfl rfl)
theorem dX10_crashes_128 : decode cX10_crashes 128 = .ok (.aload_n 0, 1) := dk_42 (dk_at dksX10_crashes_5 11 rfl rfl)
theorem dX10_crashes_129 : decode cX10_crashes 129 = .ok (.iconst 0, 1) := dk_3 (dk_at dksX10_crashes_5 12 rfl rfl)
theorem dX10_crashes_130 : decode cX10_crashes 130 = .ok (.aload_n 2, 1) := dk_44 (dk_at dksX10_crashes_5 13 rfl rfl)
theorem dX10_crashes_131 : decode cX10_crashes 131 = .ok (.getfield 346, 3) := dk_180 1 90 (dk_at dksX10_crashes_5 14 rfl rfl)
theorem dX10_crashes_134 : decode cX10_crashes 134 = .ok (.invokestatic 269, 3) := dk_184 1 13 (dk_at dksX10_crashes_5 17 rfl rfl)
theorem dX10_crashes_137 : decode cX10_crashes 137 = .ok (.putfield 106, 3) := dk_181 0 106 (dk_at dksX10_crashes_5 20 rfl rfl)
theorem dX10_crashes_140 : decode cX10_crashes 140 = .ok (.aload_n 0, 1) := dk_42 (dk_at dksX10_crashes_5 23 rfl rfl)
theorem dX10_crashes_141 : decode cX10_crashes 141 = .ok (.aload_n 2, 1) := dk_44 (dk_at dksX10_crashes_6 0 rfl rfl)
theorem dX10_crashes_142 : decode cX10_crashes 142 = .ok (.getfield 347, 3) := dk_180 1 91 (dk_at dksX10_crashes_6 1 rfl rfl)
theorem dX10_crashes_145 : decode cX10_crashes 145 = .ok (.putfield 109, 3) := dk_181 0 109 (dk_at dksX10_crashes_6 4 rfl rfl)
theorem dX10_crashes_148 : decode cX10_crashes 148 = .ok (.aload_n 0, 1) := dk_42 (dk_at dksX10_crashes_6 7 rfl rfl)
theorem dX10_crashes_149 : decode cX10_crashes 149 = .ok (.aload_n 2, 1) := dk_44 (dk_at dksX10_crashes_6 8 rfl rfl)
theorem dX10_crashes_150 : decode cX10_crashes 150 = .ok (.getfield 350, 3) := dk_180 1 94 (dk_at dksX10_crashes_6 9 rfl rfl)
theorem dX10_crashes_153 : decode cX10_crashes 153 = .ok (.putfield 85, 3) := dk_181 0 85 (dk_at dksX10_crashes_6 12 rfl rfl)
theorem dX10_crashes_156 : decode cX10_crashes 156 = .ok (.iconst 0, 1) := dk_3 (dk_at dksX10_crashes_6 15 rfl rfl)
theorem dX10_crashes_157 : decode cX10_crashes 157 = .ok (.istore_n 3, 1) := dk_62 (dk_at dksX10_crashes_6 16 rfl rfl)
theorem dX10_crashes_158 : decode cX10_crashes 158 = .ok (.iload_n 3, 1) := dk_29 (dk_at dksX10_crashes_6 17 rfl rfl)
theorem dX10_crashes_159 : decode cX10_crashes 159 = .ok (.iconst 4, 1) := dk_7 (dk_at dksX10_crashes_6 18 rfl rfl)
theorem dX10_crashes_160 : decode cX10_crashes 160 = .ok (.if_icmp .ge 21, 3) := dk_162 0 21 (dk_at dksX10_crashes_6 19 rfl rfl)
theorem dX10_crashes_163 : decode cX10_crashes 163 = .ok (.aload_n 0, 1) := dk_42 (dk_at dksX10_crashes_6 22 rfl rfl)
theorem dX10_crashes_164 : decode cX10_crashes 164 = .ok (.getfield 20, 3) := dk_180 0 20 (dk_at dksX10_crashes_7 0 rfl rfl)
theorem dX10_crashes_167 : decode cX10_crashes 167 = .ok (.iload_n 3, 1) := dk_29 (dk_at dksX10_crashes_7 3 rfl rfl)
theorem dX10_crashes_168 : decode cX10_crashes 168 = .ok (.aload_n 2, 1) := dk_44 (dk_at dksX10_crashes_7 4 rfl rfl)
theorem dX10_crashes_169 : decode cX10_crashes 169 = .ok (.getfield 351, 3) := dk_180 1 95 (dk_at dksX10_crashes_7 5 rfl rfl)
theorem dX10_crashes_172 : decode cX10_crashes 172 = .ok (.iload_n 3, 1) := dk_29 (dk_at dksX10_crashes_7 8 rfl rfl)
theorem dX10_crashes_173 : decode cX10_crashes 173 = .ok (.iaload, 1) := dk_46 (dk_at dksX10_crashes_7 9 rfl rfl)
theorem dX10_crashes_174 : decode cX10_crashes 174 = .ok (.iastore, 1) := dk_79 (dk_at dksX10_crashes_7 10 rfl rfl)
theorem dX10_crashes_175 : decode cX10_crashes 175 = .ok (.iinc 3 1, 3) := dk_132 3 1 (dk_at dksX10_crashes_7 11 rfl rfl)
theorem dX10_crashes_178 : decode cX10_crashes 178 = .ok (.goto (-20), 3) := dk_167 255 236 (dk_at dksX10_crashes_7 14 rfl rfl)
theorem dX10_crashes_181 : decode cX10_crashes 181 = .ok (.aload_n 0, 1) := dk_42 (dk_at dksX10_crashes_7 17 rfl rfl)
theorem dX10_crashes_182 : decode cX10_crashes 182 = .ok (.getfield 94, 3) := dk_180 0 94 (dk_at dksX10_crashes_7 18 rfl rfl)
theorem dX10_crashes_185 : decode cX10_crashes 185 = .ok (.ifCond .ne 16, 3) := dk_154 0 16 (dk_at dksX10_crashes_7 21 rfl rfl)
theorem dX10_crashes_188 : decode cX10_crashes 188 = .ok (.aload_n 0, 1) := dk_42 (dk_at dksX10_crashes_8 0 rfl rfl)
theorem dX10_crashes_189 : decode cX10_crashes 189 = .ok (.aload_n 0, 1) := dk_42 (dk_at dksX10_crashes_8 1 rfl rfl)
theorem dX10_crashes_190 : decode cX10_crashes 190 = .ok (.getfield 106, 3) := dk_180 0 106 (dk_at dksX10_crashes_8 2 rfl rfl)
theorem dX10_crashes_193 : decode cX10_crashes 193 = .ok (.aload_n 0, 1) := dk_42 (dk_at dksX10_crashes_8 5 rfl rfl)
theorem dX10_crashes_194 : decode cX10_crashes 194 = .ok (.getfield 109, 3) := dk_180 0 109 (dk_at dksX10_crashes_8 6 rfl rfl)
theorem dX10_crashes_197 : decode cX10_crashes 197 = .ok (.invokevirtual 352, 3) := dk_182 1 96 (dk_at dksX10_crashes_8 9 rfl rfl)
theorem dX10_crashes_200 : decode cX10_crashes 200 = .ok (.pop, 1) := dk_87 (dk_at dksX10_crashes_8 12 rfl rfl)
theorem dX10_crashes_201 : decode cX10_crashes 201 = .ok (.aload_n 0, 1) := dk_42 (dk_at dksX10_crashes_8 13 rfl rfl)
theorem dX10_crashes_202 : decode cX10_crashes 202 = .ok (.getfield 73, 3) := dk_180 0 73 (dk_at dksX10_crashes_8 14 rfl rfl)
theorem dX10_crashes_205 : decode cX10_crashes 205 = .ok (.ireturn, 1) := dk_172 (dk_at dksX10_crashes_8 17 rfl rfl)
abbrev cX10_wipes : ByteArray := prog_21_method_17_code
def yX10_wipes : MethodName := ⟨RX10, "wipes", "(II)I"⟩
def dkwX10_wipes_2 : List UInt8 := [167, 255, 213, 29, 172]
abbrev dktX10_wipes_2 : List UInt8 := dkwX10_wipes_2 ++ []
def dkwX10_wipes_1 : List UInt8 := [21, 4, 46, 154, 0, 7, 3, 167, 0, 4, 4, 96, 62, 42, 27, 21, 4, 3, 182, 0, 112, 132, 4, 1]
abbrev dktX10_wipes_1 : List UInt8 := dkwX10_wipes_1 ++ dktX10_wipes_2
def dkwX10_wipes_0 : List UInt8 := [3, 62, 28, 54, 4, 21, 4, 42, 180, 0, 3, 182, 0, 174, 162, 0, 37, 29, 42, 180, 0, 17, 27, 50]
abbrev dktX10_wipes_0 : List UInt8 := dkwX10_wipes_0 ++ dktX10_wipes_1
theorem dksX10_wipes_0 : cX10_wipes.data.toList.drop 0 = dktX10_wipes_0 := by decide +kernel
theorem dksX10_wipes_1 : cX10_wipes.data.toList.drop 24 = dktX10_wipes_1 := dk_seg dksX10_wipes_0 24 rfl rfl
theorem dksX10_wipes_2 : cX10_wipes.data.toList.drop 48 = dktX10_wipes_2 := dk_seg dksX10_wipes_1 24 rfl rfl
theorem dX10_wipes_0 : decode cX10_wipes 0 = .ok (.iconst 0, 1) := dk_3 (dk_at dksX10_wipes_0 0 rfl rfl)
theorem dX10_wipes_1 : decode cX10_wipes 1 = .ok (.istore_n 3, 1) := dk_62 (dk_at dksX10_wipes_0 1 rfl rfl)
theorem dX10_wipes_2 : decode cX10_wipes 2 = .ok (.iload_n 2, 1) := dk_28 (dk_at dksX10_wipes_0 2 rfl rfl)
theorem dX10_wipes_3 : decode cX10_wipes 3 = .ok (.istore 4, 2) := dk_54 4 (dk_at dksX10_wipes_0 3 rfl rfl)
theorem dX10_wipes_5 : decode cX10_wipes 5 = .ok (.iload 4, 2) := dk_21 4 (dk_at dksX10_wipes_0 5 rfl rfl)
theorem dX10_wipes_7 : decode cX10_wipes 7 = .ok (.aload_n 0, 1) := dk_42 (dk_at dksX10_wipes_0 7 rfl rfl)
theorem dX10_wipes_8 : decode cX10_wipes 8 = .ok (.getfield 3, 3) := dk_180 0 3 (dk_at dksX10_wipes_0 8 rfl rfl)
theorem dX10_wipes_11 : decode cX10_wipes 11 = .ok (.invokevirtual 174, 3) := dk_182 0 174 (dk_at dksX10_wipes_0 11 rfl rfl)
theorem dX10_wipes_14 : decode cX10_wipes 14 = .ok (.if_icmp .ge 37, 3) := dk_162 0 37 (dk_at dksX10_wipes_0 14 rfl rfl)
theorem dX10_wipes_17 : decode cX10_wipes 17 = .ok (.iload_n 3, 1) := dk_29 (dk_at dksX10_wipes_0 17 rfl rfl)
theorem dX10_wipes_18 : decode cX10_wipes 18 = .ok (.aload_n 0, 1) := dk_42 (dk_at dksX10_wipes_0 18 rfl rfl)
theorem dX10_wipes_19 : decode cX10_wipes 19 = .ok (.getfield 17, 3) := dk_180 0 17 (dk_at dksX10_wipes_0 19 rfl rfl)
theorem dX10_wipes_22 : decode cX10_wipes 22 = .ok (.iload_n 1, 1) := dk_27 (dk_at dksX10_wipes_0 22 rfl rfl)
theorem dX10_wipes_23 : decode cX10_wipes 23 = .ok (.aaload, 1) := dk_50 (dk_at dksX10_wipes_0 23 rfl rfl)
theorem dX10_wipes_24 : decode cX10_wipes 24 = .ok (.iload 4, 2) := dk_21 4 (dk_at dksX10_wipes_1 0 rfl rfl)
theorem dX10_wipes_26 : decode cX10_wipes 26 = .ok (.iaload, 1) := dk_46 (dk_at dksX10_wipes_1 2 rfl rfl)
theorem dX10_wipes_27 : decode cX10_wipes 27 = .ok (.ifCond .ne 7, 3) := dk_154 0 7 (dk_at dksX10_wipes_1 3 rfl rfl)
theorem dX10_wipes_30 : decode cX10_wipes 30 = .ok (.iconst 0, 1) := dk_3 (dk_at dksX10_wipes_1 6 rfl rfl)
theorem dX10_wipes_31 : decode cX10_wipes 31 = .ok (.goto 4, 3) := dk_167 0 4 (dk_at dksX10_wipes_1 7 rfl rfl)
theorem dX10_wipes_34 : decode cX10_wipes 34 = .ok (.iconst 1, 1) := dk_4 (dk_at dksX10_wipes_1 10 rfl rfl)
theorem dX10_wipes_35 : decode cX10_wipes 35 = .ok (.iadd, 1) := dk_96 (dk_at dksX10_wipes_1 11 rfl rfl)
theorem dX10_wipes_36 : decode cX10_wipes 36 = .ok (.istore_n 3, 1) := dk_62 (dk_at dksX10_wipes_1 12 rfl rfl)
theorem dX10_wipes_37 : decode cX10_wipes 37 = .ok (.aload_n 0, 1) := dk_42 (dk_at dksX10_wipes_1 13 rfl rfl)
theorem dX10_wipes_38 : decode cX10_wipes 38 = .ok (.iload_n 1, 1) := dk_27 (dk_at dksX10_wipes_1 14 rfl rfl)
theorem dX10_wipes_39 : decode cX10_wipes 39 = .ok (.iload 4, 2) := dk_21 4 (dk_at dksX10_wipes_1 15 rfl rfl)
theorem dX10_wipes_41 : decode cX10_wipes 41 = .ok (.iconst 0, 1) := dk_3 (dk_at dksX10_wipes_1 17 rfl rfl)
theorem dX10_wipes_42 : decode cX10_wipes 42 = .ok (.invokevirtual 112, 3) := dk_182 0 112 (dk_at dksX10_wipes_1 18 rfl rfl)
theorem dX10_wipes_45 : decode cX10_wipes 45 = .ok (.iinc 4 1, 3) := dk_132 4 1 (dk_at dksX10_wipes_1 21 rfl rfl)
theorem dX10_wipes_48 : decode cX10_wipes 48 = .ok (.goto (-43), 3) := dk_167 255 213 (dk_at dksX10_wipes_2 0 rfl rfl)
theorem dX10_wipes_51 : decode cX10_wipes 51 = .ok (.iload_n 3, 1) := dk_29 (dk_at dksX10_wipes_2 3 rfl rfl)
theorem dX10_wipes_52 : decode cX10_wipes 52 = .ok (.ireturn, 1) := dk_172 (dk_at dksX10_wipes_2 4 rfl rfl)
abbrev cX10_givesUp : ByteArray := prog_21_method_19_code
def yX10_givesUp : MethodName := ⟨RX10, "givesUp", "()I"⟩
def dkwX10_givesUp_5 : List UInt8 := [3, 182, 1, 96, 167, 0, 4, 3, 96, 60, 132, 2, 1, 167, 255, 178, 27, 172]
abbrev dktX10_givesUp_5 : List UInt8 := dkwX10_givesUp_5 ++ []
def dkwX10_givesUp_4 : List UInt8 := [184, 1, 105, 153, 0, 28, 42, 180, 0, 17, 28, 50, 184, 1, 109, 42, 180, 0, 85, 164, 0, 12, 42, 28]
abbrev dktX10_givesUp_4 : List UInt8 := dkwX10_givesUp_4 ++ dktX10_givesUp_5
def dkwX10_givesUp_3 : List UInt8 := [180, 0, 106, 160, 0, 15, 42, 28, 42, 180, 0, 109, 182, 1, 96, 167, 0, 41, 42, 180, 0, 17, 28, 50]
abbrev dktX10_givesUp_3 : List UInt8 := dkwX10_givesUp_3 ++ dktX10_givesUp_4
def dkwX10_givesUp_2 : List UInt8 := [182, 1, 102, 27, 172, 3, 61, 28, 42, 180, 0, 3, 180, 0, 220, 180, 1, 99, 162, 0, 70, 27, 28, 42]
abbrev dktX10_givesUp_2 : List UInt8 := dkwX10_givesUp_2 ++ dktX10_givesUp_3
def dkwX10_givesUp_1 : List UInt8 := [180, 1, 99, 162, 0, 18, 27, 42, 28, 3, 182, 1, 96, 96, 60, 132, 2, 1, 167, 255, 230, 42]
abbrev dktX10_givesUp_1 : List UInt8 := dkwX10_givesUp_1 ++ dktX10_givesUp_2
def dkwX10_givesUp_0 : List UInt8 := [42, 3, 181, 0, 94, 3, 60, 42, 180, 0, 85, 154, 0, 40, 3, 61, 28, 42, 180, 0, 3, 180, 0, 220]
abbrev dktX10_givesUp_0 : List UInt8 := dkwX10_givesUp_0 ++ dktX10_givesUp_1
theorem dksX10_givesUp_0 : cX10_givesUp.data.toList.drop 0 = dktX10_givesUp_0 := by decide +kernel
theorem dksX10_givesUp_1 : cX10_givesUp.data.toList.drop 24 = dktX10_givesUp_1 := dk_seg dksX10_givesUp_0 24 rfl rfl
theorem dksX10_givesUp_2 : cX10_givesUp.data.toList.drop 46 = dktX10_givesUp_2 := dk_seg dksX10_givesUp_1 22 rfl rfl
theorem dksX10_givesUp_3 : cX10_givesUp.data.toList.drop 70 = dktX10_givesUp_3 := dk_seg dksX10_givesUp_2 24 rfl rfl
theorem dksX10_givesUp_4 : cX10_givesUp.data.toList.drop 94 = dktX10_givesUp_4 := dk_seg dksX10_givesUp_3 24 rfl rfl
theorem dksX10_givesUp_5 : cX10_givesUp.data.toList.drop 118 = dktX10_givesUp_5 := dk_seg dksX10_givesUp_4 24 rfl rfl
theorem dX10_givesUp_0 : decode cX10_givesUp 0 = .ok (.aload_n 0, 1) := dk_42 (dk_at dksX10_givesUp_0 0 rfl rfl)
theorem dX10_givesUp_1 : decode cX10_givesUp 1 = .ok (.iconst 0, 1) := dk_3 (dk_at dksX10_givesUp_0 1 rfl rfl)
theorem dX10_givesUp_2 : decode cX10_givesUp 2 = .ok (.putfield 94, 3) := dk_181 0 94 (dk_at dksX10_givesUp_0 2 rfl rfl)
theorem dX10_givesUp_5 : decode cX10_givesUp 5 = .ok (.iconst 0, 1) := dk_3 (dk_at dksX10_givesUp_0 5 rfl rfl)
theorem dX10_givesUp_6 : decode cX10_givesUp 6 = .ok (.istore_n 1, 1) := dk_60 (dk_at dksX10_givesUp_0 6 rfl rfl)
theorem dX10_givesUp_7 : decode cX10_givesUp 7 = .ok (.aload_n 0, 1) := dk_42 (dk_at dksX10_givesUp_0 7 rfl rfl)
theorem dX10_givesUp_8 : decode cX10_givesUp 8 = .ok (.getfield 85, 3) := dk_180 0 85 (dk_at dksX10_givesUp_0 8 rfl rfl)
theorem dX10_givesUp_11 : decode cX10_givesUp 11 = .ok (.ifCond .ne 40, 3) := dk_154 0 40 (dk_at dksX10_givesUp_0 11 rfl rfl)
theorem dX10_givesUp_14 : decode cX10_givesUp 14 = .ok (.iconst 0, 1) := dk_3 (dk_at dksX10_givesUp_0 14 rfl rfl)
theorem dX10_givesUp_15 : decode cX10_givesUp 15 = .ok (.istore_n 2, 1) := dk_61 (dk_at dksX10_givesUp_0 15 rfl rfl)
theorem dX10_givesUp_16 : decode cX10_givesUp 16 = .ok (.iload_n 2, 1) := dk_28 (dk_at dksX10_givesUp_0 16 rfl rfl)
theorem dX10_givesUp_17 : decode cX10_givesUp 17 = .ok (.aload_n 0, 1) := dk_42 (dk_at dksX10_givesUp_0 17 rfl rfl)
theorem dX10_givesUp_18 : decode cX10_givesUp 18 = .ok (.getfield 3, 3) := dk_180 0 3 (dk_at dksX10_givesUp_0 18 rfl rfl)
theorem dX10_givesUp_21 : decode cX10_givesUp 21 = .ok (.getfield 220, 3) := dk_180 0 220 (dk_at dksX10_givesUp_0 21 rfl rfl)
theorem dX10_givesUp_24 : decode cX10_givesUp 24 = .ok (.getfield 355, 3) := dk_180 1 99 (dk_at dksX10_givesUp_1 0 rfl rfl)
theorem dX10_givesUp_27 : decode cX10_givesUp 27 = .ok (.if_icmp .ge 18, 3) := dk_162 0 18 (dk_at dksX10_givesUp_1 3 rfl rfl)
theorem dX10_givesUp_30 : decode cX10_givesUp 30 = .ok (.iload_n 1, 1) := dk_27 (dk_at dksX10_givesUp_1 6 rfl rfl)
theorem dX10_givesUp_31 : decode cX10_givesUp 31 = .ok (.aload_n 0, 1) := dk_42 (dk_at dksX10_givesUp_1 7 rfl rfl)
theorem dX10_givesUp_32 : decode cX10_givesUp 32 = .ok (.iload_n 2, 1) := dk_28 (dk_at dksX10_givesUp_1 8 rfl rfl)
theorem dX10_givesUp_33 : decode cX10_givesUp 33 = .ok (.iconst 0, 1) := dk_3 (dk_at dksX10_givesUp_1 9 rfl rfl)
theorem dX10_givesUp_34 : decode cX10_givesUp 34 = .ok (.invokevirtual 352, 3) := dk_182 1 96 (dk_at dksX10_givesUp_1 10 rfl rfl)
theorem dX10_givesUp_37 : decode cX10_givesUp 37 = .ok (.iadd, 1) := dk_96 (dk_at dksX10_givesUp_1 13 rfl rfl)
theorem dX10_givesUp_38 : decode cX10_givesUp 38 = .ok (.istore_n 1, 1) := dk_60 (dk_at dksX10_givesUp_1 14 rfl rfl)
theorem dX10_givesUp_39 : decode cX10_givesUp 39 = .ok (.iinc 2 1, 3) := dk_132 2 1 (dk_at dksX10_givesUp_1 15 rfl rfl)
theorem dX10_givesUp_42 : decode cX10_givesUp 42 = .ok (.goto (-26), 3) := dk_167 255 230 (dk_at dksX10_givesUp_1 18 rfl rfl)
theorem dX10_givesUp_45 : decode cX10_givesUp 45 = .ok (.aload_n 0, 1) := dk_42 (dk_at dksX10_givesUp_1 21 rfl rfl)
theorem dX10_givesUp_46 : decode cX10_givesUp 46 = .ok (.invokevirtual 358, 3) := dk_182 1 102 (dk_at dksX10_givesUp_2 0 rfl rfl)
theorem dX10_givesUp_49 : decode cX10_givesUp 49 = .ok (.iload_n 1, 1) := dk_27 (dk_at dksX10_givesUp_2 3 rfl rfl)
theorem dX10_givesUp_50 : decode cX10_givesUp 50 = .ok (.ireturn, 1) := dk_172 (dk_at dksX10_givesUp_2 4 rfl rfl)
theorem dX10_givesUp_51 : decode cX10_givesUp 51 = .ok (.iconst 0, 1) := dk_3 (dk_at dksX10_givesUp_2 5 rfl rfl)
theorem dX10_givesUp_52 : decode cX10_givesUp 52 = .ok (.istore_n 2, 1) := dk_61 (dk_at dksX10_givesUp_2 6 rfl rfl)
theorem dX10_givesUp_53 : decode cX10_givesUp 53 = .ok (.iload_n 2, 1) := dk_28 (dk_at dksX10_givesUp_2 7 rfl rfl)
theorem dX10_givesUp_54 : decode cX10_givesUp 54 = .ok (.aload_n 0, 1) := dk_42 (dk_at dksX10_givesUp_2 8 rfl rfl)
theorem dX10_givesUp_55 : decode cX10_givesUp 55 = .ok (.getfield 3, 3) := dk_180 0 3 (dk_at dksX10_givesUp_2 9 rfl rfl)
theorem dX10_givesUp_58 : decode cX10_givesUp 58 = .ok (.getfield 220, 3) := dk_180 0 220 (dk_at dksX10_givesUp_2 12 rfl rfl)
theorem dX10_givesUp_61 : decode cX10_givesUp 61 = .ok (.getfield 355, 3) := dk_180 1 99 (dk_at dksX10_givesUp_2 15 rfl rfl)
theorem dX10_givesUp_64 : decode cX10_givesUp 64 = .ok (.if_icmp .ge 70, 3) := dk_162 0 70 (dk_at dksX10_givesUp_2 18 rfl rfl)
theorem dX10_givesUp_67 : decode cX10_givesUp 67 = .ok (.iload_n 1, 1) := dk_27 (dk_at dksX10_givesUp_2 21 rfl rfl)
theorem dX10_givesUp_68 : decode cX10_givesUp 68 = .ok (.iload_n 2, 1) := dk_28 (dk_at dksX10_givesUp_2 22 rfl rfl)
theorem dX10_givesUp_69 : decode cX10_givesUp 69 = .ok (.aload_n 0, 1) := dk_42 (dk_at dksX10_givesUp_2 23 rfl rfl)
theorem dX10_givesUp_70 : decode cX10_givesUp 70 = .ok (.getfield 106, 3) := dk_180 0 106 (dk_at dksX10_givesUp_3 0 rfl rfl)
theorem dX10_givesUp_73 : decode cX10_givesUp 73 = .ok (.if_icmp .ne 15, 3) := dk_160 0 15 (dk_at dksX10_givesUp_3 3 rfl rfl)
theorem dX10_givesUp_76 : decode cX10_givesUp 76 = .ok (.aload_n 0, 1) := dk_42 (dk_at dksX10_givesUp_3 6 rfl rfl)
theorem dX10_givesUp_77 : decode cX10_givesUp 77 = .ok (.iload_n 2, 1) := dk_28 (dk_at dksX10_givesUp_3 7 rfl rfl)
theorem dX10_givesUp_78 : decode cX10_givesUp 78 = .ok (.aload_n 0, 1) := dk_42 (dk_at dksX10_givesUp_3 8 rfl rfl)
theorem dX10_givesUp_79 : decode cX10_givesUp 79 = .ok (.getfield 109, 3) := dk_180 0 109 (dk_at dksX10_givesUp_3 9 rfl rfl)
theorem dX10_givesUp_82 : decode cX10_givesUp 82 = .ok (.invokevirtual 352, 3) := dk_182 1 96 (dk_at dksX10_givesUp_3 12 rfl rfl)
theorem dX10_givesUp_85 : decode cX10_givesUp 85 = .ok (.goto 41, 3) := dk_167 0 41 (dk_at dksX10_givesUp_3 15 rfl rfl)
theorem dX10_givesUp_88 : decode cX10_givesUp 88 = .ok (.aload_n 0, 1) := dk_42 (dk_at dksX10_givesUp_3 18 rfl rfl)
theorem dX10_givesUp_89 : decode cX10_givesUp 89 = .ok (.getfield 17, 3) := dk_180 0 17 (dk_at dksX10_givesUp_3 19 rfl rfl)
theorem dX10_givesUp_92 : decode cX10_givesUp 92 = .ok (.iload_n 2, 1) := dk_28 (dk_at dksX10_givesUp_3 22 rfl rfl)
theorem dX10_givesUp_93 : decode cX10_givesUp 93 = .ok (.aaload, 1) := dk_50 (dk_at dksX10_givesUp_3 23 rfl rfl)
theorem dX10_givesUp_94 : decode cX10_givesUp 94 = .ok (.invokestatic 361, 3) := dk_184 1 105 (dk_at dksX10_givesUp_4 0 rfl rfl)
theorem dX10_givesUp_97 : decode cX10_givesUp 97 = .ok (.ifCond .eq 28, 3) := dk_153 0 28 (dk_at dksX10_givesUp_4 3 rfl rfl)
theorem dX10_givesUp_100 : decode cX10_givesUp 100 = .ok (.aload_n 0, 1) := dk_42 (dk_at dksX10_givesUp_4 6 rfl rfl)
theorem dX10_givesUp_101 : decode cX10_givesUp 101 = .ok (.getfield 17, 3) := dk_180 0 17 (dk_at dksX10_givesUp_4 7 rfl rfl)
theorem dX10_givesUp_104 : decode cX10_givesUp 104 = .ok (.iload_n 2, 1) := dk_28 (dk_at dksX10_givesUp_4 10 rfl rfl)
theorem dX10_givesUp_105 : decode cX10_givesUp 105 = .ok (.aaload, 1) := dk_50 (dk_at dksX10_givesUp_4 11 rfl rfl)
theorem dX10_givesUp_106 : decode cX10_givesUp 106 = .ok (.invokestatic 365, 3) := dk_184 1 109 (dk_at dksX10_givesUp_4 12 rfl rfl)
theorem dX10_givesUp_109 : decode cX10_givesUp 109 = .ok (.aload_n 0, 1) := dk_42 (dk_at dksX10_givesUp_4 15 rfl rfl)
theorem dX10_givesUp_110 : decode cX10_givesUp 110 = .ok (.getfield 85, 3) := dk_180 0 85 (dk_at dksX10_givesUp_4 16 rfl rfl)
theorem dX10_givesUp_113 : decode cX10_givesUp 113 = .ok (.if_icmp .le 12, 3) := dk_164 0 12 (dk_at dksX10_givesUp_4 19 rfl rfl)
theorem dX10_givesUp_116 : decode cX10_givesUp 116 = .ok (.aload_n 0, 1) := dk_42 (dk_at dksX10_givesUp_4 22 rfl rfl)
theorem dX10_givesUp_117 : decode cX10_givesUp 117 = .ok (.iload_n 2, 1) := dk_28 (dk_at dksX10_givesUp_4 23 rfl rfl)
theorem dX10_givesUp_118 : decode cX10_givesUp 118 = .ok (.iconst 0, 1) := dk_3 (dk_at dksX10_givesUp_5 0 rfl rfl)
theorem dX10_givesUp_119 : decode cX10_givesUp 119 = .ok (.invokevirtual 352, 3) := dk_182 1 96 (dk_at dksX10_givesUp_5 1 rfl rfl)
theorem dX10_givesUp_122 : decode cX10_givesUp 122 = .ok (.goto 4, 3) := dk_167 0 4 (dk_at dksX10_givesUp_5 4 rfl rfl)
theorem dX10_givesUp_125 : decode cX10_givesUp 125 = .ok (.iconst 0, 1) := dk_3 (dk_at dksX10_givesUp_5 7 rfl rfl)
theorem dX10_givesUp_126 : decode cX10_givesUp 126 = .ok (.iadd, 1) := dk_96 (dk_at dksX10_givesUp_5 8 rfl rfl)
theorem dX10_givesUp_127 : decode cX10_givesUp 127 = .ok (.istore_n 1, 1) := dk_60 (dk_at dksX10_givesUp_5 9 rfl rfl)
theorem dX10_givesUp_128 : decode cX10_givesUp 128 = .ok (.iinc 2 1, 3) := dk_132 2 1 (dk_at dksX10_givesUp_5 10 rfl rfl)
theorem dX10_givesUp_131 : decode cX10_givesUp 131 = .ok (.goto (-78), 3) := dk_167 255 178 (dk_at dksX10_givesUp_5 13 rfl rfl)
theorem dX10_givesUp_134 : decode cX10_givesUp 134 = .ok (.iload_n 1, 1) := dk_27 (dk_at dksX10_givesUp_5 16 rfl rfl)
theorem dX10_givesUp_135 : decode cX10_givesUp 135 = .ok (.ireturn, 1) := dk_172 (dk_at dksX10_givesUp_5 17 rfl rfl)
theorem q204 : (Jvm.Cond.initialized "GroupJournal$State") ∈ lw_all := lw_g (lw_at lw_m1 17 rfl) rfl
theorem q328 : (Jvm.Cond.fieldLinkNest "GroupJournal$State" (355 : Nat) "GroupJournal$Journal" "segments" "I" "GroupJournal") ∈ lw_tbl := lw_at lw_m1 141 rfl
theorem q340 : (Jvm.Cond.fieldLinkNest "GroupJournal$State" (224 : Nat) "GroupJournal$Journal" "closes" "LGroupJournal$Test;" "GroupJournal") ∈ lw_tbl := lw_at lw_m1 153 rfl
theorem q342 : (Jvm.Cond.fieldLinkNest "GroupJournal$State" (251 : Nat) "GroupJournal$Journal" "takes" "LGroupJournal$Value;" "GroupJournal") ∈ lw_tbl := lw_at lw_m1 155 rfl
theorem q473 : (Jvm.Cond.fieldLinkNest "GroupJournal$State" (208 : Nat) "GroupJournal$Moment" "of" "[J" "GroupJournal") ∈ lw_tbl := lw_at lw_m2 46 rfl
theorem q486 : (Jvm.Cond.fieldLinkNest "GroupJournal$State" (275 : Nat) "GroupJournal$Layer" "where" "[I" "GroupJournal") ∈ lw_tbl := lw_at lw_m2 59 rfl
theorem q488 : (Jvm.Cond.fieldLinkNest "GroupJournal$State" (276 : Nat) "GroupJournal$Layer" "octets" "[I" "GroupJournal") ∈ lw_tbl := lw_at lw_m2 61 rfl
theorem q490 : (Jvm.Cond.fieldLinkNest "GroupJournal$State" (281 : Nat) "GroupJournal$Layer" "last" "[I" "GroupJournal") ∈ lw_tbl := lw_at lw_m2 63 rfl
theorem q494 : (Jvm.Cond.fieldLinkNest "GroupJournal$State" (274 : Nat) "GroupJournal$Layer" "many" "I" "GroupJournal") ∈ lw_tbl := lw_at lw_m2 67 rfl
theorem q496 : (Jvm.Cond.fieldLinkNest "GroupJournal$State" (277 : Nat) "GroupJournal$Layer" "segment" "I" "GroupJournal") ∈ lw_tbl := lw_at lw_m2 69 rfl
theorem q498 : (Jvm.Cond.fieldLinkNest "GroupJournal$State" (278 : Nat) "GroupJournal$Layer" "at" "I" "GroupJournal") ∈ lw_tbl := lw_at lw_m2 71 rfl
theorem q500 : (Jvm.Cond.fieldLinkNest "GroupJournal$State" (279 : Nat) "GroupJournal$Layer" "serial" "I" "GroupJournal") ∈ lw_tbl := lw_at lw_m2 73 rfl
theorem q502 : (Jvm.Cond.fieldLinkNest "GroupJournal$State" (280 : Nat) "GroupJournal$Layer" "newest" "I" "GroupJournal") ∈ lw_tbl := lw_at lw_m2 75 rfl
theorem q587 : (Jvm.Cond.fieldLinkNest "GroupJournal$State" (351 : Nat) "GroupJournal$Recovery" "last" "[I" "GroupJournal") ∈ lw_tbl := lw_at lw_m2 160 rfl
theorem q589 : (Jvm.Cond.fieldLinkNest "GroupJournal$State" (339 : Nat) "GroupJournal$Recovery" "values" "[I" "GroupJournal") ∈ lw_tbl := lw_at lw_m2 162 rfl
theorem q592 : (Jvm.Cond.fieldLinkNest "GroupJournal$State" (346 : Nat) "GroupJournal$Recovery" "segment" "I" "GroupJournal") ∈ lw_tbl := lw_at lw_m2 165 rfl
theorem q595 : (Jvm.Cond.fieldLinkNest "GroupJournal$State" (347 : Nat) "GroupJournal$Recovery" "end" "I" "GroupJournal") ∈ lw_tbl := lw_at lw_m2 168 rfl
theorem q598 : (Jvm.Cond.fieldLinkNest "GroupJournal$State" (350 : Nat) "GroupJournal$Recovery" "serial" "I" "GroupJournal") ∈ lw_tbl := lw_at lw_m2 171 rfl
theorem q600 : (Jvm.Cond.fieldLinkNest "GroupJournal$State" (342 : Nat) "GroupJournal$Recovery" "next" "I" "GroupJournal") ∈ lw_tbl := lw_at lw_m2 173 rfl
theorem q603 : (Jvm.Cond.fieldLinkNest "GroupJournal$State" (343 : Nat) "GroupJournal$Recovery" "isDamaged" "Z" "GroupJournal") ∈ lw_tbl := lw_at lw_m2 176 rfl
theorem q626 : (Jvm.Cond.instantiable "GroupJournal$State" (23 : Nat)) ∈ lw_all := lw_g (lw_at lw_m2 199 rfl) rfl
theorem q628 : (Jvm.Cond.instanceMethod ({ cls := "GroupJournal$State", name := "<init>", desc := "(LGroupJournal;)V" } : Jvm.MethodName)) ∈ lw_all := lw_g (lw_at lw_m2 201 rfl) rfl
theorem q629 : (Jvm.Cond.code ({ cls := "GroupJournal$State", name := "<init>", desc := "(LGroupJournal;)V" } : Jvm.MethodName) prog_21_method_1_code (2 : Nat) (Option.none : Option Jvm.ClassFile.FieldType)) ∈ lw_all := lw_g (lw_at lw_m2 202 rfl) rfl
theorem q630 : (Jvm.Cond.methodLink "GroupJournal$State" (9 : Nat) ({ cls := "java/lang/Object", name := "<init>", desc := "()V" } : Jvm.MethodName)) ∈ lw_all := lw_g (lw_at lw_m2 203 rfl) rfl
theorem q631 : (Jvm.Cond.classLink "GroupJournal$State" (15 : Nat) "[[I") ∈ lw_all := lw_g (lw_at lw_m2 204 rfl) rfl
theorem q632 : (Jvm.Cond.classLink "GroupJournal$State" (30 : Nat) "java/util/ArrayList") ∈ lw_all := lw_g (lw_at lw_m2 205 rfl) rfl
theorem q633 : (Jvm.Cond.methodLink "GroupJournal$State" (32 : Nat) ({ cls := "java/util/ArrayList", name := "<init>", desc := "(I)V" } : Jvm.MethodName)) ∈ lw_all := lw_g (lw_at lw_m2 206 rfl) rfl
theorem q634 : (Jvm.Cond.classLink "GroupJournal$State" (42 : Nat) "java/util/HashMap") ∈ lw_all := lw_g (lw_at lw_m2 207 rfl) rfl
theorem q636 : (Jvm.Cond.methodLink "GroupJournal$State" (44 : Nat) ({ cls := "java/util/HashMap", name := "<init>", desc := "()V" } : Jvm.MethodName)) ∈ lw_all := lw_g (lw_at lw_m2 209 rfl) rfl
theorem q678 : (Jvm.Cond.classLink "GroupJournal$State" (52 : Nat) "java/util/LinkedHashMap") ∈ lw_all := lw_g (lw_at lw_m3 11 rfl) rfl
theorem q680 : (Jvm.Cond.methodLink "GroupJournal$State" (54 : Nat) ({ cls := "java/util/LinkedHashMap", name := "<init>", desc := "()V" } : Jvm.MethodName)) ∈ lw_all := lw_g (lw_at lw_m3 13 rfl) rfl
theorem q707 : (Jvm.Cond.classLink "GroupJournal$State" (59 : Nat) "java/util/HashSet") ∈ lw_all := lw_g (lw_at lw_m3 40 rfl) rfl
theorem q709 : (Jvm.Cond.methodLink "GroupJournal$State" (61 : Nat) ({ cls := "java/util/HashSet", name := "<init>", desc := "(I)V" } : Jvm.MethodName)) ∈ lw_all := lw_g (lw_at lw_m3 42 rfl) rfl
theorem q738 : (Jvm.Cond.fieldLink "GroupJournal$State" (69 : Nat) "GroupJournal$State" "tick" "I") ∈ lw_all := lw_g (lw_at lw_m3 71 rfl) rfl
theorem q740 : (Jvm.Cond.fieldLink "GroupJournal$State" (73 : Nat) "GroupJournal$State" "next" "I") ∈ lw_all := lw_g (lw_at lw_m3 73 rfl) rfl
theorem q742 : (Jvm.Cond.fieldLink "GroupJournal$State" (76 : Nat) "GroupJournal$State" "acked" "I") ∈ lw_all := lw_g (lw_at lw_m3 75 rfl) rfl
theorem q744 : (Jvm.Cond.fieldLink "GroupJournal$State" (79 : Nat) "GroupJournal$State" "left" "I") ∈ lw_all := lw_g (lw_at lw_m3 77 rfl) rfl
theorem q746 : (Jvm.Cond.fieldLink "GroupJournal$State" (82 : Nat) "GroupJournal$State" "snap" "I") ∈ lw_all := lw_g (lw_at lw_m3 79 rfl) rfl
theorem q750 : (Jvm.Cond.fieldLink "GroupJournal$State" (106 : Nat) "GroupJournal$State" "segment" "I") ∈ lw_all := lw_g (lw_at lw_m3 83 rfl) rfl
theorem q753 : (Jvm.Cond.fieldLink "GroupJournal$State" (109 : Nat) "GroupJournal$State" "at" "I") ∈ lw_all := lw_g (lw_at lw_m3 86 rfl) rfl
theorem q755 : (Jvm.Cond.fieldLink "GroupJournal$State" (85 : Nat) "GroupJournal$State" "serial" "I") ∈ lw_all := lw_g (lw_at lw_m3 88 rfl) rfl
theorem q758 : (Jvm.Cond.fieldLink "GroupJournal$State" (88 : Nat) "GroupJournal$State" "newest" "I") ∈ lw_all := lw_g (lw_at lw_m3 91 rfl) rfl
theorem q761 : (Jvm.Cond.fieldLink "GroupJournal$State" (91 : Nat) "GroupJournal$State" "many" "I") ∈ lw_all := lw_g (lw_at lw_m3 94 rfl) rfl
theorem q763 : (Jvm.Cond.fieldLink "GroupJournal$State" (94 : Nat) "GroupJournal$State" "halted" "Z") ∈ lw_all := lw_g (lw_at lw_m3 96 rfl) rfl
theorem q765 : (Jvm.Cond.fieldLink "GroupJournal$State" (17 : Nat) "GroupJournal$State" "disk" "[[I") ∈ lw_all := lw_g (lw_at lw_m3 98 rfl) rfl
theorem q768 : (Jvm.Cond.fieldLink "GroupJournal$State" (20 : Nat) "GroupJournal$State" "last" "[I") ∈ lw_all := lw_g (lw_at lw_m3 101 rfl) rfl
theorem q770 : (Jvm.Cond.fieldLink "GroupJournal$State" (24 : Nat) "GroupJournal$State" "where" "[I") ∈ lw_all := lw_g (lw_at lw_m3 103 rfl) rfl
theorem q772 : (Jvm.Cond.fieldLink "GroupJournal$State" (27 : Nat) "GroupJournal$State" "octets" "[I") ∈ lw_all := lw_g (lw_at lw_m3 105 rfl) rfl
theorem q774 : (Jvm.Cond.fieldLink "GroupJournal$State" (35 : Nat) "GroupJournal$State" "queue" "Ljava/util/List;") ∈ lw_all := lw_g (lw_at lw_m3 107 rfl) rfl
theorem q776 : (Jvm.Cond.fieldLink "GroupJournal$State" (39 : Nat) "GroupJournal$State" "going" "Ljava/util/List;") ∈ lw_all := lw_g (lw_at lw_m3 109 rfl) rfl
theorem q778 : (Jvm.Cond.fieldLink "GroupJournal$State" (45 : Nat) "GroupJournal$State" "table" "Ljava/util/HashMap;") ∈ lw_all := lw_g (lw_at lw_m3 111 rfl) rfl
theorem q780 : (Jvm.Cond.fieldLink "GroupJournal$State" (49 : Nat) "GroupJournal$State" "snapTable" "Ljava/util/HashMap;") ∈ lw_all := lw_g (lw_at lw_m3 113 rfl) rfl
theorem q783 : (Jvm.Cond.fieldLink "GroupJournal$State" (55 : Nat) "GroupJournal$State" "waiters" "Ljava/util/LinkedHashMap;") ∈ lw_all := lw_g (lw_at lw_m3 116 rfl) rfl
theorem q785 : (Jvm.Cond.fieldLink "GroupJournal$State" (62 : Nat) "GroupJournal$State" "scars" "Ljava/util/HashSet;") ∈ lw_all := lw_g (lw_at lw_m3 118 rfl) rfl
theorem q787 : (Jvm.Cond.fieldLink "GroupJournal$State" (66 : Nat) "GroupJournal$State" "rows" "Ljava/util/List;") ∈ lw_all := lw_g (lw_at lw_m3 120 rfl) rfl
theorem q789 : (Jvm.Cond.fieldLink "GroupJournal$State" (3 : Nat) "GroupJournal$State" "this$0" "LGroupJournal;") ∈ lw_all := lw_g (lw_at lw_m3 122 rfl) rfl
theorem q790 : (Jvm.Cond.lays "GroupJournal$State" "GroupJournal$State" "tick" "I") ∈ lw_all := lw_g (lw_at lw_m3 123 rfl) rfl
theorem q791 : (Jvm.Cond.soleField "GroupJournal$State" "tick") ∈ lw_all := lw_g (lw_at lw_m3 124 rfl) rfl
theorem q792 : (Jvm.Cond.lays "GroupJournal$State" "GroupJournal$State" "next" "I") ∈ lw_all := lw_g (lw_at lw_m3 125 rfl) rfl
theorem q793 : (Jvm.Cond.soleField "GroupJournal$State" "next") ∈ lw_all := lw_g (lw_at lw_m3 126 rfl) rfl
theorem q794 : (Jvm.Cond.lays "GroupJournal$State" "GroupJournal$State" "acked" "I") ∈ lw_all := lw_g (lw_at lw_m3 127 rfl) rfl
theorem q795 : (Jvm.Cond.soleField "GroupJournal$State" "acked") ∈ lw_all := lw_g (lw_at lw_m3 128 rfl) rfl
theorem q796 : (Jvm.Cond.lays "GroupJournal$State" "GroupJournal$State" "left" "I") ∈ lw_all := lw_g (lw_at lw_m3 129 rfl) rfl
theorem q797 : (Jvm.Cond.soleField "GroupJournal$State" "left") ∈ lw_all := lw_g (lw_at lw_m3 130 rfl) rfl
theorem q798 : (Jvm.Cond.lays "GroupJournal$State" "GroupJournal$State" "snap" "I") ∈ lw_all := lw_g (lw_at lw_m3 131 rfl) rfl
theorem q799 : (Jvm.Cond.soleField "GroupJournal$State" "snap") ∈ lw_all := lw_g (lw_at lw_m3 132 rfl) rfl
theorem q800 : (Jvm.Cond.lays "GroupJournal$State" "GroupJournal$State" "segment" "I") ∈ lw_all := lw_g (lw_at lw_m3 133 rfl) rfl
theorem q801 : (Jvm.Cond.soleField "GroupJournal$State" "segment") ∈ lw_all := lw_g (lw_at lw_m3 134 rfl) rfl
theorem q802 : (Jvm.Cond.lays "GroupJournal$State" "GroupJournal$State" "at" "I") ∈ lw_all := lw_g (lw_at lw_m3 135 rfl) rfl
theorem q803 : (Jvm.Cond.soleField "GroupJournal$State" "at") ∈ lw_all := lw_g (lw_at lw_m3 136 rfl) rfl
theorem q804 : (Jvm.Cond.lays "GroupJournal$State" "GroupJournal$State" "serial" "I") ∈ lw_all := lw_g (lw_at lw_m3 137 rfl) rfl
theorem q805 : (Jvm.Cond.soleField "GroupJournal$State" "serial") ∈ lw_all := lw_g (lw_at lw_m3 138 rfl) rfl
theorem q806 : (Jvm.Cond.lays "GroupJournal$State" "GroupJournal$State" "newest" "I") ∈ lw_all := lw_g (lw_at lw_m3 139 rfl) rfl
theorem q807 : (Jvm.Cond.soleField "GroupJournal$State" "newest") ∈ lw_all := lw_g (lw_at lw_m3 140 rfl) rfl
theorem q808 : (Jvm.Cond.lays "GroupJournal$State" "GroupJournal$State" "many" "I") ∈ lw_all := lw_g (lw_at lw_m3 141 rfl) rfl
theorem q809 : (Jvm.Cond.soleField "GroupJournal$State" "many") ∈ lw_all := lw_g (lw_at lw_m3 142 rfl) rfl
theorem q810 : (Jvm.Cond.lays "GroupJournal$State" "GroupJournal$State" "halted" "Z") ∈ lw_all := lw_g (lw_at lw_m3 143 rfl) rfl
theorem q811 : (Jvm.Cond.soleField "GroupJournal$State" "halted") ∈ lw_all := lw_g (lw_at lw_m3 144 rfl) rfl
theorem q812 : (Jvm.Cond.laysFinal "GroupJournal$State" "GroupJournal$State" "disk" "[[I") ∈ lw_all := lw_g (lw_at lw_m3 145 rfl) rfl
theorem q813 : (Jvm.Cond.soleField "GroupJournal$State" "disk") ∈ lw_all := lw_g (lw_at lw_m3 146 rfl) rfl
theorem q814 : (Jvm.Cond.laysFinal "GroupJournal$State" "GroupJournal$State" "last" "[I") ∈ lw_all := lw_g (lw_at lw_m3 147 rfl) rfl
theorem q815 : (Jvm.Cond.soleField "GroupJournal$State" "last") ∈ lw_all := lw_g (lw_at lw_m3 148 rfl) rfl
theorem q816 : (Jvm.Cond.laysFinal "GroupJournal$State" "GroupJournal$State" "where" "[I") ∈ lw_all := lw_g (lw_at lw_m3 149 rfl) rfl
theorem q817 : (Jvm.Cond.soleField "GroupJournal$State" "where") ∈ lw_all := lw_g (lw_at lw_m3 150 rfl) rfl
theorem q818 : (Jvm.Cond.laysFinal "GroupJournal$State" "GroupJournal$State" "octets" "[I") ∈ lw_all := lw_g (lw_at lw_m3 151 rfl) rfl
theorem q819 : (Jvm.Cond.soleField "GroupJournal$State" "octets") ∈ lw_all := lw_g (lw_at lw_m3 152 rfl) rfl
theorem q820 : (Jvm.Cond.laysFinal "GroupJournal$State" "GroupJournal$State" "queue" "Ljava/util/List;") ∈ lw_all := lw_g (lw_at lw_m3 153 rfl) rfl
theorem q821 : (Jvm.Cond.soleField "GroupJournal$State" "queue") ∈ lw_all := lw_g (lw_at lw_m3 154 rfl) rfl
theorem q822 : (Jvm.Cond.laysFinal "GroupJournal$State" "GroupJournal$State" "going" "Ljava/util/List;") ∈ lw_all := lw_g (lw_at lw_m3 155 rfl) rfl
theorem q823 : (Jvm.Cond.soleField "GroupJournal$State" "going") ∈ lw_all := lw_g (lw_at lw_m3 156 rfl) rfl
theorem q824 : (Jvm.Cond.laysFinal "GroupJournal$State" "GroupJournal$State" "table" "Ljava/util/HashMap;") ∈ lw_all := lw_g (lw_at lw_m3 157 rfl) rfl
theorem q825 : (Jvm.Cond.soleField "GroupJournal$State" "table") ∈ lw_all := lw_g (lw_at lw_m3 158 rfl) rfl
theorem q826 : (Jvm.Cond.laysFinal "GroupJournal$State" "GroupJournal$State" "snapTable" "Ljava/util/HashMap;") ∈ lw_all := lw_g (lw_at lw_m3 159 rfl) rfl
theorem q827 : (Jvm.Cond.soleField "GroupJournal$State" "snapTable") ∈ lw_all := lw_g (lw_at lw_m3 160 rfl) rfl
theorem q828 : (Jvm.Cond.laysFinal "GroupJournal$State" "GroupJournal$State" "waiters" "Ljava/util/LinkedHashMap;") ∈ lw_all := lw_g (lw_at lw_m3 161 rfl) rfl
theorem q829 : (Jvm.Cond.soleField "GroupJournal$State" "waiters") ∈ lw_all := lw_g (lw_at lw_m3 162 rfl) rfl
theorem q830 : (Jvm.Cond.laysFinal "GroupJournal$State" "GroupJournal$State" "scars" "Ljava/util/HashSet;") ∈ lw_all := lw_g (lw_at lw_m3 163 rfl) rfl
theorem q831 : (Jvm.Cond.soleField "GroupJournal$State" "scars") ∈ lw_all := lw_g (lw_at lw_m3 164 rfl) rfl
theorem q832 : (Jvm.Cond.laysFinal "GroupJournal$State" "GroupJournal$State" "rows" "Ljava/util/List;") ∈ lw_all := lw_g (lw_at lw_m3 165 rfl) rfl
theorem q833 : (Jvm.Cond.soleField "GroupJournal$State" "rows") ∈ lw_all := lw_g (lw_at lw_m3 166 rfl) rfl
theorem q834 : (Jvm.Cond.laysFinal "GroupJournal$State" "GroupJournal$State" "this$0" "LGroupJournal;") ∈ lw_all := lw_g (lw_at lw_m3 167 rfl) rfl
theorem q835 : (Jvm.Cond.soleField "GroupJournal$State" "this$0") ∈ lw_all := lw_g (lw_at lw_m3 168 rfl) rfl
theorem q836 : (Jvm.Cond.superclass "GroupJournal$State" "java/lang/Object") ∈ lw_all := lw_g (lw_at lw_m3 169 rfl) rfl
theorem q845 : (Jvm.Cond.fieldLinkNest "GroupJournal$State" (298 : Nat) "GroupJournal" "keys" "[LGroupJournal$Key;" "GroupJournal") ∈ lw_tbl := lw_at lw_m3 178 rfl
theorem q847 : (Jvm.Cond.fieldLinkNest "GroupJournal$State" (187 : Nat) "GroupJournal" "soughtSpot" "LGroupJournal$Spot;" "GroupJournal") ∈ lw_tbl := lw_at lw_m3 180 rfl
theorem q853 : (Jvm.Cond.fieldLinkNest "GroupJournal$State" (220 : Nat) "GroupJournal" "journal" "LGroupJournal$Journal;" "GroupJournal") ∈ lw_tbl := lw_at lw_m3 186 rfl
theorem q861 : (Jvm.Cond.fieldLinkNest "GroupJournal$State" (204 : Nat) "GroupJournal" "moment" "LGroupJournal$Moment;" "GroupJournal") ∈ lw_tbl := lw_at lw_m3 194 rfl
theorem q865 : (Jvm.Cond.fieldLinkNest "GroupJournal$State" (238 : Nat) "GroupJournal" "layer" "LGroupJournal$Layer;" "GroupJournal") ∈ lw_tbl := lw_at lw_m3 198 rfl
theorem q869 : (Jvm.Cond.fieldLinkNest "GroupJournal$State" (326 : Nat) "GroupJournal" "recovery" "LGroupJournal$Recovery;" "GroupJournal") ∈ lw_tbl := lw_at lw_m3 202 rfl
theorem q871 : (Jvm.Cond.fieldLinkNest "GroupJournal$State" (285 : Nat) "GroupJournal" "freed" "[I" "GroupJournal") ∈ lw_tbl := lw_at lw_m3 204 rfl
theorem q1209 : (Jvm.Cond.fieldLinkNest "GroupJournal$State" (310 : Nat) "GroupJournal$Entry" "number" "I" "GroupJournal") ∈ lw_tbl := lw_at lw_m5 62 rfl
theorem q1213 : (Jvm.Cond.fieldLinkNest "GroupJournal$State" (302 : Nat) "GroupJournal$Entry" "key" "I" "GroupJournal") ∈ lw_tbl := lw_at lw_m5 66 rfl
theorem q1219 : (Jvm.Cond.fieldLinkNest "GroupJournal$State" (213 : Nat) "GroupJournal$Entry" "tick" "I" "GroupJournal") ∈ lw_tbl := lw_at lw_m5 72 rfl
theorem q1221 : (Jvm.Cond.fieldLinkNest "GroupJournal$State" (305 : Nat) "GroupJournal$Entry" "told" "Ljava/lang/Integer;" "GroupJournal") ∈ lw_tbl := lw_at lw_m5 74 rfl
theorem q1295 : (Jvm.Cond.selects "GroupJournal$State" ({ cls := "java/lang/Object", name := "getClass", desc := "()Ljava/lang/Class;" } : Jvm.MethodName) ({ cls := "java/lang/Object", name := "getClass", desc := "()Ljava/lang/Class;" } : Jvm.MethodName)) ∈ lw_all := lw_g (lw_at lw_m5 148 rfl) rfl
theorem q1599 : (Jvm.Cond.instanceMethod ({ cls := "GroupJournal$State", name := "begins", desc := "()V" } : Jvm.MethodName)) ∈ lw_all := lw_g (lw_at lw_m6 212 rfl) rfl
theorem q1600 : (Jvm.Cond.selects "GroupJournal$State" ({ cls := "GroupJournal$State", name := "begins", desc := "()V" } : Jvm.MethodName) ({ cls := "GroupJournal$State", name := "begins", desc := "()V" } : Jvm.MethodName)) ∈ lw_all := lw_g (lw_at lw_m6 213 rfl) rfl
theorem q1601 : (Jvm.Cond.code ({ cls := "GroupJournal$State", name := "begins", desc := "()V" } : Jvm.MethodName) prog_21_method_2_code (3 : Nat) (Option.none : Option Jvm.ClassFile.FieldType)) ∈ lw_all := lw_g (lw_at lw_m6 214 rfl) rfl
theorem q1602 : (Jvm.Cond.interfaceEntry "GroupJournal$State" (98 : Nat)) ∈ lw_tbl := lw_at lw_m6 215 rfl
theorem q1603 : (Jvm.Cond.methodLink "GroupJournal$State" (98 : Nat) ({ cls := "java/util/List", name := "clear", desc := "()V" } : Jvm.MethodName)) ∈ lw_all := lw_g (lw_at lw_m6 216 rfl) rfl
theorem q1611 : (Jvm.Cond.methodLink "GroupJournal$State" (103 : Nat) ({ cls := "java/util/HashMap", name := "clear", desc := "()V" } : Jvm.MethodName)) ∈ lw_all := lw_g (lw_at lw_m6 224 rfl) rfl
theorem q1620 : (Jvm.Cond.methodLink "GroupJournal$State" (104 : Nat) ({ cls := "java/util/LinkedHashMap", name := "clear", desc := "()V" } : Jvm.MethodName)) ∈ lw_all := lw_g (lw_at lw_m6 233 rfl) rfl
theorem q1621 : (Jvm.Cond.methodLink "GroupJournal$State" (105 : Nat) ({ cls := "java/util/HashSet", name := "clear", desc := "()V" } : Jvm.MethodName)) ∈ lw_all := lw_g (lw_at lw_m6 234 rfl) rfl
theorem q1627 : (Jvm.Cond.privateMethod ({ cls := "GroupJournal$State", name := "opensFirst", desc := "()V" } : Jvm.MethodName)) ∈ lw_tbl := lw_at lw_m7 0 rfl
theorem q1628 : (Jvm.Cond.instanceMethod ({ cls := "GroupJournal$State", name := "opensFirst", desc := "()V" } : Jvm.MethodName)) ∈ lw_all := lw_g (lw_at lw_m7 1 rfl) rfl
theorem q1629 : (Jvm.Cond.code ({ cls := "GroupJournal$State", name := "opensFirst", desc := "()V" } : Jvm.MethodName) prog_21_method_3_code (3 : Nat) (Option.none : Option Jvm.ClassFile.FieldType)) ∈ lw_all := lw_g (lw_at lw_m7 2 rfl) rfl
theorem q1630 : (Jvm.Cond.methodLink "GroupJournal$State" (112 : Nat) ({ cls := "GroupJournal$State", name := "writes", desc := "(III)V" } : Jvm.MethodName)) ∈ lw_all := lw_g (lw_at lw_m7 3 rfl) rfl
theorem q1631 : (Jvm.Cond.privateMethod ({ cls := "GroupJournal$State", name := "writes", desc := "(III)V" } : Jvm.MethodName)) ∈ lw_tbl := lw_at lw_m7 4 rfl
theorem q1632 : (Jvm.Cond.instanceMethod ({ cls := "GroupJournal$State", name := "writes", desc := "(III)V" } : Jvm.MethodName)) ∈ lw_all := lw_g (lw_at lw_m7 5 rfl) rfl
theorem q1633 : (Jvm.Cond.code ({ cls := "GroupJournal$State", name := "writes", desc := "(III)V" } : Jvm.MethodName) prog_21_method_6_code (4 : Nat) (Option.none : Option Jvm.ClassFile.FieldType)) ∈ lw_all := lw_g (lw_at lw_m7 6 rfl) rfl
theorem q1634 : (Jvm.Cond.methodLink "GroupJournal$State" (191 : Nat) ({ cls := "GroupJournal$Spot", name := "of", desc := "(II)LGroupJournal$Spot;" } : Jvm.MethodName)) ∈ lw_all := lw_g (lw_at lw_m7 7 rfl) rfl
theorem q1638 : (Jvm.Cond.methodLink "GroupJournal$State" (195 : Nat) ({ cls := "java/util/HashSet", name := "remove", desc := "(Ljava/lang/Object;)Z" } : Jvm.MethodName)) ∈ lw_all := lw_g (lw_at lw_m7 11 rfl) rfl
theorem q1679 : (Jvm.Cond.selects "GroupJournal$State" ({ cls := "java/lang/Object", name := "hashCode", desc := "()I" } : Jvm.MethodName) ({ cls := "java/lang/Object", name := "hashCode", desc := "()I" } : Jvm.MethodName)) ∈ lw_all := lw_g (lw_at lw_m7 52 rfl) rfl
theorem q1729 : (Jvm.Cond.selects "GroupJournal$State" ({ cls := "java/lang/Object", name := "equals", desc := "(Ljava/lang/Object;)Z" } : Jvm.MethodName) ({ cls := "java/lang/Object", name := "equals", desc := "(Ljava/lang/Object;)Z" } : Jvm.MethodName)) ∈ lw_all := lw_g (lw_at lw_m7 102 rfl) rfl
theorem q2070 : (Jvm.Cond.methodLinkNest "GroupJournal$State" (116 : Nat) ({ cls := "GroupJournal", name := "checked", desc := "(II)I" } : Jvm.MethodName) "GroupJournal") ∈ lw_tbl := lw_at lw_m8 203 rfl
theorem q2123 : (Jvm.Cond.instanceMethod ({ cls := "GroupJournal$State", name := "appends", desc := "(III)I" } : Jvm.MethodName)) ∈ lw_all := lw_g (lw_at lw_m9 16 rfl) rfl
theorem q2124 : (Jvm.Cond.selects "GroupJournal$State" ({ cls := "GroupJournal$State", name := "appends", desc := "(III)I" } : Jvm.MethodName) ({ cls := "GroupJournal$State", name := "appends", desc := "(III)I" } : Jvm.MethodName)) ∈ lw_all := lw_g (lw_at lw_m9 17 rfl) rfl
theorem q2125 : (Jvm.Cond.code ({ cls := "GroupJournal$State", name := "appends", desc := "(III)I" } : Jvm.MethodName) prog_21_method_10_code (4 : Nat) (Option.some Jvm.ClassFile.FieldType.int)) ∈ lw_all := lw_g (lw_at lw_m9 18 rfl) rfl
theorem q2126 : (Jvm.Cond.classLink "GroupJournal$State" (128 : Nat) "GroupJournal$Entry") ∈ lw_all := lw_g (lw_at lw_m9 19 rfl) rfl
theorem q2127 : (Jvm.Cond.methodLink "GroupJournal$State" (201 : Nat) ({ cls := "GroupJournal$Entry", name := "<init>", desc := "(IIIII)V" } : Jvm.MethodName)) ∈ lw_all := lw_g (lw_at lw_m9 20 rfl) rfl
theorem q2128 : (Jvm.Cond.interfaceEntry "GroupJournal$State" (130 : Nat)) ∈ lw_tbl := lw_at lw_m9 21 rfl
theorem q2129 : (Jvm.Cond.methodLink "GroupJournal$State" (130 : Nat) ({ cls := "java/util/List", name := "add", desc := "(Ljava/lang/Object;)Z" } : Jvm.MethodName)) ∈ lw_all := lw_g (lw_at lw_m9 22 rfl) rfl
theorem q2187 : (Jvm.Cond.instanceMethod ({ cls := "GroupJournal$State", name := "isFree", desc := "(I)Z" } : Jvm.MethodName)) ∈ lw_all := lw_g (lw_at lw_m9 80 rfl) rfl
theorem q2188 : (Jvm.Cond.selects "GroupJournal$State" ({ cls := "GroupJournal$State", name := "isFree", desc := "(I)Z" } : Jvm.MethodName) ({ cls := "GroupJournal$State", name := "isFree", desc := "(I)Z" } : Jvm.MethodName)) ∈ lw_all := lw_g (lw_at lw_m9 81 rfl) rfl
theorem q2189 : (Jvm.Cond.code ({ cls := "GroupJournal$State", name := "isFree", desc := "(I)Z" } : Jvm.MethodName) prog_21_method_8_code (3 : Nat) (Option.some Jvm.ClassFile.FieldType.boolean)) ∈ lw_all := lw_g (lw_at lw_m9 82 rfl) rfl
theorem q2300 : (Jvm.Cond.instanceMethod ({ cls := "GroupJournal$State", name := "goesOnFrom", desc := "(LGroupJournal$State;)LGroupJournal$State;" } : Jvm.MethodName)) ∈ lw_all := lw_g (lw_at lw_m9 193 rfl) rfl
theorem q2301 : (Jvm.Cond.selects "GroupJournal$State" ({ cls := "GroupJournal$State", name := "goesOnFrom", desc := "(LGroupJournal$State;)LGroupJournal$State;" } : Jvm.MethodName) ({ cls := "GroupJournal$State", name := "goesOnFrom", desc := "(LGroupJournal$State;)LGroupJournal$State;" } : Jvm.MethodName)) ∈ lw_all := lw_g (lw_at lw_m9 194 rfl) rfl
theorem q2302 : (Jvm.Cond.code ({ cls := "GroupJournal$State", name := "goesOnFrom", desc := "(LGroupJournal$State;)LGroupJournal$State;" } : Jvm.MethodName) prog_21_method_4_code (4 : Nat) (Option.some (Jvm.ClassFile.FieldType.object "GroupJournal$State"))) ∈ lw_all := lw_g (lw_at lw_m9 195 rfl) rfl
theorem q2303 : (Jvm.Cond.interfaceEntry "GroupJournal$State" (120 : Nat)) ∈ lw_tbl := lw_at lw_m9 196 rfl
theorem q2304 : (Jvm.Cond.methodLink "GroupJournal$State" (120 : Nat) ({ cls := "java/util/List", name := "size", desc := "()I" } : Jvm.MethodName)) ∈ lw_all := lw_g (lw_at lw_m9 197 rfl) rfl
theorem q2305 : (Jvm.Cond.interfaceEntry "GroupJournal$State" (124 : Nat)) ∈ lw_tbl := lw_at lw_m9 198 rfl
theorem q2306 : (Jvm.Cond.methodLink "GroupJournal$State" (124 : Nat) ({ cls := "java/util/List", name := "get", desc := "(I)Ljava/lang/Object;" } : Jvm.MethodName)) ∈ lw_all := lw_g (lw_at lw_m9 199 rfl) rfl
theorem q2307 : (Jvm.Cond.methodLink "GroupJournal$State" (134 : Nat) ({ cls := "java/util/LinkedHashMap", name := "isEmpty", desc := "()Z" } : Jvm.MethodName)) ∈ lw_all := lw_g (lw_at lw_m9 200 rfl) rfl
theorem q2313 : (Jvm.Cond.methodLink "GroupJournal$State" (138 : Nat) ({ cls := "java/util/LinkedHashMap", name := "entrySet", desc := "()Ljava/util/Set;" } : Jvm.MethodName)) ∈ lw_all := lw_g (lw_at lw_m9 206 rfl) rfl
theorem q2335 : (Jvm.Cond.interfaceEntry "GroupJournal$State" (142 : Nat)) ∈ lw_tbl := lw_at lw_m9 228 rfl
theorem q2336 : (Jvm.Cond.methodLink "GroupJournal$State" (142 : Nat) ({ cls := "java/util/Set", name := "iterator", desc := "()Ljava/util/Iterator;" } : Jvm.MethodName)) ∈ lw_all := lw_g (lw_at lw_m9 229 rfl) rfl
theorem q2462 : (Jvm.Cond.interfaceEntry "GroupJournal$State" (148 : Nat)) ∈ lw_tbl := lw_at lw_m10 115 rfl
theorem q2463 : (Jvm.Cond.methodLink "GroupJournal$State" (148 : Nat) ({ cls := "java/util/Iterator", name := "hasNext", desc := "()Z" } : Jvm.MethodName)) ∈ lw_all := lw_g (lw_at lw_m10 116 rfl) rfl
theorem q2481 : (Jvm.Cond.interfaceEntry "GroupJournal$State" (153 : Nat)) ∈ lw_tbl := lw_at lw_m10 134 rfl
theorem q2482 : (Jvm.Cond.methodLink "GroupJournal$State" (153 : Nat) ({ cls := "java/util/Iterator", name := "next", desc := "()Ljava/lang/Object;" } : Jvm.MethodName)) ∈ lw_all := lw_g (lw_at lw_m10 135 rfl) rfl
theorem q2526 : (Jvm.Cond.classLink "GroupJournal$State" (156 : Nat) "java/util/Map$Entry") ∈ lw_all := lw_g (lw_at lw_m10 179 rfl) rfl
theorem q2527 : (Jvm.Cond.interfaceEntry "GroupJournal$State" (158 : Nat)) ∈ lw_tbl := lw_at lw_m10 180 rfl
theorem q2528 : (Jvm.Cond.methodLink "GroupJournal$State" (158 : Nat) ({ cls := "java/util/Map$Entry", name := "getKey", desc := "()Ljava/lang/Object;" } : Jvm.MethodName)) ∈ lw_all := lw_g (lw_at lw_m10 181 rfl) rfl
theorem q2541 : (Jvm.Cond.classLink "GroupJournal$State" (161 : Nat) "java/lang/Integer") ∈ lw_all := lw_g (lw_at lw_m10 194 rfl) rfl
theorem q2542 : (Jvm.Cond.interfaceEntry "GroupJournal$State" (163 : Nat)) ∈ lw_tbl := lw_at lw_m10 195 rfl
theorem q2543 : (Jvm.Cond.methodLink "GroupJournal$State" (163 : Nat) ({ cls := "java/util/Map$Entry", name := "getValue", desc := "()Ljava/lang/Object;" } : Jvm.MethodName)) ∈ lw_all := lw_g (lw_at lw_m10 196 rfl) rfl
theorem q2555 : (Jvm.Cond.methodLink "GroupJournal$State" (166 : Nat) ({ cls := "java/util/LinkedHashMap", name := "put", desc := "(Ljava/lang/Object;Ljava/lang/Object;)Ljava/lang/Object;" } : Jvm.MethodName)) ∈ lw_all := lw_g (lw_at lw_m10 208 rfl) rfl
theorem q2675 : (Jvm.Cond.instanceMethod ({ cls := "GroupJournal$State", name := "goes", desc := "(I)I" } : Jvm.MethodName)) ∈ lw_all := lw_g (lw_at lw_m11 88 rfl) rfl
theorem q2676 : (Jvm.Cond.selects "GroupJournal$State" ({ cls := "GroupJournal$State", name := "goes", desc := "(I)I" } : Jvm.MethodName) ({ cls := "GroupJournal$State", name := "goes", desc := "(I)I" } : Jvm.MethodName)) ∈ lw_all := lw_g (lw_at lw_m11 89 rfl) rfl
theorem q2677 : (Jvm.Cond.code ({ cls := "GroupJournal$State", name := "goes", desc := "(I)I" } : Jvm.MethodName) prog_21_method_16_code (3 : Nat) (Option.some Jvm.ClassFile.FieldType.int)) ∈ lw_all := lw_g (lw_at lw_m11 90 rfl) rfl
theorem q2678 : (Jvm.Cond.methodLink "GroupJournal$State" (317 : Nat) ({ cls := "GroupJournal$State", name := "arrives", desc := "()I" } : Jvm.MethodName)) ∈ lw_all := lw_g (lw_at lw_m11 91 rfl) rfl
theorem q2679 : (Jvm.Cond.privateMethod ({ cls := "GroupJournal$State", name := "arrives", desc := "()I" } : Jvm.MethodName)) ∈ lw_tbl := lw_at lw_m11 92 rfl
theorem q2680 : (Jvm.Cond.instanceMethod ({ cls := "GroupJournal$State", name := "arrives", desc := "()I" } : Jvm.MethodName)) ∈ lw_all := lw_g (lw_at lw_m11 93 rfl) rfl
theorem q2681 : (Jvm.Cond.code ({ cls := "GroupJournal$State", name := "arrives", desc := "()I" } : Jvm.MethodName) prog_21_method_15_code (4 : Nat) (Option.some Jvm.ClassFile.FieldType.int)) ∈ lw_all := lw_g (lw_at lw_m11 94 rfl) rfl
theorem q2682 : (Jvm.Cond.methodLink "GroupJournal$State" (295 : Nat) ({ cls := "GroupJournal$State", name := "arrive", desc := "(I)V" } : Jvm.MethodName)) ∈ lw_all := lw_g (lw_at lw_m11 95 rfl) rfl
theorem q2683 : (Jvm.Cond.privateMethod ({ cls := "GroupJournal$State", name := "arrive", desc := "(I)V" } : Jvm.MethodName)) ∈ lw_tbl := lw_at lw_m11 96 rfl
theorem q2684 : (Jvm.Cond.instanceMethod ({ cls := "GroupJournal$State", name := "arrive", desc := "(I)V" } : Jvm.MethodName)) ∈ lw_all := lw_g (lw_at lw_m11 97 rfl) rfl
theorem q2685 : (Jvm.Cond.code ({ cls := "GroupJournal$State", name := "arrive", desc := "(I)V" } : Jvm.MethodName) prog_21_method_7_code (3 : Nat) (Option.none : Option Jvm.ClassFile.FieldType)) ∈ lw_all := lw_g (lw_at lw_m11 98 rfl) rfl
theorem q2686 : (Jvm.Cond.methodLink "GroupJournal$State" (309 : Nat) ({ cls := "java/util/HashMap", name := "put", desc := "(Ljava/lang/Object;Ljava/lang/Object;)Ljava/lang/Object;" } : Jvm.MethodName)) ∈ lw_all := lw_g (lw_at lw_m11 99 rfl) rfl
theorem q2687 : (Jvm.Cond.methodLink "GroupJournal$State" (313 : Nat) ({ cls := "GroupJournal$State", name := "releases", desc := "(I)I" } : Jvm.MethodName)) ∈ lw_all := lw_g (lw_at lw_m11 100 rfl) rfl
theorem q2688 : (Jvm.Cond.privateMethod ({ cls := "GroupJournal$State", name := "releases", desc := "(I)I" } : Jvm.MethodName)) ∈ lw_tbl := lw_at lw_m11 101 rfl
theorem q2689 : (Jvm.Cond.instanceMethod ({ cls := "GroupJournal$State", name := "releases", desc := "(I)I" } : Jvm.MethodName)) ∈ lw_all := lw_g (lw_at lw_m11 102 rfl) rfl
theorem q2690 : (Jvm.Cond.code ({ cls := "GroupJournal$State", name := "releases", desc := "(I)I" } : Jvm.MethodName) prog_21_method_14_code (5 : Nat) (Option.some Jvm.ClassFile.FieldType.int)) ∈ lw_all := lw_g (lw_at lw_m11 103 rfl) rfl
theorem q2691 : (Jvm.Cond.methodLink "GroupJournal$State" (282 : Nat) ({ cls := "java/lang/Integer", name := "intValue", desc := "()I" } : Jvm.MethodName)) ∈ lw_all := lw_g (lw_at lw_m11 104 rfl) rfl
theorem q2692 : (Jvm.Cond.methodLink "GroupJournal$State" (288 : Nat) ({ cls := "java/lang/Integer", name := "valueOf", desc := "(I)Ljava/lang/Integer;" } : Jvm.MethodName)) ∈ lw_all := lw_g (lw_at lw_m11 105 rfl) rfl
theorem q2693 : (Jvm.Cond.methodLink "GroupJournal$State" (292 : Nat) ({ cls := "java/util/LinkedHashMap", name := "remove", desc := "(Ljava/lang/Object;)Ljava/lang/Object;" } : Jvm.MethodName)) ∈ lw_all := lw_g (lw_at lw_m11 106 rfl) rfl
theorem q2697 : (Jvm.Cond.interfaceEntry "GroupJournal$State" (272 : Nat)) ∈ lw_tbl := lw_at lw_m11 110 rfl
theorem q2698 : (Jvm.Cond.methodLink "GroupJournal$State" (272 : Nat) ({ cls := "java/util/List", name := "remove", desc := "(I)Ljava/lang/Object;" } : Jvm.MethodName)) ∈ lw_all := lw_g (lw_at lw_m11 111 rfl) rfl
theorem q2699 : (Jvm.Cond.interfaceEntry "GroupJournal$State" (320 : Nat)) ∈ lw_tbl := lw_at lw_m11 112 rfl
theorem q2700 : (Jvm.Cond.methodLink "GroupJournal$State" (320 : Nat) ({ cls := "java/util/List", name := "isEmpty", desc := "()Z" } : Jvm.MethodName)) ∈ lw_all := lw_g (lw_at lw_m11 113 rfl) rfl
theorem q2701 : (Jvm.Cond.methodLink "GroupJournal$State" (321 : Nat) ({ cls := "GroupJournal$State", name := "isClosing", desc := "()Z" } : Jvm.MethodName)) ∈ lw_all := lw_g (lw_at lw_m11 114 rfl) rfl
theorem q2702 : (Jvm.Cond.privateMethod ({ cls := "GroupJournal$State", name := "isClosing", desc := "()Z" } : Jvm.MethodName)) ∈ lw_tbl := lw_at lw_m11 115 rfl
theorem q2703 : (Jvm.Cond.instanceMethod ({ cls := "GroupJournal$State", name := "isClosing", desc := "()Z" } : Jvm.MethodName)) ∈ lw_all := lw_g (lw_at lw_m11 116 rfl) rfl
theorem q2704 : (Jvm.Cond.code ({ cls := "GroupJournal$State", name := "isClosing", desc := "()Z" } : Jvm.MethodName) prog_21_method_12_code (1 : Nat) (Option.some Jvm.ClassFile.FieldType.boolean)) ∈ lw_all := lw_g (lw_at lw_m11 117 rfl) rfl
theorem q2705 : (Jvm.Cond.methodLink "GroupJournal$State" (215 : Nat) ({ cls := "GroupJournal$State", name := "payload", desc := "()I" } : Jvm.MethodName)) ∈ lw_all := lw_g (lw_at lw_m11 118 rfl) rfl
theorem q2706 : (Jvm.Cond.instanceMethod ({ cls := "GroupJournal$State", name := "payload", desc := "()I" } : Jvm.MethodName)) ∈ lw_all := lw_g (lw_at lw_m11 119 rfl) rfl
theorem q2707 : (Jvm.Cond.selects "GroupJournal$State" ({ cls := "GroupJournal$State", name := "payload", desc := "()I" } : Jvm.MethodName) ({ cls := "GroupJournal$State", name := "payload", desc := "()I" } : Jvm.MethodName)) ∈ lw_all := lw_g (lw_at lw_m11 120 rfl) rfl
theorem q2708 : (Jvm.Cond.code ({ cls := "GroupJournal$State", name := "payload", desc := "()I" } : Jvm.MethodName) prog_21_method_9_code (3 : Nat) (Option.some Jvm.ClassFile.FieldType.int)) ∈ lw_all := lw_g (lw_at lw_m11 121 rfl) rfl
theorem q2709 : (Jvm.Cond.methodLink "GroupJournal$State" (198 : Nat) ({ cls := "GroupJournal$Entry", name := "payload", desc := "()I" } : Jvm.MethodName)) ∈ lw_all := lw_g (lw_at lw_m11 122 rfl) rfl
theorem q2713 : (Jvm.Cond.methodLink "GroupJournal$State" (216 : Nat) ({ cls := "GroupJournal$State", name := "lays", desc := "(II)V" } : Jvm.MethodName)) ∈ lw_all := lw_g (lw_at lw_m11 126 rfl) rfl
theorem q2714 : (Jvm.Cond.privateMethod ({ cls := "GroupJournal$State", name := "lays", desc := "(II)V" } : Jvm.MethodName)) ∈ lw_tbl := lw_at lw_m11 127 rfl
theorem q2715 : (Jvm.Cond.instanceMethod ({ cls := "GroupJournal$State", name := "lays", desc := "(II)V" } : Jvm.MethodName)) ∈ lw_all := lw_g (lw_at lw_m11 128 rfl) rfl
theorem q2716 : (Jvm.Cond.code ({ cls := "GroupJournal$State", name := "lays", desc := "(II)V" } : Jvm.MethodName) prog_21_method_11_code (3 : Nat) (Option.none : Option Jvm.ClassFile.FieldType)) ∈ lw_all := lw_g (lw_at lw_m11 129 rfl) rfl
theorem q2717 : (Jvm.Cond.methodLink "GroupJournal$State" (214 : Nat) ({ cls := "java/util/LinkedHashMap", name := "size", desc := "()I" } : Jvm.MethodName)) ∈ lw_all := lw_g (lw_at lw_m11 130 rfl) rfl
theorem q2718 : (Jvm.Cond.constantLong "GroupJournal$State" (230 : Nat) (4 : Int64)) ∈ lw_all := lw_g (lw_at lw_m11 131 rfl) rfl
theorem q2719 : (Jvm.Cond.methodLink "GroupJournal$State" (232 : Nat) ({ cls := "GroupJournal$Test", name := "holds", desc := "(LGroupJournal$Moment;)Z" } : Jvm.MethodName)) ∈ lw_all := lw_g (lw_at lw_m11 132 rfl) rfl
theorem q2802 : (Jvm.Cond.methodLink "GroupJournal$State" (255 : Nat) ({ cls := "java/lang/Math", name := "min", desc := "(II)I" } : Jvm.MethodName)) ∈ lw_all := lw_g (lw_at lw_m11 215 rfl) rfl
theorem q2803 : (Jvm.Cond.methodLink "GroupJournal$State" (324 : Nat) ({ cls := "GroupJournal$State", name := "closes", desc := "(I)V" } : Jvm.MethodName)) ∈ lw_all := lw_g (lw_at lw_m11 216 rfl) rfl
theorem q2804 : (Jvm.Cond.privateMethod ({ cls := "GroupJournal$State", name := "closes", desc := "(I)V" } : Jvm.MethodName)) ∈ lw_tbl := lw_at lw_m11 217 rfl
theorem q2805 : (Jvm.Cond.instanceMethod ({ cls := "GroupJournal$State", name := "closes", desc := "(I)V" } : Jvm.MethodName)) ∈ lw_all := lw_g (lw_at lw_m11 218 rfl) rfl
theorem q2806 : (Jvm.Cond.code ({ cls := "GroupJournal$State", name := "closes", desc := "(I)V" } : Jvm.MethodName) prog_21_method_13_code (4 : Nat) (Option.none : Option Jvm.ClassFile.FieldType)) ∈ lw_all := lw_g (lw_at lw_m11 219 rfl) rfl
theorem q2807 : (Jvm.Cond.methodLink "GroupJournal$State" (242 : Nat) ({ cls := "GroupJournal$Layer", name := "begins", desc := "(LGroupJournal$State;)V" } : Jvm.MethodName)) ∈ lw_all := lw_g (lw_at lw_m11 220 rfl) rfl
theorem q2811 : (Jvm.Cond.methodLink "GroupJournal$State" (248 : Nat) ({ cls := "GroupJournal$Layer", name := "lays", desc := "(LGroupJournal$Entry;)Z" } : Jvm.MethodName)) ∈ lw_all := lw_g (lw_at lw_m11 224 rfl) rfl
theorem q2841 : (Jvm.Cond.methodLink "GroupJournal$State" (260 : Nat) ({ cls := "GroupJournal$Value", name := "at", desc := "(LGroupJournal$Moment;)J" } : Jvm.MethodName)) ∈ lw_all := lw_g (lw_at lw_m12 14 rfl) rfl
theorem q2842 : (Jvm.Cond.methodLinkNest "GroupJournal$State" (265 : Nat) ({ cls := "GroupJournal", name := "within", desc := "(JI)I" } : Jvm.MethodName) "GroupJournal") ∈ lw_tbl := lw_at lw_m12 15 rfl
theorem q2845 : (Jvm.Cond.methodLink "GroupJournal$State" (269 : Nat) ({ cls := "java/lang/Math", name := "max", desc := "(II)I" } : Jvm.MethodName)) ∈ lw_all := lw_g (lw_at lw_m12 18 rfl) rfl
theorem q2966 : (Jvm.Cond.instanceMethod ({ cls := "GroupJournal$State", name := "takes", desc := "(LGroupJournal$State;)LGroupJournal$State;" } : Jvm.MethodName)) ∈ lw_all := lw_g (lw_at lw_m12 139 rfl) rfl
theorem q2967 : (Jvm.Cond.selects "GroupJournal$State" ({ cls := "GroupJournal$State", name := "takes", desc := "(LGroupJournal$State;)LGroupJournal$State;" } : Jvm.MethodName) ({ cls := "GroupJournal$State", name := "takes", desc := "(LGroupJournal$State;)LGroupJournal$State;" } : Jvm.MethodName)) ∈ lw_all := lw_g (lw_at lw_m12 140 rfl) rfl
theorem q2968 : (Jvm.Cond.code ({ cls := "GroupJournal$State", name := "takes", desc := "(LGroupJournal$State;)LGroupJournal$State;" } : Jvm.MethodName) prog_21_method_5_code (4 : Nat) (Option.some (Jvm.ClassFile.FieldType.object "GroupJournal$State"))) ∈ lw_all := lw_g (lw_at lw_m12 141 rfl) rfl
theorem q2969 : (Jvm.Cond.methodLink "GroupJournal$State" (170 : Nat) ({ cls := "GroupJournal$State", name := "goesOnFrom", desc := "(LGroupJournal$State;)LGroupJournal$State;" } : Jvm.MethodName)) ∈ lw_all := lw_g (lw_at lw_m12 142 rfl) rfl
theorem q2970 : (Jvm.Cond.methodLinkNest "GroupJournal$State" (174 : Nat) ({ cls := "GroupJournal", name := "length", desc := "()I" } : Jvm.MethodName) "GroupJournal") ∈ lw_tbl := lw_at lw_m12 143 rfl
theorem q2971 : (Jvm.Cond.methodLinkNest "GroupJournal$State" (177 : Nat) ({ cls := "GroupJournal", name := "takesTable", desc := "(Ljava/util/HashMap;Ljava/util/HashMap;)V" } : Jvm.MethodName) "GroupJournal") ∈ lw_tbl := lw_at lw_m12 144 rfl
theorem q2977 : (Jvm.Cond.methodLink "GroupJournal$State" (181 : Nat) ({ cls := "java/util/HashSet", name := "isEmpty", desc := "()Z" } : Jvm.MethodName)) ∈ lw_all := lw_g (lw_at lw_m12 150 rfl) rfl
theorem q2982 : (Jvm.Cond.methodLink "GroupJournal$State" (182 : Nat) ({ cls := "java/util/HashSet", name := "iterator", desc := "()Ljava/util/Iterator;" } : Jvm.MethodName)) ∈ lw_all := lw_g (lw_at lw_m12 155 rfl) rfl
theorem q2983 : (Jvm.Cond.classLink "GroupJournal$State" (183 : Nat) "GroupJournal$Spot") ∈ lw_all := lw_g (lw_at lw_m12 156 rfl) rfl
theorem q2984 : (Jvm.Cond.methodLink "GroupJournal$State" (185 : Nat) ({ cls := "java/util/HashSet", name := "add", desc := "(Ljava/lang/Object;)Z" } : Jvm.MethodName)) ∈ lw_all := lw_g (lw_at lw_m12 157 rfl) rfl
theorem q2989 : (Jvm.Cond.classLink "GroupJournal$State" (186 : Nat) "[I") ∈ lw_all := lw_g (lw_at lw_m12 162 rfl) rfl
theorem q3012 : (Jvm.Cond.instanceMethod ({ cls := "GroupJournal$State", name := "flips", desc := "(II)I" } : Jvm.MethodName)) ∈ lw_all := lw_g (lw_at lw_m12 185 rfl) rfl
theorem q3013 : (Jvm.Cond.selects "GroupJournal$State" ({ cls := "GroupJournal$State", name := "flips", desc := "(II)I" } : Jvm.MethodName) ({ cls := "GroupJournal$State", name := "flips", desc := "(II)I" } : Jvm.MethodName)) ∈ lw_all := lw_g (lw_at lw_m12 186 rfl) rfl
theorem q3014 : (Jvm.Cond.code ({ cls := "GroupJournal$State", name := "flips", desc := "(II)I" } : Jvm.MethodName) prog_21_method_20_code (3 : Nat) (Option.some Jvm.ClassFile.FieldType.int)) ∈ lw_all := lw_g (lw_at lw_m12 187 rfl) rfl
theorem q3015 : (Jvm.Cond.methodLinkNest "GroupJournal$State" (369 : Nat) ({ cls := "GroupJournal$Spot", name := "<init>", desc := "()V" } : Jvm.MethodName) "GroupJournal") ∈ lw_tbl := lw_at lw_m12 188 rfl
theorem q3021 : (Jvm.Cond.instanceMethod ({ cls := "GroupJournal$State", name := "snaps", desc := "()I" } : Jvm.MethodName)) ∈ lw_all := lw_g (lw_at lw_m12 194 rfl) rfl
theorem q3022 : (Jvm.Cond.selects "GroupJournal$State" ({ cls := "GroupJournal$State", name := "snaps", desc := "()I" } : Jvm.MethodName) ({ cls := "GroupJournal$State", name := "snaps", desc := "()I" } : Jvm.MethodName)) ∈ lw_all := lw_g (lw_at lw_m12 195 rfl) rfl
theorem q3023 : (Jvm.Cond.code ({ cls := "GroupJournal$State", name := "snaps", desc := "()I" } : Jvm.MethodName) prog_21_method_21_code (1 : Nat) (Option.some Jvm.ClassFile.FieldType.int)) ∈ lw_all := lw_g (lw_at lw_m12 196 rfl) rfl
theorem q3029 : (Jvm.Cond.instanceMethod ({ cls := "GroupJournal$State", name := "crashes", desc := "(I)I" } : Jvm.MethodName)) ∈ lw_all := lw_g (lw_at lw_m12 202 rfl) rfl
theorem q3030 : (Jvm.Cond.selects "GroupJournal$State" ({ cls := "GroupJournal$State", name := "crashes", desc := "(I)I" } : Jvm.MethodName) ({ cls := "GroupJournal$State", name := "crashes", desc := "(I)I" } : Jvm.MethodName)) ∈ lw_all := lw_g (lw_at lw_m12 203 rfl) rfl
theorem q3031 : (Jvm.Cond.code ({ cls := "GroupJournal$State", name := "crashes", desc := "(I)I" } : Jvm.MethodName) prog_21_method_18_code (4 : Nat) (Option.some Jvm.ClassFile.FieldType.int)) ∈ lw_all := lw_g (lw_at lw_m12 204 rfl) rfl
theorem q3032 : (Jvm.Cond.methodLink "GroupJournal$State" (330 : Nat) ({ cls := "GroupJournal$Recovery", name := "takes", desc := "(LGroupJournal$State;I)LGroupJournal$Recovery;" } : Jvm.MethodName)) ∈ lw_all := lw_g (lw_at lw_m12 205 rfl) rfl
theorem q3033 : (Jvm.Cond.methodLink "GroupJournal$State" (335 : Nat) ({ cls := "GroupJournal$Recovery", name := "reads", desc := "(LGroupJournal$State;)LGroupJournal$Recovery;" } : Jvm.MethodName)) ∈ lw_all := lw_g (lw_at lw_m12 206 rfl) rfl
theorem q3034 : (Jvm.Cond.methodLink "GroupJournal$State" (352 : Nat) ({ cls := "GroupJournal$State", name := "wipes", desc := "(II)I" } : Jvm.MethodName)) ∈ lw_all := lw_g (lw_at lw_m12 207 rfl) rfl
theorem q3035 : (Jvm.Cond.privateMethod ({ cls := "GroupJournal$State", name := "wipes", desc := "(II)I" } : Jvm.MethodName)) ∈ lw_tbl := lw_at lw_m12 208 rfl
theorem q3036 : (Jvm.Cond.instanceMethod ({ cls := "GroupJournal$State", name := "wipes", desc := "(II)I" } : Jvm.MethodName)) ∈ lw_all := lw_g (lw_at lw_m12 209 rfl) rfl
theorem q3037 : (Jvm.Cond.code ({ cls := "GroupJournal$State", name := "wipes", desc := "(II)I" } : Jvm.MethodName) prog_21_method_17_code (5 : Nat) (Option.some Jvm.ClassFile.FieldType.int)) ∈ lw_all := lw_g (lw_at lw_m12 210 rfl) rfl
theorem q3043 : (Jvm.Cond.instanceMethod ({ cls := "GroupJournal$State", name := "givesUp", desc := "()I" } : Jvm.MethodName)) ∈ lw_all := lw_g (lw_at lw_m12 216 rfl) rfl
theorem q3044 : (Jvm.Cond.selects "GroupJournal$State" ({ cls := "GroupJournal$State", name := "givesUp", desc := "()I" } : Jvm.MethodName) ({ cls := "GroupJournal$State", name := "givesUp", desc := "()I" } : Jvm.MethodName)) ∈ lw_all := lw_g (lw_at lw_m12 217 rfl) rfl
theorem q3045 : (Jvm.Cond.code ({ cls := "GroupJournal$State", name := "givesUp", desc := "()I" } : Jvm.MethodName) prog_21_method_19_code (3 : Nat) (Option.some Jvm.ClassFile.FieldType.int)) ∈ lw_all := lw_g (lw_at lw_m12 218 rfl) rfl
theorem q3046 : (Jvm.Cond.methodLink "GroupJournal$State" (358 : Nat) ({ cls := "GroupJournal$State", name := "opensFirst", desc := "()V" } : Jvm.MethodName)) ∈ lw_all := lw_g (lw_at lw_m12 219 rfl) rfl
theorem q3047 : (Jvm.Cond.methodLinkNest "GroupJournal$State" (361 : Nat) ({ cls := "GroupJournal", name := "isHead", desc := "([I)Z" } : Jvm.MethodName) "GroupJournal") ∈ lw_tbl := lw_at lw_m12 220 rfl
theorem q3048 : (Jvm.Cond.methodLinkNest "GroupJournal$State" (365 : Nat) ({ cls := "GroupJournal", name := "serialOf", desc := "([I)I" } : Jvm.MethodName) "GroupJournal") ∈ lw_tbl := lw_at lw_m12 221 rfl
theorem q4171 : (Jvm.Cond.castable "GroupJournal$State" "java/lang/Object") ∈ lw_tbl := lw_at lw_m17 144 rfl
theorem in_X10 : ∀ w ∈ wsX100, w ∈ lw_all := lw_in wsX100 [790, 792, 794, 796, 798, 800, 802, 804, 806, 808, 810, 812, 814, 816, 818, 820, 822, 824, 826, 828, 830, 832, 834] (by decide +kernel) (by decide +kernel)

/-! the law's own entry -/
set_option maxRecDepth 100000
abbrev cL_law : ByteArray := code
def dkwL_law_45 : List UInt8 := [132, 3, 6, 167, 251, 103, 4, 172]
abbrev dktL_law_45 : List UInt8 := dkwL_law_45 ++ []
def dkwL_law_44 : List UInt8 := [43, 42, 29, 4, 96, 46, 182, 0, 174, 44, 42, 29, 4, 96, 46, 182, 0, 177, 159, 0, 5, 3, 172]
abbrev dktL_law_44 : List UInt8 := dkwL_law_44 ++ dktL_law_45
def dkwL_law_43 : List UInt8 := [4, 96, 46, 182, 0, 169, 159, 0, 41, 3, 172, 43, 182, 0, 170, 44, 182, 0, 173, 159, 0, 28, 3, 172]
abbrev dktL_law_43 : List UInt8 := dkwL_law_43 ++ dktL_law_44
def dkwL_law_42 : List UInt8 := [182, 0, 162, 44, 182, 0, 165, 159, 0, 64, 3, 172, 43, 42, 29, 4, 96, 46, 182, 0, 166, 44, 42, 29]
abbrev dktL_law_42 : List UInt8 := dkwL_law_42 ++ dktL_law_43
def dkwL_law_41 : List UInt8 := [182, 0, 156, 159, 0, 91, 3, 172, 43, 182, 0, 157, 44, 182, 0, 161, 148, 153, 0, 77, 3, 172, 43]
abbrev dktL_law_41 : List UInt8 := dkwL_law_41 ++ dktL_law_42
def dkwL_law_40 : List UInt8 := [182, 0, 152, 159, 0, 114, 3, 172, 43, 42, 29, 4, 96, 46, 182, 0, 153, 44, 42, 29, 4, 96, 46]
abbrev dktL_law_40 : List UInt8 := dkwL_law_40 ++ dktL_law_41
def dkwL_law_39 : List UInt8 := [29, 4, 96, 46, 42, 29, 5, 96, 46, 182, 0, 147, 159, 0, 127, 3, 172, 43, 182, 0, 148, 44]
abbrev dktL_law_39 : List UInt8 := dkwL_law_39 ++ dktL_law_40
def dkwL_law_38 : List UInt8 := [182, 0, 143, 159, 0, 160, 3, 172, 43, 42, 29, 4, 96, 46, 42, 29, 5, 96, 46, 182, 0, 144, 44, 42]
abbrev dktL_law_38 : List UInt8 := dkwL_law_38 ++ dktL_law_39
def dkwL_law_37 : List UInt8 := [182, 0, 136, 44, 42, 29, 4, 96, 46, 182, 0, 139, 159, 0, 173, 3, 172, 43, 182, 0, 140, 44]
abbrev dktL_law_37 : List UInt8 := dkwL_law_37 ++ dktL_law_38
def dkwL_law_36 : List UInt8 := [159, 0, 209, 3, 172, 43, 182, 0, 132, 44, 182, 0, 135, 159, 0, 196, 3, 172, 43, 42, 29, 4, 96, 46]
abbrev dktL_law_36 : List UInt8 := dkwL_law_36 ++ dktL_law_37
def dkwL_law_35 : List UInt8 := [159, 0, 232, 3, 172, 43, 42, 29, 4, 96, 46, 182, 0, 128, 44, 42, 29, 4, 96, 46, 182, 0, 131]
abbrev dktL_law_35 : List UInt8 := dkwL_law_35 ++ dktL_law_36
def dkwL_law_34 : List UInt8 := [159, 0, 255, 3, 172, 43, 42, 29, 4, 96, 46, 182, 0, 124, 44, 42, 29, 4, 96, 46, 182, 0, 127]
abbrev dktL_law_34 : List UInt8 := dkwL_law_34 ++ dktL_law_35
def dkwL_law_33 : List UInt8 := [46, 42, 29, 5, 96, 46, 182, 0, 119, 44, 42, 29, 4, 96, 46, 42, 29, 5, 96, 46, 182, 0, 123]
abbrev dktL_law_33 : List UInt8 := dkwL_law_33 ++ dktL_law_34
def dkwL_law_32 : List UInt8 := [46, 42, 29, 5, 96, 46, 42, 29, 6, 96, 46, 182, 0, 118, 159, 1, 32, 3, 172, 43, 42, 29, 4, 96]
abbrev dktL_law_32 : List UInt8 := dkwL_law_32 ++ dktL_law_33
def dkwL_law_31 : List UInt8 := [43, 42, 29, 4, 96, 46, 42, 29, 5, 96, 46, 42, 29, 6, 96, 46, 182, 0, 115, 44, 42, 29, 4, 96]
abbrev dktL_law_31 : List UInt8 := dkwL_law_31 ++ dktL_law_32
def dkwL_law_30 : List UInt8 := [172, 43, 42, 29, 4, 96, 46, 182, 0, 111, 44, 42, 29, 4, 96, 46, 182, 0, 114, 159, 1, 75, 3, 172]
abbrev dktL_law_30 : List UInt8 := dkwL_law_30 ++ dktL_law_31
def dkwL_law_29 : List UInt8 := [3, 172, 43, 42, 29, 4, 96, 46, 182, 0, 107, 44, 42, 29, 4, 96, 46, 182, 0, 110, 159, 1, 98, 3]
abbrev dktL_law_29 : List UInt8 := dkwL_law_29 ++ dktL_law_30
def dkwL_law_28 : List UInt8 := [42, 29, 4, 96, 46, 182, 0, 102, 159, 1, 134, 3, 172, 43, 182, 0, 103, 44, 182, 0, 106, 159, 1, 121]
abbrev dktL_law_28 : List UInt8 := dkwL_law_28 ++ dktL_law_29
def dkwL_law_27 : List UInt8 := [46, 42, 29, 5, 96, 46, 182, 0, 98, 159, 1, 157, 3, 172, 43, 42, 29, 4, 96, 46, 182, 0, 99, 44]
abbrev dktL_law_27 : List UInt8 := dkwL_law_27 ++ dktL_law_28
def dkwL_law_26 : List UInt8 := [159, 1, 190, 3, 172, 43, 42, 29, 4, 96, 46, 42, 29, 5, 96, 46, 182, 0, 95, 44, 42, 29, 4, 96]
abbrev dktL_law_26 : List UInt8 := dkwL_law_26 ++ dktL_law_27
def dkwL_law_25 : List UInt8 := [159, 1, 213, 3, 172, 43, 42, 29, 4, 96, 46, 182, 0, 91, 44, 42, 29, 4, 96, 46, 182, 0, 94]
abbrev dktL_law_25 : List UInt8 := dkwL_law_25 ++ dktL_law_26
def dkwL_law_24 : List UInt8 := [159, 1, 236, 3, 172, 43, 42, 29, 4, 96, 46, 182, 0, 87, 44, 42, 29, 4, 96, 46, 182, 0, 90]
abbrev dktL_law_24 : List UInt8 := dkwL_law_24 ++ dktL_law_25
def dkwL_law_23 : List UInt8 := [42, 29, 5, 96, 46, 182, 0, 83, 44, 42, 29, 4, 96, 46, 42, 29, 5, 96, 46, 182, 0, 86]
abbrev dktL_law_23 : List UInt8 := dkwL_law_23 ++ dktL_law_24
def dkwL_law_22 : List UInt8 := [46, 182, 0, 79, 44, 42, 29, 4, 96, 46, 182, 0, 82, 159, 2, 13, 3, 172, 43, 42, 29, 4, 96, 46]
abbrev dktL_law_22 : List UInt8 := dkwL_law_22 ++ dktL_law_23
def dkwL_law_21 : List UInt8 := [44, 42, 29, 4, 96, 46, 42, 29, 5, 96, 46, 182, 0, 78, 159, 2, 36, 3, 172, 43, 42, 29, 4, 96]
abbrev dktL_law_21 : List UInt8 := dkwL_law_21 ++ dktL_law_22
def dkwL_law_20 : List UInt8 := [96, 46, 182, 0, 74, 159, 2, 69, 3, 172, 43, 42, 29, 4, 96, 46, 42, 29, 5, 96, 46, 182, 0, 75]
abbrev dktL_law_20 : List UInt8 := dkwL_law_20 ++ dktL_law_21
def dkwL_law_19 : List UInt8 := [172, 43, 42, 29, 4, 96, 46, 42, 29, 5, 96, 46, 182, 0, 71, 44, 42, 29, 4, 96, 46, 42, 29, 5]
abbrev dktL_law_19 : List UInt8 := dkwL_law_19 ++ dktL_law_20
def dkwL_law_18 : List UInt8 := [3, 172, 43, 42, 29, 4, 96, 46, 182, 0, 67, 44, 42, 29, 4, 96, 46, 182, 0, 70, 159, 2, 102, 3]
abbrev dktL_law_18 : List UInt8 := dkwL_law_18 ++ dktL_law_19
def dkwL_law_17 : List UInt8 := [29, 5, 96, 46, 182, 0, 63, 44, 42, 29, 4, 96, 46, 42, 29, 5, 96, 46, 182, 0, 66, 159, 2, 125]
abbrev dktL_law_17 : List UInt8 := dkwL_law_17 ++ dktL_law_18
def dkwL_law_16 : List UInt8 := [182, 0, 59, 44, 42, 29, 4, 96, 46, 182, 0, 62, 159, 2, 158, 3, 172, 43, 42, 29, 4, 96, 46, 42]
abbrev dktL_law_16 : List UInt8 := dkwL_law_16 ++ dktL_law_17
def dkwL_law_15 : List UInt8 := [182, 0, 55, 44, 42, 29, 4, 96, 46, 182, 0, 58, 159, 2, 181, 3, 172, 43, 42, 29, 4, 96, 46]
abbrev dktL_law_15 : List UInt8 := dkwL_law_15 ++ dktL_law_16
def dkwL_law_14 : List UInt8 := [182, 0, 51, 44, 42, 29, 4, 96, 46, 182, 0, 54, 159, 2, 204, 3, 172, 43, 42, 29, 4, 96, 46]
abbrev dktL_law_14 : List UInt8 := dkwL_law_14 ++ dktL_law_15
def dkwL_law_13 : List UInt8 := [42, 29, 4, 96, 46, 42, 29, 5, 96, 46, 182, 0, 50, 159, 2, 227, 3, 172, 43, 42, 29, 4, 96, 46]
abbrev dktL_law_13 : List UInt8 := dkwL_law_13 ++ dktL_law_14
def dkwL_law_12 : List UInt8 := [46, 182, 0, 46, 159, 3, 4, 3, 172, 43, 42, 29, 4, 96, 46, 42, 29, 5, 96, 46, 182, 0, 47, 44]
abbrev dktL_law_12 : List UInt8 := dkwL_law_12 ++ dktL_law_13
def dkwL_law_11 : List UInt8 := [46, 42, 29, 6, 96, 46, 182, 0, 42, 44, 42, 29, 4, 96, 46, 42, 29, 5, 96, 46, 42, 29, 6, 96]
abbrev dktL_law_11 : List UInt8 := dkwL_law_11 ++ dktL_law_12
def dkwL_law_10 : List UInt8 := [46, 42, 29, 5, 96, 46, 182, 0, 41, 159, 3, 47, 3, 172, 43, 42, 29, 4, 96, 46, 42, 29, 5, 96]
abbrev dktL_law_10 : List UInt8 := dkwL_law_10 ++ dktL_law_11
def dkwL_law_9 : List UInt8 := [159, 3, 80, 3, 172, 43, 42, 29, 4, 96, 46, 42, 29, 5, 96, 46, 182, 0, 37, 44, 42, 29, 4, 96]
abbrev dktL_law_9 : List UInt8 := dkwL_law_9 ++ dktL_law_10
def dkwL_law_8 : List UInt8 := [159, 3, 103, 3, 172, 43, 42, 29, 4, 96, 46, 182, 0, 33, 44, 42, 29, 4, 96, 46, 182, 0, 36]
abbrev dktL_law_8 : List UInt8 := dkwL_law_8 ++ dktL_law_9
def dkwL_law_7 : List UInt8 := [159, 3, 126, 3, 172, 43, 42, 29, 4, 96, 46, 182, 0, 28, 44, 42, 29, 4, 96, 46, 182, 0, 32]
abbrev dktL_law_7 : List UInt8 := dkwL_law_7 ++ dktL_law_8
def dkwL_law_6 : List UInt8 := [44, 42, 29, 4, 96, 46, 182, 0, 22, 159, 3, 139, 3, 172, 43, 182, 0, 23, 44, 182, 0, 27]
abbrev dktL_law_6 : List UInt8 := dkwL_law_6 ++ dktL_law_7
def dkwL_law_5 : List UInt8 := [96, 46, 42, 29, 8, 96, 46, 182, 0, 17, 159, 3, 162, 3, 172, 43, 42, 29, 4, 96, 46, 182, 0, 18]
abbrev dktL_law_5 : List UInt8 := dkwL_law_5 ++ dktL_law_6
def dkwL_law_4 : List UInt8 := [96, 46, 182, 0, 13, 44, 42, 29, 4, 96, 46, 42, 29, 5, 96, 46, 42, 29, 6, 96, 46, 42, 29, 7]
abbrev dktL_law_4 : List UInt8 := dkwL_law_4 ++ dktL_law_5
def dkwL_law_3 : List UInt8 := [43, 42, 29, 4, 96, 46, 42, 29, 5, 96, 46, 42, 29, 6, 96, 46, 42, 29, 7, 96, 46, 42, 29, 8]
abbrev dktL_law_3 : List UInt8 := dkwL_law_3 ++ dktL_law_4
def dkwL_law_2 : List UInt8 := [170, 0, 0, 0, 0, 4, 135, 0, 0, 0, 0, 0, 0, 0, 38, 0, 0, 0, 171, 0, 0, 0, 234, 0, 0, 1, 1, 0, 0, 1, 14, 0, 0, 1, 37, 0, 0, 1, 60, 0, 0, 1, 93, 0, 0, 1, 136, 0, 0, 1, 169, 0, 0, 1, 192, 0, 0, 1, 215, 0, 0, 1, 238, 0, 0, 2, 15, 0, 0, 2, 38, 0, 0, 2, 71, 0, 0, 2, 104, 0, 0, 2, 127, 0, 0, 2, 160, 0, 0, 2, 183, 0, 0, 2, 206, 0, 0, 2, 239, 0, 0, 3, 6, 0, 0, 3, 19, 0, 0, 3, 42, 0, 0, 3, 65, 0, 0, 3, 108, 0, 0, 3, 141, 0, 0, 3, 164, 0, 0, 3, 187, 0, 0, 3, 200, 0, 0, 3, 223, 0, 0, 3, 236, 0, 0, 4, 13, 0, 0, 4, 26, 0, 0, 4, 49, 0, 0, 4, 63, 0, 0, 4, 76, 0, 0, 4, 99, 0, 0, 4, 112]
abbrev dktL_law_2 : List UInt8 := dkwL_law_2 ++ dktL_law_3
def dkwL_law_1 : List UInt8 := [163, 4, 150, 42, 29, 46, 16, 63, 126]
abbrev dktL_law_1 : List UInt8 := dkwL_law_1 ++ dktL_law_2
def dkwL_law_0 : List UInt8 := [187, 0, 7, 89, 183, 0, 9, 76, 187, 0, 10, 89, 183, 0, 12, 77, 3, 62, 29, 42, 190, 16, 6, 100]
abbrev dktL_law_0 : List UInt8 := dkwL_law_0 ++ dktL_law_1
theorem dksL_law_0 : cL_law.data.toList.drop 0 = dktL_law_0 := by decide +kernel
theorem dksL_law_1 : cL_law.data.toList.drop 24 = dktL_law_1 := dk_seg dksL_law_0 24 rfl rfl
theorem dksL_law_2 : cL_law.data.toList.drop 33 = dktL_law_2 := dk_seg dksL_law_1 9 rfl rfl
theorem dksL_law_3 : cL_law.data.toList.drop 204 = dktL_law_3 := dk_seg dksL_law_2 171 rfl rfl
theorem dksL_law_4 : cL_law.data.toList.drop 228 = dktL_law_4 := dk_seg dksL_law_3 24 rfl rfl
theorem dksL_law_5 : cL_law.data.toList.drop 252 = dktL_law_5 := dk_seg dksL_law_4 24 rfl rfl
theorem dksL_law_6 : cL_law.data.toList.drop 276 = dktL_law_6 := dk_seg dksL_law_5 24 rfl rfl
theorem dksL_law_7 : cL_law.data.toList.drop 298 = dktL_law_7 := dk_seg dksL_law_6 22 rfl rfl
theorem dksL_law_8 : cL_law.data.toList.drop 321 = dktL_law_8 := dk_seg dksL_law_7 23 rfl rfl
theorem dksL_law_9 : cL_law.data.toList.drop 344 = dktL_law_9 := dk_seg dksL_law_8 23 rfl rfl
theorem dksL_law_10 : cL_law.data.toList.drop 368 = dktL_law_10 := dk_seg dksL_law_9 24 rfl rfl
theorem dksL_law_11 : cL_law.data.toList.drop 392 = dktL_law_11 := dk_seg dksL_law_10 24 rfl rfl
theorem dksL_law_12 : cL_law.data.toList.drop 416 = dktL_law_12 := dk_seg dksL_law_11 24 rfl rfl
theorem dksL_law_13 : cL_law.data.toList.drop 440 = dktL_law_13 := dk_seg dksL_law_12 24 rfl rfl
theorem dksL_law_14 : cL_law.data.toList.drop 464 = dktL_law_14 := dk_seg dksL_law_13 24 rfl rfl
theorem dksL_law_15 : cL_law.data.toList.drop 487 = dktL_law_15 := dk_seg dksL_law_14 23 rfl rfl
theorem dksL_law_16 : cL_law.data.toList.drop 510 = dktL_law_16 := dk_seg dksL_law_15 23 rfl rfl
theorem dksL_law_17 : cL_law.data.toList.drop 534 = dktL_law_17 := dk_seg dksL_law_16 24 rfl rfl
theorem dksL_law_18 : cL_law.data.toList.drop 558 = dktL_law_18 := dk_seg dksL_law_17 24 rfl rfl
theorem dksL_law_19 : cL_law.data.toList.drop 582 = dktL_law_19 := dk_seg dksL_law_18 24 rfl rfl
theorem dksL_law_20 : cL_law.data.toList.drop 606 = dktL_law_20 := dk_seg dksL_law_19 24 rfl rfl
theorem dksL_law_21 : cL_law.data.toList.drop 630 = dktL_law_21 := dk_seg dksL_law_20 24 rfl rfl
theorem dksL_law_22 : cL_law.data.toList.drop 654 = dktL_law_22 := dk_seg dksL_law_21 24 rfl rfl
theorem dksL_law_23 : cL_law.data.toList.drop 678 = dktL_law_23 := dk_seg dksL_law_22 24 rfl rfl
theorem dksL_law_24 : cL_law.data.toList.drop 700 = dktL_law_24 := dk_seg dksL_law_23 22 rfl rfl
theorem dksL_law_25 : cL_law.data.toList.drop 723 = dktL_law_25 := dk_seg dksL_law_24 23 rfl rfl
theorem dksL_law_26 : cL_law.data.toList.drop 746 = dktL_law_26 := dk_seg dksL_law_25 23 rfl rfl
theorem dksL_law_27 : cL_law.data.toList.drop 770 = dktL_law_27 := dk_seg dksL_law_26 24 rfl rfl
theorem dksL_law_28 : cL_law.data.toList.drop 794 = dktL_law_28 := dk_seg dksL_law_27 24 rfl rfl
theorem dksL_law_29 : cL_law.data.toList.drop 818 = dktL_law_29 := dk_seg dksL_law_28 24 rfl rfl
theorem dksL_law_30 : cL_law.data.toList.drop 842 = dktL_law_30 := dk_seg dksL_law_29 24 rfl rfl
theorem dksL_law_31 : cL_law.data.toList.drop 866 = dktL_law_31 := dk_seg dksL_law_30 24 rfl rfl
theorem dksL_law_32 : cL_law.data.toList.drop 890 = dktL_law_32 := dk_seg dksL_law_31 24 rfl rfl
theorem dksL_law_33 : cL_law.data.toList.drop 914 = dktL_law_33 := dk_seg dksL_law_32 24 rfl rfl
theorem dksL_law_34 : cL_law.data.toList.drop 937 = dktL_law_34 := dk_seg dksL_law_33 23 rfl rfl
theorem dksL_law_35 : cL_law.data.toList.drop 960 = dktL_law_35 := dk_seg dksL_law_34 23 rfl rfl
theorem dksL_law_36 : cL_law.data.toList.drop 983 = dktL_law_36 := dk_seg dksL_law_35 23 rfl rfl
theorem dksL_law_37 : cL_law.data.toList.drop 1007 = dktL_law_37 := dk_seg dksL_law_36 24 rfl rfl
theorem dksL_law_38 : cL_law.data.toList.drop 1029 = dktL_law_38 := dk_seg dksL_law_37 22 rfl rfl
theorem dksL_law_39 : cL_law.data.toList.drop 1053 = dktL_law_39 := dk_seg dksL_law_38 24 rfl rfl
theorem dksL_law_40 : cL_law.data.toList.drop 1075 = dktL_law_40 := dk_seg dksL_law_39 22 rfl rfl
theorem dksL_law_41 : cL_law.data.toList.drop 1098 = dktL_law_41 := dk_seg dksL_law_40 23 rfl rfl
theorem dksL_law_42 : cL_law.data.toList.drop 1121 = dktL_law_42 := dk_seg dksL_law_41 23 rfl rfl
theorem dksL_law_43 : cL_law.data.toList.drop 1145 = dktL_law_43 := dk_seg dksL_law_42 24 rfl rfl
theorem dksL_law_44 : cL_law.data.toList.drop 1169 = dktL_law_44 := dk_seg dksL_law_43 24 rfl rfl
theorem dksL_law_45 : cL_law.data.toList.drop 1192 = dktL_law_45 := dk_seg dksL_law_44 23 rfl rfl
theorem dL_law_0 : decode cL_law 0 = .ok (.new 7, 3) := dk_187 0 7 (dk_at dksL_law_0 0 rfl rfl)
theorem dL_law_3 : decode cL_law 3 = .ok (.dup, 1) := dk_89 (dk_at dksL_law_0 3 rfl rfl)
theorem dL_law_4 : decode cL_law 4 = .ok (.invokespecial 9, 3) := dk_183 0 9 (dk_at dksL_law_0 4 rfl rfl)
theorem dL_law_7 : decode cL_law 7 = .ok (.astore_n 1, 1) := dk_76 (dk_at dksL_law_0 7 rfl rfl)
theorem dL_law_8 : decode cL_law 8 = .ok (.new 10, 3) := dk_187 0 10 (dk_at dksL_law_0 8 rfl rfl)
theorem dL_law_11 : decode cL_law 11 = .ok (.dup, 1) := dk_89 (dk_at dksL_law_0 11 rfl rfl)
theorem dL_law_12 : decode cL_law 12 = .ok (.invokespecial 12, 3) := dk_183 0 12 (dk_at dksL_law_0 12 rfl rfl)
theorem dL_law_15 : decode cL_law 15 = .ok (.astore_n 2, 1) := dk_77 (dk_at dksL_law_0 15 rfl rfl)
theorem dL_law_16 : decode cL_law 16 = .ok (.iconst 0, 1) := dk_3 (dk_at dksL_law_0 16 rfl rfl)
theorem dL_law_17 : decode cL_law 17 = .ok (.istore_n 3, 1) := dk_62 (dk_at dksL_law_0 17 rfl rfl)
theorem dL_law_18 : decode cL_law 18 = .ok (.iload_n 3, 1) := dk_29 (dk_at dksL_law_0 18 rfl rfl)
theorem dL_law_19 : decode cL_law 19 = .ok (.aload_n 0, 1) := dk_42 (dk_at dksL_law_0 19 rfl rfl)
theorem dL_law_20 : decode cL_law 20 = .ok (.arraylength, 1) := dk_190 (dk_at dksL_law_0 20 rfl rfl)
theorem dL_law_21 : decode cL_law 21 = .ok (.bipush 6, 2) := dk_16 6 (dk_at dksL_law_0 21 rfl rfl)
theorem dL_law_23 : decode cL_law 23 = .ok (.isub, 1) := dk_100 (dk_at dksL_law_0 23 rfl rfl)
theorem dL_law_24 : decode cL_law 24 = .ok (.if_icmp .gt 1174, 3) := dk_163 4 150 (dk_at dksL_law_1 0 rfl rfl)
theorem dL_law_27 : decode cL_law 27 = .ok (.aload_n 0, 1) := dk_42 (dk_at dksL_law_1 3 rfl rfl)
theorem dL_law_28 : decode cL_law 28 = .ok (.iload_n 3, 1) := dk_29 (dk_at dksL_law_1 4 rfl rfl)
theorem dL_law_29 : decode cL_law 29 = .ok (.iaload, 1) := dk_46 (dk_at dksL_law_1 5 rfl rfl)
theorem dL_law_30 : decode cL_law 30 = .ok (.bipush 63, 2) := dk_16 63 (dk_at dksL_law_1 6 rfl rfl)
theorem dL_law_32 : decode cL_law 32 = .ok (.iand, 1) := dk_126 (dk_at dksL_law_1 8 rfl rfl)
theorem dL_law_33 : decode cL_law 33 = .ok (.tableswitch 1159 0 38 #[171, 234, 257, 270, 293, 316, 349, 392, 425, 448, 471, 494, 527, 550, 583, 616, 639, 672, 695, 718, 751, 774, 787, 810, 833, 876, 909, 932, 955, 968, 991, 1004, 1037, 1050, 1073, 1087, 1100, 1123, 1136], 171) := by decide +kernel
theorem dL_law_204 : decode cL_law 204 = .ok (.aload_n 1, 1) := dk_43 (dk_at dksL_law_3 0 rfl rfl)
theorem dL_law_205 : decode cL_law 205 = .ok (.aload_n 0, 1) := dk_42 (dk_at dksL_law_3 1 rfl rfl)
theorem dL_law_206 : decode cL_law 206 = .ok (.iload_n 3, 1) := dk_29 (dk_at dksL_law_3 2 rfl rfl)
theorem dL_law_207 : decode cL_law 207 = .ok (.iconst 1, 1) := dk_4 (dk_at dksL_law_3 3 rfl rfl)
theorem dL_law_208 : decode cL_law 208 = .ok (.iadd, 1) := dk_96 (dk_at dksL_law_3 4 rfl rfl)
theorem dL_law_209 : decode cL_law 209 = .ok (.iaload, 1) := dk_46 (dk_at dksL_law_3 5 rfl rfl)
theorem dL_law_210 : decode cL_law 210 = .ok (.aload_n 0, 1) := dk_42 (dk_at dksL_law_3 6 rfl rfl)
theorem dL_law_211 : decode cL_law 211 = .ok (.iload_n 3, 1) := dk_29 (dk_at dksL_law_3 7 rfl rfl)
theorem dL_law_212 : decode cL_law 212 = .ok (.iconst 2, 1) := dk_5 (dk_at dksL_law_3 8 rfl rfl)
theorem dL_law_213 : decode cL_law 213 = .ok (.iadd, 1) := dk_96 (dk_at dksL_law_3 9 rfl rfl)
theorem dL_law_214 : decode cL_law 214 = .ok (.iaload, 1) := dk_46 (dk_at dksL_law_3 10 rfl rfl)
theorem dL_law_215 : decode cL_law 215 = .ok (.aload_n 0, 1) := dk_42 (dk_at dksL_law_3 11 rfl rfl)
theorem dL_law_216 : decode cL_law 216 = .ok (.iload_n 3, 1) := dk_29 (dk_at dksL_law_3 12 rfl rfl)
theorem dL_law_217 : decode cL_law 217 = .ok (.iconst 3, 1) := dk_6 (dk_at dksL_law_3 13 rfl rfl)
theorem dL_law_218 : decode cL_law 218 = .ok (.iadd, 1) := dk_96 (dk_at dksL_law_3 14 rfl rfl)
theorem dL_law_219 : decode cL_law 219 = .ok (.iaload, 1) := dk_46 (dk_at dksL_law_3 15 rfl rfl)
theorem dL_law_220 : decode cL_law 220 = .ok (.aload_n 0, 1) := dk_42 (dk_at dksL_law_3 16 rfl rfl)
theorem dL_law_221 : decode cL_law 221 = .ok (.iload_n 3, 1) := dk_29 (dk_at dksL_law_3 17 rfl rfl)
theorem dL_law_222 : decode cL_law 222 = .ok (.iconst 4, 1) := dk_7 (dk_at dksL_law_3 18 rfl rfl)
theorem dL_law_223 : decode cL_law 223 = .ok (.iadd, 1) := dk_96 (dk_at dksL_law_3 19 rfl rfl)
theorem dL_law_224 : decode cL_law 224 = .ok (.iaload, 1) := dk_46 (dk_at dksL_law_3 20 rfl rfl)
theorem dL_law_225 : decode cL_law 225 = .ok (.aload_n 0, 1) := dk_42 (dk_at dksL_law_3 21 rfl rfl)
theorem dL_law_226 : decode cL_law 226 = .ok (.iload_n 3, 1) := dk_29 (dk_at dksL_law_3 22 rfl rfl)
theorem dL_law_227 : decode cL_law 227 = .ok (.iconst 5, 1) := dk_8 (dk_at dksL_law_3 23 rfl rfl)
theorem dL_law_228 : decode cL_law 228 = .ok (.iadd, 1) := dk_96 (dk_at dksL_law_4 0 rfl rfl)
theorem dL_law_229 : decode cL_law 229 = .ok (.iaload, 1) := dk_46 (dk_at dksL_law_4 1 rfl rfl)
theorem dL_law_230 : decode cL_law 230 = .ok (.invokevirtual 13, 3) := dk_182 0 13 (dk_at dksL_law_4 2 rfl rfl)
theorem dL_law_233 : decode cL_law 233 = .ok (.aload_n 2, 1) := dk_44 (dk_at dksL_law_4 5 rfl rfl)
theorem dL_law_234 : decode cL_law 234 = .ok (.aload_n 0, 1) := dk_42 (dk_at dksL_law_4 6 rfl rfl)
theorem dL_law_235 : decode cL_law 235 = .ok (.iload_n 3, 1) := dk_29 (dk_at dksL_law_4 7 rfl rfl)
theorem dL_law_236 : decode cL_law 236 = .ok (.iconst 1, 1) := dk_4 (dk_at dksL_law_4 8 rfl rfl)
theorem dL_law_237 : decode cL_law 237 = .ok (.iadd, 1) := dk_96 (dk_at dksL_law_4 9 rfl rfl)
theorem dL_law_238 : decode cL_law 238 = .ok (.iaload, 1) := dk_46 (dk_at dksL_law_4 10 rfl rfl)
theorem dL_law_239 : decode cL_law 239 = .ok (.aload_n 0, 1) := dk_42 (dk_at dksL_law_4 11 rfl rfl)
theorem dL_law_240 : decode cL_law 240 = .ok (.iload_n 3, 1) := dk_29 (dk_at dksL_law_4 12 rfl rfl)
theorem dL_law_241 : decode cL_law 241 = .ok (.iconst 2, 1) := dk_5 (dk_at dksL_law_4 13 rfl rfl)
theorem dL_law_242 : decode cL_law 242 = .ok (.iadd, 1) := dk_96 (dk_at dksL_law_4 14 rfl rfl)
theorem dL_law_243 : decode cL_law 243 = .ok (.iaload, 1) := dk_46 (dk_at dksL_law_4 15 rfl rfl)
theorem dL_law_244 : decode cL_law 244 = .ok (.aload_n 0, 1) := dk_42 (dk_at dksL_law_4 16 rfl rfl)
theorem dL_law_245 : decode cL_law 245 = .ok (.iload_n 3, 1) := dk_29 (dk_at dksL_law_4 17 rfl rfl)
theorem dL_law_246 : decode cL_law 246 = .ok (.iconst 3, 1) := dk_6 (dk_at dksL_law_4 18 rfl rfl)
theorem dL_law_247 : decode cL_law 247 = .ok (.iadd, 1) := dk_96 (dk_at dksL_law_4 19 rfl rfl)
theorem dL_law_248 : decode cL_law 248 = .ok (.iaload, 1) := dk_46 (dk_at dksL_law_4 20 rfl rfl)
theorem dL_law_249 : decode cL_law 249 = .ok (.aload_n 0, 1) := dk_42 (dk_at dksL_law_4 21 rfl rfl)
theorem dL_law_250 : decode cL_law 250 = .ok (.iload_n 3, 1) := dk_29 (dk_at dksL_law_4 22 rfl rfl)
theorem dL_law_251 : decode cL_law 251 = .ok (.iconst 4, 1) := dk_7 (dk_at dksL_law_4 23 rfl rfl)
theorem dL_law_252 : decode cL_law 252 = .ok (.iadd, 1) := dk_96 (dk_at dksL_law_5 0 rfl rfl)
theorem dL_law_253 : decode cL_law 253 = .ok (.iaload, 1) := dk_46 (dk_at dksL_law_5 1 rfl rfl)
theorem dL_law_254 : decode cL_law 254 = .ok (.aload_n 0, 1) := dk_42 (dk_at dksL_law_5 2 rfl rfl)
theorem dL_law_255 : decode cL_law 255 = .ok (.iload_n 3, 1) := dk_29 (dk_at dksL_law_5 3 rfl rfl)
theorem dL_law_256 : decode cL_law 256 = .ok (.iconst 5, 1) := dk_8 (dk_at dksL_law_5 4 rfl rfl)
theorem dL_law_257 : decode cL_law 257 = .ok (.iadd, 1) := dk_96 (dk_at dksL_law_5 5 rfl rfl)
theorem dL_law_258 : decode cL_law 258 = .ok (.iaload, 1) := dk_46 (dk_at dksL_law_5 6 rfl rfl)
theorem dL_law_259 : decode cL_law 259 = .ok (.invokevirtual 17, 3) := dk_182 0 17 (dk_at dksL_law_5 7 rfl rfl)
theorem dL_law_262 : decode cL_law 262 = .ok (.if_icmp .eq 930, 3) := dk_159 3 162 (dk_at dksL_law_5 10 rfl rfl)
theorem dL_law_265 : decode cL_law 265 = .ok (.iconst 0, 1) := dk_3 (dk_at dksL_law_5 13 rfl rfl)
theorem dL_law_266 : decode cL_law 266 = .ok (.ireturn, 1) := dk_172 (dk_at dksL_law_5 14 rfl rfl)
theorem dL_law_267 : decode cL_law 267 = .ok (.aload_n 1, 1) := dk_43 (dk_at dksL_law_5 15 rfl rfl)
theorem dL_law_268 : decode cL_law 268 = .ok (.aload_n 0, 1) := dk_42 (dk_at dksL_law_5 16 rfl rfl)
theorem dL_law_269 : decode cL_law 269 = .ok (.iload_n 3, 1) := dk_29 (dk_at dksL_law_5 17 rfl rfl)
theorem dL_law_270 : decode cL_law 270 = .ok (.iconst 1, 1) := dk_4 (dk_at dksL_law_5 18 rfl rfl)
theorem dL_law_271 : decode cL_law 271 = .ok (.iadd, 1) := dk_96 (dk_at dksL_law_5 19 rfl rfl)
theorem dL_law_272 : decode cL_law 272 = .ok (.iaload, 1) := dk_46 (dk_at dksL_law_5 20 rfl rfl)
theorem dL_law_273 : decode cL_law 273 = .ok (.invokevirtual 18, 3) := dk_182 0 18 (dk_at dksL_law_5 21 rfl rfl)
theorem dL_law_276 : decode cL_law 276 = .ok (.aload_n 2, 1) := dk_44 (dk_at dksL_law_6 0 rfl rfl)
theorem dL_law_277 : decode cL_law 277 = .ok (.aload_n 0, 1) := dk_42 (dk_at dksL_law_6 1 rfl rfl)
theorem dL_law_278 : decode cL_law 278 = .ok (.iload_n 3, 1) := dk_29 (dk_at dksL_law_6 2 rfl rfl)
theorem dL_law_279 : decode cL_law 279 = .ok (.iconst 1, 1) := dk_4 (dk_at dksL_law_6 3 rfl rfl)
theorem dL_law_280 : decode cL_law 280 = .ok (.iadd, 1) := dk_96 (dk_at dksL_law_6 4 rfl rfl)
theorem dL_law_281 : decode cL_law 281 = .ok (.iaload, 1) := dk_46 (dk_at dksL_law_6 5 rfl rfl)
theorem dL_law_282 : decode cL_law 282 = .ok (.invokevirtual 22, 3) := dk_182 0 22 (dk_at dksL_law_6 6 rfl rfl)
theorem dL_law_285 : decode cL_law 285 = .ok (.if_icmp .eq 907, 3) := dk_159 3 139 (dk_at dksL_law_6 9 rfl rfl)
theorem dL_law_288 : decode cL_law 288 = .ok (.iconst 0, 1) := dk_3 (dk_at dksL_law_6 12 rfl rfl)
theorem dL_law_289 : decode cL_law 289 = .ok (.ireturn, 1) := dk_172 (dk_at dksL_law_6 13 rfl rfl)
theorem dL_law_290 : decode cL_law 290 = .ok (.aload_n 1, 1) := dk_43 (dk_at dksL_law_6 14 rfl rfl)
theorem dL_law_291 : decode cL_law 291 = .ok (.invokevirtual 23, 3) := dk_182 0 23 (dk_at dksL_law_6 15 rfl rfl)
theorem dL_law_294 : decode cL_law 294 = .ok (.aload_n 2, 1) := dk_44 (dk_at dksL_law_6 18 rfl rfl)
theorem dL_law_295 : decode cL_law 295 = .ok (.invokevirtual 27, 3) := dk_182 0 27 (dk_at dksL_law_6 19 rfl rfl)
theorem dL_law_298 : decode cL_law 298 = .ok (.if_icmp .eq 894, 3) := dk_159 3 126 (dk_at dksL_law_7 0 rfl rfl)
theorem dL_law_301 : decode cL_law 301 = .ok (.iconst 0, 1) := dk_3 (dk_at dksL_law_7 3 rfl rfl)
theorem dL_law_302 : decode cL_law 302 = .ok (.ireturn, 1) := dk_172 (dk_at dksL_law_7 4 rfl rfl)
theorem dL_law_303 : decode cL_law 303 = .ok (.aload_n 1, 1) := dk_43 (dk_at dksL_law_7 5 rfl rfl)
theorem dL_law_304 : decode cL_law 304 = .ok (.aload_n 0, 1) := dk_42 (dk_at dksL_law_7 6 rfl rfl)
theorem dL_law_305 : decode cL_law 305 = .ok (.iload_n 3, 1) := dk_29 (dk_at dksL_law_7 7 rfl rfl)
theorem dL_law_306 : decode cL_law 306 = .ok (.iconst 1, 1) := dk_4 (dk_at dksL_law_7 8 rfl rfl)
theorem dL_law_307 : decode cL_law 307 = .ok (.iadd, 1) := dk_96 (dk_at dksL_law_7 9 rfl rfl)
theorem dL_law_308 : decode cL_law 308 = .ok (.iaload, 1) := dk_46 (dk_at dksL_law_7 10 rfl rfl)
theorem dL_law_309 : decode cL_law 309 = .ok (.invokevirtual 28, 3) := dk_182 0 28 (dk_at dksL_law_7 11 rfl rfl)
theorem dL_law_312 : decode cL_law 312 = .ok (.aload_n 2, 1) := dk_44 (dk_at dksL_law_7 14 rfl rfl)
theorem dL_law_313 : decode cL_law 313 = .ok (.aload_n 0, 1) := dk_42 (dk_at dksL_law_7 15 rfl rfl)
theorem dL_law_314 : decode cL_law 314 = .ok (.iload_n 3, 1) := dk_29 (dk_at dksL_law_7 16 rfl rfl)
theorem dL_law_315 : decode cL_law 315 = .ok (.iconst 1, 1) := dk_4 (dk_at dksL_law_7 17 rfl rfl)
theorem dL_law_316 : decode cL_law 316 = .ok (.iadd, 1) := dk_96 (dk_at dksL_law_7 18 rfl rfl)
theorem dL_law_317 : decode cL_law 317 = .ok (.iaload, 1) := dk_46 (dk_at dksL_law_7 19 rfl rfl)
theorem dL_law_318 : decode cL_law 318 = .ok (.invokevirtual 32, 3) := dk_182 0 32 (dk_at dksL_law_7 20 rfl rfl)
theorem dL_law_321 : decode cL_law 321 = .ok (.if_icmp .eq 871, 3) := dk_159 3 103 (dk_at dksL_law_8 0 rfl rfl)
theorem dL_law_324 : decode cL_law 324 = .ok (.iconst 0, 1) := dk_3 (dk_at dksL_law_8 3 rfl rfl)
theorem dL_law_325 : decode cL_law 325 = .ok (.ireturn, 1) := dk_172 (dk_at dksL_law_8 4 rfl rfl)
theorem dL_law_326 : decode cL_law 326 = .ok (.aload_n 1, 1) := dk_43 (dk_at dksL_law_8 5 rfl rfl)
theorem dL_law_327 : decode cL_law 327 = .ok (.aload_n 0, 1) := dk_42 (dk_at dksL_law_8 6 rfl rfl)
theorem dL_law_328 : decode cL_law 328 = .ok (.iload_n 3, 1) := dk_29 (dk_at dksL_law_8 7 rfl rfl)
theorem dL_law_329 : decode cL_law 329 = .ok (.iconst 1, 1) := dk_4 (dk_at dksL_law_8 8 rfl rfl)
theorem dL_law_330 : decode cL_law 330 = .ok (.iadd, 1) := dk_96 (dk_at dksL_law_8 9 rfl rfl)
theorem dL_law_331 : decode cL_law 331 = .ok (.iaload, 1) := dk_46 (dk_at dksL_law_8 10 rfl rfl)
theorem dL_law_332 : decode cL_law 332 = .ok (.invokevirtual 33, 3) := dk_182 0 33 (dk_at dksL_law_8 11 rfl rfl)
theorem dL_law_335 : decode cL_law 335 = .ok (.aload_n 2, 1) := dk_44 (dk_at dksL_law_8 14 rfl rfl)
theorem dL_law_336 : decode cL_law 336 = .ok (.aload_n 0, 1) := dk_42 (dk_at dksL_law_8 15 rfl rfl)
theorem dL_law_337 : decode cL_law 337 = .ok (.iload_n 3, 1) := dk_29 (dk_at dksL_law_8 16 rfl rfl)
theorem dL_law_338 : decode cL_law 338 = .ok (.iconst 1, 1) := dk_4 (dk_at dksL_law_8 17 rfl rfl)
theorem dL_law_339 : decode cL_law 339 = .ok (.iadd, 1) := dk_96 (dk_at dksL_law_8 18 rfl rfl)
theorem dL_law_340 : decode cL_law 340 = .ok (.iaload, 1) := dk_46 (dk_at dksL_law_8 19 rfl rfl)
theorem dL_law_341 : decode cL_law 341 = .ok (.invokevirtual 36, 3) := dk_182 0 36 (dk_at dksL_law_8 20 rfl rfl)
theorem dL_law_344 : decode cL_law 344 = .ok (.if_icmp .eq 848, 3) := dk_159 3 80 (dk_at dksL_law_9 0 rfl rfl)
theorem dL_law_347 : decode cL_law 347 = .ok (.iconst 0, 1) := dk_3 (dk_at dksL_law_9 3 rfl rfl)
theorem dL_law_348 : decode cL_law 348 = .ok (.ireturn, 1) := dk_172 (dk_at dksL_law_9 4 rfl rfl)
theorem dL_law_349 : decode cL_law 349 = .ok (.aload_n 1, 1) := dk_43 (dk_at dksL_law_9 5 rfl rfl)
theorem dL_law_350 : decode cL_law 350 = .ok (.aload_n 0, 1) := dk_42 (dk_at dksL_law_9 6 rfl rfl)
theorem dL_law_351 : decode cL_law 351 = .ok (.iload_n 3, 1) := dk_29 (dk_at dksL_law_9 7 rfl rfl)
theorem dL_law_352 : decode cL_law 352 = .ok (.iconst 1, 1) := dk_4 (dk_at dksL_law_9 8 rfl rfl)
theorem dL_law_353 : decode cL_law 353 = .ok (.iadd, 1) := dk_96 (dk_at dksL_law_9 9 rfl rfl)
theorem dL_law_354 : decode cL_law 354 = .ok (.iaload, 1) := dk_46 (dk_at dksL_law_9 10 rfl rfl)
theorem dL_law_355 : decode cL_law 355 = .ok (.aload_n 0, 1) := dk_42 (dk_at dksL_law_9 11 rfl rfl)
theorem dL_law_356 : decode cL_law 356 = .ok (.iload_n 3, 1) := dk_29 (dk_at dksL_law_9 12 rfl rfl)
theorem dL_law_357 : decode cL_law 357 = .ok (.iconst 2, 1) := dk_5 (dk_at dksL_law_9 13 rfl rfl)
theorem dL_law_358 : decode cL_law 358 = .ok (.iadd, 1) := dk_96 (dk_at dksL_law_9 14 rfl rfl)
theorem dL_law_359 : decode cL_law 359 = .ok (.iaload, 1) := dk_46 (dk_at dksL_law_9 15 rfl rfl)
theorem dL_law_360 : decode cL_law 360 = .ok (.invokevirtual 37, 3) := dk_182 0 37 (dk_at dksL_law_9 16 rfl rfl)
theorem dL_law_363 : decode cL_law 363 = .ok (.aload_n 2, 1) := dk_44 (dk_at dksL_law_9 19 rfl rfl)
theorem dL_law_364 : decode cL_law 364 = .ok (.aload_n 0, 1) := dk_42 (dk_at dksL_law_9 20 rfl rfl)
theorem dL_law_365 : decode cL_law 365 = .ok (.iload_n 3, 1) := dk_29 (dk_at dksL_law_9 21 rfl rfl)
theorem dL_law_366 : decode cL_law 366 = .ok (.iconst 1, 1) := dk_4 (dk_at dksL_law_9 22 rfl rfl)
theorem dL_law_367 : decode cL_law 367 = .ok (.iadd, 1) := dk_96 (dk_at dksL_law_9 23 rfl rfl)
theorem dL_law_368 : decode cL_law 368 = .ok (.iaload, 1) := dk_46 (dk_at dksL_law_10 0 rfl rfl)
theorem dL_law_369 : decode cL_law 369 = .ok (.aload_n 0, 1) := dk_42 (dk_at dksL_law_10 1 rfl rfl)
theorem dL_law_370 : decode cL_law 370 = .ok (.iload_n 3, 1) := dk_29 (dk_at dksL_law_10 2 rfl rfl)
theorem dL_law_371 : decode cL_law 371 = .ok (.iconst 2, 1) := dk_5 (dk_at dksL_law_10 3 rfl rfl)
theorem dL_law_372 : decode cL_law 372 = .ok (.iadd, 1) := dk_96 (dk_at dksL_law_10 4 rfl rfl)
theorem dL_law_373 : decode cL_law 373 = .ok (.iaload, 1) := dk_46 (dk_at dksL_law_10 5 rfl rfl)
theorem dL_law_374 : decode cL_law 374 = .ok (.invokevirtual 41, 3) := dk_182 0 41 (dk_at dksL_law_10 6 rfl rfl)
theorem dL_law_377 : decode cL_law 377 = .ok (.if_icmp .eq 815, 3) := dk_159 3 47 (dk_at dksL_law_10 9 rfl rfl)
theorem dL_law_380 : decode cL_law 380 = .ok (.iconst 0, 1) := dk_3 (dk_at dksL_law_10 12 rfl rfl)
theorem dL_law_381 : decode cL_law 381 = .ok (.ireturn, 1) := dk_172 (dk_at dksL_law_10 13 rfl rfl)
theorem dL_law_382 : decode cL_law 382 = .ok (.aload_n 1, 1) := dk_43 (dk_at dksL_law_10 14 rfl rfl)
theorem dL_law_383 : decode cL_law 383 = .ok (.aload_n 0, 1) := dk_42 (dk_at dksL_law_10 15 rfl rfl)
theorem dL_law_384 : decode cL_law 384 = .ok (.iload_n 3, 1) := dk_29 (dk_at dksL_law_10 16 rfl rfl)
theorem dL_law_385 : decode cL_law 385 = .ok (.iconst 1, 1) := dk_4 (dk_at dksL_law_10 17 rfl rfl)
theorem dL_law_386 : decode cL_law 386 = .ok (.iadd, 1) := dk_96 (dk_at dksL_law_10 18 rfl rfl)
theorem dL_law_387 : decode cL_law 387 = .ok (.iaload, 1) := dk_46 (dk_at dksL_law_10 19 rfl rfl)
theorem dL_law_388 : decode cL_law 388 = .ok (.aload_n 0, 1) := dk_42 (dk_at dksL_law_10 20 rfl rfl)
theorem dL_law_389 : decode cL_law 389 = .ok (.iload_n 3, 1) := dk_29 (dk_at dksL_law_10 21 rfl rfl)
theorem dL_law_390 : decode cL_law 390 = .ok (.iconst 2, 1) := dk_5 (dk_at dksL_law_10 22 rfl rfl)
theorem dL_law_391 : decode cL_law 391 = .ok (.iadd, 1) := dk_96 (dk_at dksL_law_10 23 rfl rfl)
theorem dL_law_392 : decode cL_law 392 = .ok (.iaload, 1) := dk_46 (dk_at dksL_law_11 0 rfl rfl)
theorem dL_law_393 : decode cL_law 393 = .ok (.aload_n 0, 1) := dk_42 (dk_at dksL_law_11 1 rfl rfl)
theorem dL_law_394 : decode cL_law 394 = .ok (.iload_n 3, 1) := dk_29 (dk_at dksL_law_11 2 rfl rfl)
theorem dL_law_395 : decode cL_law 395 = .ok (.iconst 3, 1) := dk_6 (dk_at dksL_law_11 3 rfl rfl)
theorem dL_law_396 : decode cL_law 396 = .ok (.iadd, 1) := dk_96 (dk_at dksL_law_11 4 rfl rfl)
theorem dL_law_397 : decode cL_law 397 = .ok (.iaload, 1) := dk_46 (dk_at dksL_law_11 5 rfl rfl)
theorem dL_law_398 : decode cL_law 398 = .ok (.invokevirtual 42, 3) := dk_182 0 42 (dk_at dksL_law_11 6 rfl rfl)
theorem dL_law_401 : decode cL_law 401 = .ok (.aload_n 2, 1) := dk_44 (dk_at dksL_law_11 9 rfl rfl)
theorem dL_law_402 : decode cL_law 402 = .ok (.aload_n 0, 1) := dk_42 (dk_at dksL_law_11 10 rfl rfl)
theorem dL_law_403 : decode cL_law 403 = .ok (.iload_n 3, 1) := dk_29 (dk_at dksL_law_11 11 rfl rfl)
theorem dL_law_404 : decode cL_law 404 = .ok (.iconst 1, 1) := dk_4 (dk_at dksL_law_11 12 rfl rfl)
theorem dL_law_405 : decode cL_law 405 = .ok (.iadd, 1) := dk_96 (dk_at dksL_law_11 13 rfl rfl)
theorem dL_law_406 : decode cL_law 406 = .ok (.iaload, 1) := dk_46 (dk_at dksL_law_11 14 rfl rfl)
theorem dL_law_407 : decode cL_law 407 = .ok (.aload_n 0, 1) := dk_42 (dk_at dksL_law_11 15 rfl rfl)
theorem dL_law_408 : decode cL_law 408 = .ok (.iload_n 3, 1) := dk_29 (dk_at dksL_law_11 16 rfl rfl)
theorem dL_law_409 : decode cL_law 409 = .ok (.iconst 2, 1) := dk_5 (dk_at dksL_law_11 17 rfl rfl)
theorem dL_law_410 : decode cL_law 410 = .ok (.iadd, 1) := dk_96 (dk_at dksL_law_11 18 rfl rfl)
theorem dL_law_411 : decode cL_law 411 = .ok (.iaload, 1) := dk_46 (dk_at dksL_law_11 19 rfl rfl)
theorem dL_law_412 : decode cL_law 412 = .ok (.aload_n 0, 1) := dk_42 (dk_at dksL_law_11 20 rfl rfl)
theorem dL_law_413 : decode cL_law 413 = .ok (.iload_n 3, 1) := dk_29 (dk_at dksL_law_11 21 rfl rfl)
theorem dL_law_414 : decode cL_law 414 = .ok (.iconst 3, 1) := dk_6 (dk_at dksL_law_11 22 rfl rfl)
theorem dL_law_415 : decode cL_law 415 = .ok (.iadd, 1) := dk_96 (dk_at dksL_law_11 23 rfl rfl)
theorem dL_law_416 : decode cL_law 416 = .ok (.iaload, 1) := dk_46 (dk_at dksL_law_12 0 rfl rfl)
theorem dL_law_417 : decode cL_law 417 = .ok (.invokevirtual 46, 3) := dk_182 0 46 (dk_at dksL_law_12 1 rfl rfl)
theorem dL_law_420 : decode cL_law 420 = .ok (.if_icmp .eq 772, 3) := dk_159 3 4 (dk_at dksL_law_12 4 rfl rfl)
theorem dL_law_423 : decode cL_law 423 = .ok (.iconst 0, 1) := dk_3 (dk_at dksL_law_12 7 rfl rfl)
theorem dL_law_424 : decode cL_law 424 = .ok (.ireturn, 1) := dk_172 (dk_at dksL_law_12 8 rfl rfl)
theorem dL_law_425 : decode cL_law 425 = .ok (.aload_n 1, 1) := dk_43 (dk_at dksL_law_12 9 rfl rfl)
theorem dL_law_426 : decode cL_law 426 = .ok (.aload_n 0, 1) := dk_42 (dk_at dksL_law_12 10 rfl rfl)
theorem dL_law_427 : decode cL_law 427 = .ok (.iload_n 3, 1) := dk_29 (dk_at dksL_law_12 11 rfl rfl)
theorem dL_law_428 : decode cL_law 428 = .ok (.iconst 1, 1) := dk_4 (dk_at dksL_law_12 12 rfl rfl)
theorem dL_law_429 : decode cL_law 429 = .ok (.iadd, 1) := dk_96 (dk_at dksL_law_12 13 rfl rfl)
theorem dL_law_430 : decode cL_law 430 = .ok (.iaload, 1) := dk_46 (dk_at dksL_law_12 14 rfl rfl)
theorem dL_law_431 : decode cL_law 431 = .ok (.aload_n 0, 1) := dk_42 (dk_at dksL_law_12 15 rfl rfl)
theorem dL_law_432 : decode cL_law 432 = .ok (.iload_n 3, 1) := dk_29 (dk_at dksL_law_12 16 rfl rfl)
theorem dL_law_433 : decode cL_law 433 = .ok (.iconst 2, 1) := dk_5 (dk_at dksL_law_12 17 rfl rfl)
theorem dL_law_434 : decode cL_law 434 = .ok (.iadd, 1) := dk_96 (dk_at dksL_law_12 18 rfl rfl)
theorem dL_law_435 : decode cL_law 435 = .ok (.iaload, 1) := dk_46 (dk_at dksL_law_12 19 rfl rfl)
theorem dL_law_436 : decode cL_law 436 = .ok (.invokevirtual 47, 3) := dk_182 0 47 (dk_at dksL_law_12 20 rfl rfl)
theorem dL_law_439 : decode cL_law 439 = .ok (.aload_n 2, 1) := dk_44 (dk_at dksL_law_12 23 rfl rfl)
theorem dL_law_440 : decode cL_law 440 = .ok (.aload_n 0, 1) := dk_42 (dk_at dksL_law_13 0 rfl rfl)
theorem dL_law_441 : decode cL_law 441 = .ok (.iload_n 3, 1) := dk_29 (dk_at dksL_law_13 1 rfl rfl)
theorem dL_law_442 : decode cL_law 442 = .ok (.iconst 1, 1) := dk_4 (dk_at dksL_law_13 2 rfl rfl)
theorem dL_law_443 : decode cL_law 443 = .ok (.iadd, 1) := dk_96 (dk_at dksL_law_13 3 rfl rfl)
theorem dL_law_444 : decode cL_law 444 = .ok (.iaload, 1) := dk_46 (dk_at dksL_law_13 4 rfl rfl)
theorem dL_law_445 : decode cL_law 445 = .ok (.aload_n 0, 1) := dk_42 (dk_at dksL_law_13 5 rfl rfl)
theorem dL_law_446 : decode cL_law 446 = .ok (.iload_n 3, 1) := dk_29 (dk_at dksL_law_13 6 rfl rfl)
theorem dL_law_447 : decode cL_law 447 = .ok (.iconst 2, 1) := dk_5 (dk_at dksL_law_13 7 rfl rfl)
theorem dL_law_448 : decode cL_law 448 = .ok (.iadd, 1) := dk_96 (dk_at dksL_law_13 8 rfl rfl)
theorem dL_law_449 : decode cL_law 449 = .ok (.iaload, 1) := dk_46 (dk_at dksL_law_13 9 rfl rfl)
theorem dL_law_450 : decode cL_law 450 = .ok (.invokevirtual 50, 3) := dk_182 0 50 (dk_at dksL_law_13 10 rfl rfl)
theorem dL_law_453 : decode cL_law 453 = .ok (.if_icmp .eq 739, 3) := dk_159 2 227 (dk_at dksL_law_13 13 rfl rfl)
theorem dL_law_456 : decode cL_law 456 = .ok (.iconst 0, 1) := dk_3 (dk_at dksL_law_13 16 rfl rfl)
theorem dL_law_457 : decode cL_law 457 = .ok (.ireturn, 1) := dk_172 (dk_at dksL_law_13 17 rfl rfl)
theorem dL_law_458 : decode cL_law 458 = .ok (.aload_n 1, 1) := dk_43 (dk_at dksL_law_13 18 rfl rfl)
theorem dL_law_459 : decode cL_law 459 = .ok (.aload_n 0, 1) := dk_42 (dk_at dksL_law_13 19 rfl rfl)
theorem dL_law_460 : decode cL_law 460 = .ok (.iload_n 3, 1) := dk_29 (dk_at dksL_law_13 20 rfl rfl)
theorem dL_law_461 : decode cL_law 461 = .ok (.iconst 1, 1) := dk_4 (dk_at dksL_law_13 21 rfl rfl)
theorem dL_law_462 : decode cL_law 462 = .ok (.iadd, 1) := dk_96 (dk_at dksL_law_13 22 rfl rfl)
theorem dL_law_463 : decode cL_law 463 = .ok (.iaload, 1) := dk_46 (dk_at dksL_law_13 23 rfl rfl)
theorem dL_law_464 : decode cL_law 464 = .ok (.invokevirtual 51, 3) := dk_182 0 51 (dk_at dksL_law_14 0 rfl rfl)
theorem dL_law_467 : decode cL_law 467 = .ok (.aload_n 2, 1) := dk_44 (dk_at dksL_law_14 3 rfl rfl)
theorem dL_law_468 : decode cL_law 468 = .ok (.aload_n 0, 1) := dk_42 (dk_at dksL_law_14 4 rfl rfl)
theorem dL_law_469 : decode cL_law 469 = .ok (.iload_n 3, 1) := dk_29 (dk_at dksL_law_14 5 rfl rfl)
theorem dL_law_470 : decode cL_law 470 = .ok (.iconst 1, 1) := dk_4 (dk_at dksL_law_14 6 rfl rfl)
theorem dL_law_471 : decode cL_law 471 = .ok (.iadd, 1) := dk_96 (dk_at dksL_law_14 7 rfl rfl)
theorem dL_law_472 : decode cL_law 472 = .ok (.iaload, 1) := dk_46 (dk_at dksL_law_14 8 rfl rfl)
theorem dL_law_473 : decode cL_law 473 = .ok (.invokevirtual 54, 3) := dk_182 0 54 (dk_at dksL_law_14 9 rfl rfl)
theorem dL_law_476 : decode cL_law 476 = .ok (.if_icmp .eq 716, 3) := dk_159 2 204 (dk_at dksL_law_14 12 rfl rfl)
theorem dL_law_479 : decode cL_law 479 = .ok (.iconst 0, 1) := dk_3 (dk_at dksL_law_14 15 rfl rfl)
theorem dL_law_480 : decode cL_law 480 = .ok (.ireturn, 1) := dk_172 (dk_at dksL_law_14 16 rfl rfl)
theorem dL_law_481 : decode cL_law 481 = .ok (.aload_n 1, 1) := dk_43 (dk_at dksL_law_14 17 rfl rfl)
theorem dL_law_482 : decode cL_law 482 = .ok (.aload_n 0, 1) := dk_42 (dk_at dksL_law_14 18 rfl rfl)
theorem dL_law_483 : decode cL_law 483 = .ok (.iload_n 3, 1) := dk_29 (dk_at dksL_law_14 19 rfl rfl)
theorem dL_law_484 : decode cL_law 484 = .ok (.iconst 1, 1) := dk_4 (dk_at dksL_law_14 20 rfl rfl)
theorem dL_law_485 : decode cL_law 485 = .ok (.iadd, 1) := dk_96 (dk_at dksL_law_14 21 rfl rfl)
theorem dL_law_486 : decode cL_law 486 = .ok (.iaload, 1) := dk_46 (dk_at dksL_law_14 22 rfl rfl)
theorem dL_law_487 : decode cL_law 487 = .ok (.invokevirtual 55, 3) := dk_182 0 55 (dk_at dksL_law_15 0 rfl rfl)
theorem dL_law_490 : decode cL_law 490 = .ok (.aload_n 2, 1) := dk_44 (dk_at dksL_law_15 3 rfl rfl)
theorem dL_law_491 : decode cL_law 491 = .ok (.aload_n 0, 1) := dk_42 (dk_at dksL_law_15 4 rfl rfl)
theorem dL_law_492 : decode cL_law 492 = .ok (.iload_n 3, 1) := dk_29 (dk_at dksL_law_15 5 rfl rfl)
theorem dL_law_493 : decode cL_law 493 = .ok (.iconst 1, 1) := dk_4 (dk_at dksL_law_15 6 rfl rfl)
theorem dL_law_494 : decode cL_law 494 = .ok (.iadd, 1) := dk_96 (dk_at dksL_law_15 7 rfl rfl)
theorem dL_law_495 : decode cL_law 495 = .ok (.iaload, 1) := dk_46 (dk_at dksL_law_15 8 rfl rfl)
theorem dL_law_496 : decode cL_law 496 = .ok (.invokevirtual 58, 3) := dk_182 0 58 (dk_at dksL_law_15 9 rfl rfl)
theorem dL_law_499 : decode cL_law 499 = .ok (.if_icmp .eq 693, 3) := dk_159 2 181 (dk_at dksL_law_15 12 rfl rfl)
theorem dL_law_502 : decode cL_law 502 = .ok (.iconst 0, 1) := dk_3 (dk_at dksL_law_15 15 rfl rfl)
theorem dL_law_503 : decode cL_law 503 = .ok (.ireturn, 1) := dk_172 (dk_at dksL_law_15 16 rfl rfl)
theorem dL_law_504 : decode cL_law 504 = .ok (.aload_n 1, 1) := dk_43 (dk_at dksL_law_15 17 rfl rfl)
theorem dL_law_505 : decode cL_law 505 = .ok (.aload_n 0, 1) := dk_42 (dk_at dksL_law_15 18 rfl rfl)
theorem dL_law_506 : decode cL_law 506 = .ok (.iload_n 3, 1) := dk_29 (dk_at dksL_law_15 19 rfl rfl)
theorem dL_law_507 : decode cL_law 507 = .ok (.iconst 1, 1) := dk_4 (dk_at dksL_law_15 20 rfl rfl)
theorem dL_law_508 : decode cL_law 508 = .ok (.iadd, 1) := dk_96 (dk_at dksL_law_15 21 rfl rfl)
theorem dL_law_509 : decode cL_law 509 = .ok (.iaload, 1) := dk_46 (dk_at dksL_law_15 22 rfl rfl)
theorem dL_law_510 : decode cL_law 510 = .ok (.invokevirtual 59, 3) := dk_182 0 59 (dk_at dksL_law_16 0 rfl rfl)
theorem dL_law_513 : decode cL_law 513 = .ok (.aload_n 2, 1) := dk_44 (dk_at dksL_law_16 3 rfl rfl)
theorem dL_law_514 : decode cL_law 514 = .ok (.aload_n 0, 1) := dk_42 (dk_at dksL_law_16 4 rfl rfl)
theorem dL_law_515 : decode cL_law 515 = .ok (.iload_n 3, 1) := dk_29 (dk_at dksL_law_16 5 rfl rfl)
theorem dL_law_516 : decode cL_law 516 = .ok (.iconst 1, 1) := dk_4 (dk_at dksL_law_16 6 rfl rfl)
theorem dL_law_517 : decode cL_law 517 = .ok (.iadd, 1) := dk_96 (dk_at dksL_law_16 7 rfl rfl)
theorem dL_law_518 : decode cL_law 518 = .ok (.iaload, 1) := dk_46 (dk_at dksL_law_16 8 rfl rfl)
theorem dL_law_519 : decode cL_law 519 = .ok (.invokevirtual 62, 3) := dk_182 0 62 (dk_at dksL_law_16 9 rfl rfl)
theorem dL_law_522 : decode cL_law 522 = .ok (.if_icmp .eq 670, 3) := dk_159 2 158 (dk_at dksL_law_16 12 rfl rfl)
theorem dL_law_525 : decode cL_law 525 = .ok (.iconst 0, 1) := dk_3 (dk_at dksL_law_16 15 rfl rfl)
theorem dL_law_526 : decode cL_law 526 = .ok (.ireturn, 1) := dk_172 (dk_at dksL_law_16 16 rfl rfl)
theorem dL_law_527 : decode cL_law 527 = .ok (.aload_n 1, 1) := dk_43 (dk_at dksL_law_16 17 rfl rfl)
theorem dL_law_528 : decode cL_law 528 = .ok (.aload_n 0, 1) := dk_42 (dk_at dksL_law_16 18 rfl rfl)
theorem dL_law_529 : decode cL_law 529 = .ok (.iload_n 3, 1) := dk_29 (dk_at dksL_law_16 19 rfl rfl)
theorem dL_law_530 : decode cL_law 530 = .ok (.iconst 1, 1) := dk_4 (dk_at dksL_law_16 20 rfl rfl)
theorem dL_law_531 : decode cL_law 531 = .ok (.iadd, 1) := dk_96 (dk_at dksL_law_16 21 rfl rfl)
theorem dL_law_532 : decode cL_law 532 = .ok (.iaload, 1) := dk_46 (dk_at dksL_law_16 22 rfl rfl)
theorem dL_law_533 : decode cL_law 533 = .ok (.aload_n 0, 1) := dk_42 (dk_at dksL_law_16 23 rfl rfl)
theorem dL_law_534 : decode cL_law 534 = .ok (.iload_n 3, 1) := dk_29 (dk_at dksL_law_17 0 rfl rfl)
theorem dL_law_535 : decode cL_law 535 = .ok (.iconst 2, 1) := dk_5 (dk_at dksL_law_17 1 rfl rfl)
theorem dL_law_536 : decode cL_law 536 = .ok (.iadd, 1) := dk_96 (dk_at dksL_law_17 2 rfl rfl)
theorem dL_law_537 : decode cL_law 537 = .ok (.iaload, 1) := dk_46 (dk_at dksL_law_17 3 rfl rfl)
theorem dL_law_538 : decode cL_law 538 = .ok (.invokevirtual 63, 3) := dk_182 0 63 (dk_at dksL_law_17 4 rfl rfl)
theorem dL_law_541 : decode cL_law 541 = .ok (.aload_n 2, 1) := dk_44 (dk_at dksL_law_17 7 rfl rfl)
theorem dL_law_542 : decode cL_law 542 = .ok (.aload_n 0, 1) := dk_42 (dk_at dksL_law_17 8 rfl rfl)
theorem dL_law_543 : decode cL_law 543 = .ok (.iload_n 3, 1) := dk_29 (dk_at dksL_law_17 9 rfl rfl)
theorem dL_law_544 : decode cL_law 544 = .ok (.iconst 1, 1) := dk_4 (dk_at dksL_law_17 10 rfl rfl)
theorem dL_law_545 : decode cL_law 545 = .ok (.iadd, 1) := dk_96 (dk_at dksL_law_17 11 rfl rfl)
theorem dL_law_546 : decode cL_law 546 = .ok (.iaload, 1) := dk_46 (dk_at dksL_law_17 12 rfl rfl)
theorem dL_law_547 : decode cL_law 547 = .ok (.aload_n 0, 1) := dk_42 (dk_at dksL_law_17 13 rfl rfl)
theorem dL_law_548 : decode cL_law 548 = .ok (.iload_n 3, 1) := dk_29 (dk_at dksL_law_17 14 rfl rfl)
theorem dL_law_549 : decode cL_law 549 = .ok (.iconst 2, 1) := dk_5 (dk_at dksL_law_17 15 rfl rfl)
theorem dL_law_550 : decode cL_law 550 = .ok (.iadd, 1) := dk_96 (dk_at dksL_law_17 16 rfl rfl)
theorem dL_law_551 : decode cL_law 551 = .ok (.iaload, 1) := dk_46 (dk_at dksL_law_17 17 rfl rfl)
theorem dL_law_552 : decode cL_law 552 = .ok (.invokevirtual 66, 3) := dk_182 0 66 (dk_at dksL_law_17 18 rfl rfl)
theorem dL_law_555 : decode cL_law 555 = .ok (.if_icmp .eq 637, 3) := dk_159 2 125 (dk_at dksL_law_17 21 rfl rfl)
theorem dL_law_558 : decode cL_law 558 = .ok (.iconst 0, 1) := dk_3 (dk_at dksL_law_18 0 rfl rfl)
theorem dL_law_559 : decode cL_law 559 = .ok (.ireturn, 1) := dk_172 (dk_at dksL_law_18 1 rfl rfl)
theorem dL_law_560 : decode cL_law 560 = .ok (.aload_n 1, 1) := dk_43 (dk_at dksL_law_18 2 rfl rfl)
theorem dL_law_561 : decode cL_law 561 = .ok (.aload_n 0, 1) := dk_42 (dk_at dksL_law_18 3 rfl rfl)
theorem dL_law_562 : decode cL_law 562 = .ok (.iload_n 3, 1) := dk_29 (dk_at dksL_law_18 4 rfl rfl)
theorem dL_law_563 : decode cL_law 563 = .ok (.iconst 1, 1) := dk_4 (dk_at dksL_law_18 5 rfl rfl)
theorem dL_law_564 : decode cL_law 564 = .ok (.iadd, 1) := dk_96 (dk_at dksL_law_18 6 rfl rfl)
theorem dL_law_565 : decode cL_law 565 = .ok (.iaload, 1) := dk_46 (dk_at dksL_law_18 7 rfl rfl)
theorem dL_law_566 : decode cL_law 566 = .ok (.invokevirtual 67, 3) := dk_182 0 67 (dk_at dksL_law_18 8 rfl rfl)
theorem dL_law_569 : decode cL_law 569 = .ok (.aload_n 2, 1) := dk_44 (dk_at dksL_law_18 11 rfl rfl)
theorem dL_law_570 : decode cL_law 570 = .ok (.aload_n 0, 1) := dk_42 (dk_at dksL_law_18 12 rfl rfl)
theorem dL_law_571 : decode cL_law 571 = .ok (.iload_n 3, 1) := dk_29 (dk_at dksL_law_18 13 rfl rfl)
theorem dL_law_572 : decode cL_law 572 = .ok (.iconst 1, 1) := dk_4 (dk_at dksL_law_18 14 rfl rfl)
theorem dL_law_573 : decode cL_law 573 = .ok (.iadd, 1) := dk_96 (dk_at dksL_law_18 15 rfl rfl)
theorem dL_law_574 : decode cL_law 574 = .ok (.iaload, 1) := dk_46 (dk_at dksL_law_18 16 rfl rfl)
theorem dL_law_575 : decode cL_law 575 = .ok (.invokevirtual 70, 3) := dk_182 0 70 (dk_at dksL_law_18 17 rfl rfl)
theorem dL_law_578 : decode cL_law 578 = .ok (.if_icmp .eq 614, 3) := dk_159 2 102 (dk_at dksL_law_18 20 rfl rfl)
theorem dL_law_581 : decode cL_law 581 = .ok (.iconst 0, 1) := dk_3 (dk_at dksL_law_18 23 rfl rfl)
theorem dL_law_582 : decode cL_law 582 = .ok (.ireturn, 1) := dk_172 (dk_at dksL_law_19 0 rfl rfl)
theorem dL_law_583 : decode cL_law 583 = .ok (.aload_n 1, 1) := dk_43 (dk_at dksL_law_19 1 rfl rfl)
theorem dL_law_584 : decode cL_law 584 = .ok (.aload_n 0, 1) := dk_42 (dk_at dksL_law_19 2 rfl rfl)
theorem dL_law_585 : decode cL_law 585 = .ok (.iload_n 3, 1) := dk_29 (dk_at dksL_law_19 3 rfl rfl)
theorem dL_law_586 : decode cL_law 586 = .ok (.iconst 1, 1) := dk_4 (dk_at dksL_law_19 4 rfl rfl)
theorem dL_law_587 : decode cL_law 587 = .ok (.iadd, 1) := dk_96 (dk_at dksL_law_19 5 rfl rfl)
theorem dL_law_588 : decode cL_law 588 = .ok (.iaload, 1) := dk_46 (dk_at dksL_law_19 6 rfl rfl)
theorem dL_law_589 : decode cL_law 589 = .ok (.aload_n 0, 1) := dk_42 (dk_at dksL_law_19 7 rfl rfl)
theorem dL_law_590 : decode cL_law 590 = .ok (.iload_n 3, 1) := dk_29 (dk_at dksL_law_19 8 rfl rfl)
theorem dL_law_591 : decode cL_law 591 = .ok (.iconst 2, 1) := dk_5 (dk_at dksL_law_19 9 rfl rfl)
theorem dL_law_592 : decode cL_law 592 = .ok (.iadd, 1) := dk_96 (dk_at dksL_law_19 10 rfl rfl)
theorem dL_law_593 : decode cL_law 593 = .ok (.iaload, 1) := dk_46 (dk_at dksL_law_19 11 rfl rfl)
theorem dL_law_594 : decode cL_law 594 = .ok (.invokevirtual 71, 3) := dk_182 0 71 (dk_at dksL_law_19 12 rfl rfl)
theorem dL_law_597 : decode cL_law 597 = .ok (.aload_n 2, 1) := dk_44 (dk_at dksL_law_19 15 rfl rfl)
theorem dL_law_598 : decode cL_law 598 = .ok (.aload_n 0, 1) := dk_42 (dk_at dksL_law_19 16 rfl rfl)
theorem dL_law_599 : decode cL_law 599 = .ok (.iload_n 3, 1) := dk_29 (dk_at dksL_law_19 17 rfl rfl)
theorem dL_law_600 : decode cL_law 600 = .ok (.iconst 1, 1) := dk_4 (dk_at dksL_law_19 18 rfl rfl)
theorem dL_law_601 : decode cL_law 601 = .ok (.iadd, 1) := dk_96 (dk_at dksL_law_19 19 rfl rfl)
theorem dL_law_602 : decode cL_law 602 = .ok (.iaload, 1) := dk_46 (dk_at dksL_law_19 20 rfl rfl)
theorem dL_law_603 : decode cL_law 603 = .ok (.aload_n 0, 1) := dk_42 (dk_at dksL_law_19 21 rfl rfl)
theorem dL_law_604 : decode cL_law 604 = .ok (.iload_n 3, 1) := dk_29 (dk_at dksL_law_19 22 rfl rfl)
theorem dL_law_605 : decode cL_law 605 = .ok (.iconst 2, 1) := dk_5 (dk_at dksL_law_19 23 rfl rfl)
theorem dL_law_606 : decode cL_law 606 = .ok (.iadd, 1) := dk_96 (dk_at dksL_law_20 0 rfl rfl)
theorem dL_law_607 : decode cL_law 607 = .ok (.iaload, 1) := dk_46 (dk_at dksL_law_20 1 rfl rfl)
theorem dL_law_608 : decode cL_law 608 = .ok (.invokevirtual 74, 3) := dk_182 0 74 (dk_at dksL_law_20 2 rfl rfl)
theorem dL_law_611 : decode cL_law 611 = .ok (.if_icmp .eq 581, 3) := dk_159 2 69 (dk_at dksL_law_20 5 rfl rfl)
theorem dL_law_614 : decode cL_law 614 = .ok (.iconst 0, 1) := dk_3 (dk_at dksL_law_20 8 rfl rfl)
theorem dL_law_615 : decode cL_law 615 = .ok (.ireturn, 1) := dk_172 (dk_at dksL_law_20 9 rfl rfl)
theorem dL_law_616 : decode cL_law 616 = .ok (.aload_n 1, 1) := dk_43 (dk_at dksL_law_20 10 rfl rfl)
theorem dL_law_617 : decode cL_law 617 = .ok (.aload_n 0, 1) := dk_42 (dk_at dksL_law_20 11 rfl rfl)
theorem dL_law_618 : decode cL_law 618 = .ok (.iload_n 3, 1) := dk_29 (dk_at dksL_law_20 12 rfl rfl)
theorem dL_law_619 : decode cL_law 619 = .ok (.iconst 1, 1) := dk_4 (dk_at dksL_law_20 13 rfl rfl)
theorem dL_law_620 : decode cL_law 620 = .ok (.iadd, 1) := dk_96 (dk_at dksL_law_20 14 rfl rfl)
theorem dL_law_621 : decode cL_law 621 = .ok (.iaload, 1) := dk_46 (dk_at dksL_law_20 15 rfl rfl)
theorem dL_law_622 : decode cL_law 622 = .ok (.aload_n 0, 1) := dk_42 (dk_at dksL_law_20 16 rfl rfl)
theorem dL_law_623 : decode cL_law 623 = .ok (.iload_n 3, 1) := dk_29 (dk_at dksL_law_20 17 rfl rfl)
theorem dL_law_624 : decode cL_law 624 = .ok (.iconst 2, 1) := dk_5 (dk_at dksL_law_20 18 rfl rfl)
theorem dL_law_625 : decode cL_law 625 = .ok (.iadd, 1) := dk_96 (dk_at dksL_law_20 19 rfl rfl)
theorem dL_law_626 : decode cL_law 626 = .ok (.iaload, 1) := dk_46 (dk_at dksL_law_20 20 rfl rfl)
theorem dL_law_627 : decode cL_law 627 = .ok (.invokevirtual 75, 3) := dk_182 0 75 (dk_at dksL_law_20 21 rfl rfl)
theorem dL_law_630 : decode cL_law 630 = .ok (.aload_n 2, 1) := dk_44 (dk_at dksL_law_21 0 rfl rfl)
theorem dL_law_631 : decode cL_law 631 = .ok (.aload_n 0, 1) := dk_42 (dk_at dksL_law_21 1 rfl rfl)
theorem dL_law_632 : decode cL_law 632 = .ok (.iload_n 3, 1) := dk_29 (dk_at dksL_law_21 2 rfl rfl)
theorem dL_law_633 : decode cL_law 633 = .ok (.iconst 1, 1) := dk_4 (dk_at dksL_law_21 3 rfl rfl)
theorem dL_law_634 : decode cL_law 634 = .ok (.iadd, 1) := dk_96 (dk_at dksL_law_21 4 rfl rfl)
theorem dL_law_635 : decode cL_law 635 = .ok (.iaload, 1) := dk_46 (dk_at dksL_law_21 5 rfl rfl)
theorem dL_law_636 : decode cL_law 636 = .ok (.aload_n 0, 1) := dk_42 (dk_at dksL_law_21 6 rfl rfl)
theorem dL_law_637 : decode cL_law 637 = .ok (.iload_n 3, 1) := dk_29 (dk_at dksL_law_21 7 rfl rfl)
theorem dL_law_638 : decode cL_law 638 = .ok (.iconst 2, 1) := dk_5 (dk_at dksL_law_21 8 rfl rfl)
theorem dL_law_639 : decode cL_law 639 = .ok (.iadd, 1) := dk_96 (dk_at dksL_law_21 9 rfl rfl)
theorem dL_law_640 : decode cL_law 640 = .ok (.iaload, 1) := dk_46 (dk_at dksL_law_21 10 rfl rfl)
theorem dL_law_641 : decode cL_law 641 = .ok (.invokevirtual 78, 3) := dk_182 0 78 (dk_at dksL_law_21 11 rfl rfl)
theorem dL_law_644 : decode cL_law 644 = .ok (.if_icmp .eq 548, 3) := dk_159 2 36 (dk_at dksL_law_21 14 rfl rfl)
theorem dL_law_647 : decode cL_law 647 = .ok (.iconst 0, 1) := dk_3 (dk_at dksL_law_21 17 rfl rfl)
theorem dL_law_648 : decode cL_law 648 = .ok (.ireturn, 1) := dk_172 (dk_at dksL_law_21 18 rfl rfl)
theorem dL_law_649 : decode cL_law 649 = .ok (.aload_n 1, 1) := dk_43 (dk_at dksL_law_21 19 rfl rfl)
theorem dL_law_650 : decode cL_law 650 = .ok (.aload_n 0, 1) := dk_42 (dk_at dksL_law_21 20 rfl rfl)
theorem dL_law_651 : decode cL_law 651 = .ok (.iload_n 3, 1) := dk_29 (dk_at dksL_law_21 21 rfl rfl)
theorem dL_law_652 : decode cL_law 652 = .ok (.iconst 1, 1) := dk_4 (dk_at dksL_law_21 22 rfl rfl)
theorem dL_law_653 : decode cL_law 653 = .ok (.iadd, 1) := dk_96 (dk_at dksL_law_21 23 rfl rfl)
theorem dL_law_654 : decode cL_law 654 = .ok (.iaload, 1) := dk_46 (dk_at dksL_law_22 0 rfl rfl)
theorem dL_law_655 : decode cL_law 655 = .ok (.invokevirtual 79, 3) := dk_182 0 79 (dk_at dksL_law_22 1 rfl rfl)
theorem dL_law_658 : decode cL_law 658 = .ok (.aload_n 2, 1) := dk_44 (dk_at dksL_law_22 4 rfl rfl)
theorem dL_law_659 : decode cL_law 659 = .ok (.aload_n 0, 1) := dk_42 (dk_at dksL_law_22 5 rfl rfl)
theorem dL_law_660 : decode cL_law 660 = .ok (.iload_n 3, 1) := dk_29 (dk_at dksL_law_22 6 rfl rfl)
theorem dL_law_661 : decode cL_law 661 = .ok (.iconst 1, 1) := dk_4 (dk_at dksL_law_22 7 rfl rfl)
theorem dL_law_662 : decode cL_law 662 = .ok (.iadd, 1) := dk_96 (dk_at dksL_law_22 8 rfl rfl)
theorem dL_law_663 : decode cL_law 663 = .ok (.iaload, 1) := dk_46 (dk_at dksL_law_22 9 rfl rfl)
theorem dL_law_664 : decode cL_law 664 = .ok (.invokevirtual 82, 3) := dk_182 0 82 (dk_at dksL_law_22 10 rfl rfl)
theorem dL_law_667 : decode cL_law 667 = .ok (.if_icmp .eq 525, 3) := dk_159 2 13 (dk_at dksL_law_22 13 rfl rfl)
theorem dL_law_670 : decode cL_law 670 = .ok (.iconst 0, 1) := dk_3 (dk_at dksL_law_22 16 rfl rfl)
theorem dL_law_671 : decode cL_law 671 = .ok (.ireturn, 1) := dk_172 (dk_at dksL_law_22 17 rfl rfl)
theorem dL_law_672 : decode cL_law 672 = .ok (.aload_n 1, 1) := dk_43 (dk_at dksL_law_22 18 rfl rfl)
theorem dL_law_673 : decode cL_law 673 = .ok (.aload_n 0, 1) := dk_42 (dk_at dksL_law_22 19 rfl rfl)
theorem dL_law_674 : decode cL_law 674 = .ok (.iload_n 3, 1) := dk_29 (dk_at dksL_law_22 20 rfl rfl)
theorem dL_law_675 : decode cL_law 675 = .ok (.iconst 1, 1) := dk_4 (dk_at dksL_law_22 21 rfl rfl)
theorem dL_law_676 : decode cL_law 676 = .ok (.iadd, 1) := dk_96 (dk_at dksL_law_22 22 rfl rfl)
theorem dL_law_677 : decode cL_law 677 = .ok (.iaload, 1) := dk_46 (dk_at dksL_law_22 23 rfl rfl)
theorem dL_law_678 : decode cL_law 678 = .ok (.aload_n 0, 1) := dk_42 (dk_at dksL_law_23 0 rfl rfl)
theorem dL_law_679 : decode cL_law 679 = .ok (.iload_n 3, 1) := dk_29 (dk_at dksL_law_23 1 rfl rfl)
theorem dL_law_680 : decode cL_law 680 = .ok (.iconst 2, 1) := dk_5 (dk_at dksL_law_23 2 rfl rfl)
theorem dL_law_681 : decode cL_law 681 = .ok (.iadd, 1) := dk_96 (dk_at dksL_law_23 3 rfl rfl)
theorem dL_law_682 : decode cL_law 682 = .ok (.iaload, 1) := dk_46 (dk_at dksL_law_23 4 rfl rfl)
theorem dL_law_683 : decode cL_law 683 = .ok (.invokevirtual 83, 3) := dk_182 0 83 (dk_at dksL_law_23 5 rfl rfl)
theorem dL_law_686 : decode cL_law 686 = .ok (.aload_n 2, 1) := dk_44 (dk_at dksL_law_23 8 rfl rfl)
theorem dL_law_687 : decode cL_law 687 = .ok (.aload_n 0, 1) := dk_42 (dk_at dksL_law_23 9 rfl rfl)
theorem dL_law_688 : decode cL_law 688 = .ok (.iload_n 3, 1) := dk_29 (dk_at dksL_law_23 10 rfl rfl)
theorem dL_law_689 : decode cL_law 689 = .ok (.iconst 1, 1) := dk_4 (dk_at dksL_law_23 11 rfl rfl)
theorem dL_law_690 : decode cL_law 690 = .ok (.iadd, 1) := dk_96 (dk_at dksL_law_23 12 rfl rfl)
theorem dL_law_691 : decode cL_law 691 = .ok (.iaload, 1) := dk_46 (dk_at dksL_law_23 13 rfl rfl)
theorem dL_law_692 : decode cL_law 692 = .ok (.aload_n 0, 1) := dk_42 (dk_at dksL_law_23 14 rfl rfl)
theorem dL_law_693 : decode cL_law 693 = .ok (.iload_n 3, 1) := dk_29 (dk_at dksL_law_23 15 rfl rfl)
theorem dL_law_694 : decode cL_law 694 = .ok (.iconst 2, 1) := dk_5 (dk_at dksL_law_23 16 rfl rfl)
theorem dL_law_695 : decode cL_law 695 = .ok (.iadd, 1) := dk_96 (dk_at dksL_law_23 17 rfl rfl)
theorem dL_law_696 : decode cL_law 696 = .ok (.iaload, 1) := dk_46 (dk_at dksL_law_23 18 rfl rfl)
theorem dL_law_697 : decode cL_law 697 = .ok (.invokevirtual 86, 3) := dk_182 0 86 (dk_at dksL_law_23 19 rfl rfl)
theorem dL_law_700 : decode cL_law 700 = .ok (.if_icmp .eq 492, 3) := dk_159 1 236 (dk_at dksL_law_24 0 rfl rfl)
theorem dL_law_703 : decode cL_law 703 = .ok (.iconst 0, 1) := dk_3 (dk_at dksL_law_24 3 rfl rfl)
theorem dL_law_704 : decode cL_law 704 = .ok (.ireturn, 1) := dk_172 (dk_at dksL_law_24 4 rfl rfl)
theorem dL_law_705 : decode cL_law 705 = .ok (.aload_n 1, 1) := dk_43 (dk_at dksL_law_24 5 rfl rfl)
theorem dL_law_706 : decode cL_law 706 = .ok (.aload_n 0, 1) := dk_42 (dk_at dksL_law_24 6 rfl rfl)
theorem dL_law_707 : decode cL_law 707 = .ok (.iload_n 3, 1) := dk_29 (dk_at dksL_law_24 7 rfl rfl)
theorem dL_law_708 : decode cL_law 708 = .ok (.iconst 1, 1) := dk_4 (dk_at dksL_law_24 8 rfl rfl)
theorem dL_law_709 : decode cL_law 709 = .ok (.iadd, 1) := dk_96 (dk_at dksL_law_24 9 rfl rfl)
theorem dL_law_710 : decode cL_law 710 = .ok (.iaload, 1) := dk_46 (dk_at dksL_law_24 10 rfl rfl)
theorem dL_law_711 : decode cL_law 711 = .ok (.invokevirtual 87, 3) := dk_182 0 87 (dk_at dksL_law_24 11 rfl rfl)
theorem dL_law_714 : decode cL_law 714 = .ok (.aload_n 2, 1) := dk_44 (dk_at dksL_law_24 14 rfl rfl)
theorem dL_law_715 : decode cL_law 715 = .ok (.aload_n 0, 1) := dk_42 (dk_at dksL_law_24 15 rfl rfl)
theorem dL_law_716 : decode cL_law 716 = .ok (.iload_n 3, 1) := dk_29 (dk_at dksL_law_24 16 rfl rfl)
theorem dL_law_717 : decode cL_law 717 = .ok (.iconst 1, 1) := dk_4 (dk_at dksL_law_24 17 rfl rfl)
theorem dL_law_718 : decode cL_law 718 = .ok (.iadd, 1) := dk_96 (dk_at dksL_law_24 18 rfl rfl)
theorem dL_law_719 : decode cL_law 719 = .ok (.iaload, 1) := dk_46 (dk_at dksL_law_24 19 rfl rfl)
theorem dL_law_720 : decode cL_law 720 = .ok (.invokevirtual 90, 3) := dk_182 0 90 (dk_at dksL_law_24 20 rfl rfl)
theorem dL_law_723 : decode cL_law 723 = .ok (.if_icmp .eq 469, 3) := dk_159 1 213 (dk_at dksL_law_25 0 rfl rfl)
theorem dL_law_726 : decode cL_law 726 = .ok (.iconst 0, 1) := dk_3 (dk_at dksL_law_25 3 rfl rfl)
theorem dL_law_727 : decode cL_law 727 = .ok (.ireturn, 1) := dk_172 (dk_at dksL_law_25 4 rfl rfl)
theorem dL_law_728 : decode cL_law 728 = .ok (.aload_n 1, 1) := dk_43 (dk_at dksL_law_25 5 rfl rfl)
theorem dL_law_729 : decode cL_law 729 = .ok (.aload_n 0, 1) := dk_42 (dk_at dksL_law_25 6 rfl rfl)
theorem dL_law_730 : decode cL_law 730 = .ok (.iload_n 3, 1) := dk_29 (dk_at dksL_law_25 7 rfl rfl)
theorem dL_law_731 : decode cL_law 731 = .ok (.iconst 1, 1) := dk_4 (dk_at dksL_law_25 8 rfl rfl)
theorem dL_law_732 : decode cL_law 732 = .ok (.iadd, 1) := dk_96 (dk_at dksL_law_25 9 rfl rfl)
theorem dL_law_733 : decode cL_law 733 = .ok (.iaload, 1) := dk_46 (dk_at dksL_law_25 10 rfl rfl)
theorem dL_law_734 : decode cL_law 734 = .ok (.invokevirtual 91, 3) := dk_182 0 91 (dk_at dksL_law_25 11 rfl rfl)
theorem dL_law_737 : decode cL_law 737 = .ok (.aload_n 2, 1) := dk_44 (dk_at dksL_law_25 14 rfl rfl)
theorem dL_law_738 : decode cL_law 738 = .ok (.aload_n 0, 1) := dk_42 (dk_at dksL_law_25 15 rfl rfl)
theorem dL_law_739 : decode cL_law 739 = .ok (.iload_n 3, 1) := dk_29 (dk_at dksL_law_25 16 rfl rfl)
theorem dL_law_740 : decode cL_law 740 = .ok (.iconst 1, 1) := dk_4 (dk_at dksL_law_25 17 rfl rfl)
theorem dL_law_741 : decode cL_law 741 = .ok (.iadd, 1) := dk_96 (dk_at dksL_law_25 18 rfl rfl)
theorem dL_law_742 : decode cL_law 742 = .ok (.iaload, 1) := dk_46 (dk_at dksL_law_25 19 rfl rfl)
theorem dL_law_743 : decode cL_law 743 = .ok (.invokevirtual 94, 3) := dk_182 0 94 (dk_at dksL_law_25 20 rfl rfl)
theorem dL_law_746 : decode cL_law 746 = .ok (.if_icmp .eq 446, 3) := dk_159 1 190 (dk_at dksL_law_26 0 rfl rfl)
theorem dL_law_749 : decode cL_law 749 = .ok (.iconst 0, 1) := dk_3 (dk_at dksL_law_26 3 rfl rfl)
theorem dL_law_750 : decode cL_law 750 = .ok (.ireturn, 1) := dk_172 (dk_at dksL_law_26 4 rfl rfl)
theorem dL_law_751 : decode cL_law 751 = .ok (.aload_n 1, 1) := dk_43 (dk_at dksL_law_26 5 rfl rfl)
theorem dL_law_752 : decode cL_law 752 = .ok (.aload_n 0, 1) := dk_42 (dk_at dksL_law_26 6 rfl rfl)
theorem dL_law_753 : decode cL_law 753 = .ok (.iload_n 3, 1) := dk_29 (dk_at dksL_law_26 7 rfl rfl)
theorem dL_law_754 : decode cL_law 754 = .ok (.iconst 1, 1) := dk_4 (dk_at dksL_law_26 8 rfl rfl)
theorem dL_law_755 : decode cL_law 755 = .ok (.iadd, 1) := dk_96 (dk_at dksL_law_26 9 rfl rfl)
theorem dL_law_756 : decode cL_law 756 = .ok (.iaload, 1) := dk_46 (dk_at dksL_law_26 10 rfl rfl)
theorem dL_law_757 : decode cL_law 757 = .ok (.aload_n 0, 1) := dk_42 (dk_at dksL_law_26 11 rfl rfl)
theorem dL_law_758 : decode cL_law 758 = .ok (.iload_n 3, 1) := dk_29 (dk_at dksL_law_26 12 rfl rfl)
theorem dL_law_759 : decode cL_law 759 = .ok (.iconst 2, 1) := dk_5 (dk_at dksL_law_26 13 rfl rfl)
theorem dL_law_760 : decode cL_law 760 = .ok (.iadd, 1) := dk_96 (dk_at dksL_law_26 14 rfl rfl)
theorem dL_law_761 : decode cL_law 761 = .ok (.iaload, 1) := dk_46 (dk_at dksL_law_26 15 rfl rfl)
theorem dL_law_762 : decode cL_law 762 = .ok (.invokevirtual 95, 3) := dk_182 0 95 (dk_at dksL_law_26 16 rfl rfl)
theorem dL_law_765 : decode cL_law 765 = .ok (.aload_n 2, 1) := dk_44 (dk_at dksL_law_26 19 rfl rfl)
theorem dL_law_766 : decode cL_law 766 = .ok (.aload_n 0, 1) := dk_42 (dk_at dksL_law_26 20 rfl rfl)
theorem dL_law_767 : decode cL_law 767 = .ok (.iload_n 3, 1) := dk_29 (dk_at dksL_law_26 21 rfl rfl)
theorem dL_law_768 : decode cL_law 768 = .ok (.iconst 1, 1) := dk_4 (dk_at dksL_law_26 22 rfl rfl)
theorem dL_law_769 : decode cL_law 769 = .ok (.iadd, 1) := dk_96 (dk_at dksL_law_26 23 rfl rfl)
theorem dL_law_770 : decode cL_law 770 = .ok (.iaload, 1) := dk_46 (dk_at dksL_law_27 0 rfl rfl)
theorem dL_law_771 : decode cL_law 771 = .ok (.aload_n 0, 1) := dk_42 (dk_at dksL_law_27 1 rfl rfl)
theorem dL_law_772 : decode cL_law 772 = .ok (.iload_n 3, 1) := dk_29 (dk_at dksL_law_27 2 rfl rfl)
theorem dL_law_773 : decode cL_law 773 = .ok (.iconst 2, 1) := dk_5 (dk_at dksL_law_27 3 rfl rfl)
theorem dL_law_774 : decode cL_law 774 = .ok (.iadd, 1) := dk_96 (dk_at dksL_law_27 4 rfl rfl)
theorem dL_law_775 : decode cL_law 775 = .ok (.iaload, 1) := dk_46 (dk_at dksL_law_27 5 rfl rfl)
theorem dL_law_776 : decode cL_law 776 = .ok (.invokevirtual 98, 3) := dk_182 0 98 (dk_at dksL_law_27 6 rfl rfl)
theorem dL_law_779 : decode cL_law 779 = .ok (.if_icmp .eq 413, 3) := dk_159 1 157 (dk_at dksL_law_27 9 rfl rfl)
theorem dL_law_782 : decode cL_law 782 = .ok (.iconst 0, 1) := dk_3 (dk_at dksL_law_27 12 rfl rfl)
theorem dL_law_783 : decode cL_law 783 = .ok (.ireturn, 1) := dk_172 (dk_at dksL_law_27 13 rfl rfl)
theorem dL_law_784 : decode cL_law 784 = .ok (.aload_n 1, 1) := dk_43 (dk_at dksL_law_27 14 rfl rfl)
theorem dL_law_785 : decode cL_law 785 = .ok (.aload_n 0, 1) := dk_42 (dk_at dksL_law_27 15 rfl rfl)
theorem dL_law_786 : decode cL_law 786 = .ok (.iload_n 3, 1) := dk_29 (dk_at dksL_law_27 16 rfl rfl)
theorem dL_law_787 : decode cL_law 787 = .ok (.iconst 1, 1) := dk_4 (dk_at dksL_law_27 17 rfl rfl)
theorem dL_law_788 : decode cL_law 788 = .ok (.iadd, 1) := dk_96 (dk_at dksL_law_27 18 rfl rfl)
theorem dL_law_789 : decode cL_law 789 = .ok (.iaload, 1) := dk_46 (dk_at dksL_law_27 19 rfl rfl)
theorem dL_law_790 : decode cL_law 790 = .ok (.invokevirtual 99, 3) := dk_182 0 99 (dk_at dksL_law_27 20 rfl rfl)
theorem dL_law_793 : decode cL_law 793 = .ok (.aload_n 2, 1) := dk_44 (dk_at dksL_law_27 23 rfl rfl)
theorem dL_law_794 : decode cL_law 794 = .ok (.aload_n 0, 1) := dk_42 (dk_at dksL_law_28 0 rfl rfl)
theorem dL_law_795 : decode cL_law 795 = .ok (.iload_n 3, 1) := dk_29 (dk_at dksL_law_28 1 rfl rfl)
theorem dL_law_796 : decode cL_law 796 = .ok (.iconst 1, 1) := dk_4 (dk_at dksL_law_28 2 rfl rfl)
theorem dL_law_797 : decode cL_law 797 = .ok (.iadd, 1) := dk_96 (dk_at dksL_law_28 3 rfl rfl)
theorem dL_law_798 : decode cL_law 798 = .ok (.iaload, 1) := dk_46 (dk_at dksL_law_28 4 rfl rfl)
theorem dL_law_799 : decode cL_law 799 = .ok (.invokevirtual 102, 3) := dk_182 0 102 (dk_at dksL_law_28 5 rfl rfl)
theorem dL_law_802 : decode cL_law 802 = .ok (.if_icmp .eq 390, 3) := dk_159 1 134 (dk_at dksL_law_28 8 rfl rfl)
theorem dL_law_805 : decode cL_law 805 = .ok (.iconst 0, 1) := dk_3 (dk_at dksL_law_28 11 rfl rfl)
theorem dL_law_806 : decode cL_law 806 = .ok (.ireturn, 1) := dk_172 (dk_at dksL_law_28 12 rfl rfl)
theorem dL_law_807 : decode cL_law 807 = .ok (.aload_n 1, 1) := dk_43 (dk_at dksL_law_28 13 rfl rfl)
theorem dL_law_808 : decode cL_law 808 = .ok (.invokevirtual 103, 3) := dk_182 0 103 (dk_at dksL_law_28 14 rfl rfl)
theorem dL_law_811 : decode cL_law 811 = .ok (.aload_n 2, 1) := dk_44 (dk_at dksL_law_28 17 rfl rfl)
theorem dL_law_812 : decode cL_law 812 = .ok (.invokevirtual 106, 3) := dk_182 0 106 (dk_at dksL_law_28 18 rfl rfl)
theorem dL_law_815 : decode cL_law 815 = .ok (.if_icmp .eq 377, 3) := dk_159 1 121 (dk_at dksL_law_28 21 rfl rfl)
theorem dL_law_818 : decode cL_law 818 = .ok (.iconst 0, 1) := dk_3 (dk_at dksL_law_29 0 rfl rfl)
theorem dL_law_819 : decode cL_law 819 = .ok (.ireturn, 1) := dk_172 (dk_at dksL_law_29 1 rfl rfl)
theorem dL_law_820 : decode cL_law 820 = .ok (.aload_n 1, 1) := dk_43 (dk_at dksL_law_29 2 rfl rfl)
theorem dL_law_821 : decode cL_law 821 = .ok (.aload_n 0, 1) := dk_42 (dk_at dksL_law_29 3 rfl rfl)
theorem dL_law_822 : decode cL_law 822 = .ok (.iload_n 3, 1) := dk_29 (dk_at dksL_law_29 4 rfl rfl)
theorem dL_law_823 : decode cL_law 823 = .ok (.iconst 1, 1) := dk_4 (dk_at dksL_law_29 5 rfl rfl)
theorem dL_law_824 : decode cL_law 824 = .ok (.iadd, 1) := dk_96 (dk_at dksL_law_29 6 rfl rfl)
theorem dL_law_825 : decode cL_law 825 = .ok (.iaload, 1) := dk_46 (dk_at dksL_law_29 7 rfl rfl)
theorem dL_law_826 : decode cL_law 826 = .ok (.invokevirtual 107, 3) := dk_182 0 107 (dk_at dksL_law_29 8 rfl rfl)
theorem dL_law_829 : decode cL_law 829 = .ok (.aload_n 2, 1) := dk_44 (dk_at dksL_law_29 11 rfl rfl)
theorem dL_law_830 : decode cL_law 830 = .ok (.aload_n 0, 1) := dk_42 (dk_at dksL_law_29 12 rfl rfl)
theorem dL_law_831 : decode cL_law 831 = .ok (.iload_n 3, 1) := dk_29 (dk_at dksL_law_29 13 rfl rfl)
theorem dL_law_832 : decode cL_law 832 = .ok (.iconst 1, 1) := dk_4 (dk_at dksL_law_29 14 rfl rfl)
theorem dL_law_833 : decode cL_law 833 = .ok (.iadd, 1) := dk_96 (dk_at dksL_law_29 15 rfl rfl)
theorem dL_law_834 : decode cL_law 834 = .ok (.iaload, 1) := dk_46 (dk_at dksL_law_29 16 rfl rfl)
theorem dL_law_835 : decode cL_law 835 = .ok (.invokevirtual 110, 3) := dk_182 0 110 (dk_at dksL_law_29 17 rfl rfl)
theorem dL_law_838 : decode cL_law 838 = .ok (.if_icmp .eq 354, 3) := dk_159 1 98 (dk_at dksL_law_29 20 rfl rfl)
theorem dL_law_841 : decode cL_law 841 = .ok (.iconst 0, 1) := dk_3 (dk_at dksL_law_29 23 rfl rfl)
theorem dL_law_842 : decode cL_law 842 = .ok (.ireturn, 1) := dk_172 (dk_at dksL_law_30 0 rfl rfl)
theorem dL_law_843 : decode cL_law 843 = .ok (.aload_n 1, 1) := dk_43 (dk_at dksL_law_30 1 rfl rfl)
theorem dL_law_844 : decode cL_law 844 = .ok (.aload_n 0, 1) := dk_42 (dk_at dksL_law_30 2 rfl rfl)
theorem dL_law_845 : decode cL_law 845 = .ok (.iload_n 3, 1) := dk_29 (dk_at dksL_law_30 3 rfl rfl)
theorem dL_law_846 : decode cL_law 846 = .ok (.iconst 1, 1) := dk_4 (dk_at dksL_law_30 4 rfl rfl)
theorem dL_law_847 : decode cL_law 847 = .ok (.iadd, 1) := dk_96 (dk_at dksL_law_30 5 rfl rfl)
theorem dL_law_848 : decode cL_law 848 = .ok (.iaload, 1) := dk_46 (dk_at dksL_law_30 6 rfl rfl)
theorem dL_law_849 : decode cL_law 849 = .ok (.invokevirtual 111, 3) := dk_182 0 111 (dk_at dksL_law_30 7 rfl rfl)
theorem dL_law_852 : decode cL_law 852 = .ok (.aload_n 2, 1) := dk_44 (dk_at dksL_law_30 10 rfl rfl)
theorem dL_law_853 : decode cL_law 853 = .ok (.aload_n 0, 1) := dk_42 (dk_at dksL_law_30 11 rfl rfl)
theorem dL_law_854 : decode cL_law 854 = .ok (.iload_n 3, 1) := dk_29 (dk_at dksL_law_30 12 rfl rfl)
theorem dL_law_855 : decode cL_law 855 = .ok (.iconst 1, 1) := dk_4 (dk_at dksL_law_30 13 rfl rfl)
theorem dL_law_856 : decode cL_law 856 = .ok (.iadd, 1) := dk_96 (dk_at dksL_law_30 14 rfl rfl)
theorem dL_law_857 : decode cL_law 857 = .ok (.iaload, 1) := dk_46 (dk_at dksL_law_30 15 rfl rfl)
theorem dL_law_858 : decode cL_law 858 = .ok (.invokevirtual 114, 3) := dk_182 0 114 (dk_at dksL_law_30 16 rfl rfl)
theorem dL_law_861 : decode cL_law 861 = .ok (.if_icmp .eq 331, 3) := dk_159 1 75 (dk_at dksL_law_30 19 rfl rfl)
theorem dL_law_864 : decode cL_law 864 = .ok (.iconst 0, 1) := dk_3 (dk_at dksL_law_30 22 rfl rfl)
theorem dL_law_865 : decode cL_law 865 = .ok (.ireturn, 1) := dk_172 (dk_at dksL_law_30 23 rfl rfl)
theorem dL_law_866 : decode cL_law 866 = .ok (.aload_n 1, 1) := dk_43 (dk_at dksL_law_31 0 rfl rfl)
theorem dL_law_867 : decode cL_law 867 = .ok (.aload_n 0, 1) := dk_42 (dk_at dksL_law_31 1 rfl rfl)
theorem dL_law_868 : decode cL_law 868 = .ok (.iload_n 3, 1) := dk_29 (dk_at dksL_law_31 2 rfl rfl)
theorem dL_law_869 : decode cL_law 869 = .ok (.iconst 1, 1) := dk_4 (dk_at dksL_law_31 3 rfl rfl)
theorem dL_law_870 : decode cL_law 870 = .ok (.iadd, 1) := dk_96 (dk_at dksL_law_31 4 rfl rfl)
theorem dL_law_871 : decode cL_law 871 = .ok (.iaload, 1) := dk_46 (dk_at dksL_law_31 5 rfl rfl)
theorem dL_law_872 : decode cL_law 872 = .ok (.aload_n 0, 1) := dk_42 (dk_at dksL_law_31 6 rfl rfl)
theorem dL_law_873 : decode cL_law 873 = .ok (.iload_n 3, 1) := dk_29 (dk_at dksL_law_31 7 rfl rfl)
theorem dL_law_874 : decode cL_law 874 = .ok (.iconst 2, 1) := dk_5 (dk_at dksL_law_31 8 rfl rfl)
theorem dL_law_875 : decode cL_law 875 = .ok (.iadd, 1) := dk_96 (dk_at dksL_law_31 9 rfl rfl)
theorem dL_law_876 : decode cL_law 876 = .ok (.iaload, 1) := dk_46 (dk_at dksL_law_31 10 rfl rfl)
theorem dL_law_877 : decode cL_law 877 = .ok (.aload_n 0, 1) := dk_42 (dk_at dksL_law_31 11 rfl rfl)
theorem dL_law_878 : decode cL_law 878 = .ok (.iload_n 3, 1) := dk_29 (dk_at dksL_law_31 12 rfl rfl)
theorem dL_law_879 : decode cL_law 879 = .ok (.iconst 3, 1) := dk_6 (dk_at dksL_law_31 13 rfl rfl)
theorem dL_law_880 : decode cL_law 880 = .ok (.iadd, 1) := dk_96 (dk_at dksL_law_31 14 rfl rfl)
theorem dL_law_881 : decode cL_law 881 = .ok (.iaload, 1) := dk_46 (dk_at dksL_law_31 15 rfl rfl)
theorem dL_law_882 : decode cL_law 882 = .ok (.invokevirtual 115, 3) := dk_182 0 115 (dk_at dksL_law_31 16 rfl rfl)
theorem dL_law_885 : decode cL_law 885 = .ok (.aload_n 2, 1) := dk_44 (dk_at dksL_law_31 19 rfl rfl)
theorem dL_law_886 : decode cL_law 886 = .ok (.aload_n 0, 1) := dk_42 (dk_at dksL_law_31 20 rfl rfl)
theorem dL_law_887 : decode cL_law 887 = .ok (.iload_n 3, 1) := dk_29 (dk_at dksL_law_31 21 rfl rfl)
theorem dL_law_888 : decode cL_law 888 = .ok (.iconst 1, 1) := dk_4 (dk_at dksL_law_31 22 rfl rfl)
theorem dL_law_889 : decode cL_law 889 = .ok (.iadd, 1) := dk_96 (dk_at dksL_law_31 23 rfl rfl)
theorem dL_law_890 : decode cL_law 890 = .ok (.iaload, 1) := dk_46 (dk_at dksL_law_32 0 rfl rfl)
theorem dL_law_891 : decode cL_law 891 = .ok (.aload_n 0, 1) := dk_42 (dk_at dksL_law_32 1 rfl rfl)
theorem dL_law_892 : decode cL_law 892 = .ok (.iload_n 3, 1) := dk_29 (dk_at dksL_law_32 2 rfl rfl)
theorem dL_law_893 : decode cL_law 893 = .ok (.iconst 2, 1) := dk_5 (dk_at dksL_law_32 3 rfl rfl)
theorem dL_law_894 : decode cL_law 894 = .ok (.iadd, 1) := dk_96 (dk_at dksL_law_32 4 rfl rfl)
theorem dL_law_895 : decode cL_law 895 = .ok (.iaload, 1) := dk_46 (dk_at dksL_law_32 5 rfl rfl)
theorem dL_law_896 : decode cL_law 896 = .ok (.aload_n 0, 1) := dk_42 (dk_at dksL_law_32 6 rfl rfl)
theorem dL_law_897 : decode cL_law 897 = .ok (.iload_n 3, 1) := dk_29 (dk_at dksL_law_32 7 rfl rfl)
theorem dL_law_898 : decode cL_law 898 = .ok (.iconst 3, 1) := dk_6 (dk_at dksL_law_32 8 rfl rfl)
theorem dL_law_899 : decode cL_law 899 = .ok (.iadd, 1) := dk_96 (dk_at dksL_law_32 9 rfl rfl)
theorem dL_law_900 : decode cL_law 900 = .ok (.iaload, 1) := dk_46 (dk_at dksL_law_32 10 rfl rfl)
theorem dL_law_901 : decode cL_law 901 = .ok (.invokevirtual 118, 3) := dk_182 0 118 (dk_at dksL_law_32 11 rfl rfl)
theorem dL_law_904 : decode cL_law 904 = .ok (.if_icmp .eq 288, 3) := dk_159 1 32 (dk_at dksL_law_32 14 rfl rfl)
theorem dL_law_907 : decode cL_law 907 = .ok (.iconst 0, 1) := dk_3 (dk_at dksL_law_32 17 rfl rfl)
theorem dL_law_908 : decode cL_law 908 = .ok (.ireturn, 1) := dk_172 (dk_at dksL_law_32 18 rfl rfl)
theorem dL_law_909 : decode cL_law 909 = .ok (.aload_n 1, 1) := dk_43 (dk_at dksL_law_32 19 rfl rfl)
theorem dL_law_910 : decode cL_law 910 = .ok (.aload_n 0, 1) := dk_42 (dk_at dksL_law_32 20 rfl rfl)
theorem dL_law_911 : decode cL_law 911 = .ok (.iload_n 3, 1) := dk_29 (dk_at dksL_law_32 21 rfl rfl)
theorem dL_law_912 : decode cL_law 912 = .ok (.iconst 1, 1) := dk_4 (dk_at dksL_law_32 22 rfl rfl)
theorem dL_law_913 : decode cL_law 913 = .ok (.iadd, 1) := dk_96 (dk_at dksL_law_32 23 rfl rfl)
theorem dL_law_914 : decode cL_law 914 = .ok (.iaload, 1) := dk_46 (dk_at dksL_law_33 0 rfl rfl)
theorem dL_law_915 : decode cL_law 915 = .ok (.aload_n 0, 1) := dk_42 (dk_at dksL_law_33 1 rfl rfl)
theorem dL_law_916 : decode cL_law 916 = .ok (.iload_n 3, 1) := dk_29 (dk_at dksL_law_33 2 rfl rfl)
theorem dL_law_917 : decode cL_law 917 = .ok (.iconst 2, 1) := dk_5 (dk_at dksL_law_33 3 rfl rfl)
theorem dL_law_918 : decode cL_law 918 = .ok (.iadd, 1) := dk_96 (dk_at dksL_law_33 4 rfl rfl)
theorem dL_law_919 : decode cL_law 919 = .ok (.iaload, 1) := dk_46 (dk_at dksL_law_33 5 rfl rfl)
theorem dL_law_920 : decode cL_law 920 = .ok (.invokevirtual 119, 3) := dk_182 0 119 (dk_at dksL_law_33 6 rfl rfl)
theorem dL_law_923 : decode cL_law 923 = .ok (.aload_n 2, 1) := dk_44 (dk_at dksL_law_33 9 rfl rfl)
theorem dL_law_924 : decode cL_law 924 = .ok (.aload_n 0, 1) := dk_42 (dk_at dksL_law_33 10 rfl rfl)
theorem dL_law_925 : decode cL_law 925 = .ok (.iload_n 3, 1) := dk_29 (dk_at dksL_law_33 11 rfl rfl)
theorem dL_law_926 : decode cL_law 926 = .ok (.iconst 1, 1) := dk_4 (dk_at dksL_law_33 12 rfl rfl)
theorem dL_law_927 : decode cL_law 927 = .ok (.iadd, 1) := dk_96 (dk_at dksL_law_33 13 rfl rfl)
theorem dL_law_928 : decode cL_law 928 = .ok (.iaload, 1) := dk_46 (dk_at dksL_law_33 14 rfl rfl)
theorem dL_law_929 : decode cL_law 929 = .ok (.aload_n 0, 1) := dk_42 (dk_at dksL_law_33 15 rfl rfl)
theorem dL_law_930 : decode cL_law 930 = .ok (.iload_n 3, 1) := dk_29 (dk_at dksL_law_33 16 rfl rfl)
theorem dL_law_931 : decode cL_law 931 = .ok (.iconst 2, 1) := dk_5 (dk_at dksL_law_33 17 rfl rfl)
theorem dL_law_932 : decode cL_law 932 = .ok (.iadd, 1) := dk_96 (dk_at dksL_law_33 18 rfl rfl)
theorem dL_law_933 : decode cL_law 933 = .ok (.iaload, 1) := dk_46 (dk_at dksL_law_33 19 rfl rfl)
theorem dL_law_934 : decode cL_law 934 = .ok (.invokevirtual 123, 3) := dk_182 0 123 (dk_at dksL_law_33 20 rfl rfl)
theorem dL_law_937 : decode cL_law 937 = .ok (.if_icmp .eq 255, 3) := dk_159 0 255 (dk_at dksL_law_34 0 rfl rfl)
theorem dL_law_940 : decode cL_law 940 = .ok (.iconst 0, 1) := dk_3 (dk_at dksL_law_34 3 rfl rfl)
theorem dL_law_941 : decode cL_law 941 = .ok (.ireturn, 1) := dk_172 (dk_at dksL_law_34 4 rfl rfl)
theorem dL_law_942 : decode cL_law 942 = .ok (.aload_n 1, 1) := dk_43 (dk_at dksL_law_34 5 rfl rfl)
theorem dL_law_943 : decode cL_law 943 = .ok (.aload_n 0, 1) := dk_42 (dk_at dksL_law_34 6 rfl rfl)
theorem dL_law_944 : decode cL_law 944 = .ok (.iload_n 3, 1) := dk_29 (dk_at dksL_law_34 7 rfl rfl)
theorem dL_law_945 : decode cL_law 945 = .ok (.iconst 1, 1) := dk_4 (dk_at dksL_law_34 8 rfl rfl)
theorem dL_law_946 : decode cL_law 946 = .ok (.iadd, 1) := dk_96 (dk_at dksL_law_34 9 rfl rfl)
theorem dL_law_947 : decode cL_law 947 = .ok (.iaload, 1) := dk_46 (dk_at dksL_law_34 10 rfl rfl)
theorem dL_law_948 : decode cL_law 948 = .ok (.invokevirtual 124, 3) := dk_182 0 124 (dk_at dksL_law_34 11 rfl rfl)
theorem dL_law_951 : decode cL_law 951 = .ok (.aload_n 2, 1) := dk_44 (dk_at dksL_law_34 14 rfl rfl)
theorem dL_law_952 : decode cL_law 952 = .ok (.aload_n 0, 1) := dk_42 (dk_at dksL_law_34 15 rfl rfl)
theorem dL_law_953 : decode cL_law 953 = .ok (.iload_n 3, 1) := dk_29 (dk_at dksL_law_34 16 rfl rfl)
theorem dL_law_954 : decode cL_law 954 = .ok (.iconst 1, 1) := dk_4 (dk_at dksL_law_34 17 rfl rfl)
theorem dL_law_955 : decode cL_law 955 = .ok (.iadd, 1) := dk_96 (dk_at dksL_law_34 18 rfl rfl)
theorem dL_law_956 : decode cL_law 956 = .ok (.iaload, 1) := dk_46 (dk_at dksL_law_34 19 rfl rfl)
theorem dL_law_957 : decode cL_law 957 = .ok (.invokevirtual 127, 3) := dk_182 0 127 (dk_at dksL_law_34 20 rfl rfl)
theorem dL_law_960 : decode cL_law 960 = .ok (.if_icmp .eq 232, 3) := dk_159 0 232 (dk_at dksL_law_35 0 rfl rfl)
theorem dL_law_963 : decode cL_law 963 = .ok (.iconst 0, 1) := dk_3 (dk_at dksL_law_35 3 rfl rfl)
theorem dL_law_964 : decode cL_law 964 = .ok (.ireturn, 1) := dk_172 (dk_at dksL_law_35 4 rfl rfl)
theorem dL_law_965 : decode cL_law 965 = .ok (.aload_n 1, 1) := dk_43 (dk_at dksL_law_35 5 rfl rfl)
theorem dL_law_966 : decode cL_law 966 = .ok (.aload_n 0, 1) := dk_42 (dk_at dksL_law_35 6 rfl rfl)
theorem dL_law_967 : decode cL_law 967 = .ok (.iload_n 3, 1) := dk_29 (dk_at dksL_law_35 7 rfl rfl)
theorem dL_law_968 : decode cL_law 968 = .ok (.iconst 1, 1) := dk_4 (dk_at dksL_law_35 8 rfl rfl)
theorem dL_law_969 : decode cL_law 969 = .ok (.iadd, 1) := dk_96 (dk_at dksL_law_35 9 rfl rfl)
theorem dL_law_970 : decode cL_law 970 = .ok (.iaload, 1) := dk_46 (dk_at dksL_law_35 10 rfl rfl)
theorem dL_law_971 : decode cL_law 971 = .ok (.invokevirtual 128, 3) := dk_182 0 128 (dk_at dksL_law_35 11 rfl rfl)
theorem dL_law_974 : decode cL_law 974 = .ok (.aload_n 2, 1) := dk_44 (dk_at dksL_law_35 14 rfl rfl)
theorem dL_law_975 : decode cL_law 975 = .ok (.aload_n 0, 1) := dk_42 (dk_at dksL_law_35 15 rfl rfl)
theorem dL_law_976 : decode cL_law 976 = .ok (.iload_n 3, 1) := dk_29 (dk_at dksL_law_35 16 rfl rfl)
theorem dL_law_977 : decode cL_law 977 = .ok (.iconst 1, 1) := dk_4 (dk_at dksL_law_35 17 rfl rfl)
theorem dL_law_978 : decode cL_law 978 = .ok (.iadd, 1) := dk_96 (dk_at dksL_law_35 18 rfl rfl)
theorem dL_law_979 : decode cL_law 979 = .ok (.iaload, 1) := dk_46 (dk_at dksL_law_35 19 rfl rfl)
theorem dL_law_980 : decode cL_law 980 = .ok (.invokevirtual 131, 3) := dk_182 0 131 (dk_at dksL_law_35 20 rfl rfl)
theorem dL_law_983 : decode cL_law 983 = .ok (.if_icmp .eq 209, 3) := dk_159 0 209 (dk_at dksL_law_36 0 rfl rfl)
theorem dL_law_986 : decode cL_law 986 = .ok (.iconst 0, 1) := dk_3 (dk_at dksL_law_36 3 rfl rfl)
theorem dL_law_987 : decode cL_law 987 = .ok (.ireturn, 1) := dk_172 (dk_at dksL_law_36 4 rfl rfl)
theorem dL_law_988 : decode cL_law 988 = .ok (.aload_n 1, 1) := dk_43 (dk_at dksL_law_36 5 rfl rfl)
theorem dL_law_989 : decode cL_law 989 = .ok (.invokevirtual 132, 3) := dk_182 0 132 (dk_at dksL_law_36 6 rfl rfl)
theorem dL_law_992 : decode cL_law 992 = .ok (.aload_n 2, 1) := dk_44 (dk_at dksL_law_36 9 rfl rfl)
theorem dL_law_993 : decode cL_law 993 = .ok (.invokevirtual 135, 3) := dk_182 0 135 (dk_at dksL_law_36 10 rfl rfl)
theorem dL_law_996 : decode cL_law 996 = .ok (.if_icmp .eq 196, 3) := dk_159 0 196 (dk_at dksL_law_36 13 rfl rfl)
theorem dL_law_999 : decode cL_law 999 = .ok (.iconst 0, 1) := dk_3 (dk_at dksL_law_36 16 rfl rfl)
theorem dL_law_1000 : decode cL_law 1000 = .ok (.ireturn, 1) := dk_172 (dk_at dksL_law_36 17 rfl rfl)
theorem dL_law_1001 : decode cL_law 1001 = .ok (.aload_n 1, 1) := dk_43 (dk_at dksL_law_36 18 rfl rfl)
theorem dL_law_1002 : decode cL_law 1002 = .ok (.aload_n 0, 1) := dk_42 (dk_at dksL_law_36 19 rfl rfl)
theorem dL_law_1003 : decode cL_law 1003 = .ok (.iload_n 3, 1) := dk_29 (dk_at dksL_law_36 20 rfl rfl)
theorem dL_law_1004 : decode cL_law 1004 = .ok (.iconst 1, 1) := dk_4 (dk_at dksL_law_36 21 rfl rfl)
theorem dL_law_1005 : decode cL_law 1005 = .ok (.iadd, 1) := dk_96 (dk_at dksL_law_36 22 rfl rfl)
theorem dL_law_1006 : decode cL_law 1006 = .ok (.iaload, 1) := dk_46 (dk_at dksL_law_36 23 rfl rfl)
theorem dL_law_1007 : decode cL_law 1007 = .ok (.invokevirtual 136, 3) := dk_182 0 136 (dk_at dksL_law_37 0 rfl rfl)
theorem dL_law_1010 : decode cL_law 1010 = .ok (.aload_n 2, 1) := dk_44 (dk_at dksL_law_37 3 rfl rfl)
theorem dL_law_1011 : decode cL_law 1011 = .ok (.aload_n 0, 1) := dk_42 (dk_at dksL_law_37 4 rfl rfl)
theorem dL_law_1012 : decode cL_law 1012 = .ok (.iload_n 3, 1) := dk_29 (dk_at dksL_law_37 5 rfl rfl)
theorem dL_law_1013 : decode cL_law 1013 = .ok (.iconst 1, 1) := dk_4 (dk_at dksL_law_37 6 rfl rfl)
theorem dL_law_1014 : decode cL_law 1014 = .ok (.iadd, 1) := dk_96 (dk_at dksL_law_37 7 rfl rfl)
theorem dL_law_1015 : decode cL_law 1015 = .ok (.iaload, 1) := dk_46 (dk_at dksL_law_37 8 rfl rfl)
theorem dL_law_1016 : decode cL_law 1016 = .ok (.invokevirtual 139, 3) := dk_182 0 139 (dk_at dksL_law_37 9 rfl rfl)
theorem dL_law_1019 : decode cL_law 1019 = .ok (.if_icmp .eq 173, 3) := dk_159 0 173 (dk_at dksL_law_37 12 rfl rfl)
theorem dL_law_1022 : decode cL_law 1022 = .ok (.iconst 0, 1) := dk_3 (dk_at dksL_law_37 15 rfl rfl)
theorem dL_law_1023 : decode cL_law 1023 = .ok (.ireturn, 1) := dk_172 (dk_at dksL_law_37 16 rfl rfl)
theorem dL_law_1024 : decode cL_law 1024 = .ok (.aload_n 1, 1) := dk_43 (dk_at dksL_law_37 17 rfl rfl)
theorem dL_law_1025 : decode cL_law 1025 = .ok (.invokevirtual 140, 3) := dk_182 0 140 (dk_at dksL_law_37 18 rfl rfl)
theorem dL_law_1028 : decode cL_law 1028 = .ok (.aload_n 2, 1) := dk_44 (dk_at dksL_law_37 21 rfl rfl)
theorem dL_law_1029 : decode cL_law 1029 = .ok (.invokevirtual 143, 3) := dk_182 0 143 (dk_at dksL_law_38 0 rfl rfl)
theorem dL_law_1032 : decode cL_law 1032 = .ok (.if_icmp .eq 160, 3) := dk_159 0 160 (dk_at dksL_law_38 3 rfl rfl)
theorem dL_law_1035 : decode cL_law 1035 = .ok (.iconst 0, 1) := dk_3 (dk_at dksL_law_38 6 rfl rfl)
theorem dL_law_1036 : decode cL_law 1036 = .ok (.ireturn, 1) := dk_172 (dk_at dksL_law_38 7 rfl rfl)
theorem dL_law_1037 : decode cL_law 1037 = .ok (.aload_n 1, 1) := dk_43 (dk_at dksL_law_38 8 rfl rfl)
theorem dL_law_1038 : decode cL_law 1038 = .ok (.aload_n 0, 1) := dk_42 (dk_at dksL_law_38 9 rfl rfl)
theorem dL_law_1039 : decode cL_law 1039 = .ok (.iload_n 3, 1) := dk_29 (dk_at dksL_law_38 10 rfl rfl)
theorem dL_law_1040 : decode cL_law 1040 = .ok (.iconst 1, 1) := dk_4 (dk_at dksL_law_38 11 rfl rfl)
theorem dL_law_1041 : decode cL_law 1041 = .ok (.iadd, 1) := dk_96 (dk_at dksL_law_38 12 rfl rfl)
theorem dL_law_1042 : decode cL_law 1042 = .ok (.iaload, 1) := dk_46 (dk_at dksL_law_38 13 rfl rfl)
theorem dL_law_1043 : decode cL_law 1043 = .ok (.aload_n 0, 1) := dk_42 (dk_at dksL_law_38 14 rfl rfl)
theorem dL_law_1044 : decode cL_law 1044 = .ok (.iload_n 3, 1) := dk_29 (dk_at dksL_law_38 15 rfl rfl)
theorem dL_law_1045 : decode cL_law 1045 = .ok (.iconst 2, 1) := dk_5 (dk_at dksL_law_38 16 rfl rfl)
theorem dL_law_1046 : decode cL_law 1046 = .ok (.iadd, 1) := dk_96 (dk_at dksL_law_38 17 rfl rfl)
theorem dL_law_1047 : decode cL_law 1047 = .ok (.iaload, 1) := dk_46 (dk_at dksL_law_38 18 rfl rfl)
theorem dL_law_1048 : decode cL_law 1048 = .ok (.invokevirtual 144, 3) := dk_182 0 144 (dk_at dksL_law_38 19 rfl rfl)
theorem dL_law_1051 : decode cL_law 1051 = .ok (.aload_n 2, 1) := dk_44 (dk_at dksL_law_38 22 rfl rfl)
theorem dL_law_1052 : decode cL_law 1052 = .ok (.aload_n 0, 1) := dk_42 (dk_at dksL_law_38 23 rfl rfl)
theorem dL_law_1053 : decode cL_law 1053 = .ok (.iload_n 3, 1) := dk_29 (dk_at dksL_law_39 0 rfl rfl)
theorem dL_law_1054 : decode cL_law 1054 = .ok (.iconst 1, 1) := dk_4 (dk_at dksL_law_39 1 rfl rfl)
theorem dL_law_1055 : decode cL_law 1055 = .ok (.iadd, 1) := dk_96 (dk_at dksL_law_39 2 rfl rfl)
theorem dL_law_1056 : decode cL_law 1056 = .ok (.iaload, 1) := dk_46 (dk_at dksL_law_39 3 rfl rfl)
theorem dL_law_1057 : decode cL_law 1057 = .ok (.aload_n 0, 1) := dk_42 (dk_at dksL_law_39 4 rfl rfl)
theorem dL_law_1058 : decode cL_law 1058 = .ok (.iload_n 3, 1) := dk_29 (dk_at dksL_law_39 5 rfl rfl)
theorem dL_law_1059 : decode cL_law 1059 = .ok (.iconst 2, 1) := dk_5 (dk_at dksL_law_39 6 rfl rfl)
theorem dL_law_1060 : decode cL_law 1060 = .ok (.iadd, 1) := dk_96 (dk_at dksL_law_39 7 rfl rfl)
theorem dL_law_1061 : decode cL_law 1061 = .ok (.iaload, 1) := dk_46 (dk_at dksL_law_39 8 rfl rfl)
theorem dL_law_1062 : decode cL_law 1062 = .ok (.invokevirtual 147, 3) := dk_182 0 147 (dk_at dksL_law_39 9 rfl rfl)
theorem dL_law_1065 : decode cL_law 1065 = .ok (.if_icmp .eq 127, 3) := dk_159 0 127 (dk_at dksL_law_39 12 rfl rfl)
theorem dL_law_1068 : decode cL_law 1068 = .ok (.iconst 0, 1) := dk_3 (dk_at dksL_law_39 15 rfl rfl)
theorem dL_law_1069 : decode cL_law 1069 = .ok (.ireturn, 1) := dk_172 (dk_at dksL_law_39 16 rfl rfl)
theorem dL_law_1070 : decode cL_law 1070 = .ok (.aload_n 1, 1) := dk_43 (dk_at dksL_law_39 17 rfl rfl)
theorem dL_law_1071 : decode cL_law 1071 = .ok (.invokevirtual 148, 3) := dk_182 0 148 (dk_at dksL_law_39 18 rfl rfl)
theorem dL_law_1074 : decode cL_law 1074 = .ok (.aload_n 2, 1) := dk_44 (dk_at dksL_law_39 21 rfl rfl)
theorem dL_law_1075 : decode cL_law 1075 = .ok (.invokevirtual 152, 3) := dk_182 0 152 (dk_at dksL_law_40 0 rfl rfl)
theorem dL_law_1078 : decode cL_law 1078 = .ok (.if_icmp .eq 114, 3) := dk_159 0 114 (dk_at dksL_law_40 3 rfl rfl)
theorem dL_law_1081 : decode cL_law 1081 = .ok (.iconst 0, 1) := dk_3 (dk_at dksL_law_40 6 rfl rfl)
theorem dL_law_1082 : decode cL_law 1082 = .ok (.ireturn, 1) := dk_172 (dk_at dksL_law_40 7 rfl rfl)
theorem dL_law_1083 : decode cL_law 1083 = .ok (.aload_n 1, 1) := dk_43 (dk_at dksL_law_40 8 rfl rfl)
theorem dL_law_1084 : decode cL_law 1084 = .ok (.aload_n 0, 1) := dk_42 (dk_at dksL_law_40 9 rfl rfl)
theorem dL_law_1085 : decode cL_law 1085 = .ok (.iload_n 3, 1) := dk_29 (dk_at dksL_law_40 10 rfl rfl)
theorem dL_law_1086 : decode cL_law 1086 = .ok (.iconst 1, 1) := dk_4 (dk_at dksL_law_40 11 rfl rfl)
theorem dL_law_1087 : decode cL_law 1087 = .ok (.iadd, 1) := dk_96 (dk_at dksL_law_40 12 rfl rfl)
theorem dL_law_1088 : decode cL_law 1088 = .ok (.iaload, 1) := dk_46 (dk_at dksL_law_40 13 rfl rfl)
theorem dL_law_1089 : decode cL_law 1089 = .ok (.invokevirtual 153, 3) := dk_182 0 153 (dk_at dksL_law_40 14 rfl rfl)
theorem dL_law_1092 : decode cL_law 1092 = .ok (.aload_n 2, 1) := dk_44 (dk_at dksL_law_40 17 rfl rfl)
theorem dL_law_1093 : decode cL_law 1093 = .ok (.aload_n 0, 1) := dk_42 (dk_at dksL_law_40 18 rfl rfl)
theorem dL_law_1094 : decode cL_law 1094 = .ok (.iload_n 3, 1) := dk_29 (dk_at dksL_law_40 19 rfl rfl)
theorem dL_law_1095 : decode cL_law 1095 = .ok (.iconst 1, 1) := dk_4 (dk_at dksL_law_40 20 rfl rfl)
theorem dL_law_1096 : decode cL_law 1096 = .ok (.iadd, 1) := dk_96 (dk_at dksL_law_40 21 rfl rfl)
theorem dL_law_1097 : decode cL_law 1097 = .ok (.iaload, 1) := dk_46 (dk_at dksL_law_40 22 rfl rfl)
theorem dL_law_1098 : decode cL_law 1098 = .ok (.invokevirtual 156, 3) := dk_182 0 156 (dk_at dksL_law_41 0 rfl rfl)
theorem dL_law_1101 : decode cL_law 1101 = .ok (.if_icmp .eq 91, 3) := dk_159 0 91 (dk_at dksL_law_41 3 rfl rfl)
theorem dL_law_1104 : decode cL_law 1104 = .ok (.iconst 0, 1) := dk_3 (dk_at dksL_law_41 6 rfl rfl)
theorem dL_law_1105 : decode cL_law 1105 = .ok (.ireturn, 1) := dk_172 (dk_at dksL_law_41 7 rfl rfl)
theorem dL_law_1106 : decode cL_law 1106 = .ok (.aload_n 1, 1) := dk_43 (dk_at dksL_law_41 8 rfl rfl)
theorem dL_law_1107 : decode cL_law 1107 = .ok (.invokevirtual 157, 3) := dk_182 0 157 (dk_at dksL_law_41 9 rfl rfl)
theorem dL_law_1110 : decode cL_law 1110 = .ok (.aload_n 2, 1) := dk_44 (dk_at dksL_law_41 12 rfl rfl)
theorem dL_law_1111 : decode cL_law 1111 = .ok (.invokevirtual 161, 3) := dk_182 0 161 (dk_at dksL_law_41 13 rfl rfl)
theorem dL_law_1114 : decode cL_law 1114 = .ok (.lcmp, 1) := dk_148 (dk_at dksL_law_41 16 rfl rfl)
theorem dL_law_1115 : decode cL_law 1115 = .ok (.ifCond .eq 77, 3) := dk_153 0 77 (dk_at dksL_law_41 17 rfl rfl)
theorem dL_law_1118 : decode cL_law 1118 = .ok (.iconst 0, 1) := dk_3 (dk_at dksL_law_41 20 rfl rfl)
theorem dL_law_1119 : decode cL_law 1119 = .ok (.ireturn, 1) := dk_172 (dk_at dksL_law_41 21 rfl rfl)
theorem dL_law_1120 : decode cL_law 1120 = .ok (.aload_n 1, 1) := dk_43 (dk_at dksL_law_41 22 rfl rfl)
theorem dL_law_1121 : decode cL_law 1121 = .ok (.invokevirtual 162, 3) := dk_182 0 162 (dk_at dksL_law_42 0 rfl rfl)
theorem dL_law_1124 : decode cL_law 1124 = .ok (.aload_n 2, 1) := dk_44 (dk_at dksL_law_42 3 rfl rfl)
theorem dL_law_1125 : decode cL_law 1125 = .ok (.invokevirtual 165, 3) := dk_182 0 165 (dk_at dksL_law_42 4 rfl rfl)
theorem dL_law_1128 : decode cL_law 1128 = .ok (.if_icmp .eq 64, 3) := dk_159 0 64 (dk_at dksL_law_42 7 rfl rfl)
theorem dL_law_1131 : decode cL_law 1131 = .ok (.iconst 0, 1) := dk_3 (dk_at dksL_law_42 10 rfl rfl)
theorem dL_law_1132 : decode cL_law 1132 = .ok (.ireturn, 1) := dk_172 (dk_at dksL_law_42 11 rfl rfl)
theorem dL_law_1133 : decode cL_law 1133 = .ok (.aload_n 1, 1) := dk_43 (dk_at dksL_law_42 12 rfl rfl)
theorem dL_law_1134 : decode cL_law 1134 = .ok (.aload_n 0, 1) := dk_42 (dk_at dksL_law_42 13 rfl rfl)
theorem dL_law_1135 : decode cL_law 1135 = .ok (.iload_n 3, 1) := dk_29 (dk_at dksL_law_42 14 rfl rfl)
theorem dL_law_1136 : decode cL_law 1136 = .ok (.iconst 1, 1) := dk_4 (dk_at dksL_law_42 15 rfl rfl)
theorem dL_law_1137 : decode cL_law 1137 = .ok (.iadd, 1) := dk_96 (dk_at dksL_law_42 16 rfl rfl)
theorem dL_law_1138 : decode cL_law 1138 = .ok (.iaload, 1) := dk_46 (dk_at dksL_law_42 17 rfl rfl)
theorem dL_law_1139 : decode cL_law 1139 = .ok (.invokevirtual 166, 3) := dk_182 0 166 (dk_at dksL_law_42 18 rfl rfl)
theorem dL_law_1142 : decode cL_law 1142 = .ok (.aload_n 2, 1) := dk_44 (dk_at dksL_law_42 21 rfl rfl)
theorem dL_law_1143 : decode cL_law 1143 = .ok (.aload_n 0, 1) := dk_42 (dk_at dksL_law_42 22 rfl rfl)
theorem dL_law_1144 : decode cL_law 1144 = .ok (.iload_n 3, 1) := dk_29 (dk_at dksL_law_42 23 rfl rfl)
theorem dL_law_1145 : decode cL_law 1145 = .ok (.iconst 1, 1) := dk_4 (dk_at dksL_law_43 0 rfl rfl)
theorem dL_law_1146 : decode cL_law 1146 = .ok (.iadd, 1) := dk_96 (dk_at dksL_law_43 1 rfl rfl)
theorem dL_law_1147 : decode cL_law 1147 = .ok (.iaload, 1) := dk_46 (dk_at dksL_law_43 2 rfl rfl)
theorem dL_law_1148 : decode cL_law 1148 = .ok (.invokevirtual 169, 3) := dk_182 0 169 (dk_at dksL_law_43 3 rfl rfl)
theorem dL_law_1151 : decode cL_law 1151 = .ok (.if_icmp .eq 41, 3) := dk_159 0 41 (dk_at dksL_law_43 6 rfl rfl)
theorem dL_law_1154 : decode cL_law 1154 = .ok (.iconst 0, 1) := dk_3 (dk_at dksL_law_43 9 rfl rfl)
theorem dL_law_1155 : decode cL_law 1155 = .ok (.ireturn, 1) := dk_172 (dk_at dksL_law_43 10 rfl rfl)
theorem dL_law_1156 : decode cL_law 1156 = .ok (.aload_n 1, 1) := dk_43 (dk_at dksL_law_43 11 rfl rfl)
theorem dL_law_1157 : decode cL_law 1157 = .ok (.invokevirtual 170, 3) := dk_182 0 170 (dk_at dksL_law_43 12 rfl rfl)
theorem dL_law_1160 : decode cL_law 1160 = .ok (.aload_n 2, 1) := dk_44 (dk_at dksL_law_43 15 rfl rfl)
theorem dL_law_1161 : decode cL_law 1161 = .ok (.invokevirtual 173, 3) := dk_182 0 173 (dk_at dksL_law_43 16 rfl rfl)
theorem dL_law_1164 : decode cL_law 1164 = .ok (.if_icmp .eq 28, 3) := dk_159 0 28 (dk_at dksL_law_43 19 rfl rfl)
theorem dL_law_1167 : decode cL_law 1167 = .ok (.iconst 0, 1) := dk_3 (dk_at dksL_law_43 22 rfl rfl)
theorem dL_law_1168 : decode cL_law 1168 = .ok (.ireturn, 1) := dk_172 (dk_at dksL_law_43 23 rfl rfl)
theorem dL_law_1169 : decode cL_law 1169 = .ok (.aload_n 1, 1) := dk_43 (dk_at dksL_law_44 0 rfl rfl)
theorem dL_law_1170 : decode cL_law 1170 = .ok (.aload_n 0, 1) := dk_42 (dk_at dksL_law_44 1 rfl rfl)
theorem dL_law_1171 : decode cL_law 1171 = .ok (.iload_n 3, 1) := dk_29 (dk_at dksL_law_44 2 rfl rfl)
theorem dL_law_1172 : decode cL_law 1172 = .ok (.iconst 1, 1) := dk_4 (dk_at dksL_law_44 3 rfl rfl)
theorem dL_law_1173 : decode cL_law 1173 = .ok (.iadd, 1) := dk_96 (dk_at dksL_law_44 4 rfl rfl)
theorem dL_law_1174 : decode cL_law 1174 = .ok (.iaload, 1) := dk_46 (dk_at dksL_law_44 5 rfl rfl)
theorem dL_law_1175 : decode cL_law 1175 = .ok (.invokevirtual 174, 3) := dk_182 0 174 (dk_at dksL_law_44 6 rfl rfl)
theorem dL_law_1178 : decode cL_law 1178 = .ok (.aload_n 2, 1) := dk_44 (dk_at dksL_law_44 9 rfl rfl)
theorem dL_law_1179 : decode cL_law 1179 = .ok (.aload_n 0, 1) := dk_42 (dk_at dksL_law_44 10 rfl rfl)
theorem dL_law_1180 : decode cL_law 1180 = .ok (.iload_n 3, 1) := dk_29 (dk_at dksL_law_44 11 rfl rfl)
theorem dL_law_1181 : decode cL_law 1181 = .ok (.iconst 1, 1) := dk_4 (dk_at dksL_law_44 12 rfl rfl)
theorem dL_law_1182 : decode cL_law 1182 = .ok (.iadd, 1) := dk_96 (dk_at dksL_law_44 13 rfl rfl)
theorem dL_law_1183 : decode cL_law 1183 = .ok (.iaload, 1) := dk_46 (dk_at dksL_law_44 14 rfl rfl)
theorem dL_law_1184 : decode cL_law 1184 = .ok (.invokevirtual 177, 3) := dk_182 0 177 (dk_at dksL_law_44 15 rfl rfl)
theorem dL_law_1187 : decode cL_law 1187 = .ok (.if_icmp .eq 5, 3) := dk_159 0 5 (dk_at dksL_law_44 18 rfl rfl)
theorem dL_law_1190 : decode cL_law 1190 = .ok (.iconst 0, 1) := dk_3 (dk_at dksL_law_44 21 rfl rfl)
theorem dL_law_1191 : decode cL_law 1191 = .ok (.ireturn, 1) := dk_172 (dk_at dksL_law_44 22 rfl rfl)
theorem dL_law_1192 : decode cL_law 1192 = .ok (.iinc 3 6, 3) := dk_132 3 6 (dk_at dksL_law_45 0 rfl rfl)
theorem dL_law_1195 : decode cL_law 1195 = .ok (.goto (-1177), 3) := dk_167 251 103 (dk_at dksL_law_45 3 rfl rfl)
theorem dL_law_1198 : decode cL_law 1198 = .ok (.iconst 1, 1) := dk_4 (dk_at dksL_law_45 6 rfl rfl)
theorem dL_law_1199 : decode cL_law 1199 = .ok (.ireturn, 1) := dk_172 (dk_at dksL_law_45 7 rfl rfl)

