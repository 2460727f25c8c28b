/-! GroupJournalModel -/
set_option maxRecDepth 100000
def RX11 : String := "GroupJournalModel"
def TX11 : u_T := fun k => match k with
  | 0 => ("GroupJournalModel", "tape", "[I", true)
  | 1 => ("GroupJournalModel", "taped", "I", false)
  | 2 => ("GroupJournalModel", "at", "I", false)
  | 3 => ("GroupJournalModel", "end", "I", false)
  | 4 => ("GroupJournalModel", "ended", "I", false)
  | 5 => ("GroupJournalModel", "bad", "I", false)
  | 6 => ("GroupJournalModel", "badPlace", "I", false)
  | 7 => ("GroupJournalModel", "fault", "I", false)
  | 8 => ("GroupJournalModel", "faultPlace", "I", false)
  | 9 => ("GroupJournalModel", "refused", "[I", true)
  | 10 => ("GroupJournalModel", "numberPlace", "I", false)
  | 11 => ("GroupJournalModel", "journalWord", "[C", true)
  | 12 => ("GroupJournalModel", "blocksWord", "[C", true)
  | 13 => ("GroupJournalModel", "bytesWord", "[C", true)
  | 14 => ("GroupJournalModel", "putWord", "[C", true)
  | 15 => ("GroupJournalModel", "sizeWord", "[C", true)
  | 16 => ("GroupJournalModel", "closesWord", "[C", true)
  | 17 => ("GroupJournalModel", "takesWord", "[C", true)
  | 18 => ("GroupJournalModel", "noiseWord", "[C", true)
  | 19 => ("GroupJournalModel", "tickWord", "[C", true)
  | 20 => ("GroupJournalModel", "recordsWord", "[C", true)
  | 21 => ("GroupJournalModel", "payloadWord", "[C", true)
  | 22 => ("GroupJournalModel", "ageWord", "[C", true)
  | 23 => ("GroupJournalModel", "waitersWord", "[C", true)
  | 24 => ("GroupJournalModel", "numberWord", "[C", true)
  | 25 => ("GroupJournalModel", "serialWord", "[C", true)
  | 26 => ("GroupJournalModel", "firstWord", "[C", true)
  | 27 => ("GroupJournalModel", "framesWord", "[C", true)
  | 28 => ("GroupJournalModel", "octetWord", "[C", true)
  | 29 => ("GroupJournalModel", "valueWord", "[C", true)
  | 30 => ("GroupJournalModel", "orWord", "[C", true)
  | 31 => ("GroupJournalModel", "andWord", "[C", true)
  | 32 => ("GroupJournalModel", "notWord", "[C", true)
  | 33 => ("GroupJournalModel", "allWord", "[C", true)
  | 34 => ("GroupJournalModel", "minWord", "[C", true)
  | 35 => ("GroupJournalModel", "maxWord", "[C", true)
  | 36 => ("GroupJournalModel", "many", "[I", true)
  | 37 => ("GroupJournalModel", "puts", "[I", true)
  | 38 => ("GroupJournalModel", "codeFrom", "[I", true)
  | 39 => ("GroupJournalModel", "codeEnd", "[I", true)
  | 40 => ("GroupJournalModel", "codes", "[I", true)
  | 41 => ("GroupJournalModel", "coded", "I", false)
  | 42 => ("GroupJournalModel", "statements", "I", false)
  | 43 => ("GroupJournalModel", "isTold", "Z", false)
  | 44 => ("GroupJournalModel", "textKind", "I", false)
  | 45 => ("GroupJournalModel", "now", "[I", true)
  | 46 => ("GroupJournalModel", "askRecords", "I", false)
  | 47 => ("GroupJournalModel", "askPayload", "I", false)
  | 48 => ("GroupJournalModel", "askSegment", "I", false)
  | 49 => ("GroupJournalModel", "framed", "[I", true)
  | 50 => ("GroupJournalModel", "framedMany", "I", false)
  | 51 => ("GroupJournalModel", "tried", "[I", true)
  | 52 => ("GroupJournalModel", "ruleNow", "I", false)
  | 53 => ("GroupJournalModel", "releasedMany", "I", false)
  | 54 => ("GroupJournalModel", "waitedMany", "I", false)
  | 55 => ("GroupJournalModel", "ticked", "I", false)
  | 56 => ("GroupJournalModel", "isThought", "Z", false)
  | 57 => ("GroupJournalModel", "aside", "[I", true)
  | 58 => ("GroupJournalModel", "frameRow", "[I", true)
  | 59 => ("GroupJournalModel", "frameMany", "I", false)
  | 60 => ("GroupJournalModel", "walkEnd", "I", false)
  | 61 => ("GroupJournalModel", "walkStop", "I", false)
  | 62 => ("GroupJournalModel", "walkNumber", "I", false)
  | 63 => ("GroupJournalModel", "walkBytes", "I", false)
  | 64 => ("GroupJournalModel", "walkHead", "I", false)
  | 65 => ("GroupJournalModel", "isRecovering", "Z", false)
  | 66 => ("GroupJournalModel", "rowMany", "I", false)
  | 67 => ("GroupJournalModel", "rows", "[I", true)
  | 68 => ("GroupJournalModel", "fitting", "[Z", true)
  | 69 => ("GroupJournalModel", "fitMany", "I", false)
  | 70 => ("GroupJournalModel", "ways", "[I", true)
  | 71 => ("GroupJournalModel", "like", "[I", true)
  | 72 => ("GroupJournalModel", "kept0", "[I", true)
  | 73 => ("GroupJournalModel", "undoable", "I", false)
  | 74 => ("GroupJournalModel", "newest", "I", false)
  | 75 => ("GroupJournalModel", "seeded", "J", false)
  | 76 => ("GroupJournalModel", "firstAsked", "[C", true)
  | 77 => ("GroupJournalModel", "lastAsked", "[C", true)
  | 78 => ("GroupJournalModel", "oftenAsked", "[C", true)
  | 79 => ("GroupJournalModel", "totalAsked", "[C", true)
  | 80 => ("GroupJournalModel", "mostAsked", "[C", true)
  | 81 => ("GroupJournalModel", "leastAsked", "[C", true)
  | 82 => ("GroupJournalModel", "notAsked", "[C", true)
  | 83 => ("GroupJournalModel", "andAsked", "[C", true)
  | 84 => ("GroupJournalModel", "orAsked", "[C", true)
  | 85 => ("GroupJournalModel", "allAsked", "[C", true)
  | 86 => ("GroupJournalModel", "minAsked", "[C", true)
  | 87 => ("GroupJournalModel", "maxAsked", "[C", true)
  | 88 => ("GroupJournalModel", "tickAsked", "[C", true)
  | 89 => ("GroupJournalModel", "recordsAsked", "[C", true)
  | 90 => ("GroupJournalModel", "payloadAsked", "[C", true)
  | 91 => ("GroupJournalModel", "ageAsked", "[C", true)
  | 92 => ("GroupJournalModel", "waitersAsked", "[C", true)
  | 93 => ("GroupJournalModel", "numberAsked", "[C", true)
  | 94 => ("GroupJournalModel", "serialAsked", "[C", true)
  | 95 => ("GroupJournalModel", "framesAsked", "[C", true)
  | 96 => ("GroupJournalModel", "octetAsked", "[C", true)
  | 97 => ("GroupJournalModel", "valueAsked", "[C", true)
  | 98 => ("GroupJournalModel", "qCodes", "[I", true)
  | 99 => ("GroupJournalModel", "qCoded", "I", false)
  | 100 => ("GroupJournalModel", "qWait", "[I", true)
  | 101 => ("GroupJournalModel", "qWaits", "I", false)
  | 102 => ("GroupJournalModel", "qOpened", "I", false)
  | 103 => ("GroupJournalModel", "qBase", "I", false)
  | 104 => ("GroupJournalModel", "qPile", "[J", true)
  | 105 => ("GroupJournalModel", "qPiled", "I", false)
  | 106 => ("GroupJournalModel", "qAnswer", "J", false)
  | 107 => ("GroupJournalModel", "qIsNew", "Z", false)
  | 108 => ("GroupJournalModel", "octet", "[I", true)
  | _ => ("GroupJournalModel", "octets", "I", false)
def tyX11 : Nat → FieldType := fun k => match k with
  | 0 => .array .int
  | 1 => .int
  | 2 => .int
  | 3 => .int
  | 4 => .int
  | 5 => .int
  | 6 => .int
  | 7 => .int
  | 8 => .int
  | 9 => .array .int
  | 10 => .int
  | 11 => .array .char
  | 12 => .array .char
  | 13 => .array .char
  | 14 => .array .char
  | 15 => .array .char
  | 16 => .array .char
  | 17 => .array .char
  | 18 => .array .char
  | 19 => .array .char
  | 20 => .array .char
  | 21 => .array .char
  | 22 => .array .char
  | 23 => .array .char
  | 24 => .array .char
  | 25 => .array .char
  | 26 => .array .char
  | 27 => .array .char
  | 28 => .array .char
  | 29 => .array .char
  | 30 => .array .char
  | 31 => .array .char
  | 32 => .array .char
  | 33 => .array .char
  | 34 => .array .char
  | 35 => .array .char
  | 36 => .array .int
  | 37 => .array .int
  | 38 => .array .int
  | 39 => .array .int
  | 40 => .array .int
  | 41 => .int
  | 42 => .int
  | 43 => .boolean
  | 44 => .int
  | 45 => .array .int
  | 46 => .int
  | 47 => .int
  | 48 => .int
  | 49 => .array .int
  | 50 => .int
  | 51 => .array .int
  | 52 => .int
  | 53 => .int
  | 54 => .int
  | 55 => .int
  | 56 => .boolean
  | 57 => .array .int
  | 58 => .array .int
  | 59 => .int
  | 60 => .int
  | 61 => .int
  | 62 => .int
  | 63 => .int
  | 64 => .int
  | 65 => .boolean
  | 66 => .int
  | 67 => .array .int
  | 68 => .array .boolean
  | 69 => .int
  | 70 => .array .int
  | 71 => .array .int
  | 72 => .array .int
  | 73 => .int
  | 74 => .int
  | 75 => .long
  | 76 => .array .char
  | 77 => .array .char
  | 78 => .array .char
  | 79 => .array .char
  | 80 => .array .char
  | 81 => .array .char
  | 82 => .array .char
  | 83 => .array .char
  | 84 => .array .char
  | 85 => .array .char
  | 86 => .array .char
  | 87 => .array .char
  | 88 => .array .char
  | 89 => .array .char
  | 90 => .array .char
  | 91 => .array .char
  | 92 => .array .char
  | 93 => .array .char
  | 94 => .array .char
  | 95 => .array .char
  | 96 => .array .char
  | 97 => .array .char
  | 98 => .array .int
  | 99 => .int
  | 100 => .array .int
  | 101 => .int
  | 102 => .int
  | 103 => .int
  | 104 => .array .long
  | 105 => .int
  | 106 => .long
  | 107 => .boolean
  | 108 => .array .int
  | _ => .int
abbrev wsX110 : List Cond := u_ws RX11 TX11 110
set_option maxRecDepth 100000 in
theorem nmX11 : ∀ a, a < 110 → ∀ b, b < 110 → a ≠ b → (TX11 a).2.1 ≠ (TX11 b).2.1 := by decide +kernel
set_option maxRecDepth 100000 in
theorem tyX11_ok : ∀ k, k < 110 → parseFieldDescriptor (TX11 k).2.2.1 = some (tyX11 k) := by decide +kernel
abbrev cX11_init : ByteArray := prog_26_method_1_code
def yX11_init : MethodName := ⟨RX11, "<init>", "()V"⟩
def dkwX11_init_70 : List UInt8 := [181, 0, 226, 177]
abbrev dktX11_init_70 : List UInt8 := dkwX11_init_70 ++ []
def dkwX11_init_69 : List UInt8 := [17, 6, 164, 188, 10, 181, 0, 219, 42, 17, 6, 164, 188, 11, 181, 0, 222, 42, 17, 2, 35, 188, 10]
abbrev dktX11_init_69 : List UInt8 := dkwX11_init_69 ++ dktX11_init_70
def dkwX11_init_68 : List UInt8 := [85, 89, 6, 16, 117, 85, 89, 7, 16, 101, 85, 181, 0, 213, 42, 17, 6, 164, 188, 10, 181, 0, 216, 42]
abbrev dktX11_init_68 : List UInt8 := dkwX11_init_68 ++ dktX11_init_69
def dkwX11_init_67 : List UInt8 := [16, 116, 85, 181, 0, 210, 42, 8, 188, 5, 89, 3, 16, 118, 85, 89, 4, 16, 97, 85, 89, 5, 16, 108]
abbrev dktX11_init_67 : List UInt8 := dkwX11_init_67 ++ dktX11_init_68
def dkwX11_init_66 : List UInt8 := [188, 5, 89, 3, 16, 111, 85, 89, 4, 16, 99, 85, 89, 5, 16, 116, 85, 89, 6, 16, 101, 85, 89, 7]
abbrev dktX11_init_66 : List UInt8 := dkwX11_init_66 ++ dktX11_init_67
def dkwX11_init_65 : List UInt8 := [16, 97, 85, 89, 6, 16, 109, 85, 89, 7, 16, 101, 85, 89, 8, 16, 115, 85, 181, 0, 207, 42, 8]
abbrev dktX11_init_65 : List UInt8 := dkwX11_init_65 ++ dktX11_init_66
def dkwX11_init_64 : List UInt8 := [8, 16, 108, 85, 181, 0, 204, 42, 16, 6, 188, 5, 89, 3, 16, 102, 85, 89, 4, 16, 114, 85, 89, 5]
abbrev dktX11_init_64 : List UInt8 := dkwX11_init_64 ++ dktX11_init_65
def dkwX11_init_63 : List UInt8 := [16, 115, 85, 89, 4, 16, 101, 85, 89, 5, 16, 114, 85, 89, 6, 16, 105, 85, 89, 7, 16, 97, 85, 89]
abbrev dktX11_init_63 : List UInt8 := dkwX11_init_63 ++ dktX11_init_64
def dkwX11_init_62 : List UInt8 := [6, 16, 98, 85, 89, 7, 16, 101, 85, 89, 8, 16, 114, 85, 181, 0, 201, 42, 16, 6, 188, 5, 89, 3]
abbrev dktX11_init_62 : List UInt8 := dkwX11_init_62 ++ dktX11_init_63
def dkwX11_init_61 : List UInt8 := [181, 0, 198, 42, 16, 6, 188, 5, 89, 3, 16, 110, 85, 89, 4, 16, 117, 85, 89, 5, 16, 109, 85, 89]
abbrev dktX11_init_61 : List UInt8 := dkwX11_init_61 ++ dktX11_init_62
def dkwX11_init_60 : List UInt8 := [16, 105, 85, 89, 6, 16, 116, 85, 89, 7, 16, 101, 85, 89, 8, 16, 114, 85, 89, 16, 6, 16, 115, 85]
abbrev dktX11_init_60 : List UInt8 := dkwX11_init_60 ++ dktX11_init_61
def dkwX11_init_59 : List UInt8 := [5, 16, 101, 85, 181, 0, 195, 42, 16, 7, 188, 5, 89, 3, 16, 119, 85, 89, 4, 16, 97, 85, 89, 5]
abbrev dktX11_init_59 : List UInt8 := dkwX11_init_59 ++ dktX11_init_60
def dkwX11_init_58 : List UInt8 := [89, 16, 6, 16, 100, 85, 181, 0, 192, 42, 6, 188, 5, 89, 3, 16, 97, 85, 89, 4, 16, 103, 85, 89]
abbrev dktX11_init_58 : List UInt8 := dkwX11_init_58 ++ dktX11_init_59
def dkwX11_init_57 : List UInt8 := [4, 16, 97, 85, 89, 5, 16, 121, 85, 89, 6, 16, 108, 85, 89, 7, 16, 111, 85, 89, 8, 16, 97, 85]
abbrev dktX11_init_57 : List UInt8 := dkwX11_init_57 ++ dktX11_init_58
def dkwX11_init_56 : List UInt8 := [8, 16, 100, 85, 89, 16, 6, 16, 115, 85, 181, 0, 189, 42, 16, 7, 188, 5, 89, 3, 16, 112, 85, 89]
abbrev dktX11_init_56 : List UInt8 := dkwX11_init_56 ++ dktX11_init_57
def dkwX11_init_55 : List UInt8 := [16, 114, 85, 89, 4, 16, 101, 85, 89, 5, 16, 99, 85, 89, 6, 16, 111, 85, 89, 7, 16, 114, 85, 89]
abbrev dktX11_init_55 : List UInt8 := dkwX11_init_55 ++ dktX11_init_56
def dkwX11_init_54 : List UInt8 := [4, 16, 105, 85, 89, 5, 16, 99, 85, 89, 6, 16, 107, 85, 181, 0, 186, 42, 16, 7, 188, 5, 89, 3]
abbrev dktX11_init_54 : List UInt8 := dkwX11_init_54 ++ dktX11_init_55
def dkwX11_init_53 : List UInt8 := [85, 89, 4, 16, 97, 85, 89, 5, 16, 120, 85, 181, 0, 183, 42, 7, 188, 5, 89, 3, 16, 116, 85, 89]
abbrev dktX11_init_53 : List UInt8 := dkwX11_init_53 ++ dktX11_init_54
def dkwX11_init_52 : List UInt8 := [16, 109, 85, 89, 4, 16, 105, 85, 89, 5, 16, 110, 85, 181, 0, 180, 42, 6, 188, 5, 89, 3, 16, 109]
abbrev dktX11_init_52 : List UInt8 := dkwX11_init_52 ++ dktX11_init_53
def dkwX11_init_51 : List UInt8 := [89, 3, 16, 97, 85, 89, 4, 16, 108, 85, 89, 5, 16, 108, 85, 181, 0, 177, 42, 6, 188, 5, 89, 3]
abbrev dktX11_init_51 : List UInt8 := dkwX11_init_51 ++ dktX11_init_52
def dkwX11_init_50 : List UInt8 := [181, 0, 171, 42, 5, 188, 5, 89, 3, 16, 111, 85, 89, 4, 16, 114, 85, 181, 0, 174, 42, 6, 188, 5]
abbrev dktX11_init_50 : List UInt8 := dkwX11_init_50 ++ dktX11_init_51
def dkwX11_init_49 : List UInt8 := [85, 181, 0, 168, 42, 6, 188, 5, 89, 3, 16, 97, 85, 89, 4, 16, 110, 85, 89, 5, 16, 100, 85]
abbrev dktX11_init_49 : List UInt8 := dkwX11_init_49 ++ dktX11_init_50
def dkwX11_init_48 : List UInt8 := [16, 116, 85, 181, 0, 165, 42, 6, 188, 5, 89, 3, 16, 110, 85, 89, 4, 16, 111, 85, 89, 5, 16, 116]
abbrev dktX11_init_48 : List UInt8 := dkwX11_init_48 ++ dktX11_init_49
def dkwX11_init_47 : List UInt8 := [188, 5, 89, 3, 16, 108, 85, 89, 4, 16, 101, 85, 89, 5, 16, 97, 85, 89, 6, 16, 115, 85, 89, 7]
abbrev dktX11_init_47 : List UInt8 := dkwX11_init_47 ++ dktX11_init_48
def dkwX11_init_46 : List UInt8 := [3, 16, 109, 85, 89, 4, 16, 111, 85, 89, 5, 16, 115, 85, 89, 6, 16, 116, 85, 181, 0, 162, 42, 8]
abbrev dktX11_init_46 : List UInt8 := dkwX11_init_46 ++ dktX11_init_47
def dkwX11_init_45 : List UInt8 := [85, 89, 5, 16, 116, 85, 89, 6, 16, 97, 85, 89, 7, 16, 108, 85, 181, 0, 159, 42, 7, 188, 5, 89]
abbrev dktX11_init_45 : List UInt8 := dkwX11_init_45 ++ dktX11_init_46
def dkwX11_init_44 : List UInt8 := [16, 101, 85, 89, 7, 16, 110, 85, 181, 0, 156, 42, 8, 188, 5, 89, 3, 16, 116, 85, 89, 4, 16, 111]
abbrev dktX11_init_44 : List UInt8 := dkwX11_init_44 ++ dktX11_init_45
def dkwX11_init_43 : List UInt8 := [181, 0, 153, 42, 8, 188, 5, 89, 3, 16, 111, 85, 89, 4, 16, 102, 85, 89, 5, 16, 116, 85, 89, 6]
abbrev dktX11_init_43 : List UInt8 := dkwX11_init_43 ++ dktX11_init_44
def dkwX11_init_42 : List UInt8 := [42, 7, 188, 5, 89, 3, 16, 108, 85, 89, 4, 16, 97, 85, 89, 5, 16, 115, 85, 89, 6, 16, 116, 85]
abbrev dktX11_init_42 : List UInt8 := dkwX11_init_42 ++ dktX11_init_43
def dkwX11_init_41 : List UInt8 := [85, 89, 4, 16, 105, 85, 89, 5, 16, 114, 85, 89, 6, 16, 115, 85, 89, 7, 16, 116, 85, 181, 0, 150]
abbrev dktX11_init_41 : List UInt8 := dkwX11_init_41 ++ dktX11_init_42
def dkwX11_init_40 : List UInt8 := [181, 0, 139, 42, 18, 142, 188, 10, 181, 0, 143, 42, 10, 181, 0, 146, 42, 8, 188, 5, 89, 3, 16, 102]
abbrev dktX11_init_40 : List UInt8 := dkwX11_init_40 ++ dktX11_init_41
def dkwX11_init_39 : List UInt8 := [17, 2, 1, 188, 4, 181, 0, 132, 42, 17, 32, 16, 188, 10, 181, 0, 136, 42, 17, 3, 233, 188, 10]
abbrev dktX11_init_39 : List UInt8 := dkwX11_init_39 ++ dktX11_init_40
def dkwX11_init_38 : List UInt8 := [188, 10, 181, 0, 123, 42, 17, 0, 128, 188, 10, 181, 0, 126, 42, 16, 32, 188, 10, 181, 0, 129, 42]
abbrev dktX11_init_38 : List UInt8 := dkwX11_init_38 ++ dktX11_init_39
def dkwX11_init_37 : List UInt8 := [188, 10, 181, 0, 114, 42, 17, 8, 196, 188, 10, 181, 0, 117, 42, 2, 181, 0, 120, 42, 17, 8, 196]
abbrev dktX11_init_37 : List UInt8 := dkwX11_init_37 ++ dktX11_init_38
def dkwX11_init_36 : List UInt8 := [181, 0, 105, 42, 17, 12, 128, 188, 10, 181, 0, 108, 42, 17, 9, 61, 188, 10, 181, 0, 111, 42, 16, 64]
abbrev dktX11_init_36 : List UInt8 := dkwX11_init_36 ++ dktX11_init_37
def dkwX11_init_35 : List UInt8 := [89, 3, 2, 79, 89, 4, 2, 79, 89, 5, 2, 79, 89, 6, 2, 79, 181, 0, 102, 42, 7, 188, 10]
abbrev dktX11_init_35 : List UInt8 := dkwX11_init_35 ++ dktX11_init_36
def dkwX11_init_34 : List UInt8 := [85, 181, 0, 93, 42, 16, 10, 188, 10, 181, 0, 96, 42, 16, 120, 188, 10, 181, 0, 99, 42, 7, 188, 10]
abbrev dktX11_init_34 : List UInt8 := dkwX11_init_34 ++ dktX11_init_35
def dkwX11_init_33 : List UInt8 := [16, 110, 85, 181, 0, 90, 42, 6, 188, 5, 89, 3, 16, 109, 85, 89, 4, 16, 97, 85, 89, 5, 16, 120]
abbrev dktX11_init_33 : List UInt8 := dkwX11_init_33 ++ dktX11_init_34
def dkwX11_init_32 : List UInt8 := [5, 16, 108, 85, 181, 0, 87, 42, 6, 188, 5, 89, 3, 16, 109, 85, 89, 4, 16, 105, 85, 89, 5]
abbrev dktX11_init_32 : List UInt8 := dkwX11_init_32 ++ dktX11_init_33
def dkwX11_init_31 : List UInt8 := [85, 89, 5, 16, 116, 85, 181, 0, 84, 42, 6, 188, 5, 89, 3, 16, 97, 85, 89, 4, 16, 108, 85, 89]
abbrev dktX11_init_31 : List UInt8 := dkwX11_init_31 ++ dktX11_init_32
def dkwX11_init_30 : List UInt8 := [16, 110, 85, 89, 5, 16, 100, 85, 181, 0, 81, 42, 6, 188, 5, 89, 3, 16, 110, 85, 89, 4, 16, 111]
abbrev dktX11_init_30 : List UInt8 := dkwX11_init_30 ++ dktX11_init_31
def dkwX11_init_29 : List UInt8 := [3, 16, 111, 85, 89, 4, 16, 114, 85, 181, 0, 78, 42, 6, 188, 5, 89, 3, 16, 97, 85, 89, 4]
abbrev dktX11_init_29 : List UInt8 := dkwX11_init_29 ++ dktX11_init_30
def dkwX11_init_28 : List UInt8 := [85, 89, 5, 16, 108, 85, 89, 6, 16, 117, 85, 89, 7, 16, 101, 85, 181, 0, 75, 42, 5, 188, 5, 89]
abbrev dktX11_init_28 : List UInt8 := dkwX11_init_28 ++ dktX11_init_29
def dkwX11_init_27 : List UInt8 := [16, 101, 85, 89, 7, 16, 116, 85, 181, 0, 72, 42, 8, 188, 5, 89, 3, 16, 118, 85, 89, 4, 16, 97]
abbrev dktX11_init_27 : List UInt8 := dkwX11_init_27 ++ dktX11_init_28
def dkwX11_init_26 : List UInt8 := [181, 0, 69, 42, 8, 188, 5, 89, 3, 16, 111, 85, 89, 4, 16, 99, 85, 89, 5, 16, 116, 85, 89, 6]
abbrev dktX11_init_26 : List UInt8 := dkwX11_init_26 ++ dktX11_init_27
def dkwX11_init_25 : List UInt8 := [16, 114, 85, 89, 5, 16, 97, 85, 89, 6, 16, 109, 85, 89, 7, 16, 101, 85, 89, 8, 16, 115, 85]
abbrev dktX11_init_25 : List UInt8 := dkwX11_init_25 ++ dktX11_init_26
def dkwX11_init_24 : List UInt8 := [16, 115, 85, 89, 7, 16, 116, 85, 181, 0, 66, 42, 16, 6, 188, 5, 89, 3, 16, 102, 85, 89, 4]
abbrev dktX11_init_24 : List UInt8 := dkwX11_init_24 ++ dktX11_init_25
def dkwX11_init_23 : List UInt8 := [181, 0, 63, 42, 8, 188, 5, 89, 3, 16, 102, 85, 89, 4, 16, 105, 85, 89, 5, 16, 114, 85, 89, 6]
abbrev dktX11_init_23 : List UInt8 := dkwX11_init_23 ++ dktX11_init_24
def dkwX11_init_22 : List UInt8 := [4, 16, 101, 85, 89, 5, 16, 114, 85, 89, 6, 16, 105, 85, 89, 7, 16, 97, 85, 89, 8, 16, 108, 85]
abbrev dktX11_init_22 : List UInt8 := dkwX11_init_22 ++ dktX11_init_23
def dkwX11_init_21 : List UInt8 := [89, 7, 16, 101, 85, 89, 8, 16, 114, 85, 181, 0, 60, 42, 16, 6, 188, 5, 89, 3, 16, 115, 85, 89]
abbrev dktX11_init_21 : List UInt8 := dkwX11_init_21 ++ dktX11_init_22
def dkwX11_init_20 : List UInt8 := [16, 6, 188, 5, 89, 3, 16, 110, 85, 89, 4, 16, 117, 85, 89, 5, 16, 109, 85, 89, 6, 16, 98, 85]
abbrev dktX11_init_20 : List UInt8 := dkwX11_init_20 ++ dktX11_init_21
def dkwX11_init_19 : List UInt8 := [6, 16, 116, 85, 89, 7, 16, 101, 85, 89, 8, 16, 114, 85, 89, 16, 6, 16, 115, 85, 181, 0, 57, 42]
abbrev dktX11_init_19 : List UInt8 := dkwX11_init_19 ++ dktX11_init_20
def dkwX11_init_18 : List UInt8 := [181, 0, 54, 42, 16, 7, 188, 5, 89, 3, 16, 119, 85, 89, 4, 16, 97, 85, 89, 5, 16, 105, 85, 89]
abbrev dktX11_init_18 : List UInt8 := dkwX11_init_18 ++ dktX11_init_19
def dkwX11_init_17 : List UInt8 := [181, 0, 51, 42, 6, 188, 5, 89, 3, 16, 97, 85, 89, 4, 16, 103, 85, 89, 5, 16, 101, 85]
abbrev dktX11_init_17 : List UInt8 := dkwX11_init_17 ++ dktX11_init_18
def dkwX11_init_16 : List UInt8 := [16, 121, 85, 89, 6, 16, 108, 85, 89, 7, 16, 111, 85, 89, 8, 16, 97, 85, 89, 16, 6, 16, 100, 85]
abbrev dktX11_init_16 : List UInt8 := dkwX11_init_16 ++ dktX11_init_17
def dkwX11_init_15 : List UInt8 := [16, 115, 85, 181, 0, 48, 42, 16, 7, 188, 5, 89, 3, 16, 112, 85, 89, 4, 16, 97, 85, 89, 5]
abbrev dktX11_init_15 : List UInt8 := dkwX11_init_15 ++ dktX11_init_16
def dkwX11_init_14 : List UInt8 := [89, 5, 16, 99, 85, 89, 6, 16, 111, 85, 89, 7, 16, 114, 85, 89, 8, 16, 100, 85, 89, 16, 6]
abbrev dktX11_init_14 : List UInt8 := dkwX11_init_14 ++ dktX11_init_15
def dkwX11_init_13 : List UInt8 := [85, 89, 6, 16, 107, 85, 181, 0, 45, 42, 16, 7, 188, 5, 89, 3, 16, 114, 85, 89, 4, 16, 101, 85]
abbrev dktX11_init_13 : List UInt8 := dkwX11_init_13 ++ dktX11_init_14
def dkwX11_init_12 : List UInt8 := [16, 101, 85, 181, 0, 42, 42, 7, 188, 5, 89, 3, 16, 116, 85, 89, 4, 16, 105, 85, 89, 5, 16, 99]
abbrev dktX11_init_12 : List UInt8 := dkwX11_init_12 ++ dktX11_init_13
def dkwX11_init_11 : List UInt8 := [188, 5, 89, 3, 16, 110, 85, 89, 4, 16, 111, 85, 89, 5, 16, 105, 85, 89, 6, 16, 115, 85, 89, 7]
abbrev dktX11_init_11 : List UInt8 := dkwX11_init_11 ++ dktX11_init_12
def dkwX11_init_10 : List UInt8 := [16, 97, 85, 89, 5, 16, 107, 85, 89, 6, 16, 101, 85, 89, 7, 16, 115, 85, 181, 0, 39, 42, 8]
abbrev dktX11_init_10 : List UInt8 := dkwX11_init_10 ++ dktX11_init_11
def dkwX11_init_9 : List UInt8 := [89, 7, 16, 101, 85, 89, 8, 16, 115, 85, 181, 0, 36, 42, 8, 188, 5, 89, 3, 16, 116, 85, 89, 4]
abbrev dktX11_init_9 : List UInt8 := dkwX11_init_9 ++ dktX11_init_10
def dkwX11_init_8 : List UInt8 := [16, 6, 188, 5, 89, 3, 16, 99, 85, 89, 4, 16, 108, 85, 89, 5, 16, 111, 85, 89, 6, 16, 115, 85]
abbrev dktX11_init_8 : List UInt8 := dkwX11_init_8 ++ dktX11_init_9
def dkwX11_init_7 : List UInt8 := [89, 3, 16, 115, 85, 89, 4, 16, 105, 85, 89, 5, 16, 122, 85, 89, 6, 16, 101, 85, 181, 0, 33, 42]
abbrev dktX11_init_7 : List UInt8 := dkwX11_init_7 ++ dktX11_init_8
def dkwX11_init_6 : List UInt8 := [188, 5, 89, 3, 16, 112, 85, 89, 4, 16, 117, 85, 89, 5, 16, 116, 85, 181, 0, 30, 42, 7, 188, 5]
abbrev dktX11_init_6 : List UInt8 := dkwX11_init_6 ++ dktX11_init_7
def dkwX11_init_5 : List UInt8 := [16, 121, 85, 89, 5, 16, 116, 85, 89, 6, 16, 101, 85, 89, 7, 16, 115, 85, 181, 0, 27, 42, 6]
abbrev dktX11_init_5 : List UInt8 := dkwX11_init_5 ++ dktX11_init_6
def dkwX11_init_4 : List UInt8 := [89, 7, 16, 107, 85, 89, 8, 16, 115, 85, 181, 0, 24, 42, 8, 188, 5, 89, 3, 16, 98, 85, 89, 4]
abbrev dktX11_init_4 : List UInt8 := dkwX11_init_4 ++ dktX11_init_5
def dkwX11_init_3 : List UInt8 := [16, 6, 188, 5, 89, 3, 16, 98, 85, 89, 4, 16, 108, 85, 89, 5, 16, 111, 85, 89, 6, 16, 99, 85]
abbrev dktX11_init_3 : List UInt8 := dkwX11_init_3 ++ dktX11_init_4
def dkwX11_init_2 : List UInt8 := [6, 16, 114, 85, 89, 7, 16, 110, 85, 89, 8, 16, 97, 85, 89, 16, 6, 16, 108, 85, 181, 0, 20, 42]
abbrev dktX11_init_2 : List UInt8 := dkwX11_init_2 ++ dktX11_init_3
def dkwX11_init_1 : List UInt8 := [181, 0, 17, 42, 16, 7, 188, 5, 89, 3, 16, 106, 85, 89, 4, 16, 111, 85, 89, 5, 16, 117, 85, 89]
abbrev dktX11_init_1 : List UInt8 := dkwX11_init_1 ++ dktX11_init_2
def dkwX11_init_0 : List UInt8 := [42, 183, 0, 1, 42, 17, 6, 64, 188, 10, 181, 0, 7, 42, 2, 181, 0, 13, 42, 16, 7, 188, 10]
abbrev dktX11_init_0 : List UInt8 := dkwX11_init_0 ++ dktX11_init_1
theorem dksX11_init_0 : cX11_init.data.toList.drop 0 = dktX11_init_0 := by decide +kernel
theorem dksX11_init_1 : cX11_init.data.toList.drop 23 = dktX11_init_1 := dk_seg dksX11_init_0 23 rfl rfl
theorem dksX11_init_2 : cX11_init.data.toList.drop 47 = dktX11_init_2 := dk_seg dksX11_init_1 24 rfl rfl
theorem dksX11_init_3 : cX11_init.data.toList.drop 71 = dktX11_init_3 := dk_seg dksX11_init_2 24 rfl rfl
theorem dksX11_init_4 : cX11_init.data.toList.drop 95 = dktX11_init_4 := dk_seg dksX11_init_3 24 rfl rfl
theorem dksX11_init_5 : cX11_init.data.toList.drop 119 = dktX11_init_5 := dk_seg dksX11_init_4 24 rfl rfl
theorem dksX11_init_6 : cX11_init.data.toList.drop 142 = dktX11_init_6 := dk_seg dksX11_init_5 23 rfl rfl
theorem dksX11_init_7 : cX11_init.data.toList.drop 166 = dktX11_init_7 := dk_seg dksX11_init_6 24 rfl rfl
theorem dksX11_init_8 : cX11_init.data.toList.drop 190 = dktX11_init_8 := dk_seg dksX11_init_7 24 rfl rfl
theorem dksX11_init_9 : cX11_init.data.toList.drop 214 = dktX11_init_9 := dk_seg dksX11_init_8 24 rfl rfl
theorem dksX11_init_10 : cX11_init.data.toList.drop 238 = dktX11_init_10 := dk_seg dksX11_init_9 24 rfl rfl
theorem dksX11_init_11 : cX11_init.data.toList.drop 261 = dktX11_init_11 := dk_seg dksX11_init_10 23 rfl rfl
theorem dksX11_init_12 : cX11_init.data.toList.drop 285 = dktX11_init_12 := dk_seg dksX11_init_11 24 rfl rfl
theorem dksX11_init_13 : cX11_init.data.toList.drop 309 = dktX11_init_13 := dk_seg dksX11_init_12 24 rfl rfl
theorem dksX11_init_14 : cX11_init.data.toList.drop 333 = dktX11_init_14 := dk_seg dksX11_init_13 24 rfl rfl
theorem dksX11_init_15 : cX11_init.data.toList.drop 356 = dktX11_init_15 := dk_seg dksX11_init_14 23 rfl rfl
theorem dksX11_init_16 : cX11_init.data.toList.drop 379 = dktX11_init_16 := dk_seg dksX11_init_15 23 rfl rfl
theorem dksX11_init_17 : cX11_init.data.toList.drop 403 = dktX11_init_17 := dk_seg dksX11_init_16 24 rfl rfl
theorem dksX11_init_18 : cX11_init.data.toList.drop 425 = dktX11_init_18 := dk_seg dksX11_init_17 22 rfl rfl
theorem dksX11_init_19 : cX11_init.data.toList.drop 449 = dktX11_init_19 := dk_seg dksX11_init_18 24 rfl rfl
theorem dksX11_init_20 : cX11_init.data.toList.drop 473 = dktX11_init_20 := dk_seg dksX11_init_19 24 rfl rfl
theorem dksX11_init_21 : cX11_init.data.toList.drop 497 = dktX11_init_21 := dk_seg dksX11_init_20 24 rfl rfl
theorem dksX11_init_22 : cX11_init.data.toList.drop 521 = dktX11_init_22 := dk_seg dksX11_init_21 24 rfl rfl
theorem dksX11_init_23 : cX11_init.data.toList.drop 545 = dktX11_init_23 := dk_seg dksX11_init_22 24 rfl rfl
theorem dksX11_init_24 : cX11_init.data.toList.drop 569 = dktX11_init_24 := dk_seg dksX11_init_23 24 rfl rfl
theorem dksX11_init_25 : cX11_init.data.toList.drop 592 = dktX11_init_25 := dk_seg dksX11_init_24 23 rfl rfl
theorem dksX11_init_26 : cX11_init.data.toList.drop 615 = dktX11_init_26 := dk_seg dksX11_init_25 23 rfl rfl
theorem dksX11_init_27 : cX11_init.data.toList.drop 639 = dktX11_init_27 := dk_seg dksX11_init_26 24 rfl rfl
theorem dksX11_init_28 : cX11_init.data.toList.drop 663 = dktX11_init_28 := dk_seg dksX11_init_27 24 rfl rfl
theorem dksX11_init_29 : cX11_init.data.toList.drop 687 = dktX11_init_29 := dk_seg dksX11_init_28 24 rfl rfl
theorem dksX11_init_30 : cX11_init.data.toList.drop 710 = dktX11_init_30 := dk_seg dksX11_init_29 23 rfl rfl
theorem dksX11_init_31 : cX11_init.data.toList.drop 734 = dktX11_init_31 := dk_seg dksX11_init_30 24 rfl rfl
theorem dksX11_init_32 : cX11_init.data.toList.drop 758 = dktX11_init_32 := dk_seg dksX11_init_31 24 rfl rfl
theorem dksX11_init_33 : cX11_init.data.toList.drop 781 = dktX11_init_33 := dk_seg dksX11_init_32 23 rfl rfl
theorem dksX11_init_34 : cX11_init.data.toList.drop 805 = dktX11_init_34 := dk_seg dksX11_init_33 24 rfl rfl
theorem dksX11_init_35 : cX11_init.data.toList.drop 829 = dktX11_init_35 := dk_seg dksX11_init_34 24 rfl rfl
theorem dksX11_init_36 : cX11_init.data.toList.drop 852 = dktX11_init_36 := dk_seg dksX11_init_35 23 rfl rfl
theorem dksX11_init_37 : cX11_init.data.toList.drop 876 = dktX11_init_37 := dk_seg dksX11_init_36 24 rfl rfl
theorem dksX11_init_38 : cX11_init.data.toList.drop 899 = dktX11_init_38 := dk_seg dksX11_init_37 23 rfl rfl
theorem dksX11_init_39 : cX11_init.data.toList.drop 922 = dktX11_init_39 := dk_seg dksX11_init_38 23 rfl rfl
theorem dksX11_init_40 : cX11_init.data.toList.drop 945 = dktX11_init_40 := dk_seg dksX11_init_39 23 rfl rfl
theorem dksX11_init_41 : cX11_init.data.toList.drop 969 = dktX11_init_41 := dk_seg dksX11_init_40 24 rfl rfl
theorem dksX11_init_42 : cX11_init.data.toList.drop 993 = dktX11_init_42 := dk_seg dksX11_init_41 24 rfl rfl
theorem dksX11_init_43 : cX11_init.data.toList.drop 1017 = dktX11_init_43 := dk_seg dksX11_init_42 24 rfl rfl
theorem dksX11_init_44 : cX11_init.data.toList.drop 1041 = dktX11_init_44 := dk_seg dksX11_init_43 24 rfl rfl
theorem dksX11_init_45 : cX11_init.data.toList.drop 1065 = dktX11_init_45 := dk_seg dksX11_init_44 24 rfl rfl
theorem dksX11_init_46 : cX11_init.data.toList.drop 1089 = dktX11_init_46 := dk_seg dksX11_init_45 24 rfl rfl
theorem dksX11_init_47 : cX11_init.data.toList.drop 1113 = dktX11_init_47 := dk_seg dksX11_init_46 24 rfl rfl
theorem dksX11_init_48 : cX11_init.data.toList.drop 1137 = dktX11_init_48 := dk_seg dksX11_init_47 24 rfl rfl
theorem dksX11_init_49 : cX11_init.data.toList.drop 1161 = dktX11_init_49 := dk_seg dksX11_init_48 24 rfl rfl
theorem dksX11_init_50 : cX11_init.data.toList.drop 1184 = dktX11_init_50 := dk_seg dksX11_init_49 23 rfl rfl
theorem dksX11_init_51 : cX11_init.data.toList.drop 1208 = dktX11_init_51 := dk_seg dksX11_init_50 24 rfl rfl
theorem dksX11_init_52 : cX11_init.data.toList.drop 1232 = dktX11_init_52 := dk_seg dksX11_init_51 24 rfl rfl
theorem dksX11_init_53 : cX11_init.data.toList.drop 1256 = dktX11_init_53 := dk_seg dksX11_init_52 24 rfl rfl
theorem dksX11_init_54 : cX11_init.data.toList.drop 1280 = dktX11_init_54 := dk_seg dksX11_init_53 24 rfl rfl
theorem dksX11_init_55 : cX11_init.data.toList.drop 1304 = dktX11_init_55 := dk_seg dksX11_init_54 24 rfl rfl
theorem dksX11_init_56 : cX11_init.data.toList.drop 1328 = dktX11_init_56 := dk_seg dksX11_init_55 24 rfl rfl
theorem dksX11_init_57 : cX11_init.data.toList.drop 1352 = dktX11_init_57 := dk_seg dksX11_init_56 24 rfl rfl
theorem dksX11_init_58 : cX11_init.data.toList.drop 1376 = dktX11_init_58 := dk_seg dksX11_init_57 24 rfl rfl
theorem dksX11_init_59 : cX11_init.data.toList.drop 1400 = dktX11_init_59 := dk_seg dksX11_init_58 24 rfl rfl
theorem dksX11_init_60 : cX11_init.data.toList.drop 1424 = dktX11_init_60 := dk_seg dksX11_init_59 24 rfl rfl
theorem dksX11_init_61 : cX11_init.data.toList.drop 1448 = dktX11_init_61 := dk_seg dksX11_init_60 24 rfl rfl
theorem dksX11_init_62 : cX11_init.data.toList.drop 1472 = dktX11_init_62 := dk_seg dksX11_init_61 24 rfl rfl
theorem dksX11_init_63 : cX11_init.data.toList.drop 1496 = dktX11_init_63 := dk_seg dksX11_init_62 24 rfl rfl
theorem dksX11_init_64 : cX11_init.data.toList.drop 1520 = dktX11_init_64 := dk_seg dksX11_init_63 24 rfl rfl
theorem dksX11_init_65 : cX11_init.data.toList.drop 1544 = dktX11_init_65 := dk_seg dksX11_init_64 24 rfl rfl
theorem dksX11_init_66 : cX11_init.data.toList.drop 1567 = dktX11_init_66 := dk_seg dksX11_init_65 23 rfl rfl
theorem dksX11_init_67 : cX11_init.data.toList.drop 1591 = dktX11_init_67 := dk_seg dksX11_init_66 24 rfl rfl
theorem dksX11_init_68 : cX11_init.data.toList.drop 1615 = dktX11_init_68 := dk_seg dksX11_init_67 24 rfl rfl
theorem dksX11_init_69 : cX11_init.data.toList.drop 1639 = dktX11_init_69 := dk_seg dksX11_init_68 24 rfl rfl
theorem dksX11_init_70 : cX11_init.data.toList.drop 1662 = dktX11_init_70 := dk_seg dksX11_init_69 23 rfl rfl
theorem dX11_init_0 : decode cX11_init 0 = .ok (.aload_n 0, 1) := dk_42 (dk_at dksX11_init_0 0 rfl rfl)
theorem dX11_init_1 : decode cX11_init 1 = .ok (.invokespecial 1, 3) := dk_183 0 1 (dk_at dksX11_init_0 1 rfl rfl)
theorem dX11_init_4 : decode cX11_init 4 = .ok (.aload_n 0, 1) := dk_42 (dk_at dksX11_init_0 4 rfl rfl)
theorem dX11_init_5 : decode cX11_init 5 = .ok (.sipush 1600, 3) := dk_17 6 64 (dk_at dksX11_init_0 5 rfl rfl)
theorem dX11_init_8 : decode cX11_init 8 = .ok (.newarray .int, 2) := dk_188_10 (dk_at dksX11_init_0 8 rfl rfl)
theorem dX11_init_10 : decode cX11_init 10 = .ok (.putfield 7, 3) := dk_181 0 7 (dk_at dksX11_init_0 10 rfl rfl)
theorem dX11_init_13 : decode cX11_init 13 = .ok (.aload_n 0, 1) := dk_42 (dk_at dksX11_init_0 13 rfl rfl)
theorem dX11_init_14 : decode cX11_init 14 = .ok (.iconst (-1), 1) := dk_2 (dk_at dksX11_init_0 14 rfl rfl)
theorem dX11_init_15 : decode cX11_init 15 = .ok (.putfield 13, 3) := dk_181 0 13 (dk_at dksX11_init_0 15 rfl rfl)
theorem dX11_init_18 : decode cX11_init 18 = .ok (.aload_n 0, 1) := dk_42 (dk_at dksX11_init_0 18 rfl rfl)
theorem dX11_init_19 : decode cX11_init 19 = .ok (.bipush 7, 2) := dk_16 7 (dk_at dksX11_init_0 19 rfl rfl)
theorem dX11_init_21 : decode cX11_init 21 = .ok (.newarray .int, 2) := dk_188_10 (dk_at dksX11_init_0 21 rfl rfl)
theorem dX11_init_23 : decode cX11_init 23 = .ok (.putfield 17, 3) := dk_181 0 17 (dk_at dksX11_init_1 0 rfl rfl)
theorem dX11_init_26 : decode cX11_init 26 = .ok (.aload_n 0, 1) := dk_42 (dk_at dksX11_init_1 3 rfl rfl)
theorem dX11_init_27 : decode cX11_init 27 = .ok (.bipush 7, 2) := dk_16 7 (dk_at dksX11_init_1 4 rfl rfl)
theorem dX11_init_29 : decode cX11_init 29 = .ok (.newarray .char, 2) := dk_188_5 (dk_at dksX11_init_1 6 rfl rfl)
theorem dX11_init_31 : decode cX11_init 31 = .ok (.dup, 1) := dk_89 (dk_at dksX11_init_1 8 rfl rfl)
theorem dX11_init_32 : decode cX11_init 32 = .ok (.iconst 0, 1) := dk_3 (dk_at dksX11_init_1 9 rfl rfl)
theorem dX11_init_33 : decode cX11_init 33 = .ok (.bipush 106, 2) := dk_16 106 (dk_at dksX11_init_1 10 rfl rfl)
theorem dX11_init_35 : decode cX11_init 35 = .ok (.castore, 1) := dk_85 (dk_at dksX11_init_1 12 rfl rfl)
theorem dX11_init_36 : decode cX11_init 36 = .ok (.dup, 1) := dk_89 (dk_at dksX11_init_1 13 rfl rfl)
theorem dX11_init_37 : decode cX11_init 37 = .ok (.iconst 1, 1) := dk_4 (dk_at dksX11_init_1 14 rfl rfl)
theorem dX11_init_38 : decode cX11_init 38 = .ok (.bipush 111, 2) := dk_16 111 (dk_at dksX11_init_1 15 rfl rfl)
theorem dX11_init_40 : decode cX11_init 40 = .ok (.castore, 1) := dk_85 (dk_at dksX11_init_1 17 rfl rfl)
theorem dX11_init_41 : decode cX11_init 41 = .ok (.dup, 1) := dk_89 (dk_at dksX11_init_1 18 rfl rfl)
theorem dX11_init_42 : decode cX11_init 42 = .ok (.iconst 2, 1) := dk_5 (dk_at dksX11_init_1 19 rfl rfl)
theorem dX11_init_43 : decode cX11_init 43 = .ok (.bipush 117, 2) := dk_16 117 (dk_at dksX11_init_1 20 rfl rfl)
theorem dX11_init_45 : decode cX11_init 45 = .ok (.castore, 1) := dk_85 (dk_at dksX11_init_1 22 rfl rfl)
theorem dX11_init_46 : decode cX11_init 46 = .ok (.dup, 1) := dk_89 (dk_at dksX11_init_1 23 rfl rfl)
theorem dX11_init_47 : decode cX11_init 47 = .ok (.iconst 3, 1) := dk_6 (dk_at dksX11_init_2 0 rfl rfl)
theorem dX11_init_48 : decode cX11_init 48 = .ok (.bipush 114, 2) := dk_16 114 (dk_at dksX11_init_2 1 rfl rfl)
theorem dX11_init_50 : decode cX11_init 50 = .ok (.castore, 1) := dk_85 (dk_at dksX11_init_2 3 rfl rfl)
theorem dX11_init_51 : decode cX11_init 51 = .ok (.dup, 1) := dk_89 (dk_at dksX11_init_2 4 rfl rfl)
theorem dX11_init_52 : decode cX11_init 52 = .ok (.iconst 4, 1) := dk_7 (dk_at dksX11_init_2 5 rfl rfl)
theorem dX11_init_53 : decode cX11_init 53 = .ok (.bipush 110, 2) := dk_16 110 (dk_at dksX11_init_2 6 rfl rfl)
theorem dX11_init_55 : decode cX11_init 55 = .ok (.castore, 1) := dk_85 (dk_at dksX11_init_2 8 rfl rfl)
theorem dX11_init_56 : decode cX11_init 56 = .ok (.dup, 1) := dk_89 (dk_at dksX11_init_2 9 rfl rfl)
theorem dX11_init_57 : decode cX11_init 57 = .ok (.iconst 5, 1) := dk_8 (dk_at dksX11_init_2 10 rfl rfl)
theorem dX11_init_58 : decode cX11_init 58 = .ok (.bipush 97, 2) := dk_16 97 (dk_at dksX11_init_2 11 rfl rfl)
theorem dX11_init_60 : decode cX11_init 60 = .ok (.castore, 1) := dk_85 (dk_at dksX11_init_2 13 rfl rfl)
theorem dX11_init_61 : decode cX11_init 61 = .ok (.dup, 1) := dk_89 (dk_at dksX11_init_2 14 rfl rfl)
theorem dX11_init_62 : decode cX11_init 62 = .ok (.bipush 6, 2) := dk_16 6 (dk_at dksX11_init_2 15 rfl rfl)
theorem dX11_init_64 : decode cX11_init 64 = .ok (.bipush 108, 2) := dk_16 108 (dk_at dksX11_init_2 17 rfl rfl)
theorem dX11_init_66 : decode cX11_init 66 = .ok (.castore, 1) := dk_85 (dk_at dksX11_init_2 19 rfl rfl)
theorem dX11_init_67 : decode cX11_init 67 = .ok (.putfield 20, 3) := dk_181 0 20 (dk_at dksX11_init_2 20 rfl rfl)
theorem dX11_init_70 : decode cX11_init 70 = .ok (.aload_n 0, 1) := dk_42 (dk_at dksX11_init_2 23 rfl rfl)
theorem dX11_init_71 : decode cX11_init 71 = .ok (.bipush 6, 2) := dk_16 6 (dk_at dksX11_init_3 0 rfl rfl)
theorem dX11_init_73 : decode cX11_init 73 = .ok (.newarray .char, 2) := dk_188_5 (dk_at dksX11_init_3 2 rfl rfl)
theorem dX11_init_75 : decode cX11_init 75 = .ok (.dup, 1) := dk_89 (dk_at dksX11_init_3 4 rfl rfl)
theorem dX11_init_76 : decode cX11_init 76 = .ok (.iconst 0, 1) := dk_3 (dk_at dksX11_init_3 5 rfl rfl)
theorem dX11_init_77 : decode cX11_init 77 = .ok (.bipush 98, 2) := dk_16 98 (dk_at dksX11_init_3 6 rfl rfl)
theorem dX11_init_79 : decode cX11_init 79 = .ok (.castore, 1) := dk_85 (dk_at dksX11_init_3 8 rfl rfl)
theorem dX11_init_80 : decode cX11_init 80 = .ok (.dup, 1) := dk_89 (dk_at dksX11_init_3 9 rfl rfl)
theorem dX11_init_81 : decode cX11_init 81 = .ok (.iconst 1, 1) := dk_4 (dk_at dksX11_init_3 10 rfl rfl)
theorem dX11_init_82 : decode cX11_init 82 = .ok (.bipush 108, 2) := dk_16 108 (dk_at dksX11_init_3 11 rfl rfl)
theorem dX11_init_84 : decode cX11_init 84 = .ok (.castore, 1) := dk_85 (dk_at dksX11_init_3 13 rfl rfl)
theorem dX11_init_85 : decode cX11_init 85 = .ok (.dup, 1) := dk_89 (dk_at dksX11_init_3 14 rfl rfl)
theorem dX11_init_86 : decode cX11_init 86 = .ok (.iconst 2, 1) := dk_5 (dk_at dksX11_init_3 15 rfl rfl)
theorem dX11_init_87 : decode cX11_init 87 = .ok (.bipush 111, 2) := dk_16 111 (dk_at dksX11_init_3 16 rfl rfl)
theorem dX11_init_89 : decode cX11_init 89 = .ok (.castore, 1) := dk_85 (dk_at dksX11_init_3 18 rfl rfl)
theorem dX11_init_90 : decode cX11_init 90 = .ok (.dup, 1) := dk_89 (dk_at dksX11_init_3 19 rfl rfl)
theorem dX11_init_91 : decode cX11_init 91 = .ok (.iconst 3, 1) := dk_6 (dk_at dksX11_init_3 20 rfl rfl)
theorem dX11_init_92 : decode cX11_init 92 = .ok (.bipush 99, 2) := dk_16 99 (dk_at dksX11_init_3 21 rfl rfl)
theorem dX11_init_94 : decode cX11_init 94 = .ok (.castore, 1) := dk_85 (dk_at dksX11_init_3 23 rfl rfl)
theorem dX11_init_95 : decode cX11_init 95 = .ok (.dup, 1) := dk_89 (dk_at dksX11_init_4 0 rfl rfl)
theorem dX11_init_96 : decode cX11_init 96 = .ok (.iconst 4, 1) := dk_7 (dk_at dksX11_init_4 1 rfl rfl)
theorem dX11_init_97 : decode cX11_init 97 = .ok (.bipush 107, 2) := dk_16 107 (dk_at dksX11_init_4 2 rfl rfl)
theorem dX11_init_99 : decode cX11_init 99 = .ok (.castore, 1) := dk_85 (dk_at dksX11_init_4 4 rfl rfl)
theorem dX11_init_100 : decode cX11_init 100 = .ok (.dup, 1) := dk_89 (dk_at dksX11_init_4 5 rfl rfl)
theorem dX11_init_101 : decode cX11_init 101 = .ok (.iconst 5, 1) := dk_8 (dk_at dksX11_init_4 6 rfl rfl)
theorem dX11_init_102 : decode cX11_init 102 = .ok (.bipush 115, 2) := dk_16 115 (dk_at dksX11_init_4 7 rfl rfl)
theorem dX11_init_104 : decode cX11_init 104 = .ok (.castore, 1) := dk_85 (dk_at dksX11_init_4 9 rfl rfl)
theorem dX11_init_105 : decode cX11_init 105 = .ok (.putfield 24, 3) := dk_181 0 24 (dk_at dksX11_init_4 10 rfl rfl)
theorem dX11_init_108 : decode cX11_init 108 = .ok (.aload_n 0, 1) := dk_42 (dk_at dksX11_init_4 13 rfl rfl)
theorem dX11_init_109 : decode cX11_init 109 = .ok (.iconst 5, 1) := dk_8 (dk_at dksX11_init_4 14 rfl rfl)
theorem dX11_init_110 : decode cX11_init 110 = .ok (.newarray .char, 2) := dk_188_5 (dk_at dksX11_init_4 15 rfl rfl)
theorem dX11_init_112 : decode cX11_init 112 = .ok (.dup, 1) := dk_89 (dk_at dksX11_init_4 17 rfl rfl)
theorem dX11_init_113 : decode cX11_init 113 = .ok (.iconst 0, 1) := dk_3 (dk_at dksX11_init_4 18 rfl rfl)
theorem dX11_init_114 : decode cX11_init 114 = .ok (.bipush 98, 2) := dk_16 98 (dk_at dksX11_init_4 19 rfl rfl)
theorem dX11_init_116 : decode cX11_init 116 = .ok (.castore, 1) := dk_85 (dk_at dksX11_init_4 21 rfl rfl)
theorem dX11_init_117 : decode cX11_init 117 = .ok (.dup, 1) := dk_89 (dk_at dksX11_init_4 22 rfl rfl)
theorem dX11_init_118 : decode cX11_init 118 = .ok (.iconst 1, 1) := dk_4 (dk_at dksX11_init_4 23 rfl rfl)
theorem dX11_init_119 : decode cX11_init 119 = .ok (.bipush 121, 2) := dk_16 121 (dk_at dksX11_init_5 0 rfl rfl)
theorem dX11_init_121 : decode cX11_init 121 = .ok (.castore, 1) := dk_85 (dk_at dksX11_init_5 2 rfl rfl)
theorem dX11_init_122 : decode cX11_init 122 = .ok (.dup, 1) := dk_89 (dk_at dksX11_init_5 3 rfl rfl)
theorem dX11_init_123 : decode cX11_init 123 = .ok (.iconst 2, 1) := dk_5 (dk_at dksX11_init_5 4 rfl rfl)
theorem dX11_init_124 : decode cX11_init 124 = .ok (.bipush 116, 2) := dk_16 116 (dk_at dksX11_init_5 5 rfl rfl)
theorem dX11_init_126 : decode cX11_init 126 = .ok (.castore, 1) := dk_85 (dk_at dksX11_init_5 7 rfl rfl)
theorem dX11_init_127 : decode cX11_init 127 = .ok (.dup, 1) := dk_89 (dk_at dksX11_init_5 8 rfl rfl)
theorem dX11_init_128 : decode cX11_init 128 = .ok (.iconst 3, 1) := dk_6 (dk_at dksX11_init_5 9 rfl rfl)
theorem dX11_init_129 : decode cX11_init 129 = .ok (.bipush 101, 2) := dk_16 101 (dk_at dksX11_init_5 10 rfl rfl)
theorem dX11_init_131 : decode cX11_init 131 = .ok (.castore, 1) := dk_85 (dk_at dksX11_init_5 12 rfl rfl)
theorem dX11_init_132 : decode cX11_init 132 = .ok (.dup, 1) := dk_89 (dk_at dksX11_init_5 13 rfl rfl)
theorem dX11_init_133 : decode cX11_init 133 = .ok (.iconst 4, 1) := dk_7 (dk_at dksX11_init_5 14 rfl rfl)
theorem dX11_init_134 : decode cX11_init 134 = .ok (.bipush 115, 2) := dk_16 115 (dk_at dksX11_init_5 15 rfl rfl)
theorem dX11_init_136 : decode cX11_init 136 = .ok (.castore, 1) := dk_85 (dk_at dksX11_init_5 17 rfl rfl)
theorem dX11_init_137 : decode cX11_init 137 = .ok (.putfield 27, 3) := dk_181 0 27 (dk_at dksX11_init_5 18 rfl rfl)
theorem dX11_init_140 : decode cX11_init 140 = .ok (.aload_n 0, 1) := dk_42 (dk_at dksX11_init_5 21 rfl rfl)
theorem dX11_init_141 : decode cX11_init 141 = .ok (.iconst 3, 1) := dk_6 (dk_at dksX11_init_5 22 rfl rfl)
theorem dX11_init_142 : decode cX11_init 142 = .ok (.newarray .char, 2) := dk_188_5 (dk_at dksX11_init_6 0 rfl rfl)
theorem dX11_init_144 : decode cX11_init 144 = .ok (.dup, 1) := dk_89 (dk_at dksX11_init_6 2 rfl rfl)
theorem dX11_init_145 : decode cX11_init 145 = .ok (.iconst 0, 1) := dk_3 (dk_at dksX11_init_6 3 rfl rfl)
theorem dX11_init_146 : decode cX11_init 146 = .ok (.bipush 112, 2) := dk_16 112 (dk_at dksX11_init_6 4 rfl rfl)
theorem dX11_init_148 : decode cX11_init 148 = .ok (.castore, 1) := dk_85 (dk_at dksX11_init_6 6 rfl rfl)
theorem dX11_init_149 : decode cX11_init 149 = .ok (.dup, 1) := dk_89 (dk_at dksX11_init_6 7 rfl rfl)
theorem dX11_init_150 : decode cX11_init 150 = .ok (.iconst 1, 1) := dk_4 (dk_at dksX11_init_6 8 rfl rfl)
theorem dX11_init_151 : decode cX11_init 151 = .ok (.bipush 117, 2) := dk_16 117 (dk_at dksX11_init_6 9 rfl rfl)
theorem dX11_init_153 : decode cX11_init 153 = .ok (.castore, 1) := dk_85 (dk_at dksX11_init_6 11 rfl rfl)
theorem dX11_init_154 : decode cX11_init 154 = .ok (.dup, 1) := dk_89 (dk_at dksX11_init_6 12 rfl rfl)
theorem dX11_init_155 : decode cX11_init 155 = .ok (.iconst 2, 1) := dk_5 (dk_at dksX11_init_6 13 rfl rfl)
theorem dX11_init_156 : decode cX11_init 156 = .ok (.bipush 116, 2) := dk_16 116 (dk_at dksX11_init_6 14 rfl rfl)
theorem dX11_init_158 : decode cX11_init 158 = .ok (.castore, 1) := dk_85 (dk_at dksX11_init_6 16 rfl rfl)
theorem dX11_init_159 : decode cX11_init 159 = .ok (.putfield 30, 3) := dk_181 0 30 (dk_at dksX11_init_6 17 rfl rfl)
theorem dX11_init_162 : decode cX11_init 162 = .ok (.aload_n 0, 1) := dk_42 (dk_at dksX11_init_6 20 rfl rfl)
theorem dX11_init_163 : decode cX11_init 163 = .ok (.iconst 4, 1) := dk_7 (dk_at dksX11_init_6 21 rfl rfl)
theorem dX11_init_164 : decode cX11_init 164 = .ok (.newarray .char, 2) := dk_188_5 (dk_at dksX11_init_6 22 rfl rfl)
theorem dX11_init_166 : decode cX11_init 166 = .ok (.dup, 1) := dk_89 (dk_at dksX11_init_7 0 rfl rfl)
theorem dX11_init_167 : decode cX11_init 167 = .ok (.iconst 0, 1) := dk_3 (dk_at dksX11_init_7 1 rfl rfl)
theorem dX11_init_168 : decode cX11_init 168 = .ok (.bipush 115, 2) := dk_16 115 (dk_at dksX11_init_7 2 rfl rfl)
theorem dX11_init_170 : decode cX11_init 170 = .ok (.castore, 1) := dk_85 (dk_at dksX11_init_7 4 rfl rfl)
theorem dX11_init_171 : decode cX11_init 171 = .ok (.dup, 1) := dk_89 (dk_at dksX11_init_7 5 rfl rfl)
theorem dX11_init_172 : decode cX11_init 172 = .ok (.iconst 1, 1) := dk_4 (dk_at dksX11_init_7 6 rfl rfl)
theorem dX11_init_173 : decode cX11_init 173 = .ok (.bipush 105, 2) := dk_16 105 (dk_at dksX11_init_7 7 rfl rfl)
theorem dX11_init_175 : decode cX11_init 175 = .ok (.castore, 1) := dk_85 (dk_at dksX11_init_7 9 rfl rfl)
theorem dX11_init_176 : decode cX11_init 176 = .ok (.dup, 1) := dk_89 (dk_at dksX11_init_7 10 rfl rfl)
theorem dX11_init_177 : decode cX11_init 177 = .ok (.iconst 2, 1) := dk_5 (dk_at dksX11_init_7 11 rfl rfl)
theorem dX11_init_178 : decode cX11_init 178 = .ok (.bipush 122, 2) := dk_16 122 (dk_at dksX11_init_7 12 rfl rfl)
theorem dX11_init_180 : decode cX11_init 180 = .ok (.castore, 1) := dk_85 (dk_at dksX11_init_7 14 rfl rfl)
theorem dX11_init_181 : decode cX11_init 181 = .ok (.dup, 1) := dk_89 (dk_at dksX11_init_7 15 rfl rfl)
theorem dX11_init_182 : decode cX11_init 182 = .ok (.iconst 3, 1) := dk_6 (dk_at dksX11_init_7 16 rfl rfl)
theorem dX11_init_183 : decode cX11_init 183 = .ok (.bipush 101, 2) := dk_16 101 (dk_at dksX11_init_7 17 rfl rfl)
theorem dX11_init_185 : decode cX11_init 185 = .ok (.castore, 1) := dk_85 (dk_at dksX11_init_7 19 rfl rfl)
theorem dX11_init_186 : decode cX11_init 186 = .ok (.putfield 33, 3) := dk_181 0 33 (dk_at dksX11_init_7 20 rfl rfl)
theorem dX11_init_189 : decode cX11_init 189 = .ok (.aload_n 0, 1) := dk_42 (dk_at dksX11_init_7 23 rfl rfl)
theorem dX11_init_190 : decode cX11_init 190 = .ok (.bipush 6, 2) := dk_16 6 (dk_at dksX11_init_8 0 rfl rfl)
theorem dX11_init_192 : decode cX11_init 192 = .ok (.newarray .char, 2) := dk_188_5 (dk_at dksX11_init_8 2 rfl rfl)
theorem dX11_init_194 : decode cX11_init 194 = .ok (.dup, 1) := dk_89 (dk_at dksX11_init_8 4 rfl rfl)
theorem dX11_init_195 : decode cX11_init 195 = .ok (.iconst 0, 1) := dk_3 (dk_at dksX11_init_8 5 rfl rfl)
theorem dX11_init_196 : decode cX11_init 196 = .ok (.bipush 99, 2) := dk_16 99 (dk_at dksX11_init_8 6 rfl rfl)
theorem dX11_init_198 : decode cX11_init 198 = .ok (.castore, 1) := dk_85 (dk_at dksX11_init_8 8 rfl rfl)
theorem dX11_init_199 : decode cX11_init 199 = .ok (.dup, 1) := dk_89 (dk_at dksX11_init_8 9 rfl rfl)
theorem dX11_init_200 : decode cX11_init 200 = .ok (.iconst 1, 1) := dk_4 (dk_at dksX11_init_8 10 rfl rfl)
theorem dX11_init_201 : decode cX11_init 201 = .ok (.bipush 108, 2) := dk_16 108 (dk_at dksX11_init_8 11 rfl rfl)
theorem dX11_init_203 : decode cX11_init 203 = .ok (.castore, 1) := dk_85 (dk_at dksX11_init_8 13 rfl rfl)
theorem dX11_init_204 : decode cX11_init 204 = .ok (.dup, 1) := dk_89 (dk_at dksX11_init_8 14 rfl rfl)
theorem dX11_init_205 : decode cX11_init 205 = .ok (.iconst 2, 1) := dk_5 (dk_at dksX11_init_8 15 rfl rfl)
theorem dX11_init_206 : decode cX11_init 206 = .ok (.bipush 111, 2) := dk_16 111 (dk_at dksX11_init_8 16 rfl rfl)
theorem dX11_init_208 : decode cX11_init 208 = .ok (.castore, 1) := dk_85 (dk_at dksX11_init_8 18 rfl rfl)
theorem dX11_init_209 : decode cX11_init 209 = .ok (.dup, 1) := dk_89 (dk_at dksX11_init_8 19 rfl rfl)
theorem dX11_init_210 : decode cX11_init 210 = .ok (.iconst 3, 1) := dk_6 (dk_at dksX11_init_8 20 rfl rfl)
theorem dX11_init_211 : decode cX11_init 211 = .ok (.bipush 115, 2) := dk_16 115 (dk_at dksX11_init_8 21 rfl rfl)
theorem dX11_init_213 : decode cX11_init 213 = .ok (.castore, 1) := dk_85 (dk_at dksX11_init_8 23 rfl rfl)
theorem dX11_init_214 : decode cX11_init 214 = .ok (.dup, 1) := dk_89 (dk_at dksX11_init_9 0 rfl rfl)
theorem dX11_init_215 : decode cX11_init 215 = .ok (.iconst 4, 1) := dk_7 (dk_at dksX11_init_9 1 rfl rfl)
theorem dX11_init_216 : decode cX11_init 216 = .ok (.bipush 101, 2) := dk_16 101 (dk_at dksX11_init_9 2 rfl rfl)
theorem dX11_init_218 : decode cX11_init 218 = .ok (.castore, 1) := dk_85 (dk_at dksX11_init_9 4 rfl rfl)
theorem dX11_init_219 : decode cX11_init 219 = .ok (.dup, 1) := dk_89 (dk_at dksX11_init_9 5 rfl rfl)
theorem dX11_init_220 : decode cX11_init 220 = .ok (.iconst 5, 1) := dk_8 (dk_at dksX11_init_9 6 rfl rfl)
theorem dX11_init_221 : decode cX11_init 221 = .ok (.bipush 115, 2) := dk_16 115 (dk_at dksX11_init_9 7 rfl rfl)
theorem dX11_init_223 : decode cX11_init 223 = .ok (.castore, 1) := dk_85 (dk_at dksX11_init_9 9 rfl rfl)
theorem dX11_init_224 : decode cX11_init 224 = .ok (.putfield 36, 3) := dk_181 0 36 (dk_at dksX11_init_9 10 rfl rfl)
theorem dX11_init_227 : decode cX11_init 227 = .ok (.aload_n 0, 1) := dk_42 (dk_at dksX11_init_9 13 rfl rfl)
theorem dX11_init_228 : decode cX11_init 228 = .ok (.iconst 5, 1) := dk_8 (dk_at dksX11_init_9 14 rfl rfl)
theorem dX11_init_229 : decode cX11_init 229 = .ok (.newarray .char, 2) := dk_188_5 (dk_at dksX11_init_9 15 rfl rfl)
theorem dX11_init_231 : decode cX11_init 231 = .ok (.dup, 1) := dk_89 (dk_at dksX11_init_9 17 rfl rfl)
theorem dX11_init_232 : decode cX11_init 232 = .ok (.iconst 0, 1) := dk_3 (dk_at dksX11_init_9 18 rfl rfl)
theorem dX11_init_233 : decode cX11_init 233 = .ok (.bipush 116, 2) := dk_16 116 (dk_at dksX11_init_9 19 rfl rfl)
theorem dX11_init_235 : decode cX11_init 235 = .ok (.castore, 1) := dk_85 (dk_at dksX11_init_9 21 rfl rfl)
theorem dX11_init_236 : decode cX11_init 236 = .ok (.dup, 1) := dk_89 (dk_at dksX11_init_9 22 rfl rfl)
theorem dX11_init_237 : decode cX11_init 237 = .ok (.iconst 1, 1) := dk_4 (dk_at dksX11_init_9 23 rfl rfl)
theorem dX11_init_238 : decode cX11_init 238 = .ok (.bipush 97, 2) := dk_16 97 (dk_at dksX11_init_10 0 rfl rfl)
theorem dX11_init_240 : decode cX11_init 240 = .ok (.castore, 1) := dk_85 (dk_at dksX11_init_10 2 rfl rfl)
theorem dX11_init_241 : decode cX11_init 241 = .ok (.dup, 1) := dk_89 (dk_at dksX11_init_10 3 rfl rfl)
theorem dX11_init_242 : decode cX11_init 242 = .ok (.iconst 2, 1) := dk_5 (dk_at dksX11_init_10 4 rfl rfl)
theorem dX11_init_243 : decode cX11_init 243 = .ok (.bipush 107, 2) := dk_16 107 (dk_at dksX11_init_10 5 rfl rfl)
theorem dX11_init_245 : decode cX11_init 245 = .ok (.castore, 1) := dk_85 (dk_at dksX11_init_10 7 rfl rfl)
theorem dX11_init_246 : decode cX11_init 246 = .ok (.dup, 1) := dk_89 (dk_at dksX11_init_10 8 rfl rfl)
theorem dX11_init_247 : decode cX11_init 247 = .ok (.iconst 3, 1) := dk_6 (dk_at dksX11_init_10 9 rfl rfl)
theorem dX11_init_248 : decode cX11_init 248 = .ok (.bipush 101, 2) := dk_16 101 (dk_at dksX11_init_10 10 rfl rfl)
theorem dX11_init_250 : decode cX11_init 250 = .ok (.castore, 1) := dk_85 (dk_at dksX11_init_10 12 rfl rfl)
theorem dX11_init_251 : decode cX11_init 251 = .ok (.dup, 1) := dk_89 (dk_at dksX11_init_10 13 rfl rfl)
theorem dX11_init_252 : decode cX11_init 252 = .ok (.iconst 4, 1) := dk_7 (dk_at dksX11_init_10 14 rfl rfl)
theorem dX11_init_253 : decode cX11_init 253 = .ok (.bipush 115, 2) := dk_16 115 (dk_at dksX11_init_10 15 rfl rfl)
theorem dX11_init_255 : decode cX11_init 255 = .ok (.castore, 1) := dk_85 (dk_at dksX11_init_10 17 rfl rfl)
theorem dX11_init_256 : decode cX11_init 256 = .ok (.putfield 39, 3) := dk_181 0 39 (dk_at dksX11_init_10 18 rfl rfl)
theorem dX11_init_259 : decode cX11_init 259 = .ok (.aload_n 0, 1) := dk_42 (dk_at dksX11_init_10 21 rfl rfl)
theorem dX11_init_260 : decode cX11_init 260 = .ok (.iconst 5, 1) := dk_8 (dk_at dksX11_init_10 22 rfl rfl)
theorem dX11_init_261 : decode cX11_init 261 = .ok (.newarray .char, 2) := dk_188_5 (dk_at dksX11_init_11 0 rfl rfl)
theorem dX11_init_263 : decode cX11_init 263 = .ok (.dup, 1) := dk_89 (dk_at dksX11_init_11 2 rfl rfl)
theorem dX11_init_264 : decode cX11_init 264 = .ok (.iconst 0, 1) := dk_3 (dk_at dksX11_init_11 3 rfl rfl)
theorem dX11_init_265 : decode cX11_init 265 = .ok (.bipush 110, 2) := dk_16 110 (dk_at dksX11_init_11 4 rfl rfl)
theorem dX11_init_267 : decode cX11_init 267 = .ok (.castore, 1) := dk_85 (dk_at dksX11_init_11 6 rfl rfl)
theorem dX11_init_268 : decode cX11_init 268 = .ok (.dup, 1) := dk_89 (dk_at dksX11_init_11 7 rfl rfl)
theorem dX11_init_269 : decode cX11_init 269 = .ok (.iconst 1, 1) := dk_4 (dk_at dksX11_init_11 8 rfl rfl)
theorem dX11_init_270 : decode cX11_init 270 = .ok (.bipush 111, 2) := dk_16 111 (dk_at dksX11_init_11 9 rfl rfl)
theorem dX11_init_272 : decode cX11_init 272 = .ok (.castore, 1) := dk_85 (dk_at dksX11_init_11 11 rfl rfl)
theorem dX11_init_273 : decode cX11_init 273 = .ok (.dup, 1) := dk_89 (dk_at dksX11_init_11 12 rfl rfl)
theorem dX11_init_274 : decode cX11_init 274 = .ok (.iconst 2, 1) := dk_5 (dk_at dksX11_init_11 13 rfl rfl)
theorem dX11_init_275 : decode cX11_init 275 = .ok (.bipush 105, 2) := dk_16 105 (dk_at dksX11_init_11 14 rfl rfl)
theorem dX11_init_277 : decode cX11_init 277 = .ok (.castore, 1) := dk_85 (dk_at dksX11_init_11 16 rfl rfl)
theorem dX11_init_278 : decode cX11_init 278 = .ok (.dup, 1) := dk_89 (dk_at dksX11_init_11 17 rfl rfl)
theorem dX11_init_279 : decode cX11_init 279 = .ok (.iconst 3, 1) := dk_6 (dk_at dksX11_init_11 18 rfl rfl)
theorem dX11_init_280 : decode cX11_init 280 = .ok (.bipush 115, 2) := dk_16 115 (dk_at dksX11_init_11 19 rfl rfl)
theorem dX11_init_282 : decode cX11_init 282 = .ok (.castore, 1) := dk_85 (dk_at dksX11_init_11 21 rfl rfl)
theorem dX11_init_283 : decode cX11_init 283 = .ok (.dup, 1) := dk_89 (dk_at dksX11_init_11 22 rfl rfl)
theorem dX11_init_284 : decode cX11_init 284 = .ok (.iconst 4, 1) := dk_7 (dk_at dksX11_init_11 23 rfl rfl)
theorem dX11_init_285 : decode cX11_init 285 = .ok (.bipush 101, 2) := dk_16 101 (dk_at dksX11_init_12 0 rfl rfl)
theorem dX11_init_287 : decode cX11_init 287 = .ok (.castore, 1) := dk_85 (dk_at dksX11_init_12 2 rfl rfl)
theorem dX11_init_288 : decode cX11_init 288 = .ok (.putfield 42, 3) := dk_181 0 42 (dk_at dksX11_init_12 3 rfl rfl)
theorem dX11_init_291 : decode cX11_init 291 = .ok (.aload_n 0, 1) := dk_42 (dk_at dksX11_init_12 6 rfl rfl)
theorem dX11_init_292 : decode cX11_init 292 = .ok (.iconst 4, 1) := dk_7 (dk_at dksX11_init_12 7 rfl rfl)
theorem dX11_init_293 : decode cX11_init 293 = .ok (.newarray .char, 2) := dk_188_5 (dk_at dksX11_init_12 8 rfl rfl)
theorem dX11_init_295 : decode cX11_init 295 = .ok (.dup, 1) := dk_89 (dk_at dksX11_init_12 10 rfl rfl)
theorem dX11_init_296 : decode cX11_init 296 = .ok (.iconst 0, 1) := dk_3 (dk_at dksX11_init_12 11 rfl rfl)
theorem dX11_init_297 : decode cX11_init 297 = .ok (.bipush 116, 2) := dk_16 116 (dk_at dksX11_init_12 12 rfl rfl)
theorem dX11_init_299 : decode cX11_init 299 = .ok (.castore, 1) := dk_85 (dk_at dksX11_init_12 14 rfl rfl)
theorem dX11_init_300 : decode cX11_init 300 = .ok (.dup, 1) := dk_89 (dk_at dksX11_init_12 15 rfl rfl)
theorem dX11_init_301 : decode cX11_init 301 = .ok (.iconst 1, 1) := dk_4 (dk_at dksX11_init_12 16 rfl rfl)
theorem dX11_init_302 : decode cX11_init 302 = .ok (.bipush 105, 2) := dk_16 105 (dk_at dksX11_init_12 17 rfl rfl)
theorem dX11_init_304 : decode cX11_init 304 = .ok (.castore, 1) := dk_85 (dk_at dksX11_init_12 19 rfl rfl)
theorem dX11_init_305 : decode cX11_init 305 = .ok (.dup, 1) := dk_89 (dk_at dksX11_init_12 20 rfl rfl)
theorem dX11_init_306 : decode cX11_init 306 = .ok (.iconst 2, 1) := dk_5 (dk_at dksX11_init_12 21 rfl rfl)
theorem dX11_init_307 : decode cX11_init 307 = .ok (.bipush 99, 2) := dk_16 99 (dk_at dksX11_init_12 22 rfl rfl)
theorem dX11_init_309 : decode cX11_init 309 = .ok (.castore, 1) := dk_85 (dk_at dksX11_init_13 0 rfl rfl)
theorem dX11_init_310 : decode cX11_init 310 = .ok (.dup, 1) := dk_89 (dk_at dksX11_init_13 1 rfl rfl)
theorem dX11_init_311 : decode cX11_init 311 = .ok (.iconst 3, 1) := dk_6 (dk_at dksX11_init_13 2 rfl rfl)
theorem dX11_init_312 : decode cX11_init 312 = .ok (.bipush 107, 2) := dk_16 107 (dk_at dksX11_init_13 3 rfl rfl)
theorem dX11_init_314 : decode cX11_init 314 = .ok (.castore, 1) := dk_85 (dk_at dksX11_init_13 5 rfl rfl)
theorem dX11_init_315 : decode cX11_init 315 = .ok (.putfield 45, 3) := dk_181 0 45 (dk_at dksX11_init_13 6 rfl rfl)
theorem dX11_init_318 : decode cX11_init 318 = .ok (.aload_n 0, 1) := dk_42 (dk_at dksX11_init_13 9 rfl rfl)
theorem dX11_init_319 : decode cX11_init 319 = .ok (.bipush 7, 2) := dk_16 7 (dk_at dksX11_init_13 10 rfl rfl)
theorem dX11_init_321 : decode cX11_init 321 = .ok (.newarray .char, 2) := dk_188_5 (dk_at dksX11_init_13 12 rfl rfl)
theorem dX11_init_323 : decode cX11_init 323 = .ok (.dup, 1) := dk_89 (dk_at dksX11_init_13 14 rfl rfl)
theorem dX11_init_324 : decode cX11_init 324 = .ok (.iconst 0, 1) := dk_3 (dk_at dksX11_init_13 15 rfl rfl)
theorem dX11_init_325 : decode cX11_init 325 = .ok (.bipush 114, 2) := dk_16 114 (dk_at dksX11_init_13 16 rfl rfl)
theorem dX11_init_327 : decode cX11_init 327 = .ok (.castore, 1) := dk_85 (dk_at dksX11_init_13 18 rfl rfl)
theorem dX11_init_328 : decode cX11_init 328 = .ok (.dup, 1) := dk_89 (dk_at dksX11_init_13 19 rfl rfl)
theorem dX11_init_329 : decode cX11_init 329 = .ok (.iconst 1, 1) := dk_4 (dk_at dksX11_init_13 20 rfl rfl)
theorem dX11_init_330 : decode cX11_init 330 = .ok (.bipush 101, 2) := dk_16 101 (dk_at dksX11_init_13 21 rfl rfl)
theorem dX11_init_332 : decode cX11_init 332 = .ok (.castore, 1) := dk_85 (dk_at dksX11_init_13 23 rfl rfl)
theorem dX11_init_333 : decode cX11_init 333 = .ok (.dup, 1) := dk_89 (dk_at dksX11_init_14 0 rfl rfl)
theorem dX11_init_334 : decode cX11_init 334 = .ok (.iconst 2, 1) := dk_5 (dk_at dksX11_init_14 1 rfl rfl)
theorem dX11_init_335 : decode cX11_init 335 = .ok (.bipush 99, 2) := dk_16 99 (dk_at dksX11_init_14 2 rfl rfl)
theorem dX11_init_337 : decode cX11_init 337 = .ok (.castore, 1) := dk_85 (dk_at dksX11_init_14 4 rfl rfl)
theorem dX11_init_338 : decode cX11_init 338 = .ok (.dup, 1) := dk_89 (dk_at dksX11_init_14 5 rfl rfl)
theorem dX11_init_339 : decode cX11_init 339 = .ok (.iconst 3, 1) := dk_6 (dk_at dksX11_init_14 6 rfl rfl)
theorem dX11_init_340 : decode cX11_init 340 = .ok (.bipush 111, 2) := dk_16 111 (dk_at dksX11_init_14 7 rfl rfl)
theorem dX11_init_342 : decode cX11_init 342 = .ok (.castore, 1) := dk_85 (dk_at dksX11_init_14 9 rfl rfl)
theorem dX11_init_343 : decode cX11_init 343 = .ok (.dup, 1) := dk_89 (dk_at dksX11_init_14 10 rfl rfl)
theorem dX11_init_344 : decode cX11_init 344 = .ok (.iconst 4, 1) := dk_7 (dk_at dksX11_init_14 11 rfl rfl)
theorem dX11_init_345 : decode cX11_init 345 = .ok (.bipush 114, 2) := dk_16 114 (dk_at dksX11_init_14 12 rfl rfl)
theorem dX11_init_347 : decode cX11_init 347 = .ok (.castore, 1) := dk_85 (dk_at dksX11_init_14 14 rfl rfl)
theorem dX11_init_348 : decode cX11_init 348 = .ok (.dup, 1) := dk_89 (dk_at dksX11_init_14 15 rfl rfl)
theorem dX11_init_349 : decode cX11_init 349 = .ok (.iconst 5, 1) := dk_8 (dk_at dksX11_init_14 16 rfl rfl)
theorem dX11_init_350 : decode cX11_init 350 = .ok (.bipush 100, 2) := dk_16 100 (dk_at dksX11_init_14 17 rfl rfl)
theorem dX11_init_352 : decode cX11_init 352 = .ok (.castore, 1) := dk_85 (dk_at dksX11_init_14 19 rfl rfl)
theorem dX11_init_353 : decode cX11_init 353 = .ok (.dup, 1) := dk_89 (dk_at dksX11_init_14 20 rfl rfl)
theorem dX11_init_354 : decode cX11_init 354 = .ok (.bipush 6, 2) := dk_16 6 (dk_at dksX11_init_14 21 rfl rfl)
theorem dX11_init_356 : decode cX11_init 356 = .ok (.bipush 115, 2) := dk_16 115 (dk_at dksX11_init_15 0 rfl rfl)
theorem dX11_init_358 : decode cX11_init 358 = .ok (.castore, 1) := dk_85 (dk_at dksX11_init_15 2 rfl rfl)
theorem dX11_init_359 : decode cX11_init 359 = .ok (.putfield 48, 3) := dk_181 0 48 (dk_at dksX11_init_15 3 rfl rfl)
theorem dX11_init_362 : decode cX11_init 362 = .ok (.aload_n 0, 1) := dk_42 (dk_at dksX11_init_15 6 rfl rfl)
theorem dX11_init_363 : decode cX11_init 363 = .ok (.bipush 7, 2) := dk_16 7 (dk_at dksX11_init_15 7 rfl rfl)
theorem dX11_init_365 : decode cX11_init 365 = .ok (.newarray .char, 2) := dk_188_5 (dk_at dksX11_init_15 9 rfl rfl)
theorem dX11_init_367 : decode cX11_init 367 = .ok (.dup, 1) := dk_89 (dk_at dksX11_init_15 11 rfl rfl)
theorem dX11_init_368 : decode cX11_init 368 = .ok (.iconst 0, 1) := dk_3 (dk_at dksX11_init_15 12 rfl rfl)
theorem dX11_init_369 : decode cX11_init 369 = .ok (.bipush 112, 2) := dk_16 112 (dk_at dksX11_init_15 13 rfl rfl)
theorem dX11_init_371 : decode cX11_init 371 = .ok (.castore, 1) := dk_85 (dk_at dksX11_init_15 15 rfl rfl)
theorem dX11_init_372 : decode cX11_init 372 = .ok (.dup, 1) := dk_89 (dk_at dksX11_init_15 16 rfl rfl)
theorem dX11_init_373 : decode cX11_init 373 = .ok (.iconst 1, 1) := dk_4 (dk_at dksX11_init_15 17 rfl rfl)
theorem dX11_init_374 : decode cX11_init 374 = .ok (.bipush 97, 2) := dk_16 97 (dk_at dksX11_init_15 18 rfl rfl)
theorem dX11_init_376 : decode cX11_init 376 = .ok (.castore, 1) := dk_85 (dk_at dksX11_init_15 20 rfl rfl)
theorem dX11_init_377 : decode cX11_init 377 = .ok (.dup, 1) := dk_89 (dk_at dksX11_init_15 21 rfl rfl)
theorem dX11_init_378 : decode cX11_init 378 = .ok (.iconst 2, 1) := dk_5 (dk_at dksX11_init_15 22 rfl rfl)
theorem dX11_init_379 : decode cX11_init 379 = .ok (.bipush 121, 2) := dk_16 121 (dk_at dksX11_init_16 0 rfl rfl)
theorem dX11_init_381 : decode cX11_init 381 = .ok (.castore, 1) := dk_85 (dk_at dksX11_init_16 2 rfl rfl)
theorem dX11_init_382 : decode cX11_init 382 = .ok (.dup, 1) := dk_89 (dk_at dksX11_init_16 3 rfl rfl)
theorem dX11_init_383 : decode cX11_init 383 = .ok (.iconst 3, 1) := dk_6 (dk_at dksX11_init_16 4 rfl rfl)
theorem dX11_init_384 : decode cX11_init 384 = .ok (.bipush 108, 2) := dk_16 108 (dk_at dksX11_init_16 5 rfl rfl)
theorem dX11_init_386 : decode cX11_init 386 = .ok (.castore, 1) := dk_85 (dk_at dksX11_init_16 7 rfl rfl)
theorem dX11_init_387 : decode cX11_init 387 = .ok (.dup, 1) := dk_89 (dk_at dksX11_init_16 8 rfl rfl)
theorem dX11_init_388 : decode cX11_init 388 = .ok (.iconst 4, 1) := dk_7 (dk_at dksX11_init_16 9 rfl rfl)
theorem dX11_init_389 : decode cX11_init 389 = .ok (.bipush 111, 2) := dk_16 111 (dk_at dksX11_init_16 10 rfl rfl)
theorem dX11_init_391 : decode cX11_init 391 = .ok (.castore, 1) := dk_85 (dk_at dksX11_init_16 12 rfl rfl)
theorem dX11_init_392 : decode cX11_init 392 = .ok (.dup, 1) := dk_89 (dk_at dksX11_init_16 13 rfl rfl)
theorem dX11_init_393 : decode cX11_init 393 = .ok (.iconst 5, 1) := dk_8 (dk_at dksX11_init_16 14 rfl rfl)
theorem dX11_init_394 : decode cX11_init 394 = .ok (.bipush 97, 2) := dk_16 97 (dk_at dksX11_init_16 15 rfl rfl)
theorem dX11_init_396 : decode cX11_init 396 = .ok (.castore, 1) := dk_85 (dk_at dksX11_init_16 17 rfl rfl)
theorem dX11_init_397 : decode cX11_init 397 = .ok (.dup, 1) := dk_89 (dk_at dksX11_init_16 18 rfl rfl)
theorem dX11_init_398 : decode cX11_init 398 = .ok (.bipush 6, 2) := dk_16 6 (dk_at dksX11_init_16 19 rfl rfl)
theorem dX11_init_400 : decode cX11_init 400 = .ok (.bipush 100, 2) := dk_16 100 (dk_at dksX11_init_16 21 rfl rfl)
theorem dX11_init_402 : decode cX11_init 402 = .ok (.castore, 1) := dk_85 (dk_at dksX11_init_16 23 rfl rfl)
theorem dX11_init_403 : decode cX11_init 403 = .ok (.putfield 51, 3) := dk_181 0 51 (dk_at dksX11_init_17 0 rfl rfl)
theorem dX11_init_406 : decode cX11_init 406 = .ok (.aload_n 0, 1) := dk_42 (dk_at dksX11_init_17 3 rfl rfl)
theorem dX11_init_407 : decode cX11_init 407 = .ok (.iconst 3, 1) := dk_6 (dk_at dksX11_init_17 4 rfl rfl)
theorem dX11_init_408 : decode cX11_init 408 = .ok (.newarray .char, 2) := dk_188_5 (dk_at dksX11_init_17 5 rfl rfl)
theorem dX11_init_410 : decode cX11_init 410 = .ok (.dup, 1) := dk_89 (dk_at dksX11_init_17 7 rfl rfl)
theorem dX11_init_411 : decode cX11_init 411 = .ok (.iconst 0, 1) := dk_3 (dk_at dksX11_init_17 8 rfl rfl)
theorem dX11_init_412 : decode cX11_init 412 = .ok (.bipush 97, 2) := dk_16 97 (dk_at dksX11_init_17 9 rfl rfl)
theorem dX11_init_414 : decode cX11_init 414 = .ok (.castore, 1) := dk_85 (dk_at dksX11_init_17 11 rfl rfl)
theorem dX11_init_415 : decode cX11_init 415 = .ok (.dup, 1) := dk_89 (dk_at dksX11_init_17 12 rfl rfl)
theorem dX11_init_416 : decode cX11_init 416 = .ok (.iconst 1, 1) := dk_4 (dk_at dksX11_init_17 13 rfl rfl)
theorem dX11_init_417 : decode cX11_init 417 = .ok (.bipush 103, 2) := dk_16 103 (dk_at dksX11_init_17 14 rfl rfl)
theorem dX11_init_419 : decode cX11_init 419 = .ok (.castore, 1) := dk_85 (dk_at dksX11_init_17 16 rfl rfl)
theorem dX11_init_420 : decode cX11_init 420 = .ok (.dup, 1) := dk_89 (dk_at dksX11_init_17 17 rfl rfl)
theorem dX11_init_421 : decode cX11_init 421 = .ok (.iconst 2, 1) := dk_5 (dk_at dksX11_init_17 18 rfl rfl)
theorem dX11_init_422 : decode cX11_init 422 = .ok (.bipush 101, 2) := dk_16 101 (dk_at dksX11_init_17 19 rfl rfl)
theorem dX11_init_424 : decode cX11_init 424 = .ok (.castore, 1) := dk_85 (dk_at dksX11_init_17 21 rfl rfl)
theorem dX11_init_425 : decode cX11_init 425 = .ok (.putfield 54, 3) := dk_181 0 54 (dk_at dksX11_init_18 0 rfl rfl)
theorem dX11_init_428 : decode cX11_init 428 = .ok (.aload_n 0, 1) := dk_42 (dk_at dksX11_init_18 3 rfl rfl)
theorem dX11_init_429 : decode cX11_init 429 = .ok (.bipush 7, 2) := dk_16 7 (dk_at dksX11_init_18 4 rfl rfl)
theorem dX11_init_431 : decode cX11_init 431 = .ok (.newarray .char, 2) := dk_188_5 (dk_at dksX11_init_18 6 rfl rfl)
theorem dX11_init_433 : decode cX11_init 433 = .ok (.dup, 1) := dk_89 (dk_at dksX11_init_18 8 rfl rfl)
theorem dX11_init_434 : decode cX11_init 434 = .ok (.iconst 0, 1) := dk_3 (dk_at dksX11_init_18 9 rfl rfl)
theorem dX11_init_435 : decode cX11_init 435 = .ok (.bipush 119, 2) := dk_16 119 (dk_at dksX11_init_18 10 rfl rfl)
theorem dX11_init_437 : decode cX11_init 437 = .ok (.castore, 1) := dk_85 (dk_at dksX11_init_18 12 rfl rfl)
theorem dX11_init_438 : decode cX11_init 438 = .ok (.dup, 1) := dk_89 (dk_at dksX11_init_18 13 rfl rfl)
theorem dX11_init_439 : decode cX11_init 439 = .ok (.iconst 1, 1) := dk_4 (dk_at dksX11_init_18 14 rfl rfl)
theorem dX11_init_440 : decode cX11_init 440 = .ok (.bipush 97, 2) := dk_16 97 (dk_at dksX11_init_18 15 rfl rfl)
theorem dX11_init_442 : decode cX11_init 442 = .ok (.castore, 1) := dk_85 (dk_at dksX11_init_18 17 rfl rfl)
theorem dX11_init_443 : decode cX11_init 443 = .ok (.dup, 1) := dk_89 (dk_at dksX11_init_18 18 rfl rfl)
theorem dX11_init_444 : decode cX11_init 444 = .ok (.iconst 2, 1) := dk_5 (dk_at dksX11_init_18 19 rfl rfl)
theorem dX11_init_445 : decode cX11_init 445 = .ok (.bipush 105, 2) := dk_16 105 (dk_at dksX11_init_18 20 rfl rfl)
theorem dX11_init_447 : decode cX11_init 447 = .ok (.castore, 1) := dk_85 (dk_at dksX11_init_18 22 rfl rfl)
theorem dX11_init_448 : decode cX11_init 448 = .ok (.dup, 1) := dk_89 (dk_at dksX11_init_18 23 rfl rfl)
theorem dX11_init_449 : decode cX11_init 449 = .ok (.iconst 3, 1) := dk_6 (dk_at dksX11_init_19 0 rfl rfl)
theorem dX11_init_450 : decode cX11_init 450 = .ok (.bipush 116, 2) := dk_16 116 (dk_at dksX11_init_19 1 rfl rfl)
theorem dX11_init_452 : decode cX11_init 452 = .ok (.castore, 1) := dk_85 (dk_at dksX11_init_19 3 rfl rfl)
theorem dX11_init_453 : decode cX11_init 453 = .ok (.dup, 1) := dk_89 (dk_at dksX11_init_19 4 rfl rfl)
theorem dX11_init_454 : decode cX11_init 454 = .ok (.iconst 4, 1) := dk_7 (dk_at dksX11_init_19 5 rfl rfl)
theorem dX11_init_455 : decode cX11_init 455 = .ok (.bipush 101, 2) := dk_16 101 (dk_at dksX11_init_19 6 rfl rfl)
theorem dX11_init_457 : decode cX11_init 457 = .ok (.castore, 1) := dk_85 (dk_at dksX11_init_19 8 rfl rfl)
theorem dX11_init_458 : decode cX11_init 458 = .ok (.dup, 1) := dk_89 (dk_at dksX11_init_19 9 rfl rfl)
theorem dX11_init_459 : decode cX11_init 459 = .ok (.iconst 5, 1) := dk_8 (dk_at dksX11_init_19 10 rfl rfl)
theorem dX11_init_460 : decode cX11_init 460 = .ok (.bipush 114, 2) := dk_16 114 (dk_at dksX11_init_19 11 rfl rfl)
theorem dX11_init_462 : decode cX11_init 462 = .ok (.castore, 1) := dk_85 (dk_at dksX11_init_19 13 rfl rfl)
theorem dX11_init_463 : decode cX11_init 463 = .ok (.dup, 1) := dk_89 (dk_at dksX11_init_19 14 rfl rfl)
theorem dX11_init_464 : decode cX11_init 464 = .ok (.bipush 6, 2) := dk_16 6 (dk_at dksX11_init_19 15 rfl rfl)
theorem dX11_init_466 : decode cX11_init 466 = .ok (.bipush 115, 2) := dk_16 115 (dk_at dksX11_init_19 17 rfl rfl)
theorem dX11_init_468 : decode cX11_init 468 = .ok (.castore, 1) := dk_85 (dk_at dksX11_init_19 19 rfl rfl)
theorem dX11_init_469 : decode cX11_init 469 = .ok (.putfield 57, 3) := dk_181 0 57 (dk_at dksX11_init_19 20 rfl rfl)
theorem dX11_init_472 : decode cX11_init 472 = .ok (.aload_n 0, 1) := dk_42 (dk_at dksX11_init_19 23 rfl rfl)
theorem dX11_init_473 : decode cX11_init 473 = .ok (.bipush 6, 2) := dk_16 6 (dk_at dksX11_init_20 0 rfl rfl)
theorem dX11_init_475 : decode cX11_init 475 = .ok (.newarray .char, 2) := dk_188_5 (dk_at dksX11_init_20 2 rfl rfl)
theorem dX11_init_477 : decode cX11_init 477 = .ok (.dup, 1) := dk_89 (dk_at dksX11_init_20 4 rfl rfl)
theorem dX11_init_478 : decode cX11_init 478 = .ok (.iconst 0, 1) := dk_3 (dk_at dksX11_init_20 5 rfl rfl)
theorem dX11_init_479 : decode cX11_init 479 = .ok (.bipush 110, 2) := dk_16 110 (dk_at dksX11_init_20 6 rfl rfl)
theorem dX11_init_481 : decode cX11_init 481 = .ok (.castore, 1) := dk_85 (dk_at dksX11_init_20 8 rfl rfl)
theorem dX11_init_482 : decode cX11_init 482 = .ok (.dup, 1) := dk_89 (dk_at dksX11_init_20 9 rfl rfl)
theorem dX11_init_483 : decode cX11_init 483 = .ok (.iconst 1, 1) := dk_4 (dk_at dksX11_init_20 10 rfl rfl)
theorem dX11_init_484 : decode cX11_init 484 = .ok (.bipush 117, 2) := dk_16 117 (dk_at dksX11_init_20 11 rfl rfl)
theorem dX11_init_486 : decode cX11_init 486 = .ok (.castore, 1) := dk_85 (dk_at dksX11_init_20 13 rfl rfl)
theorem dX11_init_487 : decode cX11_init 487 = .ok (.dup, 1) := dk_89 (dk_at dksX11_init_20 14 rfl rfl)
theorem dX11_init_488 : decode cX11_init 488 = .ok (.iconst 2, 1) := dk_5 (dk_at dksX11_init_20 15 rfl rfl)
theorem dX11_init_489 : decode cX11_init 489 = .ok (.bipush 109, 2) := dk_16 109 (dk_at dksX11_init_20 16 rfl rfl)
theorem dX11_init_491 : decode cX11_init 491 = .ok (.castore, 1) := dk_85 (dk_at dksX11_init_20 18 rfl rfl)
theorem dX11_init_492 : decode cX11_init 492 = .ok (.dup, 1) := dk_89 (dk_at dksX11_init_20 19 rfl rfl)
theorem dX11_init_493 : decode cX11_init 493 = .ok (.iconst 3, 1) := dk_6 (dk_at dksX11_init_20 20 rfl rfl)
theorem dX11_init_494 : decode cX11_init 494 = .ok (.bipush 98, 2) := dk_16 98 (dk_at dksX11_init_20 21 rfl rfl)
theorem dX11_init_496 : decode cX11_init 496 = .ok (.castore, 1) := dk_85 (dk_at dksX11_init_20 23 rfl rfl)
theorem dX11_init_497 : decode cX11_init 497 = .ok (.dup, 1) := dk_89 (dk_at dksX11_init_21 0 rfl rfl)
theorem dX11_init_498 : decode cX11_init 498 = .ok (.iconst 4, 1) := dk_7 (dk_at dksX11_init_21 1 rfl rfl)
theorem dX11_init_499 : decode cX11_init 499 = .ok (.bipush 101, 2) := dk_16 101 (dk_at dksX11_init_21 2 rfl rfl)
theorem dX11_init_501 : decode cX11_init 501 = .ok (.castore, 1) := dk_85 (dk_at dksX11_init_21 4 rfl rfl)
theorem dX11_init_502 : decode cX11_init 502 = .ok (.dup, 1) := dk_89 (dk_at dksX11_init_21 5 rfl rfl)
theorem dX11_init_503 : decode cX11_init 503 = .ok (.iconst 5, 1) := dk_8 (dk_at dksX11_init_21 6 rfl rfl)
theorem dX11_init_504 : decode cX11_init 504 = .ok (.bipush 114, 2) := dk_16 114 (dk_at dksX11_init_21 7 rfl rfl)
theorem dX11_init_506 : decode cX11_init 506 = .ok (.castore, 1) := dk_85 (dk_at dksX11_init_21 9 rfl rfl)
theorem dX11_init_507 : decode cX11_init 507 = .ok (.putfield 60, 3) := dk_181 0 60 (dk_at dksX11_init_21 10 rfl rfl)
theorem dX11_init_510 : decode cX11_init 510 = .ok (.aload_n 0, 1) := dk_42 (dk_at dksX11_init_21 13 rfl rfl)
theorem dX11_init_511 : decode cX11_init 511 = .ok (.bipush 6, 2) := dk_16 6 (dk_at dksX11_init_21 14 rfl rfl)
theorem dX11_init_513 : decode cX11_init 513 = .ok (.newarray .char, 2) := dk_188_5 (dk_at dksX11_init_21 16 rfl rfl)
theorem dX11_init_515 : decode cX11_init 515 = .ok (.dup, 1) := dk_89 (dk_at dksX11_init_21 18 rfl rfl)
theorem dX11_init_516 : decode cX11_init 516 = .ok (.iconst 0, 1) := dk_3 (dk_at dksX11_init_21 19 rfl rfl)
theorem dX11_init_517 : decode cX11_init 517 = .ok (.bipush 115, 2) := dk_16 115 (dk_at dksX11_init_21 20 rfl rfl)
theorem dX11_init_519 : decode cX11_init 519 = .ok (.castore, 1) := dk_85 (dk_at dksX11_init_21 22 rfl rfl)
theorem dX11_init_520 : decode cX11_init 520 = .ok (.dup, 1) := dk_89 (dk_at dksX11_init_21 23 rfl rfl)
theorem dX11_init_521 : decode cX11_init 521 = .ok (.iconst 1, 1) := dk_4 (dk_at dksX11_init_22 0 rfl rfl)
theorem dX11_init_522 : decode cX11_init 522 = .ok (.bipush 101, 2) := dk_16 101 (dk_at dksX11_init_22 1 rfl rfl)
theorem dX11_init_524 : decode cX11_init 524 = .ok (.castore, 1) := dk_85 (dk_at dksX11_init_22 3 rfl rfl)
theorem dX11_init_525 : decode cX11_init 525 = .ok (.dup, 1) := dk_89 (dk_at dksX11_init_22 4 rfl rfl)
theorem dX11_init_526 : decode cX11_init 526 = .ok (.iconst 2, 1) := dk_5 (dk_at dksX11_init_22 5 rfl rfl)
theorem dX11_init_527 : decode cX11_init 527 = .ok (.bipush 114, 2) := dk_16 114 (dk_at dksX11_init_22 6 rfl rfl)
theorem dX11_init_529 : decode cX11_init 529 = .ok (.castore, 1) := dk_85 (dk_at dksX11_init_22 8 rfl rfl)
theorem dX11_init_530 : decode cX11_init 530 = .ok (.dup, 1) := dk_89 (dk_at dksX11_init_22 9 rfl rfl)
theorem dX11_init_531 : decode cX11_init 531 = .ok (.iconst 3, 1) := dk_6 (dk_at dksX11_init_22 10 rfl rfl)
theorem dX11_init_532 : decode cX11_init 532 = .ok (.bipush 105, 2) := dk_16 105 (dk_at dksX11_init_22 11 rfl rfl)
theorem dX11_init_534 : decode cX11_init 534 = .ok (.castore, 1) := dk_85 (dk_at dksX11_init_22 13 rfl rfl)
theorem dX11_init_535 : decode cX11_init 535 = .ok (.dup, 1) := dk_89 (dk_at dksX11_init_22 14 rfl rfl)
theorem dX11_init_536 : decode cX11_init 536 = .ok (.iconst 4, 1) := dk_7 (dk_at dksX11_init_22 15 rfl rfl)
theorem dX11_init_537 : decode cX11_init 537 = .ok (.bipush 97, 2) := dk_16 97 (dk_at dksX11_init_22 16 rfl rfl)
theorem dX11_init_539 : decode cX11_init 539 = .ok (.castore, 1) := dk_85 (dk_at dksX11_init_22 18 rfl rfl)
theorem dX11_init_540 : decode cX11_init 540 = .ok (.dup, 1) := dk_89 (dk_at dksX11_init_22 19 rfl rfl)
theorem dX11_init_541 : decode cX11_init 541 = .ok (.iconst 5, 1) := dk_8 (dk_at dksX11_init_22 20 rfl rfl)
theorem dX11_init_542 : decode cX11_init 542 = .ok (.bipush 108, 2) := dk_16 108 (dk_at dksX11_init_22 21 rfl rfl)
theorem dX11_init_544 : decode cX11_init 544 = .ok (.castore, 1) := dk_85 (dk_at dksX11_init_22 23 rfl rfl)
theorem dX11_init_545 : decode cX11_init 545 = .ok (.putfield 63, 3) := dk_181 0 63 (dk_at dksX11_init_23 0 rfl rfl)
theorem dX11_init_548 : decode cX11_init 548 = .ok (.aload_n 0, 1) := dk_42 (dk_at dksX11_init_23 3 rfl rfl)
theorem dX11_init_549 : decode cX11_init 549 = .ok (.iconst 5, 1) := dk_8 (dk_at dksX11_init_23 4 rfl rfl)
theorem dX11_init_550 : decode cX11_init 550 = .ok (.newarray .char, 2) := dk_188_5 (dk_at dksX11_init_23 5 rfl rfl)
theorem dX11_init_552 : decode cX11_init 552 = .ok (.dup, 1) := dk_89 (dk_at dksX11_init_23 7 rfl rfl)
theorem dX11_init_553 : decode cX11_init 553 = .ok (.iconst 0, 1) := dk_3 (dk_at dksX11_init_23 8 rfl rfl)
theorem dX11_init_554 : decode cX11_init 554 = .ok (.bipush 102, 2) := dk_16 102 (dk_at dksX11_init_23 9 rfl rfl)
theorem dX11_init_556 : decode cX11_init 556 = .ok (.castore, 1) := dk_85 (dk_at dksX11_init_23 11 rfl rfl)
theorem dX11_init_557 : decode cX11_init 557 = .ok (.dup, 1) := dk_89 (dk_at dksX11_init_23 12 rfl rfl)
theorem dX11_init_558 : decode cX11_init 558 = .ok (.iconst 1, 1) := dk_4 (dk_at dksX11_init_23 13 rfl rfl)
theorem dX11_init_559 : decode cX11_init 559 = .ok (.bipush 105, 2) := dk_16 105 (dk_at dksX11_init_23 14 rfl rfl)
theorem dX11_init_561 : decode cX11_init 561 = .ok (.castore, 1) := dk_85 (dk_at dksX11_init_23 16 rfl rfl)
theorem dX11_init_562 : decode cX11_init 562 = .ok (.dup, 1) := dk_89 (dk_at dksX11_init_23 17 rfl rfl)
theorem dX11_init_563 : decode cX11_init 563 = .ok (.iconst 2, 1) := dk_5 (dk_at dksX11_init_23 18 rfl rfl)
theorem dX11_init_564 : decode cX11_init 564 = .ok (.bipush 114, 2) := dk_16 114 (dk_at dksX11_init_23 19 rfl rfl)
theorem dX11_init_566 : decode cX11_init 566 = .ok (.castore, 1) := dk_85 (dk_at dksX11_init_23 21 rfl rfl)
theorem dX11_init_567 : decode cX11_init 567 = .ok (.dup, 1) := dk_89 (dk_at dksX11_init_23 22 rfl rfl)
theorem dX11_init_568 : decode cX11_init 568 = .ok (.iconst 3, 1) := dk_6 (dk_at dksX11_init_23 23 rfl rfl)
theorem dX11_init_569 : decode cX11_init 569 = .ok (.bipush 115, 2) := dk_16 115 (dk_at dksX11_init_24 0 rfl rfl)
theorem dX11_init_571 : decode cX11_init 571 = .ok (.castore, 1) := dk_85 (dk_at dksX11_init_24 2 rfl rfl)
theorem dX11_init_572 : decode cX11_init 572 = .ok (.dup, 1) := dk_89 (dk_at dksX11_init_24 3 rfl rfl)
theorem dX11_init_573 : decode cX11_init 573 = .ok (.iconst 4, 1) := dk_7 (dk_at dksX11_init_24 4 rfl rfl)
theorem dX11_init_574 : decode cX11_init 574 = .ok (.bipush 116, 2) := dk_16 116 (dk_at dksX11_init_24 5 rfl rfl)
theorem dX11_init_576 : decode cX11_init 576 = .ok (.castore, 1) := dk_85 (dk_at dksX11_init_24 7 rfl rfl)
theorem dX11_init_577 : decode cX11_init 577 = .ok (.putfield 66, 3) := dk_181 0 66 (dk_at dksX11_init_24 8 rfl rfl)
theorem dX11_init_580 : decode cX11_init 580 = .ok (.aload_n 0, 1) := dk_42 (dk_at dksX11_init_24 11 rfl rfl)
theorem dX11_init_581 : decode cX11_init 581 = .ok (.bipush 6, 2) := dk_16 6 (dk_at dksX11_init_24 12 rfl rfl)
theorem dX11_init_583 : decode cX11_init 583 = .ok (.newarray .char, 2) := dk_188_5 (dk_at dksX11_init_24 14 rfl rfl)
theorem dX11_init_585 : decode cX11_init 585 = .ok (.dup, 1) := dk_89 (dk_at dksX11_init_24 16 rfl rfl)
theorem dX11_init_586 : decode cX11_init 586 = .ok (.iconst 0, 1) := dk_3 (dk_at dksX11_init_24 17 rfl rfl)
theorem dX11_init_587 : decode cX11_init 587 = .ok (.bipush 102, 2) := dk_16 102 (dk_at dksX11_init_24 18 rfl rfl)
theorem dX11_init_589 : decode cX11_init 589 = .ok (.castore, 1) := dk_85 (dk_at dksX11_init_24 20 rfl rfl)
theorem dX11_init_590 : decode cX11_init 590 = .ok (.dup, 1) := dk_89 (dk_at dksX11_init_24 21 rfl rfl)
theorem dX11_init_591 : decode cX11_init 591 = .ok (.iconst 1, 1) := dk_4 (dk_at dksX11_init_24 22 rfl rfl)
theorem dX11_init_592 : decode cX11_init 592 = .ok (.bipush 114, 2) := dk_16 114 (dk_at dksX11_init_25 0 rfl rfl)
theorem dX11_init_594 : decode cX11_init 594 = .ok (.castore, 1) := dk_85 (dk_at dksX11_init_25 2 rfl rfl)
theorem dX11_init_595 : decode cX11_init 595 = .ok (.dup, 1) := dk_89 (dk_at dksX11_init_25 3 rfl rfl)
theorem dX11_init_596 : decode cX11_init 596 = .ok (.iconst 2, 1) := dk_5 (dk_at dksX11_init_25 4 rfl rfl)
theorem dX11_init_597 : decode cX11_init 597 = .ok (.bipush 97, 2) := dk_16 97 (dk_at dksX11_init_25 5 rfl rfl)
theorem dX11_init_599 : decode cX11_init 599 = .ok (.castore, 1) := dk_85 (dk_at dksX11_init_25 7 rfl rfl)
theorem dX11_init_600 : decode cX11_init 600 = .ok (.dup, 1) := dk_89 (dk_at dksX11_init_25 8 rfl rfl)
theorem dX11_init_601 : decode cX11_init 601 = .ok (.iconst 3, 1) := dk_6 (dk_at dksX11_init_25 9 rfl rfl)
theorem dX11_init_602 : decode cX11_init 602 = .ok (.bipush 109, 2) := dk_16 109 (dk_at dksX11_init_25 10 rfl rfl)
theorem dX11_init_604 : decode cX11_init 604 = .ok (.castore, 1) := dk_85 (dk_at dksX11_init_25 12 rfl rfl)
theorem dX11_init_605 : decode cX11_init 605 = .ok (.dup, 1) := dk_89 (dk_at dksX11_init_25 13 rfl rfl)
theorem dX11_init_606 : decode cX11_init 606 = .ok (.iconst 4, 1) := dk_7 (dk_at dksX11_init_25 14 rfl rfl)
theorem dX11_init_607 : decode cX11_init 607 = .ok (.bipush 101, 2) := dk_16 101 (dk_at dksX11_init_25 15 rfl rfl)
theorem dX11_init_609 : decode cX11_init 609 = .ok (.castore, 1) := dk_85 (dk_at dksX11_init_25 17 rfl rfl)
theorem dX11_init_610 : decode cX11_init 610 = .ok (.dup, 1) := dk_89 (dk_at dksX11_init_25 18 rfl rfl)
theorem dX11_init_611 : decode cX11_init 611 = .ok (.iconst 5, 1) := dk_8 (dk_at dksX11_init_25 19 rfl rfl)
theorem dX11_init_612 : decode cX11_init 612 = .ok (.bipush 115, 2) := dk_16 115 (dk_at dksX11_init_25 20 rfl rfl)
theorem dX11_init_614 : decode cX11_init 614 = .ok (.castore, 1) := dk_85 (dk_at dksX11_init_25 22 rfl rfl)
theorem dX11_init_615 : decode cX11_init 615 = .ok (.putfield 69, 3) := dk_181 0 69 (dk_at dksX11_init_26 0 rfl rfl)
theorem dX11_init_618 : decode cX11_init 618 = .ok (.aload_n 0, 1) := dk_42 (dk_at dksX11_init_26 3 rfl rfl)
theorem dX11_init_619 : decode cX11_init 619 = .ok (.iconst 5, 1) := dk_8 (dk_at dksX11_init_26 4 rfl rfl)
theorem dX11_init_620 : decode cX11_init 620 = .ok (.newarray .char, 2) := dk_188_5 (dk_at dksX11_init_26 5 rfl rfl)
theorem dX11_init_622 : decode cX11_init 622 = .ok (.dup, 1) := dk_89 (dk_at dksX11_init_26 7 rfl rfl)
theorem dX11_init_623 : decode cX11_init 623 = .ok (.iconst 0, 1) := dk_3 (dk_at dksX11_init_26 8 rfl rfl)
theorem dX11_init_624 : decode cX11_init 624 = .ok (.bipush 111, 2) := dk_16 111 (dk_at dksX11_init_26 9 rfl rfl)
theorem dX11_init_626 : decode cX11_init 626 = .ok (.castore, 1) := dk_85 (dk_at dksX11_init_26 11 rfl rfl)
theorem dX11_init_627 : decode cX11_init 627 = .ok (.dup, 1) := dk_89 (dk_at dksX11_init_26 12 rfl rfl)
theorem dX11_init_628 : decode cX11_init 628 = .ok (.iconst 1, 1) := dk_4 (dk_at dksX11_init_26 13 rfl rfl)
theorem dX11_init_629 : decode cX11_init 629 = .ok (.bipush 99, 2) := dk_16 99 (dk_at dksX11_init_26 14 rfl rfl)
theorem dX11_init_631 : decode cX11_init 631 = .ok (.castore, 1) := dk_85 (dk_at dksX11_init_26 16 rfl rfl)
theorem dX11_init_632 : decode cX11_init 632 = .ok (.dup, 1) := dk_89 (dk_at dksX11_init_26 17 rfl rfl)
theorem dX11_init_633 : decode cX11_init 633 = .ok (.iconst 2, 1) := dk_5 (dk_at dksX11_init_26 18 rfl rfl)
theorem dX11_init_634 : decode cX11_init 634 = .ok (.bipush 116, 2) := dk_16 116 (dk_at dksX11_init_26 19 rfl rfl)
theorem dX11_init_636 : decode cX11_init 636 = .ok (.castore, 1) := dk_85 (dk_at dksX11_init_26 21 rfl rfl)
theorem dX11_init_637 : decode cX11_init 637 = .ok (.dup, 1) := dk_89 (dk_at dksX11_init_26 22 rfl rfl)
theorem dX11_init_638 : decode cX11_init 638 = .ok (.iconst 3, 1) := dk_6 (dk_at dksX11_init_26 23 rfl rfl)
theorem dX11_init_639 : decode cX11_init 639 = .ok (.bipush 101, 2) := dk_16 101 (dk_at dksX11_init_27 0 rfl rfl)
theorem dX11_init_641 : decode cX11_init 641 = .ok (.castore, 1) := dk_85 (dk_at dksX11_init_27 2 rfl rfl)
theorem dX11_init_642 : decode cX11_init 642 = .ok (.dup, 1) := dk_89 (dk_at dksX11_init_27 3 rfl rfl)
theorem dX11_init_643 : decode cX11_init 643 = .ok (.iconst 4, 1) := dk_7 (dk_at dksX11_init_27 4 rfl rfl)
theorem dX11_init_644 : decode cX11_init 644 = .ok (.bipush 116, 2) := dk_16 116 (dk_at dksX11_init_27 5 rfl rfl)
theorem dX11_init_646 : decode cX11_init 646 = .ok (.castore, 1) := dk_85 (dk_at dksX11_init_27 7 rfl rfl)
theorem dX11_init_647 : decode cX11_init 647 = .ok (.putfield 72, 3) := dk_181 0 72 (dk_at dksX11_init_27 8 rfl rfl)
theorem dX11_init_650 : decode cX11_init 650 = .ok (.aload_n 0, 1) := dk_42 (dk_at dksX11_init_27 11 rfl rfl)
theorem dX11_init_651 : decode cX11_init 651 = .ok (.iconst 5, 1) := dk_8 (dk_at dksX11_init_27 12 rfl rfl)
theorem dX11_init_652 : decode cX11_init 652 = .ok (.newarray .char, 2) := dk_188_5 (dk_at dksX11_init_27 13 rfl rfl)
theorem dX11_init_654 : decode cX11_init 654 = .ok (.dup, 1) := dk_89 (dk_at dksX11_init_27 15 rfl rfl)
theorem dX11_init_655 : decode cX11_init 655 = .ok (.iconst 0, 1) := dk_3 (dk_at dksX11_init_27 16 rfl rfl)
theorem dX11_init_656 : decode cX11_init 656 = .ok (.bipush 118, 2) := dk_16 118 (dk_at dksX11_init_27 17 rfl rfl)
theorem dX11_init_658 : decode cX11_init 658 = .ok (.castore, 1) := dk_85 (dk_at dksX11_init_27 19 rfl rfl)
theorem dX11_init_659 : decode cX11_init 659 = .ok (.dup, 1) := dk_89 (dk_at dksX11_init_27 20 rfl rfl)
theorem dX11_init_660 : decode cX11_init 660 = .ok (.iconst 1, 1) := dk_4 (dk_at dksX11_init_27 21 rfl rfl)
theorem dX11_init_661 : decode cX11_init 661 = .ok (.bipush 97, 2) := dk_16 97 (dk_at dksX11_init_27 22 rfl rfl)
theorem dX11_init_663 : decode cX11_init 663 = .ok (.castore, 1) := dk_85 (dk_at dksX11_init_28 0 rfl rfl)
theorem dX11_init_664 : decode cX11_init 664 = .ok (.dup, 1) := dk_89 (dk_at dksX11_init_28 1 rfl rfl)
theorem dX11_init_665 : decode cX11_init 665 = .ok (.iconst 2, 1) := dk_5 (dk_at dksX11_init_28 2 rfl rfl)
theorem dX11_init_666 : decode cX11_init 666 = .ok (.bipush 108, 2) := dk_16 108 (dk_at dksX11_init_28 3 rfl rfl)
theorem dX11_init_668 : decode cX11_init 668 = .ok (.castore, 1) := dk_85 (dk_at dksX11_init_28 5 rfl rfl)
theorem dX11_init_669 : decode cX11_init 669 = .ok (.dup, 1) := dk_89 (dk_at dksX11_init_28 6 rfl rfl)
theorem dX11_init_670 : decode cX11_init 670 = .ok (.iconst 3, 1) := dk_6 (dk_at dksX11_init_28 7 rfl rfl)
theorem dX11_init_671 : decode cX11_init 671 = .ok (.bipush 117, 2) := dk_16 117 (dk_at dksX11_init_28 8 rfl rfl)
theorem dX11_init_673 : decode cX11_init 673 = .ok (.castore, 1) := dk_85 (dk_at dksX11_init_28 10 rfl rfl)
theorem dX11_init_674 : decode cX11_init 674 = .ok (.dup, 1) := dk_89 (dk_at dksX11_init_28 11 rfl rfl)
theorem dX11_init_675 : decode cX11_init 675 = .ok (.iconst 4, 1) := dk_7 (dk_at dksX11_init_28 12 rfl rfl)
theorem dX11_init_676 : decode cX11_init 676 = .ok (.bipush 101, 2) := dk_16 101 (dk_at dksX11_init_28 13 rfl rfl)
theorem dX11_init_678 : decode cX11_init 678 = .ok (.castore, 1) := dk_85 (dk_at dksX11_init_28 15 rfl rfl)
theorem dX11_init_679 : decode cX11_init 679 = .ok (.putfield 75, 3) := dk_181 0 75 (dk_at dksX11_init_28 16 rfl rfl)
theorem dX11_init_682 : decode cX11_init 682 = .ok (.aload_n 0, 1) := dk_42 (dk_at dksX11_init_28 19 rfl rfl)
theorem dX11_init_683 : decode cX11_init 683 = .ok (.iconst 2, 1) := dk_5 (dk_at dksX11_init_28 20 rfl rfl)
theorem dX11_init_684 : decode cX11_init 684 = .ok (.newarray .char, 2) := dk_188_5 (dk_at dksX11_init_28 21 rfl rfl)
theorem dX11_init_686 : decode cX11_init 686 = .ok (.dup, 1) := dk_89 (dk_at dksX11_init_28 23 rfl rfl)
theorem dX11_init_687 : decode cX11_init 687 = .ok (.iconst 0, 1) := dk_3 (dk_at dksX11_init_29 0 rfl rfl)
theorem dX11_init_688 : decode cX11_init 688 = .ok (.bipush 111, 2) := dk_16 111 (dk_at dksX11_init_29 1 rfl rfl)
theorem dX11_init_690 : decode cX11_init 690 = .ok (.castore, 1) := dk_85 (dk_at dksX11_init_29 3 rfl rfl)
theorem dX11_init_691 : decode cX11_init 691 = .ok (.dup, 1) := dk_89 (dk_at dksX11_init_29 4 rfl rfl)
theorem dX11_init_692 : decode cX11_init 692 = .ok (.iconst 1, 1) := dk_4 (dk_at dksX11_init_29 5 rfl rfl)
theorem dX11_init_693 : decode cX11_init 693 = .ok (.bipush 114, 2) := dk_16 114 (dk_at dksX11_init_29 6 rfl rfl)
theorem dX11_init_695 : decode cX11_init 695 = .ok (.castore, 1) := dk_85 (dk_at dksX11_init_29 8 rfl rfl)
theorem dX11_init_696 : decode cX11_init 696 = .ok (.putfield 78, 3) := dk_181 0 78 (dk_at dksX11_init_29 9 rfl rfl)
theorem dX11_init_699 : decode cX11_init 699 = .ok (.aload_n 0, 1) := dk_42 (dk_at dksX11_init_29 12 rfl rfl)
theorem dX11_init_700 : decode cX11_init 700 = .ok (.iconst 3, 1) := dk_6 (dk_at dksX11_init_29 13 rfl rfl)
theorem dX11_init_701 : decode cX11_init 701 = .ok (.newarray .char, 2) := dk_188_5 (dk_at dksX11_init_29 14 rfl rfl)
theorem dX11_init_703 : decode cX11_init 703 = .ok (.dup, 1) := dk_89 (dk_at dksX11_init_29 16 rfl rfl)
theorem dX11_init_704 : decode cX11_init 704 = .ok (.iconst 0, 1) := dk_3 (dk_at dksX11_init_29 17 rfl rfl)
theorem dX11_init_705 : decode cX11_init 705 = .ok (.bipush 97, 2) := dk_16 97 (dk_at dksX11_init_29 18 rfl rfl)
theorem dX11_init_707 : decode cX11_init 707 = .ok (.castore, 1) := dk_85 (dk_at dksX11_init_29 20 rfl rfl)
theorem dX11_init_708 : decode cX11_init 708 = .ok (.dup, 1) := dk_89 (dk_at dksX11_init_29 21 rfl rfl)
theorem dX11_init_709 : decode cX11_init 709 = .ok (.iconst 1, 1) := dk_4 (dk_at dksX11_init_29 22 rfl rfl)
theorem dX11_init_710 : decode cX11_init 710 = .ok (.bipush 110, 2) := dk_16 110 (dk_at dksX11_init_30 0 rfl rfl)
theorem dX11_init_712 : decode cX11_init 712 = .ok (.castore, 1) := dk_85 (dk_at dksX11_init_30 2 rfl rfl)
theorem dX11_init_713 : decode cX11_init 713 = .ok (.dup, 1) := dk_89 (dk_at dksX11_init_30 3 rfl rfl)
theorem dX11_init_714 : decode cX11_init 714 = .ok (.iconst 2, 1) := dk_5 (dk_at dksX11_init_30 4 rfl rfl)
theorem dX11_init_715 : decode cX11_init 715 = .ok (.bipush 100, 2) := dk_16 100 (dk_at dksX11_init_30 5 rfl rfl)
theorem dX11_init_717 : decode cX11_init 717 = .ok (.castore, 1) := dk_85 (dk_at dksX11_init_30 7 rfl rfl)
theorem dX11_init_718 : decode cX11_init 718 = .ok (.putfield 81, 3) := dk_181 0 81 (dk_at dksX11_init_30 8 rfl rfl)
theorem dX11_init_721 : decode cX11_init 721 = .ok (.aload_n 0, 1) := dk_42 (dk_at dksX11_init_30 11 rfl rfl)
theorem dX11_init_722 : decode cX11_init 722 = .ok (.iconst 3, 1) := dk_6 (dk_at dksX11_init_30 12 rfl rfl)
theorem dX11_init_723 : decode cX11_init 723 = .ok (.newarray .char, 2) := dk_188_5 (dk_at dksX11_init_30 13 rfl rfl)
theorem dX11_init_725 : decode cX11_init 725 = .ok (.dup, 1) := dk_89 (dk_at dksX11_init_30 15 rfl rfl)
theorem dX11_init_726 : decode cX11_init 726 = .ok (.iconst 0, 1) := dk_3 (dk_at dksX11_init_30 16 rfl rfl)
theorem dX11_init_727 : decode cX11_init 727 = .ok (.bipush 110, 2) := dk_16 110 (dk_at dksX11_init_30 17 rfl rfl)
theorem dX11_init_729 : decode cX11_init 729 = .ok (.castore, 1) := dk_85 (dk_at dksX11_init_30 19 rfl rfl)
theorem dX11_init_730 : decode cX11_init 730 = .ok (.dup, 1) := dk_89 (dk_at dksX11_init_30 20 rfl rfl)
theorem dX11_init_731 : decode cX11_init 731 = .ok (.iconst 1, 1) := dk_4 (dk_at dksX11_init_30 21 rfl rfl)
theorem dX11_init_732 : decode cX11_init 732 = .ok (.bipush 111, 2) := dk_16 111 (dk_at dksX11_init_30 22 rfl rfl)
theorem dX11_init_734 : decode cX11_init 734 = .ok (.castore, 1) := dk_85 (dk_at dksX11_init_31 0 rfl rfl)
theorem dX11_init_735 : decode cX11_init 735 = .ok (.dup, 1) := dk_89 (dk_at dksX11_init_31 1 rfl rfl)
theorem dX11_init_736 : decode cX11_init 736 = .ok (.iconst 2, 1) := dk_5 (dk_at dksX11_init_31 2 rfl rfl)
theorem dX11_init_737 : decode cX11_init 737 = .ok (.bipush 116, 2) := dk_16 116 (dk_at dksX11_init_31 3 rfl rfl)
theorem dX11_init_739 : decode cX11_init 739 = .ok (.castore, 1) := dk_85 (dk_at dksX11_init_31 5 rfl rfl)
theorem dX11_init_740 : decode cX11_init 740 = .ok (.putfield 84, 3) := dk_181 0 84 (dk_at dksX11_init_31 6 rfl rfl)
theorem dX11_init_743 : decode cX11_init 743 = .ok (.aload_n 0, 1) := dk_42 (dk_at dksX11_init_31 9 rfl rfl)
theorem dX11_init_744 : decode cX11_init 744 = .ok (.iconst 3, 1) := dk_6 (dk_at dksX11_init_31 10 rfl rfl)
theorem dX11_init_745 : decode cX11_init 745 = .ok (.newarray .char, 2) := dk_188_5 (dk_at dksX11_init_31 11 rfl rfl)
theorem dX11_init_747 : decode cX11_init 747 = .ok (.dup, 1) := dk_89 (dk_at dksX11_init_31 13 rfl rfl)
theorem dX11_init_748 : decode cX11_init 748 = .ok (.iconst 0, 1) := dk_3 (dk_at dksX11_init_31 14 rfl rfl)
theorem dX11_init_749 : decode cX11_init 749 = .ok (.bipush 97, 2) := dk_16 97 (dk_at dksX11_init_31 15 rfl rfl)
theorem dX11_init_751 : decode cX11_init 751 = .ok (.castore, 1) := dk_85 (dk_at dksX11_init_31 17 rfl rfl)
theorem dX11_init_752 : decode cX11_init 752 = .ok (.dup, 1) := dk_89 (dk_at dksX11_init_31 18 rfl rfl)
theorem dX11_init_753 : decode cX11_init 753 = .ok (.iconst 1, 1) := dk_4 (dk_at dksX11_init_31 19 rfl rfl)
theorem dX11_init_754 : decode cX11_init 754 = .ok (.bipush 108, 2) := dk_16 108 (dk_at dksX11_init_31 20 rfl rfl)
theorem dX11_init_756 : decode cX11_init 756 = .ok (.castore, 1) := dk_85 (dk_at dksX11_init_31 22 rfl rfl)
theorem dX11_init_757 : decode cX11_init 757 = .ok (.dup, 1) := dk_89 (dk_at dksX11_init_31 23 rfl rfl)
theorem dX11_init_758 : decode cX11_init 758 = .ok (.iconst 2, 1) := dk_5 (dk_at dksX11_init_32 0 rfl rfl)
theorem dX11_init_759 : decode cX11_init 759 = .ok (.bipush 108, 2) := dk_16 108 (dk_at dksX11_init_32 1 rfl rfl)
theorem dX11_init_761 : decode cX11_init 761 = .ok (.castore, 1) := dk_85 (dk_at dksX11_init_32 3 rfl rfl)
theorem dX11_init_762 : decode cX11_init 762 = .ok (.putfield 87, 3) := dk_181 0 87 (dk_at dksX11_init_32 4 rfl rfl)
theorem dX11_init_765 : decode cX11_init 765 = .ok (.aload_n 0, 1) := dk_42 (dk_at dksX11_init_32 7 rfl rfl)
theorem dX11_init_766 : decode cX11_init 766 = .ok (.iconst 3, 1) := dk_6 (dk_at dksX11_init_32 8 rfl rfl)
theorem dX11_init_767 : decode cX11_init 767 = .ok (.newarray .char, 2) := dk_188_5 (dk_at dksX11_init_32 9 rfl rfl)
theorem dX11_init_769 : decode cX11_init 769 = .ok (.dup, 1) := dk_89 (dk_at dksX11_init_32 11 rfl rfl)
theorem dX11_init_770 : decode cX11_init 770 = .ok (.iconst 0, 1) := dk_3 (dk_at dksX11_init_32 12 rfl rfl)
theorem dX11_init_771 : decode cX11_init 771 = .ok (.bipush 109, 2) := dk_16 109 (dk_at dksX11_init_32 13 rfl rfl)
theorem dX11_init_773 : decode cX11_init 773 = .ok (.castore, 1) := dk_85 (dk_at dksX11_init_32 15 rfl rfl)
theorem dX11_init_774 : decode cX11_init 774 = .ok (.dup, 1) := dk_89 (dk_at dksX11_init_32 16 rfl rfl)
theorem dX11_init_775 : decode cX11_init 775 = .ok (.iconst 1, 1) := dk_4 (dk_at dksX11_init_32 17 rfl rfl)
theorem dX11_init_776 : decode cX11_init 776 = .ok (.bipush 105, 2) := dk_16 105 (dk_at dksX11_init_32 18 rfl rfl)
theorem dX11_init_778 : decode cX11_init 778 = .ok (.castore, 1) := dk_85 (dk_at dksX11_init_32 20 rfl rfl)
theorem dX11_init_779 : decode cX11_init 779 = .ok (.dup, 1) := dk_89 (dk_at dksX11_init_32 21 rfl rfl)
theorem dX11_init_780 : decode cX11_init 780 = .ok (.iconst 2, 1) := dk_5 (dk_at dksX11_init_32 22 rfl rfl)
theorem dX11_init_781 : decode cX11_init 781 = .ok (.bipush 110, 2) := dk_16 110 (dk_at dksX11_init_33 0 rfl rfl)
theorem dX11_init_783 : decode cX11_init 783 = .ok (.castore, 1) := dk_85 (dk_at dksX11_init_33 2 rfl rfl)
theorem dX11_init_784 : decode cX11_init 784 = .ok (.putfield 90, 3) := dk_181 0 90 (dk_at dksX11_init_33 3 rfl rfl)
theorem dX11_init_787 : decode cX11_init 787 = .ok (.aload_n 0, 1) := dk_42 (dk_at dksX11_init_33 6 rfl rfl)
theorem dX11_init_788 : decode cX11_init 788 = .ok (.iconst 3, 1) := dk_6 (dk_at dksX11_init_33 7 rfl rfl)
theorem dX11_init_789 : decode cX11_init 789 = .ok (.newarray .char, 2) := dk_188_5 (dk_at dksX11_init_33 8 rfl rfl)
theorem dX11_init_791 : decode cX11_init 791 = .ok (.dup, 1) := dk_89 (dk_at dksX11_init_33 10 rfl rfl)
theorem dX11_init_792 : decode cX11_init 792 = .ok (.iconst 0, 1) := dk_3 (dk_at dksX11_init_33 11 rfl rfl)
theorem dX11_init_793 : decode cX11_init 793 = .ok (.bipush 109, 2) := dk_16 109 (dk_at dksX11_init_33 12 rfl rfl)
theorem dX11_init_795 : decode cX11_init 795 = .ok (.castore, 1) := dk_85 (dk_at dksX11_init_33 14 rfl rfl)
theorem dX11_init_796 : decode cX11_init 796 = .ok (.dup, 1) := dk_89 (dk_at dksX11_init_33 15 rfl rfl)
theorem dX11_init_797 : decode cX11_init 797 = .ok (.iconst 1, 1) := dk_4 (dk_at dksX11_init_33 16 rfl rfl)
theorem dX11_init_798 : decode cX11_init 798 = .ok (.bipush 97, 2) := dk_16 97 (dk_at dksX11_init_33 17 rfl rfl)
theorem dX11_init_800 : decode cX11_init 800 = .ok (.castore, 1) := dk_85 (dk_at dksX11_init_33 19 rfl rfl)
theorem dX11_init_801 : decode cX11_init 801 = .ok (.dup, 1) := dk_89 (dk_at dksX11_init_33 20 rfl rfl)
theorem dX11_init_802 : decode cX11_init 802 = .ok (.iconst 2, 1) := dk_5 (dk_at dksX11_init_33 21 rfl rfl)
theorem dX11_init_803 : decode cX11_init 803 = .ok (.bipush 120, 2) := dk_16 120 (dk_at dksX11_init_33 22 rfl rfl)
theorem dX11_init_805 : decode cX11_init 805 = .ok (.castore, 1) := dk_85 (dk_at dksX11_init_34 0 rfl rfl)
theorem dX11_init_806 : decode cX11_init 806 = .ok (.putfield 93, 3) := dk_181 0 93 (dk_at dksX11_init_34 1 rfl rfl)
theorem dX11_init_809 : decode cX11_init 809 = .ok (.aload_n 0, 1) := dk_42 (dk_at dksX11_init_34 4 rfl rfl)
theorem dX11_init_810 : decode cX11_init 810 = .ok (.bipush 10, 2) := dk_16 10 (dk_at dksX11_init_34 5 rfl rfl)
theorem dX11_init_812 : decode cX11_init 812 = .ok (.newarray .int, 2) := dk_188_10 (dk_at dksX11_init_34 7 rfl rfl)
theorem dX11_init_814 : decode cX11_init 814 = .ok (.putfield 96, 3) := dk_181 0 96 (dk_at dksX11_init_34 9 rfl rfl)
theorem dX11_init_817 : decode cX11_init 817 = .ok (.aload_n 0, 1) := dk_42 (dk_at dksX11_init_34 12 rfl rfl)
theorem dX11_init_818 : decode cX11_init 818 = .ok (.bipush 120, 2) := dk_16 120 (dk_at dksX11_init_34 13 rfl rfl)
theorem dX11_init_820 : decode cX11_init 820 = .ok (.newarray .int, 2) := dk_188_10 (dk_at dksX11_init_34 15 rfl rfl)
theorem dX11_init_822 : decode cX11_init 822 = .ok (.putfield 99, 3) := dk_181 0 99 (dk_at dksX11_init_34 17 rfl rfl)
theorem dX11_init_825 : decode cX11_init 825 = .ok (.aload_n 0, 1) := dk_42 (dk_at dksX11_init_34 20 rfl rfl)
theorem dX11_init_826 : decode cX11_init 826 = .ok (.iconst 4, 1) := dk_7 (dk_at dksX11_init_34 21 rfl rfl)
theorem dX11_init_827 : decode cX11_init 827 = .ok (.newarray .int, 2) := dk_188_10 (dk_at dksX11_init_34 22 rfl rfl)
theorem dX11_init_829 : decode cX11_init 829 = .ok (.dup, 1) := dk_89 (dk_at dksX11_init_35 0 rfl rfl)
theorem dX11_init_830 : decode cX11_init 830 = .ok (.iconst 0, 1) := dk_3 (dk_at dksX11_init_35 1 rfl rfl)
theorem dX11_init_831 : decode cX11_init 831 = .ok (.iconst (-1), 1) := dk_2 (dk_at dksX11_init_35 2 rfl rfl)
theorem dX11_init_832 : decode cX11_init 832 = .ok (.iastore, 1) := dk_79 (dk_at dksX11_init_35 3 rfl rfl)
theorem dX11_init_833 : decode cX11_init 833 = .ok (.dup, 1) := dk_89 (dk_at dksX11_init_35 4 rfl rfl)
theorem dX11_init_834 : decode cX11_init 834 = .ok (.iconst 1, 1) := dk_4 (dk_at dksX11_init_35 5 rfl rfl)
theorem dX11_init_835 : decode cX11_init 835 = .ok (.iconst (-1), 1) := dk_2 (dk_at dksX11_init_35 6 rfl rfl)
theorem dX11_init_836 : decode cX11_init 836 = .ok (.iastore, 1) := dk_79 (dk_at dksX11_init_35 7 rfl rfl)
theorem dX11_init_837 : decode cX11_init 837 = .ok (.dup, 1) := dk_89 (dk_at dksX11_init_35 8 rfl rfl)
theorem dX11_init_838 : decode cX11_init 838 = .ok (.iconst 2, 1) := dk_5 (dk_at dksX11_init_35 9 rfl rfl)
theorem dX11_init_839 : decode cX11_init 839 = .ok (.iconst (-1), 1) := dk_2 (dk_at dksX11_init_35 10 rfl rfl)
theorem dX11_init_840 : decode cX11_init 840 = .ok (.iastore, 1) := dk_79 (dk_at dksX11_init_35 11 rfl rfl)
theorem dX11_init_841 : decode cX11_init 841 = .ok (.dup, 1) := dk_89 (dk_at dksX11_init_35 12 rfl rfl)
theorem dX11_init_842 : decode cX11_init 842 = .ok (.iconst 3, 1) := dk_6 (dk_at dksX11_init_35 13 rfl rfl)
theorem dX11_init_843 : decode cX11_init 843 = .ok (.iconst (-1), 1) := dk_2 (dk_at dksX11_init_35 14 rfl rfl)
theorem dX11_init_844 : decode cX11_init 844 = .ok (.iastore, 1) := dk_79 (dk_at dksX11_init_35 15 rfl rfl)
theorem dX11_init_845 : decode cX11_init 845 = .ok (.putfield 102, 3) := dk_181 0 102 (dk_at dksX11_init_35 16 rfl rfl)
theorem dX11_init_848 : decode cX11_init 848 = .ok (.aload_n 0, 1) := dk_42 (dk_at dksX11_init_35 19 rfl rfl)
theorem dX11_init_849 : decode cX11_init 849 = .ok (.iconst 4, 1) := dk_7 (dk_at dksX11_init_35 20 rfl rfl)
theorem dX11_init_850 : decode cX11_init 850 = .ok (.newarray .int, 2) := dk_188_10 (dk_at dksX11_init_35 21 rfl rfl)
theorem dX11_init_852 : decode cX11_init 852 = .ok (.putfield 105, 3) := dk_181 0 105 (dk_at dksX11_init_36 0 rfl rfl)
theorem dX11_init_855 : decode cX11_init 855 = .ok (.aload_n 0, 1) := dk_42 (dk_at dksX11_init_36 3 rfl rfl)
theorem dX11_init_856 : decode cX11_init 856 = .ok (.sipush 3200, 3) := dk_17 12 128 (dk_at dksX11_init_36 4 rfl rfl)
theorem dX11_init_859 : decode cX11_init 859 = .ok (.newarray .int, 2) := dk_188_10 (dk_at dksX11_init_36 7 rfl rfl)
theorem dX11_init_861 : decode cX11_init 861 = .ok (.putfield 108, 3) := dk_181 0 108 (dk_at dksX11_init_36 9 rfl rfl)
theorem dX11_init_864 : decode cX11_init 864 = .ok (.aload_n 0, 1) := dk_42 (dk_at dksX11_init_36 12 rfl rfl)
theorem dX11_init_865 : decode cX11_init 865 = .ok (.sipush 2365, 3) := dk_17 9 61 (dk_at dksX11_init_36 13 rfl rfl)
theorem dX11_init_868 : decode cX11_init 868 = .ok (.newarray .int, 2) := dk_188_10 (dk_at dksX11_init_36 16 rfl rfl)
theorem dX11_init_870 : decode cX11_init 870 = .ok (.putfield 111, 3) := dk_181 0 111 (dk_at dksX11_init_36 18 rfl rfl)
theorem dX11_init_873 : decode cX11_init 873 = .ok (.aload_n 0, 1) := dk_42 (dk_at dksX11_init_36 21 rfl rfl)
theorem dX11_init_874 : decode cX11_init 874 = .ok (.bipush 64, 2) := dk_16 64 (dk_at dksX11_init_36 22 rfl rfl)
theorem dX11_init_876 : decode cX11_init 876 = .ok (.newarray .int, 2) := dk_188_10 (dk_at dksX11_init_37 0 rfl rfl)
theorem dX11_init_878 : decode cX11_init 878 = .ok (.putfield 114, 3) := dk_181 0 114 (dk_at dksX11_init_37 2 rfl rfl)
theorem dX11_init_881 : decode cX11_init 881 = .ok (.aload_n 0, 1) := dk_42 (dk_at dksX11_init_37 5 rfl rfl)
theorem dX11_init_882 : decode cX11_init 882 = .ok (.sipush 2244, 3) := dk_17 8 196 (dk_at dksX11_init_37 6 rfl rfl)
theorem dX11_init_885 : decode cX11_init 885 = .ok (.newarray .int, 2) := dk_188_10 (dk_at dksX11_init_37 9 rfl rfl)
theorem dX11_init_887 : decode cX11_init 887 = .ok (.putfield 117, 3) := dk_181 0 117 (dk_at dksX11_init_37 11 rfl rfl)
theorem dX11_init_890 : decode cX11_init 890 = .ok (.aload_n 0, 1) := dk_42 (dk_at dksX11_init_37 14 rfl rfl)
theorem dX11_init_891 : decode cX11_init 891 = .ok (.iconst (-1), 1) := dk_2 (dk_at dksX11_init_37 15 rfl rfl)
theorem dX11_init_892 : decode cX11_init 892 = .ok (.putfield 120, 3) := dk_181 0 120 (dk_at dksX11_init_37 16 rfl rfl)
theorem dX11_init_895 : decode cX11_init 895 = .ok (.aload_n 0, 1) := dk_42 (dk_at dksX11_init_37 19 rfl rfl)
theorem dX11_init_896 : decode cX11_init 896 = .ok (.sipush 2244, 3) := dk_17 8 196 (dk_at dksX11_init_37 20 rfl rfl)
theorem dX11_init_899 : decode cX11_init 899 = .ok (.newarray .int, 2) := dk_188_10 (dk_at dksX11_init_38 0 rfl rfl)
theorem dX11_init_901 : decode cX11_init 901 = .ok (.putfield 123, 3) := dk_181 0 123 (dk_at dksX11_init_38 2 rfl rfl)
theorem dX11_init_904 : decode cX11_init 904 = .ok (.aload_n 0, 1) := dk_42 (dk_at dksX11_init_38 5 rfl rfl)
theorem dX11_init_905 : decode cX11_init 905 = .ok (.sipush 128, 3) := dk_17 0 128 (dk_at dksX11_init_38 6 rfl rfl)
theorem dX11_init_908 : decode cX11_init 908 = .ok (.newarray .int, 2) := dk_188_10 (dk_at dksX11_init_38 9 rfl rfl)
theorem dX11_init_910 : decode cX11_init 910 = .ok (.putfield 126, 3) := dk_181 0 126 (dk_at dksX11_init_38 11 rfl rfl)
theorem dX11_init_913 : decode cX11_init 913 = .ok (.aload_n 0, 1) := dk_42 (dk_at dksX11_init_38 14 rfl rfl)
theorem dX11_init_914 : decode cX11_init 914 = .ok (.bipush 32, 2) := dk_16 32 (dk_at dksX11_init_38 15 rfl rfl)
theorem dX11_init_916 : decode cX11_init 916 = .ok (.newarray .int, 2) := dk_188_10 (dk_at dksX11_init_38 17 rfl rfl)
theorem dX11_init_918 : decode cX11_init 918 = .ok (.putfield 129, 3) := dk_181 0 129 (dk_at dksX11_init_38 19 rfl rfl)
theorem dX11_init_921 : decode cX11_init 921 = .ok (.aload_n 0, 1) := dk_42 (dk_at dksX11_init_38 22 rfl rfl)
theorem dX11_init_922 : decode cX11_init 922 = .ok (.sipush 513, 3) := dk_17 2 1 (dk_at dksX11_init_39 0 rfl rfl)
theorem dX11_init_925 : decode cX11_init 925 = .ok (.newarray .boolean, 2) := dk_188_4 (dk_at dksX11_init_39 3 rfl rfl)
theorem dX11_init_927 : decode cX11_init 927 = .ok (.putfield 132, 3) := dk_181 0 132 (dk_at dksX11_init_39 5 rfl rfl)
theorem dX11_init_930 : decode cX11_init 930 = .ok (.aload_n 0, 1) := dk_42 (dk_at dksX11_init_39 8 rfl rfl)
theorem dX11_init_931 : decode cX11_init 931 = .ok (.sipush 8208, 3) := dk_17 32 16 (dk_at dksX11_init_39 9 rfl rfl)
theorem dX11_init_934 : decode cX11_init 934 = .ok (.newarray .int, 2) := dk_188_10 (dk_at dksX11_init_39 12 rfl rfl)
theorem dX11_init_936 : decode cX11_init 936 = .ok (.putfield 136, 3) := dk_181 0 136 (dk_at dksX11_init_39 14 rfl rfl)
theorem dX11_init_939 : decode cX11_init 939 = .ok (.aload_n 0, 1) := dk_42 (dk_at dksX11_init_39 17 rfl rfl)
theorem dX11_init_940 : decode cX11_init 940 = .ok (.sipush 1001, 3) := dk_17 3 233 (dk_at dksX11_init_39 18 rfl rfl)
theorem dX11_init_943 : decode cX11_init 943 = .ok (.newarray .int, 2) := dk_188_10 (dk_at dksX11_init_39 21 rfl rfl)
theorem dX11_init_945 : decode cX11_init 945 = .ok (.putfield 139, 3) := dk_181 0 139 (dk_at dksX11_init_40 0 rfl rfl)
theorem dX11_init_948 : decode cX11_init 948 = .ok (.aload_n 0, 1) := dk_42 (dk_at dksX11_init_40 3 rfl rfl)
theorem dX11_init_949 : decode cX11_init 949 = .ok (.ldc 142, 2) := dk_18 142 (dk_at dksX11_init_40 4 rfl rfl)
theorem dX11_init_951 : decode cX11_init 951 = .ok (.newarray .int, 2) := dk_188_10 (dk_at dksX11_init_40 6 rfl rfl)
theorem dX11_init_953 : decode cX11_init 953 = .ok (.putfield 143, 3) := dk_181 0 143 (dk_at dksX11_init_40 8 rfl rfl)
theorem dX11_init_956 : decode cX11_init 956 = .ok (.aload_n 0, 1) := dk_42 (dk_at dksX11_init_40 11 rfl rfl)
theorem dX11_init_957 : decode cX11_init 957 = .ok (.lconst 1, 1) := dk_10 (dk_at dksX11_init_40 12 rfl rfl)
theorem dX11_init_958 : decode cX11_init 958 = .ok (.putfield 146, 3) := dk_181 0 146 (dk_at dksX11_init_40 13 rfl rfl)
theorem dX11_init_961 : decode cX11_init 961 = .ok (.aload_n 0, 1) := dk_42 (dk_at dksX11_init_40 16 rfl rfl)
theorem dX11_init_962 : decode cX11_init 962 = .ok (.iconst 5, 1) := dk_8 (dk_at dksX11_init_40 17 rfl rfl)
theorem dX11_init_963 : decode cX11_init 963 = .ok (.newarray .char, 2) := dk_188_5 (dk_at dksX11_init_40 18 rfl rfl)
theorem dX11_init_965 : decode cX11_init 965 = .ok (.dup, 1) := dk_89 (dk_at dksX11_init_40 20 rfl rfl)
theorem dX11_init_966 : decode cX11_init 966 = .ok (.iconst 0, 1) := dk_3 (dk_at dksX11_init_40 21 rfl rfl)
theorem dX11_init_967 : decode cX11_init 967 = .ok (.bipush 102, 2) := dk_16 102 (dk_at dksX11_init_40 22 rfl rfl)
theorem dX11_init_969 : decode cX11_init 969 = .ok (.castore, 1) := dk_85 (dk_at dksX11_init_41 0 rfl rfl)
theorem dX11_init_970 : decode cX11_init 970 = .ok (.dup, 1) := dk_89 (dk_at dksX11_init_41 1 rfl rfl)
theorem dX11_init_971 : decode cX11_init 971 = .ok (.iconst 1, 1) := dk_4 (dk_at dksX11_init_41 2 rfl rfl)
theorem dX11_init_972 : decode cX11_init 972 = .ok (.bipush 105, 2) := dk_16 105 (dk_at dksX11_init_41 3 rfl rfl)
theorem dX11_init_974 : decode cX11_init 974 = .ok (.castore, 1) := dk_85 (dk_at dksX11_init_41 5 rfl rfl)
theorem dX11_init_975 : decode cX11_init 975 = .ok (.dup, 1) := dk_89 (dk_at dksX11_init_41 6 rfl rfl)
theorem dX11_init_976 : decode cX11_init 976 = .ok (.iconst 2, 1) := dk_5 (dk_at dksX11_init_41 7 rfl rfl)
theorem dX11_init_977 : decode cX11_init 977 = .ok (.bipush 114, 2) := dk_16 114 (dk_at dksX11_init_41 8 rfl rfl)
theorem dX11_init_979 : decode cX11_init 979 = .ok (.castore, 1) := dk_85 (dk_at dksX11_init_41 10 rfl rfl)
theorem dX11_init_980 : decode cX11_init 980 = .ok (.dup, 1) := dk_89 (dk_at dksX11_init_41 11 rfl rfl)
theorem dX11_init_981 : decode cX11_init 981 = .ok (.iconst 3, 1) := dk_6 (dk_at dksX11_init_41 12 rfl rfl)
theorem dX11_init_982 : decode cX11_init 982 = .ok (.bipush 115, 2) := dk_16 115 (dk_at dksX11_init_41 13 rfl rfl)
theorem dX11_init_984 : decode cX11_init 984 = .ok (.castore, 1) := dk_85 (dk_at dksX11_init_41 15 rfl rfl)
theorem dX11_init_985 : decode cX11_init 985 = .ok (.dup, 1) := dk_89 (dk_at dksX11_init_41 16 rfl rfl)
theorem dX11_init_986 : decode cX11_init 986 = .ok (.iconst 4, 1) := dk_7 (dk_at dksX11_init_41 17 rfl rfl)
theorem dX11_init_987 : decode cX11_init 987 = .ok (.bipush 116, 2) := dk_16 116 (dk_at dksX11_init_41 18 rfl rfl)
theorem dX11_init_989 : decode cX11_init 989 = .ok (.castore, 1) := dk_85 (dk_at dksX11_init_41 20 rfl rfl)
theorem dX11_init_990 : decode cX11_init 990 = .ok (.putfield 150, 3) := dk_181 0 150 (dk_at dksX11_init_41 21 rfl rfl)
theorem dX11_init_993 : decode cX11_init 993 = .ok (.aload_n 0, 1) := dk_42 (dk_at dksX11_init_42 0 rfl rfl)
theorem dX11_init_994 : decode cX11_init 994 = .ok (.iconst 4, 1) := dk_7 (dk_at dksX11_init_42 1 rfl rfl)
theorem dX11_init_995 : decode cX11_init 995 = .ok (.newarray .char, 2) := dk_188_5 (dk_at dksX11_init_42 2 rfl rfl)
theorem dX11_init_997 : decode cX11_init 997 = .ok (.dup, 1) := dk_89 (dk_at dksX11_init_42 4 rfl rfl)
theorem dX11_init_998 : decode cX11_init 998 = .ok (.iconst 0, 1) := dk_3 (dk_at dksX11_init_42 5 rfl rfl)
theorem dX11_init_999 : decode cX11_init 999 = .ok (.bipush 108, 2) := dk_16 108 (dk_at dksX11_init_42 6 rfl rfl)
theorem dX11_init_1001 : decode cX11_init 1001 = .ok (.castore, 1) := dk_85 (dk_at dksX11_init_42 8 rfl rfl)
theorem dX11_init_1002 : decode cX11_init 1002 = .ok (.dup, 1) := dk_89 (dk_at dksX11_init_42 9 rfl rfl)
theorem dX11_init_1003 : decode cX11_init 1003 = .ok (.iconst 1, 1) := dk_4 (dk_at dksX11_init_42 10 rfl rfl)
theorem dX11_init_1004 : decode cX11_init 1004 = .ok (.bipush 97, 2) := dk_16 97 (dk_at dksX11_init_42 11 rfl rfl)
theorem dX11_init_1006 : decode cX11_init 1006 = .ok (.castore, 1) := dk_85 (dk_at dksX11_init_42 13 rfl rfl)
theorem dX11_init_1007 : decode cX11_init 1007 = .ok (.dup, 1) := dk_89 (dk_at dksX11_init_42 14 rfl rfl)
theorem dX11_init_1008 : decode cX11_init 1008 = .ok (.iconst 2, 1) := dk_5 (dk_at dksX11_init_42 15 rfl rfl)
theorem dX11_init_1009 : decode cX11_init 1009 = .ok (.bipush 115, 2) := dk_16 115 (dk_at dksX11_init_42 16 rfl rfl)
theorem dX11_init_1011 : decode cX11_init 1011 = .ok (.castore, 1) := dk_85 (dk_at dksX11_init_42 18 rfl rfl)
theorem dX11_init_1012 : decode cX11_init 1012 = .ok (.dup, 1) := dk_89 (dk_at dksX11_init_42 19 rfl rfl)
theorem dX11_init_1013 : decode cX11_init 1013 = .ok (.iconst 3, 1) := dk_6 (dk_at dksX11_init_42 20 rfl rfl)
theorem dX11_init_1014 : decode cX11_init 1014 = .ok (.bipush 116, 2) := dk_16 116 (dk_at dksX11_init_42 21 rfl rfl)
theorem dX11_init_1016 : decode cX11_init 1016 = .ok (.castore, 1) := dk_85 (dk_at dksX11_init_42 23 rfl rfl)
theorem dX11_init_1017 : decode cX11_init 1017 = .ok (.putfield 153, 3) := dk_181 0 153 (dk_at dksX11_init_43 0 rfl rfl)
theorem dX11_init_1020 : decode cX11_init 1020 = .ok (.aload_n 0, 1) := dk_42 (dk_at dksX11_init_43 3 rfl rfl)
theorem dX11_init_1021 : decode cX11_init 1021 = .ok (.iconst 5, 1) := dk_8 (dk_at dksX11_init_43 4 rfl rfl)
theorem dX11_init_1022 : decode cX11_init 1022 = .ok (.newarray .char, 2) := dk_188_5 (dk_at dksX11_init_43 5 rfl rfl)
theorem dX11_init_1024 : decode cX11_init 1024 = .ok (.dup, 1) := dk_89 (dk_at dksX11_init_43 7 rfl rfl)
theorem dX11_init_1025 : decode cX11_init 1025 = .ok (.iconst 0, 1) := dk_3 (dk_at dksX11_init_43 8 rfl rfl)
theorem dX11_init_1026 : decode cX11_init 1026 = .ok (.bipush 111, 2) := dk_16 111 (dk_at dksX11_init_43 9 rfl rfl)
theorem dX11_init_1028 : decode cX11_init 1028 = .ok (.castore, 1) := dk_85 (dk_at dksX11_init_43 11 rfl rfl)
theorem dX11_init_1029 : decode cX11_init 1029 = .ok (.dup, 1) := dk_89 (dk_at dksX11_init_43 12 rfl rfl)
theorem dX11_init_1030 : decode cX11_init 1030 = .ok (.iconst 1, 1) := dk_4 (dk_at dksX11_init_43 13 rfl rfl)
theorem dX11_init_1031 : decode cX11_init 1031 = .ok (.bipush 102, 2) := dk_16 102 (dk_at dksX11_init_43 14 rfl rfl)
theorem dX11_init_1033 : decode cX11_init 1033 = .ok (.castore, 1) := dk_85 (dk_at dksX11_init_43 16 rfl rfl)
theorem dX11_init_1034 : decode cX11_init 1034 = .ok (.dup, 1) := dk_89 (dk_at dksX11_init_43 17 rfl rfl)
theorem dX11_init_1035 : decode cX11_init 1035 = .ok (.iconst 2, 1) := dk_5 (dk_at dksX11_init_43 18 rfl rfl)
theorem dX11_init_1036 : decode cX11_init 1036 = .ok (.bipush 116, 2) := dk_16 116 (dk_at dksX11_init_43 19 rfl rfl)
theorem dX11_init_1038 : decode cX11_init 1038 = .ok (.castore, 1) := dk_85 (dk_at dksX11_init_43 21 rfl rfl)
theorem dX11_init_1039 : decode cX11_init 1039 = .ok (.dup, 1) := dk_89 (dk_at dksX11_init_43 22 rfl rfl)
theorem dX11_init_1040 : decode cX11_init 1040 = .ok (.iconst 3, 1) := dk_6 (dk_at dksX11_init_43 23 rfl rfl)
theorem dX11_init_1041 : decode cX11_init 1041 = .ok (.bipush 101, 2) := dk_16 101 (dk_at dksX11_init_44 0 rfl rfl)
theorem dX11_init_1043 : decode cX11_init 1043 = .ok (.castore, 1) := dk_85 (dk_at dksX11_init_44 2 rfl rfl)
theorem dX11_init_1044 : decode cX11_init 1044 = .ok (.dup, 1) := dk_89 (dk_at dksX11_init_44 3 rfl rfl)
theorem dX11_init_1045 : decode cX11_init 1045 = .ok (.iconst 4, 1) := dk_7 (dk_at dksX11_init_44 4 rfl rfl)
theorem dX11_init_1046 : decode cX11_init 1046 = .ok (.bipush 110, 2) := dk_16 110 (dk_at dksX11_init_44 5 rfl rfl)
theorem dX11_init_1048 : decode cX11_init 1048 = .ok (.castore, 1) := dk_85 (dk_at dksX11_init_44 7 rfl rfl)
theorem dX11_init_1049 : decode cX11_init 1049 = .ok (.putfield 156, 3) := dk_181 0 156 (dk_at dksX11_init_44 8 rfl rfl)
theorem dX11_init_1052 : decode cX11_init 1052 = .ok (.aload_n 0, 1) := dk_42 (dk_at dksX11_init_44 11 rfl rfl)
theorem dX11_init_1053 : decode cX11_init 1053 = .ok (.iconst 5, 1) := dk_8 (dk_at dksX11_init_44 12 rfl rfl)
theorem dX11_init_1054 : decode cX11_init 1054 = .ok (.newarray .char, 2) := dk_188_5 (dk_at dksX11_init_44 13 rfl rfl)
theorem dX11_init_1056 : decode cX11_init 1056 = .ok (.dup, 1) := dk_89 (dk_at dksX11_init_44 15 rfl rfl)
theorem dX11_init_1057 : decode cX11_init 1057 = .ok (.iconst 0, 1) := dk_3 (dk_at dksX11_init_44 16 rfl rfl)
theorem dX11_init_1058 : decode cX11_init 1058 = .ok (.bipush 116, 2) := dk_16 116 (dk_at dksX11_init_44 17 rfl rfl)
theorem dX11_init_1060 : decode cX11_init 1060 = .ok (.castore, 1) := dk_85 (dk_at dksX11_init_44 19 rfl rfl)
theorem dX11_init_1061 : decode cX11_init 1061 = .ok (.dup, 1) := dk_89 (dk_at dksX11_init_44 20 rfl rfl)
theorem dX11_init_1062 : decode cX11_init 1062 = .ok (.iconst 1, 1) := dk_4 (dk_at dksX11_init_44 21 rfl rfl)
theorem dX11_init_1063 : decode cX11_init 1063 = .ok (.bipush 111, 2) := dk_16 111 (dk_at dksX11_init_44 22 rfl rfl)
theorem dX11_init_1065 : decode cX11_init 1065 = .ok (.castore, 1) := dk_85 (dk_at dksX11_init_45 0 rfl rfl)
theorem dX11_init_1066 : decode cX11_init 1066 = .ok (.dup, 1) := dk_89 (dk_at dksX11_init_45 1 rfl rfl)
theorem dX11_init_1067 : decode cX11_init 1067 = .ok (.iconst 2, 1) := dk_5 (dk_at dksX11_init_45 2 rfl rfl)
theorem dX11_init_1068 : decode cX11_init 1068 = .ok (.bipush 116, 2) := dk_16 116 (dk_at dksX11_init_45 3 rfl rfl)
theorem dX11_init_1070 : decode cX11_init 1070 = .ok (.castore, 1) := dk_85 (dk_at dksX11_init_45 5 rfl rfl)
theorem dX11_init_1071 : decode cX11_init 1071 = .ok (.dup, 1) := dk_89 (dk_at dksX11_init_45 6 rfl rfl)
theorem dX11_init_1072 : decode cX11_init 1072 = .ok (.iconst 3, 1) := dk_6 (dk_at dksX11_init_45 7 rfl rfl)
theorem dX11_init_1073 : decode cX11_init 1073 = .ok (.bipush 97, 2) := dk_16 97 (dk_at dksX11_init_45 8 rfl rfl)
theorem dX11_init_1075 : decode cX11_init 1075 = .ok (.castore, 1) := dk_85 (dk_at dksX11_init_45 10 rfl rfl)
theorem dX11_init_1076 : decode cX11_init 1076 = .ok (.dup, 1) := dk_89 (dk_at dksX11_init_45 11 rfl rfl)
theorem dX11_init_1077 : decode cX11_init 1077 = .ok (.iconst 4, 1) := dk_7 (dk_at dksX11_init_45 12 rfl rfl)
theorem dX11_init_1078 : decode cX11_init 1078 = .ok (.bipush 108, 2) := dk_16 108 (dk_at dksX11_init_45 13 rfl rfl)
theorem dX11_init_1080 : decode cX11_init 1080 = .ok (.castore, 1) := dk_85 (dk_at dksX11_init_45 15 rfl rfl)
theorem dX11_init_1081 : decode cX11_init 1081 = .ok (.putfield 159, 3) := dk_181 0 159 (dk_at dksX11_init_45 16 rfl rfl)
theorem dX11_init_1084 : decode cX11_init 1084 = .ok (.aload_n 0, 1) := dk_42 (dk_at dksX11_init_45 19 rfl rfl)
theorem dX11_init_1085 : decode cX11_init 1085 = .ok (.iconst 4, 1) := dk_7 (dk_at dksX11_init_45 20 rfl rfl)
theorem dX11_init_1086 : decode cX11_init 1086 = .ok (.newarray .char, 2) := dk_188_5 (dk_at dksX11_init_45 21 rfl rfl)
theorem dX11_init_1088 : decode cX11_init 1088 = .ok (.dup, 1) := dk_89 (dk_at dksX11_init_45 23 rfl rfl)
theorem dX11_init_1089 : decode cX11_init 1089 = .ok (.iconst 0, 1) := dk_3 (dk_at dksX11_init_46 0 rfl rfl)
theorem dX11_init_1090 : decode cX11_init 1090 = .ok (.bipush 109, 2) := dk_16 109 (dk_at dksX11_init_46 1 rfl rfl)
theorem dX11_init_1092 : decode cX11_init 1092 = .ok (.castore, 1) := dk_85 (dk_at dksX11_init_46 3 rfl rfl)
theorem dX11_init_1093 : decode cX11_init 1093 = .ok (.dup, 1) := dk_89 (dk_at dksX11_init_46 4 rfl rfl)
theorem dX11_init_1094 : decode cX11_init 1094 = .ok (.iconst 1, 1) := dk_4 (dk_at dksX11_init_46 5 rfl rfl)
theorem dX11_init_1095 : decode cX11_init 1095 = .ok (.bipush 111, 2) := dk_16 111 (dk_at dksX11_init_46 6 rfl rfl)
theorem dX11_init_1097 : decode cX11_init 1097 = .ok (.castore, 1) := dk_85 (dk_at dksX11_init_46 8 rfl rfl)
theorem dX11_init_1098 : decode cX11_init 1098 = .ok (.dup, 1) := dk_89 (dk_at dksX11_init_46 9 rfl rfl)
theorem dX11_init_1099 : decode cX11_init 1099 = .ok (.iconst 2, 1) := dk_5 (dk_at dksX11_init_46 10 rfl rfl)
theorem dX11_init_1100 : decode cX11_init 1100 = .ok (.bipush 115, 2) := dk_16 115 (dk_at dksX11_init_46 11 rfl rfl)
theorem dX11_init_1102 : decode cX11_init 1102 = .ok (.castore, 1) := dk_85 (dk_at dksX11_init_46 13 rfl rfl)
theorem dX11_init_1103 : decode cX11_init 1103 = .ok (.dup, 1) := dk_89 (dk_at dksX11_init_46 14 rfl rfl)
theorem dX11_init_1104 : decode cX11_init 1104 = .ok (.iconst 3, 1) := dk_6 (dk_at dksX11_init_46 15 rfl rfl)
theorem dX11_init_1105 : decode cX11_init 1105 = .ok (.bipush 116, 2) := dk_16 116 (dk_at dksX11_init_46 16 rfl rfl)
theorem dX11_init_1107 : decode cX11_init 1107 = .ok (.castore, 1) := dk_85 (dk_at dksX11_init_46 18 rfl rfl)
theorem dX11_init_1108 : decode cX11_init 1108 = .ok (.putfield 162, 3) := dk_181 0 162 (dk_at dksX11_init_46 19 rfl rfl)
theorem dX11_init_1111 : decode cX11_init 1111 = .ok (.aload_n 0, 1) := dk_42 (dk_at dksX11_init_46 22 rfl rfl)
theorem dX11_init_1112 : decode cX11_init 1112 = .ok (.iconst 5, 1) := dk_8 (dk_at dksX11_init_46 23 rfl rfl)
theorem dX11_init_1113 : decode cX11_init 1113 = .ok (.newarray .char, 2) := dk_188_5 (dk_at dksX11_init_47 0 rfl rfl)
theorem dX11_init_1115 : decode cX11_init 1115 = .ok (.dup, 1) := dk_89 (dk_at dksX11_init_47 2 rfl rfl)
theorem dX11_init_1116 : decode cX11_init 1116 = .ok (.iconst 0, 1) := dk_3 (dk_at dksX11_init_47 3 rfl rfl)
theorem dX11_init_1117 : decode cX11_init 1117 = .ok (.bipush 108, 2) := dk_16 108 (dk_at dksX11_init_47 4 rfl rfl)
theorem dX11_init_1119 : decode cX11_init 1119 = .ok (.castore, 1) := dk_85 (dk_at dksX11_init_47 6 rfl rfl)
theorem dX11_init_1120 : decode cX11_init 1120 = .ok (.dup, 1) := dk_89 (dk_at dksX11_init_47 7 rfl rfl)
theorem dX11_init_1121 : decode cX11_init 1121 = .ok (.iconst 1, 1) := dk_4 (dk_at dksX11_init_47 8 rfl rfl)
theorem dX11_init_1122 : decode cX11_init 1122 = .ok (.bipush 101, 2) := dk_16 101 (dk_at dksX11_init_47 9 rfl rfl)
theorem dX11_init_1124 : decode cX11_init 1124 = .ok (.castore, 1) := dk_85 (dk_at dksX11_init_47 11 rfl rfl)
theorem dX11_init_1125 : decode cX11_init 1125 = .ok (.dup, 1) := dk_89 (dk_at dksX11_init_47 12 rfl rfl)
theorem dX11_init_1126 : decode cX11_init 1126 = .ok (.iconst 2, 1) := dk_5 (dk_at dksX11_init_47 13 rfl rfl)
theorem dX11_init_1127 : decode cX11_init 1127 = .ok (.bipush 97, 2) := dk_16 97 (dk_at dksX11_init_47 14 rfl rfl)
theorem dX11_init_1129 : decode cX11_init 1129 = .ok (.castore, 1) := dk_85 (dk_at dksX11_init_47 16 rfl rfl)
theorem dX11_init_1130 : decode cX11_init 1130 = .ok (.dup, 1) := dk_89 (dk_at dksX11_init_47 17 rfl rfl)
theorem dX11_init_1131 : decode cX11_init 1131 = .ok (.iconst 3, 1) := dk_6 (dk_at dksX11_init_47 18 rfl rfl)
theorem dX11_init_1132 : decode cX11_init 1132 = .ok (.bipush 115, 2) := dk_16 115 (dk_at dksX11_init_47 19 rfl rfl)
theorem dX11_init_1134 : decode cX11_init 1134 = .ok (.castore, 1) := dk_85 (dk_at dksX11_init_47 21 rfl rfl)
theorem dX11_init_1135 : decode cX11_init 1135 = .ok (.dup, 1) := dk_89 (dk_at dksX11_init_47 22 rfl rfl)
theorem dX11_init_1136 : decode cX11_init 1136 = .ok (.iconst 4, 1) := dk_7 (dk_at dksX11_init_47 23 rfl rfl)
theorem dX11_init_1137 : decode cX11_init 1137 = .ok (.bipush 116, 2) := dk_16 116 (dk_at dksX11_init_48 0 rfl rfl)
theorem dX11_init_1139 : decode cX11_init 1139 = .ok (.castore, 1) := dk_85 (dk_at dksX11_init_48 2 rfl rfl)
theorem dX11_init_1140 : decode cX11_init 1140 = .ok (.putfield 165, 3) := dk_181 0 165 (dk_at dksX11_init_48 3 rfl rfl)
theorem dX11_init_1143 : decode cX11_init 1143 = .ok (.aload_n 0, 1) := dk_42 (dk_at dksX11_init_48 6 rfl rfl)
theorem dX11_init_1144 : decode cX11_init 1144 = .ok (.iconst 3, 1) := dk_6 (dk_at dksX11_init_48 7 rfl rfl)
theorem dX11_init_1145 : decode cX11_init 1145 = .ok (.newarray .char, 2) := dk_188_5 (dk_at dksX11_init_48 8 rfl rfl)
theorem dX11_init_1147 : decode cX11_init 1147 = .ok (.dup, 1) := dk_89 (dk_at dksX11_init_48 10 rfl rfl)
theorem dX11_init_1148 : decode cX11_init 1148 = .ok (.iconst 0, 1) := dk_3 (dk_at dksX11_init_48 11 rfl rfl)
theorem dX11_init_1149 : decode cX11_init 1149 = .ok (.bipush 110, 2) := dk_16 110 (dk_at dksX11_init_48 12 rfl rfl)
theorem dX11_init_1151 : decode cX11_init 1151 = .ok (.castore, 1) := dk_85 (dk_at dksX11_init_48 14 rfl rfl)
theorem dX11_init_1152 : decode cX11_init 1152 = .ok (.dup, 1) := dk_89 (dk_at dksX11_init_48 15 rfl rfl)
theorem dX11_init_1153 : decode cX11_init 1153 = .ok (.iconst 1, 1) := dk_4 (dk_at dksX11_init_48 16 rfl rfl)
theorem dX11_init_1154 : decode cX11_init 1154 = .ok (.bipush 111, 2) := dk_16 111 (dk_at dksX11_init_48 17 rfl rfl)
theorem dX11_init_1156 : decode cX11_init 1156 = .ok (.castore, 1) := dk_85 (dk_at dksX11_init_48 19 rfl rfl)
theorem dX11_init_1157 : decode cX11_init 1157 = .ok (.dup, 1) := dk_89 (dk_at dksX11_init_48 20 rfl rfl)
theorem dX11_init_1158 : decode cX11_init 1158 = .ok (.iconst 2, 1) := dk_5 (dk_at dksX11_init_48 21 rfl rfl)
theorem dX11_init_1159 : decode cX11_init 1159 = .ok (.bipush 116, 2) := dk_16 116 (dk_at dksX11_init_48 22 rfl rfl)
theorem dX11_init_1161 : decode cX11_init 1161 = .ok (.castore, 1) := dk_85 (dk_at dksX11_init_49 0 rfl rfl)
theorem dX11_init_1162 : decode cX11_init 1162 = .ok (.putfield 168, 3) := dk_181 0 168 (dk_at dksX11_init_49 1 rfl rfl)
theorem dX11_init_1165 : decode cX11_init 1165 = .ok (.aload_n 0, 1) := dk_42 (dk_at dksX11_init_49 4 rfl rfl)
theorem dX11_init_1166 : decode cX11_init 1166 = .ok (.iconst 3, 1) := dk_6 (dk_at dksX11_init_49 5 rfl rfl)
theorem dX11_init_1167 : decode cX11_init 1167 = .ok (.newarray .char, 2) := dk_188_5 (dk_at dksX11_init_49 6 rfl rfl)
theorem dX11_init_1169 : decode cX11_init 1169 = .ok (.dup, 1) := dk_89 (dk_at dksX11_init_49 8 rfl rfl)
theorem dX11_init_1170 : decode cX11_init 1170 = .ok (.iconst 0, 1) := dk_3 (dk_at dksX11_init_49 9 rfl rfl)
theorem dX11_init_1171 : decode cX11_init 1171 = .ok (.bipush 97, 2) := dk_16 97 (dk_at dksX11_init_49 10 rfl rfl)
theorem dX11_init_1173 : decode cX11_init 1173 = .ok (.castore, 1) := dk_85 (dk_at dksX11_init_49 12 rfl rfl)
theorem dX11_init_1174 : decode cX11_init 1174 = .ok (.dup, 1) := dk_89 (dk_at dksX11_init_49 13 rfl rfl)
theorem dX11_init_1175 : decode cX11_init 1175 = .ok (.iconst 1, 1) := dk_4 (dk_at dksX11_init_49 14 rfl rfl)
theorem dX11_init_1176 : decode cX11_init 1176 = .ok (.bipush 110, 2) := dk_16 110 (dk_at dksX11_init_49 15 rfl rfl)
theorem dX11_init_1178 : decode cX11_init 1178 = .ok (.castore, 1) := dk_85 (dk_at dksX11_init_49 17 rfl rfl)
theorem dX11_init_1179 : decode cX11_init 1179 = .ok (.dup, 1) := dk_89 (dk_at dksX11_init_49 18 rfl rfl)
theorem dX11_init_1180 : decode cX11_init 1180 = .ok (.iconst 2, 1) := dk_5 (dk_at dksX11_init_49 19 rfl rfl)
theorem dX11_init_1181 : decode cX11_init 1181 = .ok (.bipush 100, 2) := dk_16 100 (dk_at dksX11_init_49 20 rfl rfl)
theorem dX11_init_1183 : decode cX11_init 1183 = .ok (.castore, 1) := dk_85 (dk_at dksX11_init_49 22 rfl rfl)
theorem dX11_init_1184 : decode cX11_init 1184 = .ok (.putfield 171, 3) := dk_181 0 171 (dk_at dksX11_init_50 0 rfl rfl)
theorem dX11_init_1187 : decode cX11_init 1187 = .ok (.aload_n 0, 1) := dk_42 (dk_at dksX11_init_50 3 rfl rfl)
theorem dX11_init_1188 : decode cX11_init 1188 = .ok (.iconst 2, 1) := dk_5 (dk_at dksX11_init_50 4 rfl rfl)
theorem dX11_init_1189 : decode cX11_init 1189 = .ok (.newarray .char, 2) := dk_188_5 (dk_at dksX11_init_50 5 rfl rfl)
theorem dX11_init_1191 : decode cX11_init 1191 = .ok (.dup, 1) := dk_89 (dk_at dksX11_init_50 7 rfl rfl)
theorem dX11_init_1192 : decode cX11_init 1192 = .ok (.iconst 0, 1) := dk_3 (dk_at dksX11_init_50 8 rfl rfl)
theorem dX11_init_1193 : decode cX11_init 1193 = .ok (.bipush 111, 2) := dk_16 111 (dk_at dksX11_init_50 9 rfl rfl)
theorem dX11_init_1195 : decode cX11_init 1195 = .ok (.castore, 1) := dk_85 (dk_at dksX11_init_50 11 rfl rfl)
theorem dX11_init_1196 : decode cX11_init 1196 = .ok (.dup, 1) := dk_89 (dk_at dksX11_init_50 12 rfl rfl)
theorem dX11_init_1197 : decode cX11_init 1197 = .ok (.iconst 1, 1) := dk_4 (dk_at dksX11_init_50 13 rfl rfl)
theorem dX11_init_1198 : decode cX11_init 1198 = .ok (.bipush 114, 2) := dk_16 114 (dk_at dksX11_init_50 14 rfl rfl)
theorem dX11_init_1200 : decode cX11_init 1200 = .ok (.castore, 1) := dk_85 (dk_at dksX11_init_50 16 rfl rfl)
theorem dX11_init_1201 : decode cX11_init 1201 = .ok (.putfield 174, 3) := dk_181 0 174 (dk_at dksX11_init_50 17 rfl rfl)
theorem dX11_init_1204 : decode cX11_init 1204 = .ok (.aload_n 0, 1) := dk_42 (dk_at dksX11_init_50 20 rfl rfl)
theorem dX11_init_1205 : decode cX11_init 1205 = .ok (.iconst 3, 1) := dk_6 (dk_at dksX11_init_50 21 rfl rfl)
theorem dX11_init_1206 : decode cX11_init 1206 = .ok (.newarray .char, 2) := dk_188_5 (dk_at dksX11_init_50 22 rfl rfl)
theorem dX11_init_1208 : decode cX11_init 1208 = .ok (.dup, 1) := dk_89 (dk_at dksX11_init_51 0 rfl rfl)
theorem dX11_init_1209 : decode cX11_init 1209 = .ok (.iconst 0, 1) := dk_3 (dk_at dksX11_init_51 1 rfl rfl)
theorem dX11_init_1210 : decode cX11_init 1210 = .ok (.bipush 97, 2) := dk_16 97 (dk_at dksX11_init_51 2 rfl rfl)
theorem dX11_init_1212 : decode cX11_init 1212 = .ok (.castore, 1) := dk_85 (dk_at dksX11_init_51 4 rfl rfl)
theorem dX11_init_1213 : decode cX11_init 1213 = .ok (.dup, 1) := dk_89 (dk_at dksX11_init_51 5 rfl rfl)
theorem dX11_init_1214 : decode cX11_init 1214 = .ok (.iconst 1, 1) := dk_4 (dk_at dksX11_init_51 6 rfl rfl)
theorem dX11_init_1215 : decode cX11_init 1215 = .ok (.bipush 108, 2) := dk_16 108 (dk_at dksX11_init_51 7 rfl rfl)
theorem dX11_init_1217 : decode cX11_init 1217 = .ok (.castore, 1) := dk_85 (dk_at dksX11_init_51 9 rfl rfl)
theorem dX11_init_1218 : decode cX11_init 1218 = .ok (.dup, 1) := dk_89 (dk_at dksX11_init_51 10 rfl rfl)
theorem dX11_init_1219 : decode cX11_init 1219 = .ok (.iconst 2, 1) := dk_5 (dk_at dksX11_init_51 11 rfl rfl)
theorem dX11_init_1220 : decode cX11_init 1220 = .ok (.bipush 108, 2) := dk_16 108 (dk_at dksX11_init_51 12 rfl rfl)
theorem dX11_init_1222 : decode cX11_init 1222 = .ok (.castore, 1) := dk_85 (dk_at dksX11_init_51 14 rfl rfl)
theorem dX11_init_1223 : decode cX11_init 1223 = .ok (.putfield 177, 3) := dk_181 0 177 (dk_at dksX11_init_51 15 rfl rfl)
theorem dX11_init_1226 : decode cX11_init 1226 = .ok (.aload_n 0, 1) := dk_42 (dk_at dksX11_init_51 18 rfl rfl)
theorem dX11_init_1227 : decode cX11_init 1227 = .ok (.iconst 3, 1) := dk_6 (dk_at dksX11_init_51 19 rfl rfl)
theorem dX11_init_1228 : decode cX11_init 1228 = .ok (.newarray .char, 2) := dk_188_5 (dk_at dksX11_init_51 20 rfl rfl)
theorem dX11_init_1230 : decode cX11_init 1230 = .ok (.dup, 1) := dk_89 (dk_at dksX11_init_51 22 rfl rfl)
theorem dX11_init_1231 : decode cX11_init 1231 = .ok (.iconst 0, 1) := dk_3 (dk_at dksX11_init_51 23 rfl rfl)
theorem dX11_init_1232 : decode cX11_init 1232 = .ok (.bipush 109, 2) := dk_16 109 (dk_at dksX11_init_52 0 rfl rfl)
theorem dX11_init_1234 : decode cX11_init 1234 = .ok (.castore, 1) := dk_85 (dk_at dksX11_init_52 2 rfl rfl)
theorem dX11_init_1235 : decode cX11_init 1235 = .ok (.dup, 1) := dk_89 (dk_at dksX11_init_52 3 rfl rfl)
theorem dX11_init_1236 : decode cX11_init 1236 = .ok (.iconst 1, 1) := dk_4 (dk_at dksX11_init_52 4 rfl rfl)
theorem dX11_init_1237 : decode cX11_init 1237 = .ok (.bipush 105, 2) := dk_16 105 (dk_at dksX11_init_52 5 rfl rfl)
theorem dX11_init_1239 : decode cX11_init 1239 = .ok (.castore, 1) := dk_85 (dk_at dksX11_init_52 7 rfl rfl)
theorem dX11_init_1240 : decode cX11_init 1240 = .ok (.dup, 1) := dk_89 (dk_at dksX11_init_52 8 rfl rfl)
theorem dX11_init_1241 : decode cX11_init 1241 = .ok (.iconst 2, 1) := dk_5 (dk_at dksX11_init_52 9 rfl rfl)
theorem dX11_init_1242 : decode cX11_init 1242 = .ok (.bipush 110, 2) := dk_16 110 (dk_at dksX11_init_52 10 rfl rfl)
theorem dX11_init_1244 : decode cX11_init 1244 = .ok (.castore, 1) := dk_85 (dk_at dksX11_init_52 12 rfl rfl)
theorem dX11_init_1245 : decode cX11_init 1245 = .ok (.putfield 180, 3) := dk_181 0 180 (dk_at dksX11_init_52 13 rfl rfl)
theorem dX11_init_1248 : decode cX11_init 1248 = .ok (.aload_n 0, 1) := dk_42 (dk_at dksX11_init_52 16 rfl rfl)
theorem dX11_init_1249 : decode cX11_init 1249 = .ok (.iconst 3, 1) := dk_6 (dk_at dksX11_init_52 17 rfl rfl)
theorem dX11_init_1250 : decode cX11_init 1250 = .ok (.newarray .char, 2) := dk_188_5 (dk_at dksX11_init_52 18 rfl rfl)
theorem dX11_init_1252 : decode cX11_init 1252 = .ok (.dup, 1) := dk_89 (dk_at dksX11_init_52 20 rfl rfl)
theorem dX11_init_1253 : decode cX11_init 1253 = .ok (.iconst 0, 1) := dk_3 (dk_at dksX11_init_52 21 rfl rfl)
theorem dX11_init_1254 : decode cX11_init 1254 = .ok (.bipush 109, 2) := dk_16 109 (dk_at dksX11_init_52 22 rfl rfl)
theorem dX11_init_1256 : decode cX11_init 1256 = .ok (.castore, 1) := dk_85 (dk_at dksX11_init_53 0 rfl rfl)
theorem dX11_init_1257 : decode cX11_init 1257 = .ok (.dup, 1) := dk_89 (dk_at dksX11_init_53 1 rfl rfl)
theorem dX11_init_1258 : decode cX11_init 1258 = .ok (.iconst 1, 1) := dk_4 (dk_at dksX11_init_53 2 rfl rfl)
theorem dX11_init_1259 : decode cX11_init 1259 = .ok (.bipush 97, 2) := dk_16 97 (dk_at dksX11_init_53 3 rfl rfl)
theorem dX11_init_1261 : decode cX11_init 1261 = .ok (.castore, 1) := dk_85 (dk_at dksX11_init_53 5 rfl rfl)
theorem dX11_init_1262 : decode cX11_init 1262 = .ok (.dup, 1) := dk_89 (dk_at dksX11_init_53 6 rfl rfl)
theorem dX11_init_1263 : decode cX11_init 1263 = .ok (.iconst 2, 1) := dk_5 (dk_at dksX11_init_53 7 rfl rfl)
theorem dX11_init_1264 : decode cX11_init 1264 = .ok (.bipush 120, 2) := dk_16 120 (dk_at dksX11_init_53 8 rfl rfl)
theorem dX11_init_1266 : decode cX11_init 1266 = .ok (.castore, 1) := dk_85 (dk_at dksX11_init_53 10 rfl rfl)
theorem dX11_init_1267 : decode cX11_init 1267 = .ok (.putfield 183, 3) := dk_181 0 183 (dk_at dksX11_init_53 11 rfl rfl)
theorem dX11_init_1270 : decode cX11_init 1270 = .ok (.aload_n 0, 1) := dk_42 (dk_at dksX11_init_53 14 rfl rfl)
theorem dX11_init_1271 : decode cX11_init 1271 = .ok (.iconst 4, 1) := dk_7 (dk_at dksX11_init_53 15 rfl rfl)
theorem dX11_init_1272 : decode cX11_init 1272 = .ok (.newarray .char, 2) := dk_188_5 (dk_at dksX11_init_53 16 rfl rfl)
theorem dX11_init_1274 : decode cX11_init 1274 = .ok (.dup, 1) := dk_89 (dk_at dksX11_init_53 18 rfl rfl)
theorem dX11_init_1275 : decode cX11_init 1275 = .ok (.iconst 0, 1) := dk_3 (dk_at dksX11_init_53 19 rfl rfl)
theorem dX11_init_1276 : decode cX11_init 1276 = .ok (.bipush 116, 2) := dk_16 116 (dk_at dksX11_init_53 20 rfl rfl)
theorem dX11_init_1278 : decode cX11_init 1278 = .ok (.castore, 1) := dk_85 (dk_at dksX11_init_53 22 rfl rfl)
theorem dX11_init_1279 : decode cX11_init 1279 = .ok (.dup, 1) := dk_89 (dk_at dksX11_init_53 23 rfl rfl)
theorem dX11_init_1280 : decode cX11_init 1280 = .ok (.iconst 1, 1) := dk_4 (dk_at dksX11_init_54 0 rfl rfl)
theorem dX11_init_1281 : decode cX11_init 1281 = .ok (.bipush 105, 2) := dk_16 105 (dk_at dksX11_init_54 1 rfl rfl)
theorem dX11_init_1283 : decode cX11_init 1283 = .ok (.castore, 1) := dk_85 (dk_at dksX11_init_54 3 rfl rfl)
theorem dX11_init_1284 : decode cX11_init 1284 = .ok (.dup, 1) := dk_89 (dk_at dksX11_init_54 4 rfl rfl)
theorem dX11_init_1285 : decode cX11_init 1285 = .ok (.iconst 2, 1) := dk_5 (dk_at dksX11_init_54 5 rfl rfl)
theorem dX11_init_1286 : decode cX11_init 1286 = .ok (.bipush 99, 2) := dk_16 99 (dk_at dksX11_init_54 6 rfl rfl)
theorem dX11_init_1288 : decode cX11_init 1288 = .ok (.castore, 1) := dk_85 (dk_at dksX11_init_54 8 rfl rfl)
theorem dX11_init_1289 : decode cX11_init 1289 = .ok (.dup, 1) := dk_89 (dk_at dksX11_init_54 9 rfl rfl)
theorem dX11_init_1290 : decode cX11_init 1290 = .ok (.iconst 3, 1) := dk_6 (dk_at dksX11_init_54 10 rfl rfl)
theorem dX11_init_1291 : decode cX11_init 1291 = .ok (.bipush 107, 2) := dk_16 107 (dk_at dksX11_init_54 11 rfl rfl)
theorem dX11_init_1293 : decode cX11_init 1293 = .ok (.castore, 1) := dk_85 (dk_at dksX11_init_54 13 rfl rfl)
theorem dX11_init_1294 : decode cX11_init 1294 = .ok (.putfield 186, 3) := dk_181 0 186 (dk_at dksX11_init_54 14 rfl rfl)
theorem dX11_init_1297 : decode cX11_init 1297 = .ok (.aload_n 0, 1) := dk_42 (dk_at dksX11_init_54 17 rfl rfl)
theorem dX11_init_1298 : decode cX11_init 1298 = .ok (.bipush 7, 2) := dk_16 7 (dk_at dksX11_init_54 18 rfl rfl)
theorem dX11_init_1300 : decode cX11_init 1300 = .ok (.newarray .char, 2) := dk_188_5 (dk_at dksX11_init_54 20 rfl rfl)
theorem dX11_init_1302 : decode cX11_init 1302 = .ok (.dup, 1) := dk_89 (dk_at dksX11_init_54 22 rfl rfl)
theorem dX11_init_1303 : decode cX11_init 1303 = .ok (.iconst 0, 1) := dk_3 (dk_at dksX11_init_54 23 rfl rfl)
theorem dX11_init_1304 : decode cX11_init 1304 = .ok (.bipush 114, 2) := dk_16 114 (dk_at dksX11_init_55 0 rfl rfl)
theorem dX11_init_1306 : decode cX11_init 1306 = .ok (.castore, 1) := dk_85 (dk_at dksX11_init_55 2 rfl rfl)
theorem dX11_init_1307 : decode cX11_init 1307 = .ok (.dup, 1) := dk_89 (dk_at dksX11_init_55 3 rfl rfl)
theorem dX11_init_1308 : decode cX11_init 1308 = .ok (.iconst 1, 1) := dk_4 (dk_at dksX11_init_55 4 rfl rfl)
theorem dX11_init_1309 : decode cX11_init 1309 = .ok (.bipush 101, 2) := dk_16 101 (dk_at dksX11_init_55 5 rfl rfl)
theorem dX11_init_1311 : decode cX11_init 1311 = .ok (.castore, 1) := dk_85 (dk_at dksX11_init_55 7 rfl rfl)
theorem dX11_init_1312 : decode cX11_init 1312 = .ok (.dup, 1) := dk_89 (dk_at dksX11_init_55 8 rfl rfl)
theorem dX11_init_1313 : decode cX11_init 1313 = .ok (.iconst 2, 1) := dk_5 (dk_at dksX11_init_55 9 rfl rfl)
theorem dX11_init_1314 : decode cX11_init 1314 = .ok (.bipush 99, 2) := dk_16 99 (dk_at dksX11_init_55 10 rfl rfl)
theorem dX11_init_1316 : decode cX11_init 1316 = .ok (.castore, 1) := dk_85 (dk_at dksX11_init_55 12 rfl rfl)
theorem dX11_init_1317 : decode cX11_init 1317 = .ok (.dup, 1) := dk_89 (dk_at dksX11_init_55 13 rfl rfl)
theorem dX11_init_1318 : decode cX11_init 1318 = .ok (.iconst 3, 1) := dk_6 (dk_at dksX11_init_55 14 rfl rfl)
theorem dX11_init_1319 : decode cX11_init 1319 = .ok (.bipush 111, 2) := dk_16 111 (dk_at dksX11_init_55 15 rfl rfl)
theorem dX11_init_1321 : decode cX11_init 1321 = .ok (.castore, 1) := dk_85 (dk_at dksX11_init_55 17 rfl rfl)
theorem dX11_init_1322 : decode cX11_init 1322 = .ok (.dup, 1) := dk_89 (dk_at dksX11_init_55 18 rfl rfl)
theorem dX11_init_1323 : decode cX11_init 1323 = .ok (.iconst 4, 1) := dk_7 (dk_at dksX11_init_55 19 rfl rfl)
theorem dX11_init_1324 : decode cX11_init 1324 = .ok (.bipush 114, 2) := dk_16 114 (dk_at dksX11_init_55 20 rfl rfl)
theorem dX11_init_1326 : decode cX11_init 1326 = .ok (.castore, 1) := dk_85 (dk_at dksX11_init_55 22 rfl rfl)
theorem dX11_init_1327 : decode cX11_init 1327 = .ok (.dup, 1) := dk_89 (dk_at dksX11_init_55 23 rfl rfl)
theorem dX11_init_1328 : decode cX11_init 1328 = .ok (.iconst 5, 1) := dk_8 (dk_at dksX11_init_56 0 rfl rfl)
theorem dX11_init_1329 : decode cX11_init 1329 = .ok (.bipush 100, 2) := dk_16 100 (dk_at dksX11_init_56 1 rfl rfl)
theorem dX11_init_1331 : decode cX11_init 1331 = .ok (.castore, 1) := dk_85 (dk_at dksX11_init_56 3 rfl rfl)
theorem dX11_init_1332 : decode cX11_init 1332 = .ok (.dup, 1) := dk_89 (dk_at dksX11_init_56 4 rfl rfl)
theorem dX11_init_1333 : decode cX11_init 1333 = .ok (.bipush 6, 2) := dk_16 6 (dk_at dksX11_init_56 5 rfl rfl)
theorem dX11_init_1335 : decode cX11_init 1335 = .ok (.bipush 115, 2) := dk_16 115 (dk_at dksX11_init_56 7 rfl rfl)
theorem dX11_init_1337 : decode cX11_init 1337 = .ok (.castore, 1) := dk_85 (dk_at dksX11_init_56 9 rfl rfl)
theorem dX11_init_1338 : decode cX11_init 1338 = .ok (.putfield 189, 3) := dk_181 0 189 (dk_at dksX11_init_56 10 rfl rfl)
theorem dX11_init_1341 : decode cX11_init 1341 = .ok (.aload_n 0, 1) := dk_42 (dk_at dksX11_init_56 13 rfl rfl)
theorem dX11_init_1342 : decode cX11_init 1342 = .ok (.bipush 7, 2) := dk_16 7 (dk_at dksX11_init_56 14 rfl rfl)
theorem dX11_init_1344 : decode cX11_init 1344 = .ok (.newarray .char, 2) := dk_188_5 (dk_at dksX11_init_56 16 rfl rfl)
theorem dX11_init_1346 : decode cX11_init 1346 = .ok (.dup, 1) := dk_89 (dk_at dksX11_init_56 18 rfl rfl)
theorem dX11_init_1347 : decode cX11_init 1347 = .ok (.iconst 0, 1) := dk_3 (dk_at dksX11_init_56 19 rfl rfl)
theorem dX11_init_1348 : decode cX11_init 1348 = .ok (.bipush 112, 2) := dk_16 112 (dk_at dksX11_init_56 20 rfl rfl)
theorem dX11_init_1350 : decode cX11_init 1350 = .ok (.castore, 1) := dk_85 (dk_at dksX11_init_56 22 rfl rfl)
theorem dX11_init_1351 : decode cX11_init 1351 = .ok (.dup, 1) := dk_89 (dk_at dksX11_init_56 23 rfl rfl)
theorem dX11_init_1352 : decode cX11_init 1352 = .ok (.iconst 1, 1) := dk_4 (dk_at dksX11_init_57 0 rfl rfl)
theorem dX11_init_1353 : decode cX11_init 1353 = .ok (.bipush 97, 2) := dk_16 97 (dk_at dksX11_init_57 1 rfl rfl)
theorem dX11_init_1355 : decode cX11_init 1355 = .ok (.castore, 1) := dk_85 (dk_at dksX11_init_57 3 rfl rfl)
theorem dX11_init_1356 : decode cX11_init 1356 = .ok (.dup, 1) := dk_89 (dk_at dksX11_init_57 4 rfl rfl)
theorem dX11_init_1357 : decode cX11_init 1357 = .ok (.iconst 2, 1) := dk_5 (dk_at dksX11_init_57 5 rfl rfl)
theorem dX11_init_1358 : decode cX11_init 1358 = .ok (.bipush 121, 2) := dk_16 121 (dk_at dksX11_init_57 6 rfl rfl)
theorem dX11_init_1360 : decode cX11_init 1360 = .ok (.castore, 1) := dk_85 (dk_at dksX11_init_57 8 rfl rfl)
theorem dX11_init_1361 : decode cX11_init 1361 = .ok (.dup, 1) := dk_89 (dk_at dksX11_init_57 9 rfl rfl)
theorem dX11_init_1362 : decode cX11_init 1362 = .ok (.iconst 3, 1) := dk_6 (dk_at dksX11_init_57 10 rfl rfl)
theorem dX11_init_1363 : decode cX11_init 1363 = .ok (.bipush 108, 2) := dk_16 108 (dk_at dksX11_init_57 11 rfl rfl)
theorem dX11_init_1365 : decode cX11_init 1365 = .ok (.castore, 1) := dk_85 (dk_at dksX11_init_57 13 rfl rfl)
theorem dX11_init_1366 : decode cX11_init 1366 = .ok (.dup, 1) := dk_89 (dk_at dksX11_init_57 14 rfl rfl)
theorem dX11_init_1367 : decode cX11_init 1367 = .ok (.iconst 4, 1) := dk_7 (dk_at dksX11_init_57 15 rfl rfl)
theorem dX11_init_1368 : decode cX11_init 1368 = .ok (.bipush 111, 2) := dk_16 111 (dk_at dksX11_init_57 16 rfl rfl)
theorem dX11_init_1370 : decode cX11_init 1370 = .ok (.castore, 1) := dk_85 (dk_at dksX11_init_57 18 rfl rfl)
theorem dX11_init_1371 : decode cX11_init 1371 = .ok (.dup, 1) := dk_89 (dk_at dksX11_init_57 19 rfl rfl)
theorem dX11_init_1372 : decode cX11_init 1372 = .ok (.iconst 5, 1) := dk_8 (dk_at dksX11_init_57 20 rfl rfl)
theorem dX11_init_1373 : decode cX11_init 1373 = .ok (.bipush 97, 2) := dk_16 97 (dk_at dksX11_init_57 21 rfl rfl)
theorem dX11_init_1375 : decode cX11_init 1375 = .ok (.castore, 1) := dk_85 (dk_at dksX11_init_57 23 rfl rfl)
theorem dX11_init_1376 : decode cX11_init 1376 = .ok (.dup, 1) := dk_89 (dk_at dksX11_init_58 0 rfl rfl)
theorem dX11_init_1377 : decode cX11_init 1377 = .ok (.bipush 6, 2) := dk_16 6 (dk_at dksX11_init_58 1 rfl rfl)
theorem dX11_init_1379 : decode cX11_init 1379 = .ok (.bipush 100, 2) := dk_16 100 (dk_at dksX11_init_58 3 rfl rfl)
theorem dX11_init_1381 : decode cX11_init 1381 = .ok (.castore, 1) := dk_85 (dk_at dksX11_init_58 5 rfl rfl)
theorem dX11_init_1382 : decode cX11_init 1382 = .ok (.putfield 192, 3) := dk_181 0 192 (dk_at dksX11_init_58 6 rfl rfl)
theorem dX11_init_1385 : decode cX11_init 1385 = .ok (.aload_n 0, 1) := dk_42 (dk_at dksX11_init_58 9 rfl rfl)
theorem dX11_init_1386 : decode cX11_init 1386 = .ok (.iconst 3, 1) := dk_6 (dk_at dksX11_init_58 10 rfl rfl)
theorem dX11_init_1387 : decode cX11_init 1387 = .ok (.newarray .char, 2) := dk_188_5 (dk_at dksX11_init_58 11 rfl rfl)
theorem dX11_init_1389 : decode cX11_init 1389 = .ok (.dup, 1) := dk_89 (dk_at dksX11_init_58 13 rfl rfl)
theorem dX11_init_1390 : decode cX11_init 1390 = .ok (.iconst 0, 1) := dk_3 (dk_at dksX11_init_58 14 rfl rfl)
theorem dX11_init_1391 : decode cX11_init 1391 = .ok (.bipush 97, 2) := dk_16 97 (dk_at dksX11_init_58 15 rfl rfl)
theorem dX11_init_1393 : decode cX11_init 1393 = .ok (.castore, 1) := dk_85 (dk_at dksX11_init_58 17 rfl rfl)
theorem dX11_init_1394 : decode cX11_init 1394 = .ok (.dup, 1) := dk_89 (dk_at dksX11_init_58 18 rfl rfl)
theorem dX11_init_1395 : decode cX11_init 1395 = .ok (.iconst 1, 1) := dk_4 (dk_at dksX11_init_58 19 rfl rfl)
theorem dX11_init_1396 : decode cX11_init 1396 = .ok (.bipush 103, 2) := dk_16 103 (dk_at dksX11_init_58 20 rfl rfl)
theorem dX11_init_1398 : decode cX11_init 1398 = .ok (.castore, 1) := dk_85 (dk_at dksX11_init_58 22 rfl rfl)
theorem dX11_init_1399 : decode cX11_init 1399 = .ok (.dup, 1) := dk_89 (dk_at dksX11_init_58 23 rfl rfl)
theorem dX11_init_1400 : decode cX11_init 1400 = .ok (.iconst 2, 1) := dk_5 (dk_at dksX11_init_59 0 rfl rfl)
theorem dX11_init_1401 : decode cX11_init 1401 = .ok (.bipush 101, 2) := dk_16 101 (dk_at dksX11_init_59 1 rfl rfl)
theorem dX11_init_1403 : decode cX11_init 1403 = .ok (.castore, 1) := dk_85 (dk_at dksX11_init_59 3 rfl rfl)
theorem dX11_init_1404 : decode cX11_init 1404 = .ok (.putfield 195, 3) := dk_181 0 195 (dk_at dksX11_init_59 4 rfl rfl)
theorem dX11_init_1407 : decode cX11_init 1407 = .ok (.aload_n 0, 1) := dk_42 (dk_at dksX11_init_59 7 rfl rfl)
theorem dX11_init_1408 : decode cX11_init 1408 = .ok (.bipush 7, 2) := dk_16 7 (dk_at dksX11_init_59 8 rfl rfl)
theorem dX11_init_1410 : decode cX11_init 1410 = .ok (.newarray .char, 2) := dk_188_5 (dk_at dksX11_init_59 10 rfl rfl)
theorem dX11_init_1412 : decode cX11_init 1412 = .ok (.dup, 1) := dk_89 (dk_at dksX11_init_59 12 rfl rfl)
theorem dX11_init_1413 : decode cX11_init 1413 = .ok (.iconst 0, 1) := dk_3 (dk_at dksX11_init_59 13 rfl rfl)
theorem dX11_init_1414 : decode cX11_init 1414 = .ok (.bipush 119, 2) := dk_16 119 (dk_at dksX11_init_59 14 rfl rfl)
theorem dX11_init_1416 : decode cX11_init 1416 = .ok (.castore, 1) := dk_85 (dk_at dksX11_init_59 16 rfl rfl)
theorem dX11_init_1417 : decode cX11_init 1417 = .ok (.dup, 1) := dk_89 (dk_at dksX11_init_59 17 rfl rfl)
theorem dX11_init_1418 : decode cX11_init 1418 = .ok (.iconst 1, 1) := dk_4 (dk_at dksX11_init_59 18 rfl rfl)
theorem dX11_init_1419 : decode cX11_init 1419 = .ok (.bipush 97, 2) := dk_16 97 (dk_at dksX11_init_59 19 rfl rfl)
theorem dX11_init_1421 : decode cX11_init 1421 = .ok (.castore, 1) := dk_85 (dk_at dksX11_init_59 21 rfl rfl)
theorem dX11_init_1422 : decode cX11_init 1422 = .ok (.dup, 1) := dk_89 (dk_at dksX11_init_59 22 rfl rfl)
theorem dX11_init_1423 : decode cX11_init 1423 = .ok (.iconst 2, 1) := dk_5 (dk_at dksX11_init_59 23 rfl rfl)
theorem dX11_init_1424 : decode cX11_init 1424 = .ok (.bipush 105, 2) := dk_16 105 (dk_at dksX11_init_60 0 rfl rfl)
theorem dX11_init_1426 : decode cX11_init 1426 = .ok (.castore, 1) := dk_85 (dk_at dksX11_init_60 2 rfl rfl)
theorem dX11_init_1427 : decode cX11_init 1427 = .ok (.dup, 1) := dk_89 (dk_at dksX11_init_60 3 rfl rfl)
theorem dX11_init_1428 : decode cX11_init 1428 = .ok (.iconst 3, 1) := dk_6 (dk_at dksX11_init_60 4 rfl rfl)
theorem dX11_init_1429 : decode cX11_init 1429 = .ok (.bipush 116, 2) := dk_16 116 (dk_at dksX11_init_60 5 rfl rfl)
theorem dX11_init_1431 : decode cX11_init 1431 = .ok (.castore, 1) := dk_85 (dk_at dksX11_init_60 7 rfl rfl)
theorem dX11_init_1432 : decode cX11_init 1432 = .ok (.dup, 1) := dk_89 (dk_at dksX11_init_60 8 rfl rfl)
theorem dX11_init_1433 : decode cX11_init 1433 = .ok (.iconst 4, 1) := dk_7 (dk_at dksX11_init_60 9 rfl rfl)
theorem dX11_init_1434 : decode cX11_init 1434 = .ok (.bipush 101, 2) := dk_16 101 (dk_at dksX11_init_60 10 rfl rfl)
theorem dX11_init_1436 : decode cX11_init 1436 = .ok (.castore, 1) := dk_85 (dk_at dksX11_init_60 12 rfl rfl)
theorem dX11_init_1437 : decode cX11_init 1437 = .ok (.dup, 1) := dk_89 (dk_at dksX11_init_60 13 rfl rfl)
theorem dX11_init_1438 : decode cX11_init 1438 = .ok (.iconst 5, 1) := dk_8 (dk_at dksX11_init_60 14 rfl rfl)
theorem dX11_init_1439 : decode cX11_init 1439 = .ok (.bipush 114, 2) := dk_16 114 (dk_at dksX11_init_60 15 rfl rfl)
theorem dX11_init_1441 : decode cX11_init 1441 = .ok (.castore, 1) := dk_85 (dk_at dksX11_init_60 17 rfl rfl)
theorem dX11_init_1442 : decode cX11_init 1442 = .ok (.dup, 1) := dk_89 (dk_at dksX11_init_60 18 rfl rfl)
theorem dX11_init_1443 : decode cX11_init 1443 = .ok (.bipush 6, 2) := dk_16 6 (dk_at dksX11_init_60 19 rfl rfl)
theorem dX11_init_1445 : decode cX11_init 1445 = .ok (.bipush 115, 2) := dk_16 115 (dk_at dksX11_init_60 21 rfl rfl)
theorem dX11_init_1447 : decode cX11_init 1447 = .ok (.castore, 1) := dk_85 (dk_at dksX11_init_60 23 rfl rfl)
theorem dX11_init_1448 : decode cX11_init 1448 = .ok (.putfield 198, 3) := dk_181 0 198 (dk_at dksX11_init_61 0 rfl rfl)
theorem dX11_init_1451 : decode cX11_init 1451 = .ok (.aload_n 0, 1) := dk_42 (dk_at dksX11_init_61 3 rfl rfl)
theorem dX11_init_1452 : decode cX11_init 1452 = .ok (.bipush 6, 2) := dk_16 6 (dk_at dksX11_init_61 4 rfl rfl)
theorem dX11_init_1454 : decode cX11_init 1454 = .ok (.newarray .char, 2) := dk_188_5 (dk_at dksX11_init_61 6 rfl rfl)
theorem dX11_init_1456 : decode cX11_init 1456 = .ok (.dup, 1) := dk_89 (dk_at dksX11_init_61 8 rfl rfl)
theorem dX11_init_1457 : decode cX11_init 1457 = .ok (.iconst 0, 1) := dk_3 (dk_at dksX11_init_61 9 rfl rfl)
theorem dX11_init_1458 : decode cX11_init 1458 = .ok (.bipush 110, 2) := dk_16 110 (dk_at dksX11_init_61 10 rfl rfl)
theorem dX11_init_1460 : decode cX11_init 1460 = .ok (.castore, 1) := dk_85 (dk_at dksX11_init_61 12 rfl rfl)
theorem dX11_init_1461 : decode cX11_init 1461 = .ok (.dup, 1) := dk_89 (dk_at dksX11_init_61 13 rfl rfl)
theorem dX11_init_1462 : decode cX11_init 1462 = .ok (.iconst 1, 1) := dk_4 (dk_at dksX11_init_61 14 rfl rfl)
theorem dX11_init_1463 : decode cX11_init 1463 = .ok (.bipush 117, 2) := dk_16 117 (dk_at dksX11_init_61 15 rfl rfl)
theorem dX11_init_1465 : decode cX11_init 1465 = .ok (.castore, 1) := dk_85 (dk_at dksX11_init_61 17 rfl rfl)
theorem dX11_init_1466 : decode cX11_init 1466 = .ok (.dup, 1) := dk_89 (dk_at dksX11_init_61 18 rfl rfl)
theorem dX11_init_1467 : decode cX11_init 1467 = .ok (.iconst 2, 1) := dk_5 (dk_at dksX11_init_61 19 rfl rfl)
theorem dX11_init_1468 : decode cX11_init 1468 = .ok (.bipush 109, 2) := dk_16 109 (dk_at dksX11_init_61 20 rfl rfl)
theorem dX11_init_1470 : decode cX11_init 1470 = .ok (.castore, 1) := dk_85 (dk_at dksX11_init_61 22 rfl rfl)
theorem dX11_init_1471 : decode cX11_init 1471 = .ok (.dup, 1) := dk_89 (dk_at dksX11_init_61 23 rfl rfl)
theorem dX11_init_1472 : decode cX11_init 1472 = .ok (.iconst 3, 1) := dk_6 (dk_at dksX11_init_62 0 rfl rfl)
theorem dX11_init_1473 : decode cX11_init 1473 = .ok (.bipush 98, 2) := dk_16 98 (dk_at dksX11_init_62 1 rfl rfl)
theorem dX11_init_1475 : decode cX11_init 1475 = .ok (.castore, 1) := dk_85 (dk_at dksX11_init_62 3 rfl rfl)
theorem dX11_init_1476 : decode cX11_init 1476 = .ok (.dup, 1) := dk_89 (dk_at dksX11_init_62 4 rfl rfl)
theorem dX11_init_1477 : decode cX11_init 1477 = .ok (.iconst 4, 1) := dk_7 (dk_at dksX11_init_62 5 rfl rfl)
theorem dX11_init_1478 : decode cX11_init 1478 = .ok (.bipush 101, 2) := dk_16 101 (dk_at dksX11_init_62 6 rfl rfl)
theorem dX11_init_1480 : decode cX11_init 1480 = .ok (.castore, 1) := dk_85 (dk_at dksX11_init_62 8 rfl rfl)
theorem dX11_init_1481 : decode cX11_init 1481 = .ok (.dup, 1) := dk_89 (dk_at dksX11_init_62 9 rfl rfl)
theorem dX11_init_1482 : decode cX11_init 1482 = .ok (.iconst 5, 1) := dk_8 (dk_at dksX11_init_62 10 rfl rfl)
theorem dX11_init_1483 : decode cX11_init 1483 = .ok (.bipush 114, 2) := dk_16 114 (dk_at dksX11_init_62 11 rfl rfl)
theorem dX11_init_1485 : decode cX11_init 1485 = .ok (.castore, 1) := dk_85 (dk_at dksX11_init_62 13 rfl rfl)
theorem dX11_init_1486 : decode cX11_init 1486 = .ok (.putfield 201, 3) := dk_181 0 201 (dk_at dksX11_init_62 14 rfl rfl)
theorem dX11_init_1489 : decode cX11_init 1489 = .ok (.aload_n 0, 1) := dk_42 (dk_at dksX11_init_62 17 rfl rfl)
theorem dX11_init_1490 : decode cX11_init 1490 = .ok (.bipush 6, 2) := dk_16 6 (dk_at dksX11_init_62 18 rfl rfl)
theorem dX11_init_1492 : decode cX11_init 1492 = .ok (.newarray .char, 2) := dk_188_5 (dk_at dksX11_init_62 20 rfl rfl)
theorem dX11_init_1494 : decode cX11_init 1494 = .ok (.dup, 1) := dk_89 (dk_at dksX11_init_62 22 rfl rfl)
theorem dX11_init_1495 : decode cX11_init 1495 = .ok (.iconst 0, 1) := dk_3 (dk_at dksX11_init_62 23 rfl rfl)
theorem dX11_init_1496 : decode cX11_init 1496 = .ok (.bipush 115, 2) := dk_16 115 (dk_at dksX11_init_63 0 rfl rfl)
theorem dX11_init_1498 : decode cX11_init 1498 = .ok (.castore, 1) := dk_85 (dk_at dksX11_init_63 2 rfl rfl)
theorem dX11_init_1499 : decode cX11_init 1499 = .ok (.dup, 1) := dk_89 (dk_at dksX11_init_63 3 rfl rfl)
theorem dX11_init_1500 : decode cX11_init 1500 = .ok (.iconst 1, 1) := dk_4 (dk_at dksX11_init_63 4 rfl rfl)
theorem dX11_init_1501 : decode cX11_init 1501 = .ok (.bipush 101, 2) := dk_16 101 (dk_at dksX11_init_63 5 rfl rfl)
theorem dX11_init_1503 : decode cX11_init 1503 = .ok (.castore, 1) := dk_85 (dk_at dksX11_init_63 7 rfl rfl)
theorem dX11_init_1504 : decode cX11_init 1504 = .ok (.dup, 1) := dk_89 (dk_at dksX11_init_63 8 rfl rfl)
theorem dX11_init_1505 : decode cX11_init 1505 = .ok (.iconst 2, 1) := dk_5 (dk_at dksX11_init_63 9 rfl rfl)
theorem dX11_init_1506 : decode cX11_init 1506 = .ok (.bipush 114, 2) := dk_16 114 (dk_at dksX11_init_63 10 rfl rfl)
theorem dX11_init_1508 : decode cX11_init 1508 = .ok (.castore, 1) := dk_85 (dk_at dksX11_init_63 12 rfl rfl)
theorem dX11_init_1509 : decode cX11_init 1509 = .ok (.dup, 1) := dk_89 (dk_at dksX11_init_63 13 rfl rfl)
theorem dX11_init_1510 : decode cX11_init 1510 = .ok (.iconst 3, 1) := dk_6 (dk_at dksX11_init_63 14 rfl rfl)
theorem dX11_init_1511 : decode cX11_init 1511 = .ok (.bipush 105, 2) := dk_16 105 (dk_at dksX11_init_63 15 rfl rfl)
theorem dX11_init_1513 : decode cX11_init 1513 = .ok (.castore, 1) := dk_85 (dk_at dksX11_init_63 17 rfl rfl)
theorem dX11_init_1514 : decode cX11_init 1514 = .ok (.dup, 1) := dk_89 (dk_at dksX11_init_63 18 rfl rfl)
theorem dX11_init_1515 : decode cX11_init 1515 = .ok (.iconst 4, 1) := dk_7 (dk_at dksX11_init_63 19 rfl rfl)
theorem dX11_init_1516 : decode cX11_init 1516 = .ok (.bipush 97, 2) := dk_16 97 (dk_at dksX11_init_63 20 rfl rfl)
theorem dX11_init_1518 : decode cX11_init 1518 = .ok (.castore, 1) := dk_85 (dk_at dksX11_init_63 22 rfl rfl)
theorem dX11_init_1519 : decode cX11_init 1519 = .ok (.dup, 1) := dk_89 (dk_at dksX11_init_63 23 rfl rfl)
theorem dX11_init_1520 : decode cX11_init 1520 = .ok (.iconst 5, 1) := dk_8 (dk_at dksX11_init_64 0 rfl rfl)
theorem dX11_init_1521 : decode cX11_init 1521 = .ok (.bipush 108, 2) := dk_16 108 (dk_at dksX11_init_64 1 rfl rfl)
theorem dX11_init_1523 : decode cX11_init 1523 = .ok (.castore, 1) := dk_85 (dk_at dksX11_init_64 3 rfl rfl)
theorem dX11_init_1524 : decode cX11_init 1524 = .ok (.putfield 204, 3) := dk_181 0 204 (dk_at dksX11_init_64 4 rfl rfl)
theorem dX11_init_1527 : decode cX11_init 1527 = .ok (.aload_n 0, 1) := dk_42 (dk_at dksX11_init_64 7 rfl rfl)
theorem dX11_init_1528 : decode cX11_init 1528 = .ok (.bipush 6, 2) := dk_16 6 (dk_at dksX11_init_64 8 rfl rfl)
theorem dX11_init_1530 : decode cX11_init 1530 = .ok (.newarray .char, 2) := dk_188_5 (dk_at dksX11_init_64 10 rfl rfl)
theorem dX11_init_1532 : decode cX11_init 1532 = .ok (.dup, 1) := dk_89 (dk_at dksX11_init_64 12 rfl rfl)
theorem dX11_init_1533 : decode cX11_init 1533 = .ok (.iconst 0, 1) := dk_3 (dk_at dksX11_init_64 13 rfl rfl)
theorem dX11_init_1534 : decode cX11_init 1534 = .ok (.bipush 102, 2) := dk_16 102 (dk_at dksX11_init_64 14 rfl rfl)
theorem dX11_init_1536 : decode cX11_init 1536 = .ok (.castore, 1) := dk_85 (dk_at dksX11_init_64 16 rfl rfl)
theorem dX11_init_1537 : decode cX11_init 1537 = .ok (.dup, 1) := dk_89 (dk_at dksX11_init_64 17 rfl rfl)
theorem dX11_init_1538 : decode cX11_init 1538 = .ok (.iconst 1, 1) := dk_4 (dk_at dksX11_init_64 18 rfl rfl)
theorem dX11_init_1539 : decode cX11_init 1539 = .ok (.bipush 114, 2) := dk_16 114 (dk_at dksX11_init_64 19 rfl rfl)
theorem dX11_init_1541 : decode cX11_init 1541 = .ok (.castore, 1) := dk_85 (dk_at dksX11_init_64 21 rfl rfl)
theorem dX11_init_1542 : decode cX11_init 1542 = .ok (.dup, 1) := dk_89 (dk_at dksX11_init_64 22 rfl rfl)
theorem dX11_init_1543 : decode cX11_init 1543 = .ok (.iconst 2, 1) := dk_5 (dk_at dksX11_init_64 23 rfl rfl)
theorem dX11_init_1544 : decode cX11_init 1544 = .ok (.bipush 97, 2) := dk_16 97 (dk_at dksX11_init_65 0 rfl rfl)
theorem dX11_init_1546 : decode cX11_init 1546 = .ok (.castore, 1) := dk_85 (dk_at dksX11_init_65 2 rfl rfl)
theorem dX11_init_1547 : decode cX11_init 1547 = .ok (.dup, 1) := dk_89 (dk_at dksX11_init_65 3 rfl rfl)
theorem dX11_init_1548 : decode cX11_init 1548 = .ok (.iconst 3, 1) := dk_6 (dk_at dksX11_init_65 4 rfl rfl)
theorem dX11_init_1549 : decode cX11_init 1549 = .ok (.bipush 109, 2) := dk_16 109 (dk_at dksX11_init_65 5 rfl rfl)
theorem dX11_init_1551 : decode cX11_init 1551 = .ok (.castore, 1) := dk_85 (dk_at dksX11_init_65 7 rfl rfl)
theorem dX11_init_1552 : decode cX11_init 1552 = .ok (.dup, 1) := dk_89 (dk_at dksX11_init_65 8 rfl rfl)
theorem dX11_init_1553 : decode cX11_init 1553 = .ok (.iconst 4, 1) := dk_7 (dk_at dksX11_init_65 9 rfl rfl)
theorem dX11_init_1554 : decode cX11_init 1554 = .ok (.bipush 101, 2) := dk_16 101 (dk_at dksX11_init_65 10 rfl rfl)
theorem dX11_init_1556 : decode cX11_init 1556 = .ok (.castore, 1) := dk_85 (dk_at dksX11_init_65 12 rfl rfl)
theorem dX11_init_1557 : decode cX11_init 1557 = .ok (.dup, 1) := dk_89 (dk_at dksX11_init_65 13 rfl rfl)
theorem dX11_init_1558 : decode cX11_init 1558 = .ok (.iconst 5, 1) := dk_8 (dk_at dksX11_init_65 14 rfl rfl)
theorem dX11_init_1559 : decode cX11_init 1559 = .ok (.bipush 115, 2) := dk_16 115 (dk_at dksX11_init_65 15 rfl rfl)
theorem dX11_init_1561 : decode cX11_init 1561 = .ok (.castore, 1) := dk_85 (dk_at dksX11_init_65 17 rfl rfl)
theorem dX11_init_1562 : decode cX11_init 1562 = .ok (.putfield 207, 3) := dk_181 0 207 (dk_at dksX11_init_65 18 rfl rfl)
theorem dX11_init_1565 : decode cX11_init 1565 = .ok (.aload_n 0, 1) := dk_42 (dk_at dksX11_init_65 21 rfl rfl)
theorem dX11_init_1566 : decode cX11_init 1566 = .ok (.iconst 5, 1) := dk_8 (dk_at dksX11_init_65 22 rfl rfl)
theorem dX11_init_1567 : decode cX11_init 1567 = .ok (.newarray .char, 2) := dk_188_5 (dk_at dksX11_init_66 0 rfl rfl)
theorem dX11_init_1569 : decode cX11_init 1569 = .ok (.dup, 1) := dk_89 (dk_at dksX11_init_66 2 rfl rfl)
theorem dX11_init_1570 : decode cX11_init 1570 = .ok (.iconst 0, 1) := dk_3 (dk_at dksX11_init_66 3 rfl rfl)
theorem dX11_init_1571 : decode cX11_init 1571 = .ok (.bipush 111, 2) := dk_16 111 (dk_at dksX11_init_66 4 rfl rfl)
theorem dX11_init_1573 : decode cX11_init 1573 = .ok (.castore, 1) := dk_85 (dk_at dksX11_init_66 6 rfl rfl)
theorem dX11_init_1574 : decode cX11_init 1574 = .ok (.dup, 1) := dk_89 (dk_at dksX11_init_66 7 rfl rfl)
theorem dX11_init_1575 : decode cX11_init 1575 = .ok (.iconst 1, 1) := dk_4 (dk_at dksX11_init_66 8 rfl rfl)
theorem dX11_init_1576 : decode cX11_init 1576 = .ok (.bipush 99, 2) := dk_16 99 (dk_at dksX11_init_66 9 rfl rfl)
theorem dX11_init_1578 : decode cX11_init 1578 = .ok (.castore, 1) := dk_85 (dk_at dksX11_init_66 11 rfl rfl)
theorem dX11_init_1579 : decode cX11_init 1579 = .ok (.dup, 1) := dk_89 (dk_at dksX11_init_66 12 rfl rfl)
theorem dX11_init_1580 : decode cX11_init 1580 = .ok (.iconst 2, 1) := dk_5 (dk_at dksX11_init_66 13 rfl rfl)
theorem dX11_init_1581 : decode cX11_init 1581 = .ok (.bipush 116, 2) := dk_16 116 (dk_at dksX11_init_66 14 rfl rfl)
theorem dX11_init_1583 : decode cX11_init 1583 = .ok (.castore, 1) := dk_85 (dk_at dksX11_init_66 16 rfl rfl)
theorem dX11_init_1584 : decode cX11_init 1584 = .ok (.dup, 1) := dk_89 (dk_at dksX11_init_66 17 rfl rfl)
theorem dX11_init_1585 : decode cX11_init 1585 = .ok (.iconst 3, 1) := dk_6 (dk_at dksX11_init_66 18 rfl rfl)
theorem dX11_init_1586 : decode cX11_init 1586 = .ok (.bipush 101, 2) := dk_16 101 (dk_at dksX11_init_66 19 rfl rfl)
theorem dX11_init_1588 : decode cX11_init 1588 = .ok (.castore, 1) := dk_85 (dk_at dksX11_init_66 21 rfl rfl)
theorem dX11_init_1589 : decode cX11_init 1589 = .ok (.dup, 1) := dk_89 (dk_at dksX11_init_66 22 rfl rfl)
theorem dX11_init_1590 : decode cX11_init 1590 = .ok (.iconst 4, 1) := dk_7 (dk_at dksX11_init_66 23 rfl rfl)
theorem dX11_init_1591 : decode cX11_init 1591 = .ok (.bipush 116, 2) := dk_16 116 (dk_at dksX11_init_67 0 rfl rfl)
theorem dX11_init_1593 : decode cX11_init 1593 = .ok (.castore, 1) := dk_85 (dk_at dksX11_init_67 2 rfl rfl)
theorem dX11_init_1594 : decode cX11_init 1594 = .ok (.putfield 210, 3) := dk_181 0 210 (dk_at dksX11_init_67 3 rfl rfl)
theorem dX11_init_1597 : decode cX11_init 1597 = .ok (.aload_n 0, 1) := dk_42 (dk_at dksX11_init_67 6 rfl rfl)
theorem dX11_init_1598 : decode cX11_init 1598 = .ok (.iconst 5, 1) := dk_8 (dk_at dksX11_init_67 7 rfl rfl)
theorem dX11_init_1599 : decode cX11_init 1599 = .ok (.newarray .char, 2) := dk_188_5 (dk_at dksX11_init_67 8 rfl rfl)
theorem dX11_init_1601 : decode cX11_init 1601 = .ok (.dup, 1) := dk_89 (dk_at dksX11_init_67 10 rfl rfl)
theorem dX11_init_1602 : decode cX11_init 1602 = .ok (.iconst 0, 1) := dk_3 (dk_at dksX11_init_67 11 rfl rfl)
theorem dX11_init_1603 : decode cX11_init 1603 = .ok (.bipush 118, 2) := dk_16 118 (dk_at dksX11_init_67 12 rfl rfl)
theorem dX11_init_1605 : decode cX11_init 1605 = .ok (.castore, 1) := dk_85 (dk_at dksX11_init_67 14 rfl rfl)
theorem dX11_init_1606 : decode cX11_init 1606 = .ok (.dup, 1) := dk_89 (dk_at dksX11_init_67 15 rfl rfl)
theorem dX11_init_1607 : decode cX11_init 1607 = .ok (.iconst 1, 1) := dk_4 (dk_at dksX11_init_67 16 rfl rfl)
theorem dX11_init_1608 : decode cX11_init 1608 = .ok (.bipush 97, 2) := dk_16 97 (dk_at dksX11_init_67 17 rfl rfl)
theorem dX11_init_1610 : decode cX11_init 1610 = .ok (.castore, 1) := dk_85 (dk_at dksX11_init_67 19 rfl rfl)
theorem dX11_init_1611 : decode cX11_init 1611 = .ok (.dup, 1) := dk_89 (dk_at dksX11_init_67 20 rfl rfl)
theorem dX11_init_1612 : decode cX11_init 1612 = .ok (.iconst 2, 1) := dk_5 (dk_at dksX11_init_67 21 rfl rfl)
theorem dX11_init_1613 : decode cX11_init 1613 = .ok (.bipush 108, 2) := dk_16 108 (dk_at dksX11_init_67 22 rfl rfl)
theorem dX11_init_1615 : decode cX11_init 1615 = .ok (.castore, 1) := dk_85 (dk_at dksX11_init_68 0 rfl rfl)
theorem dX11_init_1616 : decode cX11_init 1616 = .ok (.dup, 1) := dk_89 (dk_at dksX11_init_68 1 rfl rfl)
theorem dX11_init_1617 : decode cX11_init 1617 = .ok (.iconst 3, 1) := dk_6 (dk_at dksX11_init_68 2 rfl rfl)
theorem dX11_init_1618 : decode cX11_init 1618 = .ok (.bipush 117, 2) := dk_16 117 (dk_at dksX11_init_68 3 rfl rfl)
theorem dX11_init_1620 : decode cX11_init 1620 = .ok (.castore, 1) := dk_85 (dk_at dksX11_init_68 5 rfl rfl)
theorem dX11_init_1621 : decode cX11_init 1621 = .ok (.dup, 1) := dk_89 (dk_at dksX11_init_68 6 rfl rfl)
theorem dX11_init_1622 : decode cX11_init 1622 = .ok (.iconst 4, 1) := dk_7 (dk_at dksX11_init_68 7 rfl rfl)
theorem dX11_init_1623 : decode cX11_init 1623 = .ok (.bipush 101, 2) := dk_16 101 (dk_at dksX11_init_68 8 rfl rfl)
theorem dX11_init_1625 : decode cX11_init 1625 = .ok (.castore, 1) := dk_85 (dk_at dksX11_init_68 10 rfl rfl)
theorem dX11_init_1626 : decode cX11_init 1626 = .ok (.putfield 213, 3) := dk_181 0 213 (dk_at dksX11_init_68 11 rfl rfl)
theorem dX11_init_1629 : decode cX11_init 1629 = .ok (.aload_n 0, 1) := dk_42 (dk_at dksX11_init_68 14 rfl rfl)
theorem dX11_init_1630 : decode cX11_init 1630 = .ok (.sipush 1700, 3) := dk_17 6 164 (dk_at dksX11_init_68 15 rfl rfl)
theorem dX11_init_1633 : decode cX11_init 1633 = .ok (.newarray .int, 2) := dk_188_10 (dk_at dksX11_init_68 18 rfl rfl)
theorem dX11_init_1635 : decode cX11_init 1635 = .ok (.putfield 216, 3) := dk_181 0 216 (dk_at dksX11_init_68 20 rfl rfl)
theorem dX11_init_1638 : decode cX11_init 1638 = .ok (.aload_n 0, 1) := dk_42 (dk_at dksX11_init_68 23 rfl rfl)
theorem dX11_init_1639 : decode cX11_init 1639 = .ok (.sipush 1700, 3) := dk_17 6 164 (dk_at dksX11_init_69 0 rfl rfl)
theorem dX11_init_1642 : decode cX11_init 1642 = .ok (.newarray .int, 2) := dk_188_10 (dk_at dksX11_init_69 3 rfl rfl)
theorem dX11_init_1644 : decode cX11_init 1644 = .ok (.putfield 219, 3) := dk_181 0 219 (dk_at dksX11_init_69 5 rfl rfl)
theorem dX11_init_1647 : decode cX11_init 1647 = .ok (.aload_n 0, 1) := dk_42 (dk_at dksX11_init_69 8 rfl rfl)
theorem dX11_init_1648 : decode cX11_init 1648 = .ok (.sipush 1700, 3) := dk_17 6 164 (dk_at dksX11_init_69 9 rfl rfl)
theorem dX11_init_1651 : decode cX11_init 1651 = .ok (.newarray .long, 2) := dk_188_11 (dk_at dksX11_init_69 12 rfl rfl)
theorem dX11_init_1653 : decode cX11_init 1653 = .ok (.putfield 222, 3) := dk_181 0 222 (dk_at dksX11_init_69 14 rfl rfl)
theorem dX11_init_1656 : decode cX11_init 1656 = .ok (.aload_n 0, 1) := dk_42 (dk_at dksX11_init_69 17 rfl rfl)
theorem dX11_init_1657 : decode cX11_init 1657 = .ok (.sipush 547, 3) := dk_17 2 35 (dk_at dksX11_init_69 18 rfl rfl)
theorem dX11_init_1660 : decode cX11_init 1660 = .ok (.newarray .int, 2) := dk_188_10 (dk_at dksX11_init_69 21 rfl rfl)
theorem dX11_init_1662 : decode cX11_init 1662 = .ok (.putfield 226, 3) := dk_181 0 226 (dk_at dksX11_init_70 0 rfl rfl)
theorem dX11_init_1665 : decode cX11_init 1665 = .ok (.return_, 1) := dk_177 (dk_at dksX11_init_70 3 rfl rfl)
abbrev cX11_feed : ByteArray := prog_26_method_3_code
def yX11_feed : MethodName := ⟨RX11, "feed", "(IIIII)I"⟩
def dkwX11_feed_5 : List UInt8 := [132, 6, 1, 167, 255, 163, 42, 180, 0, 229, 172]
abbrev dktX11_feed_5 : List UInt8 := dkwX11_feed_5 ++ []
def dkwX11_feed_4 : List UInt8 := [6, 21, 6, 7, 112, 100, 104, 122, 17, 0, 255, 126, 79, 42, 89, 180, 0, 229, 4, 96, 181, 0, 229]
abbrev dktX11_feed_4 : List UInt8 := dkwX11_feed_4 ++ dktX11_feed_5
def dkwX11_feed_3 : List UInt8 := [162, 0, 8, 21, 4, 167, 0, 5, 21, 5, 54, 7, 42, 180, 0, 7, 42, 180, 0, 229, 21, 7, 16, 8]
abbrev dktX11_feed_3 : List UInt8 := dkwX11_feed_3 ++ dktX11_feed_4
def dkwX11_feed_2 : List UInt8 := [16, 8, 162, 0, 7, 28, 167, 0, 28, 21, 6, 16, 12, 162, 0, 7, 29, 167, 0, 17, 21, 6, 16, 16]
abbrev dktX11_feed_2 : List UInt8 := dkwX11_feed_2 ++ dktX11_feed_3
def dkwX11_feed_1 : List UInt8 := [172, 3, 54, 6, 21, 6, 16, 20, 162, 0, 92, 21, 6, 7, 162, 0, 7, 27, 167, 0, 39, 21, 6]
abbrev dktX11_feed_1 : List UInt8 := dkwX11_feed_1 ++ dktX11_feed_2
def dkwX11_feed_0 : List UInt8 := [42, 180, 0, 229, 16, 20, 96, 17, 6, 64, 164, 0, 15, 42, 180, 0, 17, 3, 92, 46, 4, 96, 79, 2]
abbrev dktX11_feed_0 : List UInt8 := dkwX11_feed_0 ++ dktX11_feed_1
theorem dksX11_feed_0 : cX11_feed.data.toList.drop 0 = dktX11_feed_0 := by decide +kernel
theorem dksX11_feed_1 : cX11_feed.data.toList.drop 24 = dktX11_feed_1 := dk_seg dksX11_feed_0 24 rfl rfl
theorem dksX11_feed_2 : cX11_feed.data.toList.drop 47 = dktX11_feed_2 := dk_seg dksX11_feed_1 23 rfl rfl
theorem dksX11_feed_3 : cX11_feed.data.toList.drop 71 = dktX11_feed_3 := dk_seg dksX11_feed_2 24 rfl rfl
theorem dksX11_feed_4 : cX11_feed.data.toList.drop 95 = dktX11_feed_4 := dk_seg dksX11_feed_3 24 rfl rfl
theorem dksX11_feed_5 : cX11_feed.data.toList.drop 118 = dktX11_feed_5 := dk_seg dksX11_feed_4 23 rfl rfl
theorem dX11_feed_0 : decode cX11_feed 0 = .ok (.aload_n 0, 1) := dk_42 (dk_at dksX11_feed_0 0 rfl rfl)
theorem dX11_feed_1 : decode cX11_feed 1 = .ok (.getfield 229, 3) := dk_180 0 229 (dk_at dksX11_feed_0 1 rfl rfl)
theorem dX11_feed_4 : decode cX11_feed 4 = .ok (.bipush 20, 2) := dk_16 20 (dk_at dksX11_feed_0 4 rfl rfl)
theorem dX11_feed_6 : decode cX11_feed 6 = .ok (.iadd, 1) := dk_96 (dk_at dksX11_feed_0 6 rfl rfl)
theorem dX11_feed_7 : decode cX11_feed 7 = .ok (.sipush 1600, 3) := dk_17 6 64 (dk_at dksX11_feed_0 7 rfl rfl)
theorem dX11_feed_10 : decode cX11_feed 10 = .ok (.if_icmp .le 15, 3) := dk_164 0 15 (dk_at dksX11_feed_0 10 rfl rfl)
theorem dX11_feed_13 : decode cX11_feed 13 = .ok (.aload_n 0, 1) := dk_42 (dk_at dksX11_feed_0 13 rfl rfl)
theorem dX11_feed_14 : decode cX11_feed 14 = .ok (.getfield 17, 3) := dk_180 0 17 (dk_at dksX11_feed_0 14 rfl rfl)
theorem dX11_feed_17 : decode cX11_feed 17 = .ok (.iconst 0, 1) := dk_3 (dk_at dksX11_feed_0 17 rfl rfl)
theorem dX11_feed_18 : decode cX11_feed 18 = .ok (.dup2, 1) := dk_92 (dk_at dksX11_feed_0 18 rfl rfl)
theorem dX11_feed_19 : decode cX11_feed 19 = .ok (.iaload, 1) := dk_46 (dk_at dksX11_feed_0 19 rfl rfl)
theorem dX11_feed_20 : decode cX11_feed 20 = .ok (.iconst 1, 1) := dk_4 (dk_at dksX11_feed_0 20 rfl rfl)
theorem dX11_feed_21 : decode cX11_feed 21 = .ok (.iadd, 1) := dk_96 (dk_at dksX11_feed_0 21 rfl rfl)
theorem dX11_feed_22 : decode cX11_feed 22 = .ok (.iastore, 1) := dk_79 (dk_at dksX11_feed_0 22 rfl rfl)
theorem dX11_feed_23 : decode cX11_feed 23 = .ok (.iconst (-1), 1) := dk_2 (dk_at dksX11_feed_0 23 rfl rfl)
theorem dX11_feed_24 : decode cX11_feed 24 = .ok (.ireturn, 1) := dk_172 (dk_at dksX11_feed_1 0 rfl rfl)
theorem dX11_feed_25 : decode cX11_feed 25 = .ok (.iconst 0, 1) := dk_3 (dk_at dksX11_feed_1 1 rfl rfl)
theorem dX11_feed_26 : decode cX11_feed 26 = .ok (.istore 6, 2) := dk_54 6 (dk_at dksX11_feed_1 2 rfl rfl)
theorem dX11_feed_28 : decode cX11_feed 28 = .ok (.iload 6, 2) := dk_21 6 (dk_at dksX11_feed_1 4 rfl rfl)
theorem dX11_feed_30 : decode cX11_feed 30 = .ok (.bipush 20, 2) := dk_16 20 (dk_at dksX11_feed_1 6 rfl rfl)
theorem dX11_feed_32 : decode cX11_feed 32 = .ok (.if_icmp .ge 92, 3) := dk_162 0 92 (dk_at dksX11_feed_1 8 rfl rfl)
theorem dX11_feed_35 : decode cX11_feed 35 = .ok (.iload 6, 2) := dk_21 6 (dk_at dksX11_feed_1 11 rfl rfl)
theorem dX11_feed_37 : decode cX11_feed 37 = .ok (.iconst 4, 1) := dk_7 (dk_at dksX11_feed_1 13 rfl rfl)
theorem dX11_feed_38 : decode cX11_feed 38 = .ok (.if_icmp .ge 7, 3) := dk_162 0 7 (dk_at dksX11_feed_1 14 rfl rfl)
theorem dX11_feed_41 : decode cX11_feed 41 = .ok (.iload_n 1, 1) := dk_27 (dk_at dksX11_feed_1 17 rfl rfl)
theorem dX11_feed_42 : decode cX11_feed 42 = .ok (.goto 39, 3) := dk_167 0 39 (dk_at dksX11_feed_1 18 rfl rfl)
theorem dX11_feed_45 : decode cX11_feed 45 = .ok (.iload 6, 2) := dk_21 6 (dk_at dksX11_feed_1 21 rfl rfl)
theorem dX11_feed_47 : decode cX11_feed 47 = .ok (.bipush 8, 2) := dk_16 8 (dk_at dksX11_feed_2 0 rfl rfl)
theorem dX11_feed_49 : decode cX11_feed 49 = .ok (.if_icmp .ge 7, 3) := dk_162 0 7 (dk_at dksX11_feed_2 2 rfl rfl)
theorem dX11_feed_52 : decode cX11_feed 52 = .ok (.iload_n 2, 1) := dk_28 (dk_at dksX11_feed_2 5 rfl rfl)
theorem dX11_feed_53 : decode cX11_feed 53 = .ok (.goto 28, 3) := dk_167 0 28 (dk_at dksX11_feed_2 6 rfl rfl)
theorem dX11_feed_56 : decode cX11_feed 56 = .ok (.iload 6, 2) := dk_21 6 (dk_at dksX11_feed_2 9 rfl rfl)
theorem dX11_feed_58 : decode cX11_feed 58 = .ok (.bipush 12, 2) := dk_16 12 (dk_at dksX11_feed_2 11 rfl rfl)
theorem dX11_feed_60 : decode cX11_feed 60 = .ok (.if_icmp .ge 7, 3) := dk_162 0 7 (dk_at dksX11_feed_2 13 rfl rfl)
theorem dX11_feed_63 : decode cX11_feed 63 = .ok (.iload_n 3, 1) := dk_29 (dk_at dksX11_feed_2 16 rfl rfl)
theorem dX11_feed_64 : decode cX11_feed 64 = .ok (.goto 17, 3) := dk_167 0 17 (dk_at dksX11_feed_2 17 rfl rfl)
theorem dX11_feed_67 : decode cX11_feed 67 = .ok (.iload 6, 2) := dk_21 6 (dk_at dksX11_feed_2 20 rfl rfl)
theorem dX11_feed_69 : decode cX11_feed 69 = .ok (.bipush 16, 2) := dk_16 16 (dk_at dksX11_feed_2 22 rfl rfl)
theorem dX11_feed_71 : decode cX11_feed 71 = .ok (.if_icmp .ge 8, 3) := dk_162 0 8 (dk_at dksX11_feed_3 0 rfl rfl)
theorem dX11_feed_74 : decode cX11_feed 74 = .ok (.iload 4, 2) := dk_21 4 (dk_at dksX11_feed_3 3 rfl rfl)
theorem dX11_feed_76 : decode cX11_feed 76 = .ok (.goto 5, 3) := dk_167 0 5 (dk_at dksX11_feed_3 5 rfl rfl)
theorem dX11_feed_79 : decode cX11_feed 79 = .ok (.iload 5, 2) := dk_21 5 (dk_at dksX11_feed_3 8 rfl rfl)
theorem dX11_feed_81 : decode cX11_feed 81 = .ok (.istore 7, 2) := dk_54 7 (dk_at dksX11_feed_3 10 rfl rfl)
theorem dX11_feed_83 : decode cX11_feed 83 = .ok (.aload_n 0, 1) := dk_42 (dk_at dksX11_feed_3 12 rfl rfl)
theorem dX11_feed_84 : decode cX11_feed 84 = .ok (.getfield 7, 3) := dk_180 0 7 (dk_at dksX11_feed_3 13 rfl rfl)
theorem dX11_feed_87 : decode cX11_feed 87 = .ok (.aload_n 0, 1) := dk_42 (dk_at dksX11_feed_3 16 rfl rfl)
theorem dX11_feed_88 : decode cX11_feed 88 = .ok (.getfield 229, 3) := dk_180 0 229 (dk_at dksX11_feed_3 17 rfl rfl)
theorem dX11_feed_91 : decode cX11_feed 91 = .ok (.iload 7, 2) := dk_21 7 (dk_at dksX11_feed_3 20 rfl rfl)
theorem dX11_feed_93 : decode cX11_feed 93 = .ok (.bipush 8, 2) := dk_16 8 (dk_at dksX11_feed_3 22 rfl rfl)
theorem dX11_feed_95 : decode cX11_feed 95 = .ok (.iconst 3, 1) := dk_6 (dk_at dksX11_feed_4 0 rfl rfl)
theorem dX11_feed_96 : decode cX11_feed 96 = .ok (.iload 6, 2) := dk_21 6 (dk_at dksX11_feed_4 1 rfl rfl)
theorem dX11_feed_98 : decode cX11_feed 98 = .ok (.iconst 4, 1) := dk_7 (dk_at dksX11_feed_4 3 rfl rfl)
theorem dX11_feed_99 : decode cX11_feed 99 = .ok (.irem, 1) := dk_112 (dk_at dksX11_feed_4 4 rfl rfl)
theorem dX11_feed_100 : decode cX11_feed 100 = .ok (.isub, 1) := dk_100 (dk_at dksX11_feed_4 5 rfl rfl)
theorem dX11_feed_101 : decode cX11_feed 101 = .ok (.imul, 1) := dk_104 (dk_at dksX11_feed_4 6 rfl rfl)
theorem dX11_feed_102 : decode cX11_feed 102 = .ok (.ishr, 1) := dk_122 (dk_at dksX11_feed_4 7 rfl rfl)
theorem dX11_feed_103 : decode cX11_feed 103 = .ok (.sipush 255, 3) := dk_17 0 255 (dk_at dksX11_feed_4 8 rfl rfl)
theorem dX11_feed_106 : decode cX11_feed 106 = .ok (.iand, 1) := dk_126 (dk_at dksX11_feed_4 11 rfl rfl)
theorem dX11_feed_107 : decode cX11_feed 107 = .ok (.iastore, 1) := dk_79 (dk_at dksX11_feed_4 12 rfl rfl)
theorem dX11_feed_108 : decode cX11_feed 108 = .ok (.aload_n 0, 1) := dk_42 (dk_at dksX11_feed_4 13 rfl rfl)
theorem dX11_feed_109 : decode cX11_feed 109 = .ok (.dup, 1) := dk_89 (dk_at dksX11_feed_4 14 rfl rfl)
theorem dX11_feed_110 : decode cX11_feed 110 = .ok (.getfield 229, 3) := dk_180 0 229 (dk_at dksX11_feed_4 15 rfl rfl)
theorem dX11_feed_113 : decode cX11_feed 113 = .ok (.iconst 1, 1) := dk_4 (dk_at dksX11_feed_4 18 rfl rfl)
theorem dX11_feed_114 : decode cX11_feed 114 = .ok (.iadd, 1) := dk_96 (dk_at dksX11_feed_4 19 rfl rfl)
theorem dX11_feed_115 : decode cX11_feed 115 = .ok (.putfield 229, 3) := dk_181 0 229 (dk_at dksX11_feed_4 20 rfl rfl)
theorem dX11_feed_118 : decode cX11_feed 118 = .ok (.iinc 6 1, 3) := dk_132 6 1 (dk_at dksX11_feed_5 0 rfl rfl)
theorem dX11_feed_121 : decode cX11_feed 121 = .ok (.goto (-93), 3) := dk_167 255 163 (dk_at dksX11_feed_5 3 rfl rfl)
theorem dX11_feed_124 : decode cX11_feed 124 = .ok (.aload_n 0, 1) := dk_42 (dk_at dksX11_feed_5 6 rfl rfl)
theorem dX11_feed_125 : decode cX11_feed 125 = .ok (.getfield 229, 3) := dk_180 0 229 (dk_at dksX11_feed_5 7 rfl rfl)
theorem dX11_feed_128 : decode cX11_feed 128 = .ok (.ireturn, 1) := dk_172 (dk_at dksX11_feed_5 10 rfl rfl)
abbrev cX11_end : ByteArray := prog_26_method_4_code
def yX11_end : MethodName := ⟨RX11, "end", "(I)Z"⟩
def dkwX11_end_1 : List UInt8 := [42, 27, 181, 0, 229, 4, 172]
abbrev dktX11_end_1 : List UInt8 := dkwX11_end_1 ++ []
def dkwX11_end_0 : List UInt8 := [27, 155, 0, 11, 27, 42, 180, 0, 229, 164, 0, 15, 42, 180, 0, 17, 3, 92, 46, 4, 96, 79, 3, 172]
abbrev dktX11_end_0 : List UInt8 := dkwX11_end_0 ++ dktX11_end_1
theorem dksX11_end_0 : cX11_end.data.toList.drop 0 = dktX11_end_0 := by decide +kernel
theorem dksX11_end_1 : cX11_end.data.toList.drop 24 = dktX11_end_1 := dk_seg dksX11_end_0 24 rfl rfl
theorem dX11_end_0 : decode cX11_end 0 = .ok (.iload_n 1, 1) := dk_27 (dk_at dksX11_end_0 0 rfl rfl)
theorem dX11_end_1 : decode cX11_end 1 = .ok (.ifCond .lt 11, 3) := dk_155 0 11 (dk_at dksX11_end_0 1 rfl rfl)
theorem dX11_end_4 : decode cX11_end 4 = .ok (.iload_n 1, 1) := dk_27 (dk_at dksX11_end_0 4 rfl rfl)
theorem dX11_end_5 : decode cX11_end 5 = .ok (.aload_n 0, 1) := dk_42 (dk_at dksX11_end_0 5 rfl rfl)
theorem dX11_end_6 : decode cX11_end 6 = .ok (.getfield 229, 3) := dk_180 0 229 (dk_at dksX11_end_0 6 rfl rfl)
theorem dX11_end_9 : decode cX11_end 9 = .ok (.if_icmp .le 15, 3) := dk_164 0 15 (dk_at dksX11_end_0 9 rfl rfl)
theorem dX11_end_12 : decode cX11_end 12 = .ok (.aload_n 0, 1) := dk_42 (dk_at dksX11_end_0 12 rfl rfl)
theorem dX11_end_13 : decode cX11_end 13 = .ok (.getfield 17, 3) := dk_180 0 17 (dk_at dksX11_end_0 13 rfl rfl)
theorem dX11_end_16 : decode cX11_end 16 = .ok (.iconst 0, 1) := dk_3 (dk_at dksX11_end_0 16 rfl rfl)
theorem dX11_end_17 : decode cX11_end 17 = .ok (.dup2, 1) := dk_92 (dk_at dksX11_end_0 17 rfl rfl)
theorem dX11_end_18 : decode cX11_end 18 = .ok (.iaload, 1) := dk_46 (dk_at dksX11_end_0 18 rfl rfl)
theorem dX11_end_19 : decode cX11_end 19 = .ok (.iconst 1, 1) := dk_4 (dk_at dksX11_end_0 19 rfl rfl)
theorem dX11_end_20 : decode cX11_end 20 = .ok (.iadd, 1) := dk_96 (dk_at dksX11_end_0 20 rfl rfl)
theorem dX11_end_21 : decode cX11_end 21 = .ok (.iastore, 1) := dk_79 (dk_at dksX11_end_0 21 rfl rfl)
theorem dX11_end_22 : decode cX11_end 22 = .ok (.iconst 0, 1) := dk_3 (dk_at dksX11_end_0 22 rfl rfl)
theorem dX11_end_23 : decode cX11_end 23 = .ok (.ireturn, 1) := dk_172 (dk_at dksX11_end_0 23 rfl rfl)
theorem dX11_end_24 : decode cX11_end 24 = .ok (.aload_n 0, 1) := dk_42 (dk_at dksX11_end_1 0 rfl rfl)
theorem dX11_end_25 : decode cX11_end 25 = .ok (.iload_n 1, 1) := dk_27 (dk_at dksX11_end_1 1 rfl rfl)
theorem dX11_end_26 : decode cX11_end 26 = .ok (.putfield 229, 3) := dk_181 0 229 (dk_at dksX11_end_1 2 rfl rfl)
theorem dX11_end_29 : decode cX11_end 29 = .ok (.iconst 1, 1) := dk_4 (dk_at dksX11_end_1 5 rfl rfl)
theorem dX11_end_30 : decode cX11_end 30 = .ok (.ireturn, 1) := dk_172 (dk_at dksX11_end_1 6 rfl rfl)
abbrev cX11_journal : ByteArray := prog_26_method_21_code
def yX11_journal : MethodName := ⟨RX11, "journal", "()I"⟩
def dkwX11_journal_6 : List UInt8 := [172]
abbrev dktX11_journal_6 : List UInt8 := dkwX11_journal_6 ++ []
def dkwX11_journal_5 : List UInt8 := [181, 0, 13, 42, 180, 0, 232, 153, 0, 9, 42, 4, 182, 1, 77, 172, 42, 182, 1, 81, 42, 180, 1, 59]
abbrev dktX11_journal_5 : List UInt8 := dkwX11_journal_5 ++ dktX11_journal_6
def dkwX11_journal_4 : List UInt8 := [159, 0, 10, 42, 182, 1, 71, 167, 255, 237, 42, 42, 180, 0, 232, 181, 1, 74, 42, 42, 180, 0, 235]
abbrev dktX11_journal_4 : List UInt8 := dkwX11_journal_4 ++ dktX11_journal_5
def dkwX11_journal_3 : List UInt8 := [167, 255, 241, 42, 182, 1, 68, 42, 4, 181, 1, 59, 42, 180, 0, 232, 154, 0, 18, 42, 182, 0, 244, 2]
abbrev dktX11_journal_3 : List UInt8 := dkwX11_journal_3 ++ dktX11_journal_4
def dkwX11_journal_2 : List UInt8 := [180, 0, 96, 7, 3, 79, 3, 60, 27, 5, 162, 0, 16, 42, 180, 0, 102, 27, 2, 79, 132, 1, 1]
abbrev dktX11_journal_2 : List UInt8 := dkwX11_journal_2 ++ dktX11_journal_3
def dkwX11_journal_1 : List UInt8 := [3, 181, 0, 232, 42, 2, 181, 0, 235, 42, 3, 181, 1, 56, 42, 180, 0, 96, 6, 3, 79, 42]
abbrev dktX11_journal_1 : List UInt8 := dkwX11_journal_1 ++ dktX11_journal_2
def dkwX11_journal_0 : List UInt8 := [42, 42, 180, 0, 229, 181, 0, 241, 42, 3, 181, 0, 229, 42, 3, 181, 0, 238, 42, 2, 181, 0, 252, 42]
abbrev dktX11_journal_0 : List UInt8 := dkwX11_journal_0 ++ dktX11_journal_1
theorem dksX11_journal_0 : cX11_journal.data.toList.drop 0 = dktX11_journal_0 := by decide +kernel
theorem dksX11_journal_1 : cX11_journal.data.toList.drop 24 = dktX11_journal_1 := dk_seg dksX11_journal_0 24 rfl rfl
theorem dksX11_journal_2 : cX11_journal.data.toList.drop 46 = dktX11_journal_2 := dk_seg dksX11_journal_1 22 rfl rfl
theorem dksX11_journal_3 : cX11_journal.data.toList.drop 69 = dktX11_journal_3 := dk_seg dksX11_journal_2 23 rfl rfl
theorem dksX11_journal_4 : cX11_journal.data.toList.drop 93 = dktX11_journal_4 := dk_seg dksX11_journal_3 24 rfl rfl
theorem dksX11_journal_5 : cX11_journal.data.toList.drop 116 = dktX11_journal_5 := dk_seg dksX11_journal_4 23 rfl rfl
theorem dksX11_journal_6 : cX11_journal.data.toList.drop 140 = dktX11_journal_6 := dk_seg dksX11_journal_5 24 rfl rfl
theorem dX11_journal_0 : decode cX11_journal 0 = .ok (.aload_n 0, 1) := dk_42 (dk_at dksX11_journal_0 0 rfl rfl)
theorem dX11_journal_1 : decode cX11_journal 1 = .ok (.aload_n 0, 1) := dk_42 (dk_at dksX11_journal_0 1 rfl rfl)
theorem dX11_journal_2 : decode cX11_journal 2 = .ok (.getfield 229, 3) := dk_180 0 229 (dk_at dksX11_journal_0 2 rfl rfl)
theorem dX11_journal_5 : decode cX11_journal 5 = .ok (.putfield 241, 3) := dk_181 0 241 (dk_at dksX11_journal_0 5 rfl rfl)
theorem dX11_journal_8 : decode cX11_journal 8 = .ok (.aload_n 0, 1) := dk_42 (dk_at dksX11_journal_0 8 rfl rfl)
theorem dX11_journal_9 : decode cX11_journal 9 = .ok (.iconst 0, 1) := dk_3 (dk_at dksX11_journal_0 9 rfl rfl)
theorem dX11_journal_10 : decode cX11_journal 10 = .ok (.putfield 229, 3) := dk_181 0 229 (dk_at dksX11_journal_0 10 rfl rfl)
theorem dX11_journal_13 : decode cX11_journal 13 = .ok (.aload_n 0, 1) := dk_42 (dk_at dksX11_journal_0 13 rfl rfl)
theorem dX11_journal_14 : decode cX11_journal 14 = .ok (.iconst 0, 1) := dk_3 (dk_at dksX11_journal_0 14 rfl rfl)
theorem dX11_journal_15 : decode cX11_journal 15 = .ok (.putfield 238, 3) := dk_181 0 238 (dk_at dksX11_journal_0 15 rfl rfl)
theorem dX11_journal_18 : decode cX11_journal 18 = .ok (.aload_n 0, 1) := dk_42 (dk_at dksX11_journal_0 18 rfl rfl)
theorem dX11_journal_19 : decode cX11_journal 19 = .ok (.iconst (-1), 1) := dk_2 (dk_at dksX11_journal_0 19 rfl rfl)
theorem dX11_journal_20 : decode cX11_journal 20 = .ok (.putfield 252, 3) := dk_181 0 252 (dk_at dksX11_journal_0 20 rfl rfl)
theorem dX11_journal_23 : decode cX11_journal 23 = .ok (.aload_n 0, 1) := dk_42 (dk_at dksX11_journal_0 23 rfl rfl)
theorem dX11_journal_24 : decode cX11_journal 24 = .ok (.iconst 0, 1) := dk_3 (dk_at dksX11_journal_1 0 rfl rfl)
theorem dX11_journal_25 : decode cX11_journal 25 = .ok (.putfield 232, 3) := dk_181 0 232 (dk_at dksX11_journal_1 1 rfl rfl)
theorem dX11_journal_28 : decode cX11_journal 28 = .ok (.aload_n 0, 1) := dk_42 (dk_at dksX11_journal_1 4 rfl rfl)
theorem dX11_journal_29 : decode cX11_journal 29 = .ok (.iconst (-1), 1) := dk_2 (dk_at dksX11_journal_1 5 rfl rfl)
theorem dX11_journal_30 : decode cX11_journal 30 = .ok (.putfield 235, 3) := dk_181 0 235 (dk_at dksX11_journal_1 6 rfl rfl)
theorem dX11_journal_33 : decode cX11_journal 33 = .ok (.aload_n 0, 1) := dk_42 (dk_at dksX11_journal_1 9 rfl rfl)
theorem dX11_journal_34 : decode cX11_journal 34 = .ok (.iconst 0, 1) := dk_3 (dk_at dksX11_journal_1 10 rfl rfl)
theorem dX11_journal_35 : decode cX11_journal 35 = .ok (.putfield 312, 3) := dk_181 1 56 (dk_at dksX11_journal_1 11 rfl rfl)
theorem dX11_journal_38 : decode cX11_journal 38 = .ok (.aload_n 0, 1) := dk_42 (dk_at dksX11_journal_1 14 rfl rfl)
theorem dX11_journal_39 : decode cX11_journal 39 = .ok (.getfield 96, 3) := dk_180 0 96 (dk_at dksX11_journal_1 15 rfl rfl)
theorem dX11_journal_42 : decode cX11_journal 42 = .ok (.iconst 3, 1) := dk_6 (dk_at dksX11_journal_1 18 rfl rfl)
theorem dX11_journal_43 : decode cX11_journal 43 = .ok (.iconst 0, 1) := dk_3 (dk_at dksX11_journal_1 19 rfl rfl)
theorem dX11_journal_44 : decode cX11_journal 44 = .ok (.iastore, 1) := dk_79 (dk_at dksX11_journal_1 20 rfl rfl)
theorem dX11_journal_45 : decode cX11_journal 45 = .ok (.aload_n 0, 1) := dk_42 (dk_at dksX11_journal_1 21 rfl rfl)
theorem dX11_journal_46 : decode cX11_journal 46 = .ok (.getfield 96, 3) := dk_180 0 96 (dk_at dksX11_journal_2 0 rfl rfl)
theorem dX11_journal_49 : decode cX11_journal 49 = .ok (.iconst 4, 1) := dk_7 (dk_at dksX11_journal_2 3 rfl rfl)
theorem dX11_journal_50 : decode cX11_journal 50 = .ok (.iconst 0, 1) := dk_3 (dk_at dksX11_journal_2 4 rfl rfl)
theorem dX11_journal_51 : decode cX11_journal 51 = .ok (.iastore, 1) := dk_79 (dk_at dksX11_journal_2 5 rfl rfl)
theorem dX11_journal_52 : decode cX11_journal 52 = .ok (.iconst 0, 1) := dk_3 (dk_at dksX11_journal_2 6 rfl rfl)
theorem dX11_journal_53 : decode cX11_journal 53 = .ok (.istore_n 1, 1) := dk_60 (dk_at dksX11_journal_2 7 rfl rfl)
theorem dX11_journal_54 : decode cX11_journal 54 = .ok (.iload_n 1, 1) := dk_27 (dk_at dksX11_journal_2 8 rfl rfl)
theorem dX11_journal_55 : decode cX11_journal 55 = .ok (.iconst 2, 1) := dk_5 (dk_at dksX11_journal_2 9 rfl rfl)
theorem dX11_journal_56 : decode cX11_journal 56 = .ok (.if_icmp .ge 16, 3) := dk_162 0 16 (dk_at dksX11_journal_2 10 rfl rfl)
theorem dX11_journal_59 : decode cX11_journal 59 = .ok (.aload_n 0, 1) := dk_42 (dk_at dksX11_journal_2 13 rfl rfl)
theorem dX11_journal_60 : decode cX11_journal 60 = .ok (.getfield 102, 3) := dk_180 0 102 (dk_at dksX11_journal_2 14 rfl rfl)
theorem dX11_journal_63 : decode cX11_journal 63 = .ok (.iload_n 1, 1) := dk_27 (dk_at dksX11_journal_2 17 rfl rfl)
theorem dX11_journal_64 : decode cX11_journal 64 = .ok (.iconst (-1), 1) := dk_2 (dk_at dksX11_journal_2 18 rfl rfl)
theorem dX11_journal_65 : decode cX11_journal 65 = .ok (.iastore, 1) := dk_79 (dk_at dksX11_journal_2 19 rfl rfl)
theorem dX11_journal_66 : decode cX11_journal 66 = .ok (.iinc 1 1, 3) := dk_132 1 1 (dk_at dksX11_journal_2 20 rfl rfl)
theorem dX11_journal_69 : decode cX11_journal 69 = .ok (.goto (-15), 3) := dk_167 255 241 (dk_at dksX11_journal_3 0 rfl rfl)
theorem dX11_journal_72 : decode cX11_journal 72 = .ok (.aload_n 0, 1) := dk_42 (dk_at dksX11_journal_3 3 rfl rfl)
theorem dX11_journal_73 : decode cX11_journal 73 = .ok (.invokevirtual 324, 3) := dk_182 1 68 (dk_at dksX11_journal_3 4 rfl rfl)
theorem dX11_journal_76 : decode cX11_journal 76 = .ok (.aload_n 0, 1) := dk_42 (dk_at dksX11_journal_3 7 rfl rfl)
theorem dX11_journal_77 : decode cX11_journal 77 = .ok (.iconst 1, 1) := dk_4 (dk_at dksX11_journal_3 8 rfl rfl)
theorem dX11_journal_78 : decode cX11_journal 78 = .ok (.putfield 315, 3) := dk_181 1 59 (dk_at dksX11_journal_3 9 rfl rfl)
theorem dX11_journal_81 : decode cX11_journal 81 = .ok (.aload_n 0, 1) := dk_42 (dk_at dksX11_journal_3 12 rfl rfl)
theorem dX11_journal_82 : decode cX11_journal 82 = .ok (.getfield 232, 3) := dk_180 0 232 (dk_at dksX11_journal_3 13 rfl rfl)
theorem dX11_journal_85 : decode cX11_journal 85 = .ok (.ifCond .ne 18, 3) := dk_154 0 18 (dk_at dksX11_journal_3 16 rfl rfl)
theorem dX11_journal_88 : decode cX11_journal 88 = .ok (.aload_n 0, 1) := dk_42 (dk_at dksX11_journal_3 19 rfl rfl)
theorem dX11_journal_89 : decode cX11_journal 89 = .ok (.invokevirtual 244, 3) := dk_182 0 244 (dk_at dksX11_journal_3 20 rfl rfl)
theorem dX11_journal_92 : decode cX11_journal 92 = .ok (.iconst (-1), 1) := dk_2 (dk_at dksX11_journal_3 23 rfl rfl)
theorem dX11_journal_93 : decode cX11_journal 93 = .ok (.if_icmp .eq 10, 3) := dk_159 0 10 (dk_at dksX11_journal_4 0 rfl rfl)
theorem dX11_journal_96 : decode cX11_journal 96 = .ok (.aload_n 0, 1) := dk_42 (dk_at dksX11_journal_4 3 rfl rfl)
theorem dX11_journal_97 : decode cX11_journal 97 = .ok (.invokevirtual 327, 3) := dk_182 1 71 (dk_at dksX11_journal_4 4 rfl rfl)
theorem dX11_journal_100 : decode cX11_journal 100 = .ok (.goto (-19), 3) := dk_167 255 237 (dk_at dksX11_journal_4 7 rfl rfl)
theorem dX11_journal_103 : decode cX11_journal 103 = .ok (.aload_n 0, 1) := dk_42 (dk_at dksX11_journal_4 10 rfl rfl)
theorem dX11_journal_104 : decode cX11_journal 104 = .ok (.aload_n 0, 1) := dk_42 (dk_at dksX11_journal_4 11 rfl rfl)
theorem dX11_journal_105 : decode cX11_journal 105 = .ok (.getfield 232, 3) := dk_180 0 232 (dk_at dksX11_journal_4 12 rfl rfl)
theorem dX11_journal_108 : decode cX11_journal 108 = .ok (.putfield 330, 3) := dk_181 1 74 (dk_at dksX11_journal_4 15 rfl rfl)
theorem dX11_journal_111 : decode cX11_journal 111 = .ok (.aload_n 0, 1) := dk_42 (dk_at dksX11_journal_4 18 rfl rfl)
theorem dX11_journal_112 : decode cX11_journal 112 = .ok (.aload_n 0, 1) := dk_42 (dk_at dksX11_journal_4 19 rfl rfl)
theorem dX11_journal_113 : decode cX11_journal 113 = .ok (.getfield 235, 3) := dk_180 0 235 (dk_at dksX11_journal_4 20 rfl rfl)
theorem dX11_journal_116 : decode cX11_journal 116 = .ok (.putfield 13, 3) := dk_181 0 13 (dk_at dksX11_journal_5 0 rfl rfl)
theorem dX11_journal_119 : decode cX11_journal 119 = .ok (.aload_n 0, 1) := dk_42 (dk_at dksX11_journal_5 3 rfl rfl)
theorem dX11_journal_120 : decode cX11_journal 120 = .ok (.getfield 232, 3) := dk_180 0 232 (dk_at dksX11_journal_5 4 rfl rfl)
theorem dX11_journal_123 : decode cX11_journal 123 = .ok (.ifCond .eq 9, 3) := dk_153 0 9 (dk_at dksX11_journal_5 7 rfl rfl)
theorem dX11_journal_126 : decode cX11_journal 126 = .ok (.aload_n 0, 1) := dk_42 (dk_at dksX11_journal_5 10 rfl rfl)
theorem dX11_journal_127 : decode cX11_journal 127 = .ok (.iconst 1, 1) := dk_4 (dk_at dksX11_journal_5 11 rfl rfl)
theorem dX11_journal_128 : decode cX11_journal 128 = .ok (.invokevirtual 333, 3) := dk_182 1 77 (dk_at dksX11_journal_5 12 rfl rfl)
theorem dX11_journal_131 : decode cX11_journal 131 = .ok (.ireturn, 1) := dk_172 (dk_at dksX11_journal_5 15 rfl rfl)
theorem dX11_journal_132 : decode cX11_journal 132 = .ok (.aload_n 0, 1) := dk_42 (dk_at dksX11_journal_5 16 rfl rfl)
theorem dX11_journal_133 : decode cX11_journal 133 = .ok (.invokevirtual 337, 3) := dk_182 1 81 (dk_at dksX11_journal_5 17 rfl rfl)
theorem dX11_journal_136 : decode cX11_journal 136 = .ok (.aload_n 0, 1) := dk_42 (dk_at dksX11_journal_5 20 rfl rfl)
theorem dX11_journal_137 : decode cX11_journal 137 = .ok (.getfield 315, 3) := dk_180 1 59 (dk_at dksX11_journal_5 21 rfl rfl)
theorem dX11_journal_140 : decode cX11_journal 140 = .ok (.ireturn, 1) := dk_172 (dk_at dksX11_journal_6 0 rfl rfl)
abbrev cX11_journalTold : ByteArray := prog_26_method_17_code
def yX11_journalTold : MethodName := ⟨RX11, "journalTold", "()V"⟩
def dkwX11_journalTold_2 : List UInt8 := [182, 1, 26, 42, 180, 0, 96, 5, 42, 16, 16, 16, 32, 182, 1, 30, 79, 42, 16, 59, 182, 1, 34, 177]
abbrev dktX11_journalTold_2 : List UInt8 := dkwX11_journalTold_2 ++ []
def dkwX11_journalTold_1 : List UInt8 := [180, 0, 24, 182, 1, 26, 42, 180, 0, 96, 4, 42, 5, 7, 182, 1, 30, 79, 42, 42, 180, 0, 27]
abbrev dktX11_journalTold_1 : List UInt8 := dkwX11_journalTold_1 ++ dktX11_journalTold_2
def dkwX11_journalTold_0 : List UInt8 := [42, 42, 180, 0, 20, 182, 1, 26, 42, 180, 0, 96, 3, 42, 5, 7, 182, 1, 30, 79, 42, 42]
abbrev dktX11_journalTold_0 : List UInt8 := dkwX11_journalTold_0 ++ dktX11_journalTold_1
theorem dksX11_journalTold_0 : cX11_journalTold.data.toList.drop 0 = dktX11_journalTold_0 := by decide +kernel
theorem dksX11_journalTold_1 : cX11_journalTold.data.toList.drop 22 = dktX11_journalTold_1 := dk_seg dksX11_journalTold_0 22 rfl rfl
theorem dksX11_journalTold_2 : cX11_journalTold.data.toList.drop 45 = dktX11_journalTold_2 := dk_seg dksX11_journalTold_1 23 rfl rfl
theorem dX11_journalTold_0 : decode cX11_journalTold 0 = .ok (.aload_n 0, 1) := dk_42 (dk_at dksX11_journalTold_0 0 rfl rfl)
theorem dX11_journalTold_1 : decode cX11_journalTold 1 = .ok (.aload_n 0, 1) := dk_42 (dk_at dksX11_journalTold_0 1 rfl rfl)
theorem dX11_journalTold_2 : decode cX11_journalTold 2 = .ok (.getfield 20, 3) := dk_180 0 20 (dk_at dksX11_journalTold_0 2 rfl rfl)
theorem dX11_journalTold_5 : decode cX11_journalTold 5 = .ok (.invokevirtual 282, 3) := dk_182 1 26 (dk_at dksX11_journalTold_0 5 rfl rfl)
theorem dX11_journalTold_8 : decode cX11_journalTold 8 = .ok (.aload_n 0, 1) := dk_42 (dk_at dksX11_journalTold_0 8 rfl rfl)
theorem dX11_journalTold_9 : decode cX11_journalTold 9 = .ok (.getfield 96, 3) := dk_180 0 96 (dk_at dksX11_journalTold_0 9 rfl rfl)
theorem dX11_journalTold_12 : decode cX11_journalTold 12 = .ok (.iconst 0, 1) := dk_3 (dk_at dksX11_journalTold_0 12 rfl rfl)
theorem dX11_journalTold_13 : decode cX11_journalTold 13 = .ok (.aload_n 0, 1) := dk_42 (dk_at dksX11_journalTold_0 13 rfl rfl)
theorem dX11_journalTold_14 : decode cX11_journalTold 14 = .ok (.iconst 2, 1) := dk_5 (dk_at dksX11_journalTold_0 14 rfl rfl)
theorem dX11_journalTold_15 : decode cX11_journalTold 15 = .ok (.iconst 4, 1) := dk_7 (dk_at dksX11_journalTold_0 15 rfl rfl)
theorem dX11_journalTold_16 : decode cX11_journalTold 16 = .ok (.invokevirtual 286, 3) := dk_182 1 30 (dk_at dksX11_journalTold_0 16 rfl rfl)
theorem dX11_journalTold_19 : decode cX11_journalTold 19 = .ok (.iastore, 1) := dk_79 (dk_at dksX11_journalTold_0 19 rfl rfl)
theorem dX11_journalTold_20 : decode cX11_journalTold 20 = .ok (.aload_n 0, 1) := dk_42 (dk_at dksX11_journalTold_0 20 rfl rfl)
theorem dX11_journalTold_21 : decode cX11_journalTold 21 = .ok (.aload_n 0, 1) := dk_42 (dk_at dksX11_journalTold_0 21 rfl rfl)
theorem dX11_journalTold_22 : decode cX11_journalTold 22 = .ok (.getfield 24, 3) := dk_180 0 24 (dk_at dksX11_journalTold_1 0 rfl rfl)
theorem dX11_journalTold_25 : decode cX11_journalTold 25 = .ok (.invokevirtual 282, 3) := dk_182 1 26 (dk_at dksX11_journalTold_1 3 rfl rfl)
theorem dX11_journalTold_28 : decode cX11_journalTold 28 = .ok (.aload_n 0, 1) := dk_42 (dk_at dksX11_journalTold_1 6 rfl rfl)
theorem dX11_journalTold_29 : decode cX11_journalTold 29 = .ok (.getfield 96, 3) := dk_180 0 96 (dk_at dksX11_journalTold_1 7 rfl rfl)
theorem dX11_journalTold_32 : decode cX11_journalTold 32 = .ok (.iconst 1, 1) := dk_4 (dk_at dksX11_journalTold_1 10 rfl rfl)
theorem dX11_journalTold_33 : decode cX11_journalTold 33 = .ok (.aload_n 0, 1) := dk_42 (dk_at dksX11_journalTold_1 11 rfl rfl)
theorem dX11_journalTold_34 : decode cX11_journalTold 34 = .ok (.iconst 2, 1) := dk_5 (dk_at dksX11_journalTold_1 12 rfl rfl)
theorem dX11_journalTold_35 : decode cX11_journalTold 35 = .ok (.iconst 4, 1) := dk_7 (dk_at dksX11_journalTold_1 13 rfl rfl)
theorem dX11_journalTold_36 : decode cX11_journalTold 36 = .ok (.invokevirtual 286, 3) := dk_182 1 30 (dk_at dksX11_journalTold_1 14 rfl rfl)
theorem dX11_journalTold_39 : decode cX11_journalTold 39 = .ok (.iastore, 1) := dk_79 (dk_at dksX11_journalTold_1 17 rfl rfl)
theorem dX11_journalTold_40 : decode cX11_journalTold 40 = .ok (.aload_n 0, 1) := dk_42 (dk_at dksX11_journalTold_1 18 rfl rfl)
theorem dX11_journalTold_41 : decode cX11_journalTold 41 = .ok (.aload_n 0, 1) := dk_42 (dk_at dksX11_journalTold_1 19 rfl rfl)
theorem dX11_journalTold_42 : decode cX11_journalTold 42 = .ok (.getfield 27, 3) := dk_180 0 27 (dk_at dksX11_journalTold_1 20 rfl rfl)
theorem dX11_journalTold_45 : decode cX11_journalTold 45 = .ok (.invokevirtual 282, 3) := dk_182 1 26 (dk_at dksX11_journalTold_2 0 rfl rfl)
theorem dX11_journalTold_48 : decode cX11_journalTold 48 = .ok (.aload_n 0, 1) := dk_42 (dk_at dksX11_journalTold_2 3 rfl rfl)
theorem dX11_journalTold_49 : decode cX11_journalTold 49 = .ok (.getfield 96, 3) := dk_180 0 96 (dk_at dksX11_journalTold_2 4 rfl rfl)
theorem dX11_journalTold_52 : decode cX11_journalTold 52 = .ok (.iconst 2, 1) := dk_5 (dk_at dksX11_journalTold_2 7 rfl rfl)
theorem dX11_journalTold_53 : decode cX11_journalTold 53 = .ok (.aload_n 0, 1) := dk_42 (dk_at dksX11_journalTold_2 8 rfl rfl)
theorem dX11_journalTold_54 : decode cX11_journalTold 54 = .ok (.bipush 16, 2) := dk_16 16 (dk_at dksX11_journalTold_2 9 rfl rfl)
theorem dX11_journalTold_56 : decode cX11_journalTold 56 = .ok (.bipush 32, 2) := dk_16 32 (dk_at dksX11_journalTold_2 11 rfl rfl)
theorem dX11_journalTold_58 : decode cX11_journalTold 58 = .ok (.invokevirtual 286, 3) := dk_182 1 30 (dk_at dksX11_journalTold_2 13 rfl rfl)
theorem dX11_journalTold_61 : decode cX11_journalTold 61 = .ok (.iastore, 1) := dk_79 (dk_at dksX11_journalTold_2 16 rfl rfl)
theorem dX11_journalTold_62 : decode cX11_journalTold 62 = .ok (.aload_n 0, 1) := dk_42 (dk_at dksX11_journalTold_2 17 rfl rfl)
theorem dX11_journalTold_63 : decode cX11_journalTold 63 = .ok (.bipush 59, 2) := dk_16 59 (dk_at dksX11_journalTold_2 18 rfl rfl)
theorem dX11_journalTold_65 : decode cX11_journalTold 65 = .ok (.invokevirtual 290, 3) := dk_182 1 34 (dk_at dksX11_journalTold_2 20 rfl rfl)
theorem dX11_journalTold_68 : decode cX11_journalTold 68 = .ok (.return_, 1) := dk_177 (dk_at dksX11_journalTold_2 23 rfl rfl)
abbrev cX11_asks : ByteArray := prog_26_method_11_code
def yX11_asks : MethodName := ⟨RX11, "asks", "([C)V"⟩
def dkwX11_asks_1 : List UInt8 := [177]
abbrev dktX11_asks_1 : List UInt8 := dkwX11_asks_1 ++ []
def dkwX11_asks_0 : List UInt8 := [42, 180, 0, 232, 154, 0, 20, 42, 43, 182, 1, 3, 154, 0, 12, 42, 4, 42, 180, 0, 238, 182, 1, 6]
abbrev dktX11_asks_0 : List UInt8 := dkwX11_asks_0 ++ dktX11_asks_1
theorem dksX11_asks_0 : cX11_asks.data.toList.drop 0 = dktX11_asks_0 := by decide +kernel
theorem dksX11_asks_1 : cX11_asks.data.toList.drop 24 = dktX11_asks_1 := dk_seg dksX11_asks_0 24 rfl rfl
theorem dX11_asks_0 : decode cX11_asks 0 = .ok (.aload_n 0, 1) := dk_42 (dk_at dksX11_asks_0 0 rfl rfl)
theorem dX11_asks_1 : decode cX11_asks 1 = .ok (.getfield 232, 3) := dk_180 0 232 (dk_at dksX11_asks_0 1 rfl rfl)
theorem dX11_asks_4 : decode cX11_asks 4 = .ok (.ifCond .ne 20, 3) := dk_154 0 20 (dk_at dksX11_asks_0 4 rfl rfl)
theorem dX11_asks_7 : decode cX11_asks 7 = .ok (.aload_n 0, 1) := dk_42 (dk_at dksX11_asks_0 7 rfl rfl)
theorem dX11_asks_8 : decode cX11_asks 8 = .ok (.aload_n 1, 1) := dk_43 (dk_at dksX11_asks_0 8 rfl rfl)
theorem dX11_asks_9 : decode cX11_asks 9 = .ok (.invokevirtual 259, 3) := dk_182 1 3 (dk_at dksX11_asks_0 9 rfl rfl)
theorem dX11_asks_12 : decode cX11_asks 12 = .ok (.ifCond .ne 12, 3) := dk_154 0 12 (dk_at dksX11_asks_0 12 rfl rfl)
theorem dX11_asks_15 : decode cX11_asks 15 = .ok (.aload_n 0, 1) := dk_42 (dk_at dksX11_asks_0 15 rfl rfl)
theorem dX11_asks_16 : decode cX11_asks 16 = .ok (.iconst 1, 1) := dk_4 (dk_at dksX11_asks_0 16 rfl rfl)
theorem dX11_asks_17 : decode cX11_asks 17 = .ok (.aload_n 0, 1) := dk_42 (dk_at dksX11_asks_0 17 rfl rfl)
theorem dX11_asks_18 : decode cX11_asks 18 = .ok (.getfield 238, 3) := dk_180 0 238 (dk_at dksX11_asks_0 18 rfl rfl)
theorem dX11_asks_21 : decode cX11_asks 21 = .ok (.invokevirtual 262, 3) := dk_182 1 6 (dk_at dksX11_asks_0 21 rfl rfl)
theorem dX11_asks_24 : decode cX11_asks 24 = .ok (.return_, 1) := dk_177 (dk_at dksX11_asks_1 0 rfl rfl)
abbrev cX11_takes : ByteArray := prog_26_method_10_code
def yX11_takes : MethodName := ⟨RX11, "takes", "([C)Z"⟩
def dkwX11_takes_1 : List UInt8 := [180, 0, 238, 181, 0, 252, 4, 172]
abbrev dktX11_takes_1 : List UInt8 := dkwX11_takes_1 ++ []
def dkwX11_takes_0 : List UInt8 := [42, 43, 182, 0, 255, 154, 0, 5, 3, 172, 42, 89, 180, 0, 238, 43, 190, 96, 181, 0, 238, 42, 42]
abbrev dktX11_takes_0 : List UInt8 := dkwX11_takes_0 ++ dktX11_takes_1
theorem dksX11_takes_0 : cX11_takes.data.toList.drop 0 = dktX11_takes_0 := by decide +kernel
theorem dksX11_takes_1 : cX11_takes.data.toList.drop 23 = dktX11_takes_1 := dk_seg dksX11_takes_0 23 rfl rfl
theorem dX11_takes_0 : decode cX11_takes 0 = .ok (.aload_n 0, 1) := dk_42 (dk_at dksX11_takes_0 0 rfl rfl)
theorem dX11_takes_1 : decode cX11_takes 1 = .ok (.aload_n 1, 1) := dk_43 (dk_at dksX11_takes_0 1 rfl rfl)
theorem dX11_takes_2 : decode cX11_takes 2 = .ok (.invokevirtual 255, 3) := dk_182 0 255 (dk_at dksX11_takes_0 2 rfl rfl)
theorem dX11_takes_5 : decode cX11_takes 5 = .ok (.ifCond .ne 5, 3) := dk_154 0 5 (dk_at dksX11_takes_0 5 rfl rfl)
theorem dX11_takes_8 : decode cX11_takes 8 = .ok (.iconst 0, 1) := dk_3 (dk_at dksX11_takes_0 8 rfl rfl)
theorem dX11_takes_9 : decode cX11_takes 9 = .ok (.ireturn, 1) := dk_172 (dk_at dksX11_takes_0 9 rfl rfl)
theorem dX11_takes_10 : decode cX11_takes 10 = .ok (.aload_n 0, 1) := dk_42 (dk_at dksX11_takes_0 10 rfl rfl)
theorem dX11_takes_11 : decode cX11_takes 11 = .ok (.dup, 1) := dk_89 (dk_at dksX11_takes_0 11 rfl rfl)
theorem dX11_takes_12 : decode cX11_takes 12 = .ok (.getfield 238, 3) := dk_180 0 238 (dk_at dksX11_takes_0 12 rfl rfl)
theorem dX11_takes_15 : decode cX11_takes 15 = .ok (.aload_n 1, 1) := dk_43 (dk_at dksX11_takes_0 15 rfl rfl)
theorem dX11_takes_16 : decode cX11_takes 16 = .ok (.arraylength, 1) := dk_190 (dk_at dksX11_takes_0 16 rfl rfl)
theorem dX11_takes_17 : decode cX11_takes 17 = .ok (.iadd, 1) := dk_96 (dk_at dksX11_takes_0 17 rfl rfl)
theorem dX11_takes_18 : decode cX11_takes 18 = .ok (.putfield 238, 3) := dk_181 0 238 (dk_at dksX11_takes_0 18 rfl rfl)
theorem dX11_takes_21 : decode cX11_takes 21 = .ok (.aload_n 0, 1) := dk_42 (dk_at dksX11_takes_0 21 rfl rfl)
theorem dX11_takes_22 : decode cX11_takes 22 = .ok (.aload_n 0, 1) := dk_42 (dk_at dksX11_takes_0 22 rfl rfl)
theorem dX11_takes_23 : decode cX11_takes 23 = .ok (.getfield 238, 3) := dk_180 0 238 (dk_at dksX11_takes_1 0 rfl rfl)
theorem dX11_takes_26 : decode cX11_takes 26 = .ok (.putfield 252, 3) := dk_181 0 252 (dk_at dksX11_takes_1 3 rfl rfl)
theorem dX11_takes_29 : decode cX11_takes 29 = .ok (.iconst 1, 1) := dk_4 (dk_at dksX11_takes_1 6 rfl rfl)
theorem dX11_takes_30 : decode cX11_takes 30 = .ok (.ireturn, 1) := dk_172 (dk_at dksX11_takes_1 7 rfl rfl)
abbrev cX11_isHere : ByteArray := prog_26_method_9_code
def yX11_isHere : MethodName := ⟨RX11, "isHere", "([C)Z"⟩
def dkwX11_isHere_4 : List UInt8 := [46, 43, 29, 52, 159, 0, 5, 3, 172, 132, 3, 1, 167, 255, 228, 4, 172]
abbrev dktX11_isHere_4 : List UInt8 := dkwX11_isHere_4 ++ []
def dkwX11_isHere_3 : List UInt8 := [190, 159, 0, 5, 3, 172, 3, 62, 29, 43, 190, 162, 0, 28, 42, 180, 0, 7, 42, 180, 0, 238, 29, 96]
abbrev dktX11_isHere_3 : List UInt8 := dkwX11_isHere_3 ++ dktX11_isHere_4
def dkwX11_isHere_2 : List UInt8 := [180, 0, 7, 28, 46, 184, 0, 248, 153, 0, 9, 132, 2, 1, 167, 255, 233, 28, 42, 180, 0, 238, 100, 43]
abbrev dktX11_isHere_2 : List UInt8 := dkwX11_isHere_2 ++ dktX11_isHere_3
def dkwX11_isHere_1 : List UInt8 := [180, 0, 252, 160, 0, 5, 3, 172, 42, 180, 0, 238, 61, 28, 42, 180, 0, 241, 162, 0, 21, 42]
abbrev dktX11_isHere_1 : List UInt8 := dkwX11_isHere_1 ++ dktX11_isHere_2
def dkwX11_isHere_0 : List UInt8 := [42, 180, 0, 232, 154, 0, 24, 42, 182, 0, 244, 184, 0, 248, 153, 0, 14, 42, 180, 0, 238, 42]
abbrev dktX11_isHere_0 : List UInt8 := dkwX11_isHere_0 ++ dktX11_isHere_1
theorem dksX11_isHere_0 : cX11_isHere.data.toList.drop 0 = dktX11_isHere_0 := by decide +kernel
theorem dksX11_isHere_1 : cX11_isHere.data.toList.drop 22 = dktX11_isHere_1 := dk_seg dksX11_isHere_0 22 rfl rfl
theorem dksX11_isHere_2 : cX11_isHere.data.toList.drop 44 = dktX11_isHere_2 := dk_seg dksX11_isHere_1 22 rfl rfl
theorem dksX11_isHere_3 : cX11_isHere.data.toList.drop 68 = dktX11_isHere_3 := dk_seg dksX11_isHere_2 24 rfl rfl
theorem dksX11_isHere_4 : cX11_isHere.data.toList.drop 92 = dktX11_isHere_4 := dk_seg dksX11_isHere_3 24 rfl rfl
theorem dX11_isHere_0 : decode cX11_isHere 0 = .ok (.aload_n 0, 1) := dk_42 (dk_at dksX11_isHere_0 0 rfl rfl)
theorem dX11_isHere_1 : decode cX11_isHere 1 = .ok (.getfield 232, 3) := dk_180 0 232 (dk_at dksX11_isHere_0 1 rfl rfl)
theorem dX11_isHere_4 : decode cX11_isHere 4 = .ok (.ifCond .ne 24, 3) := dk_154 0 24 (dk_at dksX11_isHere_0 4 rfl rfl)
theorem dX11_isHere_7 : decode cX11_isHere 7 = .ok (.aload_n 0, 1) := dk_42 (dk_at dksX11_isHere_0 7 rfl rfl)
theorem dX11_isHere_8 : decode cX11_isHere 8 = .ok (.invokevirtual 244, 3) := dk_182 0 244 (dk_at dksX11_isHere_0 8 rfl rfl)
theorem dX11_isHere_11 : decode cX11_isHere 11 = .ok (.invokestatic 248, 3) := dk_184 0 248 (dk_at dksX11_isHere_0 11 rfl rfl)
theorem dX11_isHere_14 : decode cX11_isHere 14 = .ok (.ifCond .eq 14, 3) := dk_153 0 14 (dk_at dksX11_isHere_0 14 rfl rfl)
theorem dX11_isHere_17 : decode cX11_isHere 17 = .ok (.aload_n 0, 1) := dk_42 (dk_at dksX11_isHere_0 17 rfl rfl)
theorem dX11_isHere_18 : decode cX11_isHere 18 = .ok (.getfield 238, 3) := dk_180 0 238 (dk_at dksX11_isHere_0 18 rfl rfl)
theorem dX11_isHere_21 : decode cX11_isHere 21 = .ok (.aload_n 0, 1) := dk_42 (dk_at dksX11_isHere_0 21 rfl rfl)
theorem dX11_isHere_22 : decode cX11_isHere 22 = .ok (.getfield 252, 3) := dk_180 0 252 (dk_at dksX11_isHere_1 0 rfl rfl)
theorem dX11_isHere_25 : decode cX11_isHere 25 = .ok (.if_icmp .ne 5, 3) := dk_160 0 5 (dk_at dksX11_isHere_1 3 rfl rfl)
theorem dX11_isHere_28 : decode cX11_isHere 28 = .ok (.iconst 0, 1) := dk_3 (dk_at dksX11_isHere_1 6 rfl rfl)
theorem dX11_isHere_29 : decode cX11_isHere 29 = .ok (.ireturn, 1) := dk_172 (dk_at dksX11_isHere_1 7 rfl rfl)
theorem dX11_isHere_30 : decode cX11_isHere 30 = .ok (.aload_n 0, 1) := dk_42 (dk_at dksX11_isHere_1 8 rfl rfl)
theorem dX11_isHere_31 : decode cX11_isHere 31 = .ok (.getfield 238, 3) := dk_180 0 238 (dk_at dksX11_isHere_1 9 rfl rfl)
theorem dX11_isHere_34 : decode cX11_isHere 34 = .ok (.istore_n 2, 1) := dk_61 (dk_at dksX11_isHere_1 12 rfl rfl)
theorem dX11_isHere_35 : decode cX11_isHere 35 = .ok (.iload_n 2, 1) := dk_28 (dk_at dksX11_isHere_1 13 rfl rfl)
theorem dX11_isHere_36 : decode cX11_isHere 36 = .ok (.aload_n 0, 1) := dk_42 (dk_at dksX11_isHere_1 14 rfl rfl)
theorem dX11_isHere_37 : decode cX11_isHere 37 = .ok (.getfield 241, 3) := dk_180 0 241 (dk_at dksX11_isHere_1 15 rfl rfl)
theorem dX11_isHere_40 : decode cX11_isHere 40 = .ok (.if_icmp .ge 21, 3) := dk_162 0 21 (dk_at dksX11_isHere_1 18 rfl rfl)
theorem dX11_isHere_43 : decode cX11_isHere 43 = .ok (.aload_n 0, 1) := dk_42 (dk_at dksX11_isHere_1 21 rfl rfl)
theorem dX11_isHere_44 : decode cX11_isHere 44 = .ok (.getfield 7, 3) := dk_180 0 7 (dk_at dksX11_isHere_2 0 rfl rfl)
theorem dX11_isHere_47 : decode cX11_isHere 47 = .ok (.iload_n 2, 1) := dk_28 (dk_at dksX11_isHere_2 3 rfl rfl)
theorem dX11_isHere_48 : decode cX11_isHere 48 = .ok (.iaload, 1) := dk_46 (dk_at dksX11_isHere_2 4 rfl rfl)
theorem dX11_isHere_49 : decode cX11_isHere 49 = .ok (.invokestatic 248, 3) := dk_184 0 248 (dk_at dksX11_isHere_2 5 rfl rfl)
theorem dX11_isHere_52 : decode cX11_isHere 52 = .ok (.ifCond .eq 9, 3) := dk_153 0 9 (dk_at dksX11_isHere_2 8 rfl rfl)
theorem dX11_isHere_55 : decode cX11_isHere 55 = .ok (.iinc 2 1, 3) := dk_132 2 1 (dk_at dksX11_isHere_2 11 rfl rfl)
theorem dX11_isHere_58 : decode cX11_isHere 58 = .ok (.goto (-23), 3) := dk_167 255 233 (dk_at dksX11_isHere_2 14 rfl rfl)
theorem dX11_isHere_61 : decode cX11_isHere 61 = .ok (.iload_n 2, 1) := dk_28 (dk_at dksX11_isHere_2 17 rfl rfl)
theorem dX11_isHere_62 : decode cX11_isHere 62 = .ok (.aload_n 0, 1) := dk_42 (dk_at dksX11_isHere_2 18 rfl rfl)
theorem dX11_isHere_63 : decode cX11_isHere 63 = .ok (.getfield 238, 3) := dk_180 0 238 (dk_at dksX11_isHere_2 19 rfl rfl)
theorem dX11_isHere_66 : decode cX11_isHere 66 = .ok (.isub, 1) := dk_100 (dk_at dksX11_isHere_2 22 rfl rfl)
theorem dX11_isHere_67 : decode cX11_isHere 67 = .ok (.aload_n 1, 1) := dk_43 (dk_at dksX11_isHere_2 23 rfl rfl)
theorem dX11_isHere_68 : decode cX11_isHere 68 = .ok (.arraylength, 1) := dk_190 (dk_at dksX11_isHere_3 0 rfl rfl)
theorem dX11_isHere_69 : decode cX11_isHere 69 = .ok (.if_icmp .eq 5, 3) := dk_159 0 5 (dk_at dksX11_isHere_3 1 rfl rfl)
theorem dX11_isHere_72 : decode cX11_isHere 72 = .ok (.iconst 0, 1) := dk_3 (dk_at dksX11_isHere_3 4 rfl rfl)
theorem dX11_isHere_73 : decode cX11_isHere 73 = .ok (.ireturn, 1) := dk_172 (dk_at dksX11_isHere_3 5 rfl rfl)
theorem dX11_isHere_74 : decode cX11_isHere 74 = .ok (.iconst 0, 1) := dk_3 (dk_at dksX11_isHere_3 6 rfl rfl)
theorem dX11_isHere_75 : decode cX11_isHere 75 = .ok (.istore_n 3, 1) := dk_62 (dk_at dksX11_isHere_3 7 rfl rfl)
theorem dX11_isHere_76 : decode cX11_isHere 76 = .ok (.iload_n 3, 1) := dk_29 (dk_at dksX11_isHere_3 8 rfl rfl)
theorem dX11_isHere_77 : decode cX11_isHere 77 = .ok (.aload_n 1, 1) := dk_43 (dk_at dksX11_isHere_3 9 rfl rfl)
theorem dX11_isHere_78 : decode cX11_isHere 78 = .ok (.arraylength, 1) := dk_190 (dk_at dksX11_isHere_3 10 rfl rfl)
theorem dX11_isHere_79 : decode cX11_isHere 79 = .ok (.if_icmp .ge 28, 3) := dk_162 0 28 (dk_at dksX11_isHere_3 11 rfl rfl)
theorem dX11_isHere_82 : decode cX11_isHere 82 = .ok (.aload_n 0, 1) := dk_42 (dk_at dksX11_isHere_3 14 rfl rfl)
theorem dX11_isHere_83 : decode cX11_isHere 83 = .ok (.getfield 7, 3) := dk_180 0 7 (dk_at dksX11_isHere_3 15 rfl rfl)
theorem dX11_isHere_86 : decode cX11_isHere 86 = .ok (.aload_n 0, 1) := dk_42 (dk_at dksX11_isHere_3 18 rfl rfl)
theorem dX11_isHere_87 : decode cX11_isHere 87 = .ok (.getfield 238, 3) := dk_180 0 238 (dk_at dksX11_isHere_3 19 rfl rfl)
theorem dX11_isHere_90 : decode cX11_isHere 90 = .ok (.iload_n 3, 1) := dk_29 (dk_at dksX11_isHere_3 22 rfl rfl)
theorem dX11_isHere_91 : decode cX11_isHere 91 = .ok (.iadd, 1) := dk_96 (dk_at dksX11_isHere_3 23 rfl rfl)
theorem dX11_isHere_92 : decode cX11_isHere 92 = .ok (.iaload, 1) := dk_46 (dk_at dksX11_isHere_4 0 rfl rfl)
theorem dX11_isHere_93 : decode cX11_isHere 93 = .ok (.aload_n 1, 1) := dk_43 (dk_at dksX11_isHere_4 1 rfl rfl)
theorem dX11_isHere_94 : decode cX11_isHere 94 = .ok (.iload_n 3, 1) := dk_29 (dk_at dksX11_isHere_4 2 rfl rfl)
theorem dX11_isHere_95 : decode cX11_isHere 95 = .ok (.caload, 1) := dk_52 (dk_at dksX11_isHere_4 3 rfl rfl)
theorem dX11_isHere_96 : decode cX11_isHere 96 = .ok (.if_icmp .eq 5, 3) := dk_159 0 5 (dk_at dksX11_isHere_4 4 rfl rfl)
theorem dX11_isHere_99 : decode cX11_isHere 99 = .ok (.iconst 0, 1) := dk_3 (dk_at dksX11_isHere_4 7 rfl rfl)
theorem dX11_isHere_100 : decode cX11_isHere 100 = .ok (.ireturn, 1) := dk_172 (dk_at dksX11_isHere_4 8 rfl rfl)
theorem dX11_isHere_101 : decode cX11_isHere 101 = .ok (.iinc 3 1, 3) := dk_132 3 1 (dk_at dksX11_isHere_4 9 rfl rfl)
theorem dX11_isHere_104 : decode cX11_isHere 104 = .ok (.goto (-28), 3) := dk_167 255 228 (dk_at dksX11_isHere_4 12 rfl rfl)
theorem dX11_isHere_107 : decode cX11_isHere 107 = .ok (.iconst 1, 1) := dk_4 (dk_at dksX11_isHere_4 15 rfl rfl)
theorem dX11_isHere_108 : decode cX11_isHere 108 = .ok (.ireturn, 1) := dk_172 (dk_at dksX11_isHere_4 16 rfl rfl)
abbrev cX11_look : ByteArray := prog_26_method_8_code
def yX11_look : MethodName := ⟨RX11, "look", "()I"⟩
def dkwX11_look_3 : List UInt8 := [180, 0, 238, 46, 167, 0, 4, 2, 172]
abbrev dktX11_look_3 : List UInt8 := dkwX11_look_3 ++ []
def dkwX11_look_2 : List UInt8 := [181, 0, 238, 167, 255, 207, 42, 180, 0, 238, 42, 180, 0, 241, 162, 0, 15, 42, 180, 0, 7, 42]
abbrev dktX11_look_2 : List UInt8 := dkwX11_look_2 ++ dktX11_look_3
def dkwX11_look_1 : List UInt8 := [159, 0, 17, 42, 180, 0, 7, 42, 180, 0, 238, 46, 16, 32, 160, 0, 16, 42, 89, 180, 0, 238, 4, 96]
abbrev dktX11_look_1 : List UInt8 := dkwX11_look_1 ++ dktX11_look_2
def dkwX11_look_0 : List UInt8 := [42, 180, 0, 238, 42, 180, 0, 241, 162, 0, 44, 42, 180, 0, 7, 42, 180, 0, 238, 46, 16, 10]
abbrev dktX11_look_0 : List UInt8 := dkwX11_look_0 ++ dktX11_look_1
theorem dksX11_look_0 : cX11_look.data.toList.drop 0 = dktX11_look_0 := by decide +kernel
theorem dksX11_look_1 : cX11_look.data.toList.drop 22 = dktX11_look_1 := dk_seg dksX11_look_0 22 rfl rfl
theorem dksX11_look_2 : cX11_look.data.toList.drop 46 = dktX11_look_2 := dk_seg dksX11_look_1 24 rfl rfl
theorem dksX11_look_3 : cX11_look.data.toList.drop 68 = dktX11_look_3 := dk_seg dksX11_look_2 22 rfl rfl
theorem dX11_look_0 : decode cX11_look 0 = .ok (.aload_n 0, 1) := dk_42 (dk_at dksX11_look_0 0 rfl rfl)
theorem dX11_look_1 : decode cX11_look 1 = .ok (.getfield 238, 3) := dk_180 0 238 (dk_at dksX11_look_0 1 rfl rfl)
theorem dX11_look_4 : decode cX11_look 4 = .ok (.aload_n 0, 1) := dk_42 (dk_at dksX11_look_0 4 rfl rfl)
theorem dX11_look_5 : decode cX11_look 5 = .ok (.getfield 241, 3) := dk_180 0 241 (dk_at dksX11_look_0 5 rfl rfl)
theorem dX11_look_8 : decode cX11_look 8 = .ok (.if_icmp .ge 44, 3) := dk_162 0 44 (dk_at dksX11_look_0 8 rfl rfl)
theorem dX11_look_11 : decode cX11_look 11 = .ok (.aload_n 0, 1) := dk_42 (dk_at dksX11_look_0 11 rfl rfl)
theorem dX11_look_12 : decode cX11_look 12 = .ok (.getfield 7, 3) := dk_180 0 7 (dk_at dksX11_look_0 12 rfl rfl)
theorem dX11_look_15 : decode cX11_look 15 = .ok (.aload_n 0, 1) := dk_42 (dk_at dksX11_look_0 15 rfl rfl)
theorem dX11_look_16 : decode cX11_look 16 = .ok (.getfield 238, 3) := dk_180 0 238 (dk_at dksX11_look_0 16 rfl rfl)
theorem dX11_look_19 : decode cX11_look 19 = .ok (.iaload, 1) := dk_46 (dk_at dksX11_look_0 19 rfl rfl)
theorem dX11_look_20 : decode cX11_look 20 = .ok (.bipush 10, 2) := dk_16 10 (dk_at dksX11_look_0 20 rfl rfl)
theorem dX11_look_22 : decode cX11_look 22 = .ok (.if_icmp .eq 17, 3) := dk_159 0 17 (dk_at dksX11_look_1 0 rfl rfl)
theorem dX11_look_25 : decode cX11_look 25 = .ok (.aload_n 0, 1) := dk_42 (dk_at dksX11_look_1 3 rfl rfl)
theorem dX11_look_26 : decode cX11_look 26 = .ok (.getfield 7, 3) := dk_180 0 7 (dk_at dksX11_look_1 4 rfl rfl)
theorem dX11_look_29 : decode cX11_look 29 = .ok (.aload_n 0, 1) := dk_42 (dk_at dksX11_look_1 7 rfl rfl)
theorem dX11_look_30 : decode cX11_look 30 = .ok (.getfield 238, 3) := dk_180 0 238 (dk_at dksX11_look_1 8 rfl rfl)
theorem dX11_look_33 : decode cX11_look 33 = .ok (.iaload, 1) := dk_46 (dk_at dksX11_look_1 11 rfl rfl)
theorem dX11_look_34 : decode cX11_look 34 = .ok (.bipush 32, 2) := dk_16 32 (dk_at dksX11_look_1 12 rfl rfl)
theorem dX11_look_36 : decode cX11_look 36 = .ok (.if_icmp .ne 16, 3) := dk_160 0 16 (dk_at dksX11_look_1 14 rfl rfl)
theorem dX11_look_39 : decode cX11_look 39 = .ok (.aload_n 0, 1) := dk_42 (dk_at dksX11_look_1 17 rfl rfl)
theorem dX11_look_40 : decode cX11_look 40 = .ok (.dup, 1) := dk_89 (dk_at dksX11_look_1 18 rfl rfl)
theorem dX11_look_41 : decode cX11_look 41 = .ok (.getfield 238, 3) := dk_180 0 238 (dk_at dksX11_look_1 19 rfl rfl)
theorem dX11_look_44 : decode cX11_look 44 = .ok (.iconst 1, 1) := dk_4 (dk_at dksX11_look_1 22 rfl rfl)
theorem dX11_look_45 : decode cX11_look 45 = .ok (.iadd, 1) := dk_96 (dk_at dksX11_look_1 23 rfl rfl)
theorem dX11_look_46 : decode cX11_look 46 = .ok (.putfield 238, 3) := dk_181 0 238 (dk_at dksX11_look_2 0 rfl rfl)
theorem dX11_look_49 : decode cX11_look 49 = .ok (.goto (-49), 3) := dk_167 255 207 (dk_at dksX11_look_2 3 rfl rfl)
theorem dX11_look_52 : decode cX11_look 52 = .ok (.aload_n 0, 1) := dk_42 (dk_at dksX11_look_2 6 rfl rfl)
theorem dX11_look_53 : decode cX11_look 53 = .ok (.getfield 238, 3) := dk_180 0 238 (dk_at dksX11_look_2 7 rfl rfl)
theorem dX11_look_56 : decode cX11_look 56 = .ok (.aload_n 0, 1) := dk_42 (dk_at dksX11_look_2 10 rfl rfl)
theorem dX11_look_57 : decode cX11_look 57 = .ok (.getfield 241, 3) := dk_180 0 241 (dk_at dksX11_look_2 11 rfl rfl)
theorem dX11_look_60 : decode cX11_look 60 = .ok (.if_icmp .ge 15, 3) := dk_162 0 15 (dk_at dksX11_look_2 14 rfl rfl)
theorem dX11_look_63 : decode cX11_look 63 = .ok (.aload_n 0, 1) := dk_42 (dk_at dksX11_look_2 17 rfl rfl)
theorem dX11_look_64 : decode cX11_look 64 = .ok (.getfield 7, 3) := dk_180 0 7 (dk_at dksX11_look_2 18 rfl rfl)
theorem dX11_look_67 : decode cX11_look 67 = .ok (.aload_n 0, 1) := dk_42 (dk_at dksX11_look_2 21 rfl rfl)
theorem dX11_look_68 : decode cX11_look 68 = .ok (.getfield 238, 3) := dk_180 0 238 (dk_at dksX11_look_3 0 rfl rfl)
theorem dX11_look_71 : decode cX11_look 71 = .ok (.iaload, 1) := dk_46 (dk_at dksX11_look_3 3 rfl rfl)
theorem dX11_look_72 : decode cX11_look 72 = .ok (.goto 4, 3) := dk_167 0 4 (dk_at dksX11_look_3 4 rfl rfl)
theorem dX11_look_75 : decode cX11_look 75 = .ok (.iconst (-1), 1) := dk_2 (dk_at dksX11_look_3 7 rfl rfl)
theorem dX11_look_76 : decode cX11_look 76 = .ok (.ireturn, 1) := dk_172 (dk_at dksX11_look_3 8 rfl rfl)
abbrev cX11_isLetter : ByteArray := prog_26_method_6_code
def yX11_isLetter : MethodName := ⟨RX11, "isLetter", "(I)Z"⟩
def dkwX11_isLetter_0 : List UInt8 := [26, 16, 97, 161, 0, 13, 26, 16, 122, 163, 0, 7, 4, 167, 0, 4, 3, 172]
abbrev dktX11_isLetter_0 : List UInt8 := dkwX11_isLetter_0 ++ []
theorem dksX11_isLetter_0 : cX11_isLetter.data.toList.drop 0 = dktX11_isLetter_0 := by decide +kernel
theorem dX11_isLetter_0 : decode cX11_isLetter 0 = .ok (.iload_n 0, 1) := dk_26 (dk_at dksX11_isLetter_0 0 rfl rfl)
theorem dX11_isLetter_1 : decode cX11_isLetter 1 = .ok (.bipush 97, 2) := dk_16 97 (dk_at dksX11_isLetter_0 1 rfl rfl)
theorem dX11_isLetter_3 : decode cX11_isLetter 3 = .ok (.if_icmp .lt 13, 3) := dk_161 0 13 (dk_at dksX11_isLetter_0 3 rfl rfl)
theorem dX11_isLetter_6 : decode cX11_isLetter 6 = .ok (.iload_n 0, 1) := dk_26 (dk_at dksX11_isLetter_0 6 rfl rfl)
theorem dX11_isLetter_7 : decode cX11_isLetter 7 = .ok (.bipush 122, 2) := dk_16 122 (dk_at dksX11_isLetter_0 7 rfl rfl)
theorem dX11_isLetter_9 : decode cX11_isLetter 9 = .ok (.if_icmp .gt 7, 3) := dk_163 0 7 (dk_at dksX11_isLetter_0 9 rfl rfl)
theorem dX11_isLetter_12 : decode cX11_isLetter 12 = .ok (.iconst 1, 1) := dk_4 (dk_at dksX11_isLetter_0 12 rfl rfl)
theorem dX11_isLetter_13 : decode cX11_isLetter 13 = .ok (.goto 4, 3) := dk_167 0 4 (dk_at dksX11_isLetter_0 13 rfl rfl)
theorem dX11_isLetter_16 : decode cX11_isLetter 16 = .ok (.iconst 0, 1) := dk_3 (dk_at dksX11_isLetter_0 16 rfl rfl)
theorem dX11_isLetter_17 : decode cX11_isLetter 17 = .ok (.ireturn, 1) := dk_172 (dk_at dksX11_isLetter_0 17 rfl rfl)
abbrev cX11_fail : ByteArray := prog_26_method_5_code
def yX11_fail : MethodName := ⟨RX11, "fail", "(II)V"⟩
def dkwX11_fail_0 : List UInt8 := [42, 180, 0, 232, 153, 0, 4, 177, 42, 27, 181, 0, 232, 42, 28, 181, 0, 235, 177]
abbrev dktX11_fail_0 : List UInt8 := dkwX11_fail_0 ++ []
theorem dksX11_fail_0 : cX11_fail.data.toList.drop 0 = dktX11_fail_0 := by decide +kernel
theorem dX11_fail_0 : decode cX11_fail 0 = .ok (.aload_n 0, 1) := dk_42 (dk_at dksX11_fail_0 0 rfl rfl)
theorem dX11_fail_1 : decode cX11_fail 1 = .ok (.getfield 232, 3) := dk_180 0 232 (dk_at dksX11_fail_0 1 rfl rfl)
theorem dX11_fail_4 : decode cX11_fail 4 = .ok (.ifCond .eq 4, 3) := dk_153 0 4 (dk_at dksX11_fail_0 4 rfl rfl)
theorem dX11_fail_7 : decode cX11_fail 7 = .ok (.return_, 1) := dk_177 (dk_at dksX11_fail_0 7 rfl rfl)
theorem dX11_fail_8 : decode cX11_fail 8 = .ok (.aload_n 0, 1) := dk_42 (dk_at dksX11_fail_0 8 rfl rfl)
theorem dX11_fail_9 : decode cX11_fail 9 = .ok (.iload_n 1, 1) := dk_27 (dk_at dksX11_fail_0 9 rfl rfl)
theorem dX11_fail_10 : decode cX11_fail 10 = .ok (.putfield 232, 3) := dk_181 0 232 (dk_at dksX11_fail_0 10 rfl rfl)
theorem dX11_fail_13 : decode cX11_fail 13 = .ok (.aload_n 0, 1) := dk_42 (dk_at dksX11_fail_0 13 rfl rfl)
theorem dX11_fail_14 : decode cX11_fail 14 = .ok (.iload_n 2, 1) := dk_28 (dk_at dksX11_fail_0 14 rfl rfl)
theorem dX11_fail_15 : decode cX11_fail 15 = .ok (.putfield 235, 3) := dk_181 0 235 (dk_at dksX11_fail_0 15 rfl rfl)
theorem dX11_fail_18 : decode cX11_fail 18 = .ok (.return_, 1) := dk_177 (dk_at dksX11_fail_0 18 rfl rfl)
abbrev cX11_number : ByteArray := prog_26_method_14_code
def yX11_number : MethodName := ⟨RX11, "number", "(II)I"⟩
def dkwX11_number_7 : List UInt8 := [182, 1, 6, 21, 4, 172]
abbrev dktX11_number_7 : List UInt8 := dkwX11_number_7 ++ []
def dkwX11_number_6 : List UInt8 := [29, 181, 1, 16, 21, 4, 133, 27, 133, 28, 133, 184, 1, 19, 154, 0, 12, 42, 5, 42, 180, 1, 16]
abbrev dktX11_number_6 : List UInt8 := dkwX11_number_6 ++ dktX11_number_7
def dkwX11_number_5 : List UInt8 := [54, 4, 42, 89, 180, 0, 238, 4, 96, 181, 0, 238, 167, 255, 179, 42, 42, 180, 0, 238, 181, 0, 252, 42]
abbrev dktX11_number_5 : List UInt8 := dkwX11_number_5 ++ dktX11_number_6
def dkwX11_number_4 : List UInt8 := [182, 1, 6, 3, 172, 16, 10, 21, 4, 104, 42, 180, 0, 7, 42, 180, 0, 238, 46, 96, 16, 48, 100]
abbrev dktX11_number_4 : List UInt8 := dkwX11_number_4 ++ dktX11_number_5
def dkwX11_number_3 : List UInt8 := [184, 1, 13, 153, 0, 57, 42, 180, 0, 238, 29, 100, 7, 160, 0, 14, 42, 4, 42, 180, 0, 238]
abbrev dktX11_number_3 : List UInt8 := dkwX11_number_3 ++ dktX11_number_4
def dkwX11_number_2 : List UInt8 := [54, 4, 42, 180, 0, 238, 42, 180, 0, 241, 162, 0, 72, 42, 180, 0, 7, 42, 180, 0, 238, 46]
abbrev dktX11_number_2 : List UInt8 := dkwX11_number_2 ++ dktX11_number_3
def dkwX11_number_1 : List UInt8 := [180, 0, 252, 160, 0, 14, 42, 4, 42, 180, 0, 238, 182, 1, 6, 3, 172, 42, 180, 0, 238, 62, 3]
abbrev dktX11_number_1 : List UInt8 := dkwX11_number_1 ++ dktX11_number_2
def dkwX11_number_0 : List UInt8 := [42, 180, 0, 232, 153, 0, 5, 3, 172, 42, 182, 0, 244, 184, 1, 13, 153, 0, 14, 42, 180, 0, 238, 42]
abbrev dktX11_number_0 : List UInt8 := dkwX11_number_0 ++ dktX11_number_1
theorem dksX11_number_0 : cX11_number.data.toList.drop 0 = dktX11_number_0 := by decide +kernel
theorem dksX11_number_1 : cX11_number.data.toList.drop 24 = dktX11_number_1 := dk_seg dksX11_number_0 24 rfl rfl
theorem dksX11_number_2 : cX11_number.data.toList.drop 47 = dktX11_number_2 := dk_seg dksX11_number_1 23 rfl rfl
theorem dksX11_number_3 : cX11_number.data.toList.drop 69 = dktX11_number_3 := dk_seg dksX11_number_2 22 rfl rfl
theorem dksX11_number_4 : cX11_number.data.toList.drop 91 = dktX11_number_4 := dk_seg dksX11_number_3 22 rfl rfl
theorem dksX11_number_5 : cX11_number.data.toList.drop 114 = dktX11_number_5 := dk_seg dksX11_number_4 23 rfl rfl
theorem dksX11_number_6 : cX11_number.data.toList.drop 138 = dktX11_number_6 := dk_seg dksX11_number_5 24 rfl rfl
theorem dksX11_number_7 : cX11_number.data.toList.drop 161 = dktX11_number_7 := dk_seg dksX11_number_6 23 rfl rfl
theorem dX11_number_0 : decode cX11_number 0 = .ok (.aload_n 0, 1) := dk_42 (dk_at dksX11_number_0 0 rfl rfl)
theorem dX11_number_1 : decode cX11_number 1 = .ok (.getfield 232, 3) := dk_180 0 232 (dk_at dksX11_number_0 1 rfl rfl)
theorem dX11_number_4 : decode cX11_number 4 = .ok (.ifCond .eq 5, 3) := dk_153 0 5 (dk_at dksX11_number_0 4 rfl rfl)
theorem dX11_number_7 : decode cX11_number 7 = .ok (.iconst 0, 1) := dk_3 (dk_at dksX11_number_0 7 rfl rfl)
theorem dX11_number_8 : decode cX11_number 8 = .ok (.ireturn, 1) := dk_172 (dk_at dksX11_number_0 8 rfl rfl)
theorem dX11_number_9 : decode cX11_number 9 = .ok (.aload_n 0, 1) := dk_42 (dk_at dksX11_number_0 9 rfl rfl)
theorem dX11_number_10 : decode cX11_number 10 = .ok (.invokevirtual 244, 3) := dk_182 0 244 (dk_at dksX11_number_0 10 rfl rfl)
theorem dX11_number_13 : decode cX11_number 13 = .ok (.invokestatic 269, 3) := dk_184 1 13 (dk_at dksX11_number_0 13 rfl rfl)
theorem dX11_number_16 : decode cX11_number 16 = .ok (.ifCond .eq 14, 3) := dk_153 0 14 (dk_at dksX11_number_0 16 rfl rfl)
theorem dX11_number_19 : decode cX11_number 19 = .ok (.aload_n 0, 1) := dk_42 (dk_at dksX11_number_0 19 rfl rfl)
theorem dX11_number_20 : decode cX11_number 20 = .ok (.getfield 238, 3) := dk_180 0 238 (dk_at dksX11_number_0 20 rfl rfl)
theorem dX11_number_23 : decode cX11_number 23 = .ok (.aload_n 0, 1) := dk_42 (dk_at dksX11_number_0 23 rfl rfl)
theorem dX11_number_24 : decode cX11_number 24 = .ok (.getfield 252, 3) := dk_180 0 252 (dk_at dksX11_number_1 0 rfl rfl)
theorem dX11_number_27 : decode cX11_number 27 = .ok (.if_icmp .ne 14, 3) := dk_160 0 14 (dk_at dksX11_number_1 3 rfl rfl)
theorem dX11_number_30 : decode cX11_number 30 = .ok (.aload_n 0, 1) := dk_42 (dk_at dksX11_number_1 6 rfl rfl)
theorem dX11_number_31 : decode cX11_number 31 = .ok (.iconst 1, 1) := dk_4 (dk_at dksX11_number_1 7 rfl rfl)
theorem dX11_number_32 : decode cX11_number 32 = .ok (.aload_n 0, 1) := dk_42 (dk_at dksX11_number_1 8 rfl rfl)
theorem dX11_number_33 : decode cX11_number 33 = .ok (.getfield 238, 3) := dk_180 0 238 (dk_at dksX11_number_1 9 rfl rfl)
theorem dX11_number_36 : decode cX11_number 36 = .ok (.invokevirtual 262, 3) := dk_182 1 6 (dk_at dksX11_number_1 12 rfl rfl)
theorem dX11_number_39 : decode cX11_number 39 = .ok (.iconst 0, 1) := dk_3 (dk_at dksX11_number_1 15 rfl rfl)
theorem dX11_number_40 : decode cX11_number 40 = .ok (.ireturn, 1) := dk_172 (dk_at dksX11_number_1 16 rfl rfl)
theorem dX11_number_41 : decode cX11_number 41 = .ok (.aload_n 0, 1) := dk_42 (dk_at dksX11_number_1 17 rfl rfl)
theorem dX11_number_42 : decode cX11_number 42 = .ok (.getfield 238, 3) := dk_180 0 238 (dk_at dksX11_number_1 18 rfl rfl)
theorem dX11_number_45 : decode cX11_number 45 = .ok (.istore_n 3, 1) := dk_62 (dk_at dksX11_number_1 21 rfl rfl)
theorem dX11_number_46 : decode cX11_number 46 = .ok (.iconst 0, 1) := dk_3 (dk_at dksX11_number_1 22 rfl rfl)
theorem dX11_number_47 : decode cX11_number 47 = .ok (.istore 4, 2) := dk_54 4 (dk_at dksX11_number_2 0 rfl rfl)
theorem dX11_number_49 : decode cX11_number 49 = .ok (.aload_n 0, 1) := dk_42 (dk_at dksX11_number_2 2 rfl rfl)
theorem dX11_number_50 : decode cX11_number 50 = .ok (.getfield 238, 3) := dk_180 0 238 (dk_at dksX11_number_2 3 rfl rfl)
theorem dX11_number_53 : decode cX11_number 53 = .ok (.aload_n 0, 1) := dk_42 (dk_at dksX11_number_2 6 rfl rfl)
theorem dX11_number_54 : decode cX11_number 54 = .ok (.getfield 241, 3) := dk_180 0 241 (dk_at dksX11_number_2 7 rfl rfl)
theorem dX11_number_57 : decode cX11_number 57 = .ok (.if_icmp .ge 72, 3) := dk_162 0 72 (dk_at dksX11_number_2 10 rfl rfl)
theorem dX11_number_60 : decode cX11_number 60 = .ok (.aload_n 0, 1) := dk_42 (dk_at dksX11_number_2 13 rfl rfl)
theorem dX11_number_61 : decode cX11_number 61 = .ok (.getfield 7, 3) := dk_180 0 7 (dk_at dksX11_number_2 14 rfl rfl)
theorem dX11_number_64 : decode cX11_number 64 = .ok (.aload_n 0, 1) := dk_42 (dk_at dksX11_number_2 17 rfl rfl)
theorem dX11_number_65 : decode cX11_number 65 = .ok (.getfield 238, 3) := dk_180 0 238 (dk_at dksX11_number_2 18 rfl rfl)
theorem dX11_number_68 : decode cX11_number 68 = .ok (.iaload, 1) := dk_46 (dk_at dksX11_number_2 21 rfl rfl)
theorem dX11_number_69 : decode cX11_number 69 = .ok (.invokestatic 269, 3) := dk_184 1 13 (dk_at dksX11_number_3 0 rfl rfl)
theorem dX11_number_72 : decode cX11_number 72 = .ok (.ifCond .eq 57, 3) := dk_153 0 57 (dk_at dksX11_number_3 3 rfl rfl)
theorem dX11_number_75 : decode cX11_number 75 = .ok (.aload_n 0, 1) := dk_42 (dk_at dksX11_number_3 6 rfl rfl)
theorem dX11_number_76 : decode cX11_number 76 = .ok (.getfield 238, 3) := dk_180 0 238 (dk_at dksX11_number_3 7 rfl rfl)
theorem dX11_number_79 : decode cX11_number 79 = .ok (.iload_n 3, 1) := dk_29 (dk_at dksX11_number_3 10 rfl rfl)
theorem dX11_number_80 : decode cX11_number 80 = .ok (.isub, 1) := dk_100 (dk_at dksX11_number_3 11 rfl rfl)
theorem dX11_number_81 : decode cX11_number 81 = .ok (.iconst 4, 1) := dk_7 (dk_at dksX11_number_3 12 rfl rfl)
theorem dX11_number_82 : decode cX11_number 82 = .ok (.if_icmp .ne 14, 3) := dk_160 0 14 (dk_at dksX11_number_3 13 rfl rfl)
theorem dX11_number_85 : decode cX11_number 85 = .ok (.aload_n 0, 1) := dk_42 (dk_at dksX11_number_3 16 rfl rfl)
theorem dX11_number_86 : decode cX11_number 86 = .ok (.iconst 1, 1) := dk_4 (dk_at dksX11_number_3 17 rfl rfl)
theorem dX11_number_87 : decode cX11_number 87 = .ok (.aload_n 0, 1) := dk_42 (dk_at dksX11_number_3 18 rfl rfl)
theorem dX11_number_88 : decode cX11_number 88 = .ok (.getfield 238, 3) := dk_180 0 238 (dk_at dksX11_number_3 19 rfl rfl)
theorem dX11_number_91 : decode cX11_number 91 = .ok (.invokevirtual 262, 3) := dk_182 1 6 (dk_at dksX11_number_4 0 rfl rfl)
theorem dX11_number_94 : decode cX11_number 94 = .ok (.iconst 0, 1) := dk_3 (dk_at dksX11_number_4 3 rfl rfl)
theorem dX11_number_95 : decode cX11_number 95 = .ok (.ireturn, 1) := dk_172 (dk_at dksX11_number_4 4 rfl rfl)
theorem dX11_number_96 : decode cX11_number 96 = .ok (.bipush 10, 2) := dk_16 10 (dk_at dksX11_number_4 5 rfl rfl)
theorem dX11_number_98 : decode cX11_number 98 = .ok (.iload 4, 2) := dk_21 4 (dk_at dksX11_number_4 7 rfl rfl)
theorem dX11_number_100 : decode cX11_number 100 = .ok (.imul, 1) := dk_104 (dk_at dksX11_number_4 9 rfl rfl)
theorem dX11_number_101 : decode cX11_number 101 = .ok (.aload_n 0, 1) := dk_42 (dk_at dksX11_number_4 10 rfl rfl)
theorem dX11_number_102 : decode cX11_number 102 = .ok (.getfield 7, 3) := dk_180 0 7 (dk_at dksX11_number_4 11 rfl rfl)
theorem dX11_number_105 : decode cX11_number 105 = .ok (.aload_n 0, 1) := dk_42 (dk_at dksX11_number_4 14 rfl rfl)
theorem dX11_number_106 : decode cX11_number 106 = .ok (.getfield 238, 3) := dk_180 0 238 (dk_at dksX11_number_4 15 rfl rfl)
theorem dX11_number_109 : decode cX11_number 109 = .ok (.iaload, 1) := dk_46 (dk_at dksX11_number_4 18 rfl rfl)
theorem dX11_number_110 : decode cX11_number 110 = .ok (.iadd, 1) := dk_96 (dk_at dksX11_number_4 19 rfl rfl)
theorem dX11_number_111 : decode cX11_number 111 = .ok (.bipush 48, 2) := dk_16 48 (dk_at dksX11_number_4 20 rfl rfl)
theorem dX11_number_113 : decode cX11_number 113 = .ok (.isub, 1) := dk_100 (dk_at dksX11_number_4 22 rfl rfl)
theorem dX11_number_114 : decode cX11_number 114 = .ok (.istore 4, 2) := dk_54 4 (dk_at dksX11_number_5 0 rfl rfl)
theorem dX11_number_116 : decode cX11_number 116 = .ok (.aload_n 0, 1) := dk_42 (dk_at dksX11_number_5 2 rfl rfl)
theorem dX11_number_117 : decode cX11_number 117 = .ok (.dup, 1) := dk_89 (dk_at dksX11_number_5 3 rfl rfl)
theorem dX11_number_118 : decode cX11_number 118 = .ok (.getfield 238, 3) := dk_180 0 238 (dk_at dksX11_number_5 4 rfl rfl)
theorem dX11_number_121 : decode cX11_number 121 = .ok (.iconst 1, 1) := dk_4 (dk_at dksX11_number_5 7 rfl rfl)
theorem dX11_number_122 : decode cX11_number 122 = .ok (.iadd, 1) := dk_96 (dk_at dksX11_number_5 8 rfl rfl)
theorem dX11_number_123 : decode cX11_number 123 = .ok (.putfield 238, 3) := dk_181 0 238 (dk_at dksX11_number_5 9 rfl rfl)
theorem dX11_number_126 : decode cX11_number 126 = .ok (.goto (-77), 3) := dk_167 255 179 (dk_at dksX11_number_5 12 rfl rfl)
theorem dX11_number_129 : decode cX11_number 129 = .ok (.aload_n 0, 1) := dk_42 (dk_at dksX11_number_5 15 rfl rfl)
theorem dX11_number_130 : decode cX11_number 130 = .ok (.aload_n 0, 1) := dk_42 (dk_at dksX11_number_5 16 rfl rfl)
theorem dX11_number_131 : decode cX11_number 131 = .ok (.getfield 238, 3) := dk_180 0 238 (dk_at dksX11_number_5 17 rfl rfl)
theorem dX11_number_134 : decode cX11_number 134 = .ok (.putfield 252, 3) := dk_181 0 252 (dk_at dksX11_number_5 20 rfl rfl)
theorem dX11_number_137 : decode cX11_number 137 = .ok (.aload_n 0, 1) := dk_42 (dk_at dksX11_number_5 23 rfl rfl)
theorem dX11_number_138 : decode cX11_number 138 = .ok (.iload_n 3, 1) := dk_29 (dk_at dksX11_number_6 0 rfl rfl)
theorem dX11_number_139 : decode cX11_number 139 = .ok (.putfield 272, 3) := dk_181 1 16 (dk_at dksX11_number_6 1 rfl rfl)
theorem dX11_number_142 : decode cX11_number 142 = .ok (.iload 4, 2) := dk_21 4 (dk_at dksX11_number_6 4 rfl rfl)
theorem dX11_number_144 : decode cX11_number 144 = .ok (.i2l, 1) := dk_133 (dk_at dksX11_number_6 6 rfl rfl)
theorem dX11_number_145 : decode cX11_number 145 = .ok (.iload_n 1, 1) := dk_27 (dk_at dksX11_number_6 7 rfl rfl)
theorem dX11_number_146 : decode cX11_number 146 = .ok (.i2l, 1) := dk_133 (dk_at dksX11_number_6 8 rfl rfl)
theorem dX11_number_147 : decode cX11_number 147 = .ok (.iload_n 2, 1) := dk_28 (dk_at dksX11_number_6 9 rfl rfl)
theorem dX11_number_148 : decode cX11_number 148 = .ok (.i2l, 1) := dk_133 (dk_at dksX11_number_6 10 rfl rfl)
theorem dX11_number_149 : decode cX11_number 149 = .ok (.invokestatic 275, 3) := dk_184 1 19 (dk_at dksX11_number_6 11 rfl rfl)
theorem dX11_number_152 : decode cX11_number 152 = .ok (.ifCond .ne 12, 3) := dk_154 0 12 (dk_at dksX11_number_6 14 rfl rfl)
theorem dX11_number_155 : decode cX11_number 155 = .ok (.aload_n 0, 1) := dk_42 (dk_at dksX11_number_6 17 rfl rfl)
theorem dX11_number_156 : decode cX11_number 156 = .ok (.iconst 2, 1) := dk_5 (dk_at dksX11_number_6 18 rfl rfl)
theorem dX11_number_157 : decode cX11_number 157 = .ok (.aload_n 0, 1) := dk_42 (dk_at dksX11_number_6 19 rfl rfl)
theorem dX11_number_158 : decode cX11_number 158 = .ok (.getfield 272, 3) := dk_180 1 16 (dk_at dksX11_number_6 20 rfl rfl)
theorem dX11_number_161 : decode cX11_number 161 = .ok (.invokevirtual 262, 3) := dk_182 1 6 (dk_at dksX11_number_7 0 rfl rfl)
theorem dX11_number_164 : decode cX11_number 164 = .ok (.iload 4, 2) := dk_21 4 (dk_at dksX11_number_7 3 rfl rfl)
theorem dX11_number_166 : decode cX11_number 166 = .ok (.ireturn, 1) := dk_172 (dk_at dksX11_number_7 5 rfl rfl)
abbrev cX11_isDigit : ByteArray := prog_26_method_7_code
def yX11_isDigit : MethodName := ⟨RX11, "isDigit", "(I)Z"⟩
def dkwX11_isDigit_0 : List UInt8 := [26, 16, 48, 161, 0, 13, 26, 16, 57, 163, 0, 7, 4, 167, 0, 4, 3, 172]
abbrev dktX11_isDigit_0 : List UInt8 := dkwX11_isDigit_0 ++ []
theorem dksX11_isDigit_0 : cX11_isDigit.data.toList.drop 0 = dktX11_isDigit_0 := by decide +kernel
theorem dX11_isDigit_0 : decode cX11_isDigit 0 = .ok (.iload_n 0, 1) := dk_26 (dk_at dksX11_isDigit_0 0 rfl rfl)
theorem dX11_isDigit_1 : decode cX11_isDigit 1 = .ok (.bipush 48, 2) := dk_16 48 (dk_at dksX11_isDigit_0 1 rfl rfl)
theorem dX11_isDigit_3 : decode cX11_isDigit 3 = .ok (.if_icmp .lt 13, 3) := dk_161 0 13 (dk_at dksX11_isDigit_0 3 rfl rfl)
theorem dX11_isDigit_6 : decode cX11_isDigit 6 = .ok (.iload_n 0, 1) := dk_26 (dk_at dksX11_isDigit_0 6 rfl rfl)
theorem dX11_isDigit_7 : decode cX11_isDigit 7 = .ok (.bipush 57, 2) := dk_16 57 (dk_at dksX11_isDigit_0 7 rfl rfl)
theorem dX11_isDigit_9 : decode cX11_isDigit 9 = .ok (.if_icmp .gt 7, 3) := dk_163 0 7 (dk_at dksX11_isDigit_0 9 rfl rfl)
theorem dX11_isDigit_12 : decode cX11_isDigit 12 = .ok (.iconst 1, 1) := dk_4 (dk_at dksX11_isDigit_0 12 rfl rfl)
theorem dX11_isDigit_13 : decode cX11_isDigit 13 = .ok (.goto 4, 3) := dk_167 0 4 (dk_at dksX11_isDigit_0 13 rfl rfl)
theorem dX11_isDigit_16 : decode cX11_isDigit 16 = .ok (.iconst 0, 1) := dk_3 (dk_at dksX11_isDigit_0 16 rfl rfl)
theorem dX11_isDigit_17 : decode cX11_isDigit 17 = .ok (.ireturn, 1) := dk_172 (dk_at dksX11_isDigit_0 17 rfl rfl)
abbrev cX11_isIn : ByteArray := prog_26_method_2_code
def yX11_isIn : MethodName := ⟨RX11, "isIn", "(JJJ)Z"⟩
def dkwX11_isIn_0 : List UInt8 := [30, 32, 148, 155, 0, 14, 30, 22, 4, 148, 157, 0, 7, 4, 167, 0, 4, 3, 172]
abbrev dktX11_isIn_0 : List UInt8 := dkwX11_isIn_0 ++ []
theorem dksX11_isIn_0 : cX11_isIn.data.toList.drop 0 = dktX11_isIn_0 := by decide +kernel
theorem dX11_isIn_0 : decode cX11_isIn 0 = .ok (.lload_n 0, 1) := dk_30 (dk_at dksX11_isIn_0 0 rfl rfl)
theorem dX11_isIn_1 : decode cX11_isIn 1 = .ok (.lload_n 2, 1) := dk_32 (dk_at dksX11_isIn_0 1 rfl rfl)
theorem dX11_isIn_2 : decode cX11_isIn 2 = .ok (.lcmp, 1) := dk_148 (dk_at dksX11_isIn_0 2 rfl rfl)
theorem dX11_isIn_3 : decode cX11_isIn 3 = .ok (.ifCond .lt 14, 3) := dk_155 0 14 (dk_at dksX11_isIn_0 3 rfl rfl)
theorem dX11_isIn_6 : decode cX11_isIn 6 = .ok (.lload_n 0, 1) := dk_30 (dk_at dksX11_isIn_0 6 rfl rfl)
theorem dX11_isIn_7 : decode cX11_isIn 7 = .ok (.lload 4, 2) := dk_22 4 (dk_at dksX11_isIn_0 7 rfl rfl)
theorem dX11_isIn_9 : decode cX11_isIn 9 = .ok (.lcmp, 1) := dk_148 (dk_at dksX11_isIn_0 9 rfl rfl)
theorem dX11_isIn_10 : decode cX11_isIn 10 = .ok (.ifCond .gt 7, 3) := dk_157 0 7 (dk_at dksX11_isIn_0 10 rfl rfl)
theorem dX11_isIn_13 : decode cX11_isIn 13 = .ok (.iconst 1, 1) := dk_4 (dk_at dksX11_isIn_0 13 rfl rfl)
theorem dX11_isIn_14 : decode cX11_isIn 14 = .ok (.goto 4, 3) := dk_167 0 4 (dk_at dksX11_isIn_0 14 rfl rfl)
theorem dX11_isIn_17 : decode cX11_isIn 17 = .ok (.iconst 0, 1) := dk_3 (dk_at dksX11_isIn_0 17 rfl rfl)
theorem dX11_isIn_18 : decode cX11_isIn 18 = .ok (.ireturn, 1) := dk_172 (dk_at dksX11_isIn_0 18 rfl rfl)
abbrev cX11_asksSign : ByteArray := prog_26_method_13_code
def yX11_asksSign : MethodName := ⟨RX11, "asksSign", "(I)V"⟩
def dkwX11_asksSign_1 : List UInt8 := [177]
abbrev dktX11_asksSign_1 : List UInt8 := dkwX11_asksSign_1 ++ []
def dkwX11_asksSign_0 : List UInt8 := [42, 180, 0, 232, 154, 0, 20, 42, 27, 182, 1, 10, 154, 0, 12, 42, 4, 42, 180, 0, 238, 182, 1, 6]
abbrev dktX11_asksSign_0 : List UInt8 := dkwX11_asksSign_0 ++ dktX11_asksSign_1
theorem dksX11_asksSign_0 : cX11_asksSign.data.toList.drop 0 = dktX11_asksSign_0 := by decide +kernel
theorem dksX11_asksSign_1 : cX11_asksSign.data.toList.drop 24 = dktX11_asksSign_1 := dk_seg dksX11_asksSign_0 24 rfl rfl
theorem dX11_asksSign_0 : decode cX11_asksSign 0 = .ok (.aload_n 0, 1) := dk_42 (dk_at dksX11_asksSign_0 0 rfl rfl)
theorem dX11_asksSign_1 : decode cX11_asksSign 1 = .ok (.getfield 232, 3) := dk_180 0 232 (dk_at dksX11_asksSign_0 1 rfl rfl)
theorem dX11_asksSign_4 : decode cX11_asksSign 4 = .ok (.ifCond .ne 20, 3) := dk_154 0 20 (dk_at dksX11_asksSign_0 4 rfl rfl)
theorem dX11_asksSign_7 : decode cX11_asksSign 7 = .ok (.aload_n 0, 1) := dk_42 (dk_at dksX11_asksSign_0 7 rfl rfl)
theorem dX11_asksSign_8 : decode cX11_asksSign 8 = .ok (.iload_n 1, 1) := dk_27 (dk_at dksX11_asksSign_0 8 rfl rfl)
theorem dX11_asksSign_9 : decode cX11_asksSign 9 = .ok (.invokevirtual 266, 3) := dk_182 1 10 (dk_at dksX11_asksSign_0 9 rfl rfl)
theorem dX11_asksSign_12 : decode cX11_asksSign 12 = .ok (.ifCond .ne 12, 3) := dk_154 0 12 (dk_at dksX11_asksSign_0 12 rfl rfl)
theorem dX11_asksSign_15 : decode cX11_asksSign 15 = .ok (.aload_n 0, 1) := dk_42 (dk_at dksX11_asksSign_0 15 rfl rfl)
theorem dX11_asksSign_16 : decode cX11_asksSign 16 = .ok (.iconst 1, 1) := dk_4 (dk_at dksX11_asksSign_0 16 rfl rfl)
theorem dX11_asksSign_17 : decode cX11_asksSign 17 = .ok (.aload_n 0, 1) := dk_42 (dk_at dksX11_asksSign_0 17 rfl rfl)
theorem dX11_asksSign_18 : decode cX11_asksSign 18 = .ok (.getfield 238, 3) := dk_180 0 238 (dk_at dksX11_asksSign_0 18 rfl rfl)
theorem dX11_asksSign_21 : decode cX11_asksSign 21 = .ok (.invokevirtual 262, 3) := dk_182 1 6 (dk_at dksX11_asksSign_0 21 rfl rfl)
theorem dX11_asksSign_24 : decode cX11_asksSign 24 = .ok (.return_, 1) := dk_177 (dk_at dksX11_asksSign_1 0 rfl rfl)
abbrev cX11_takesSign : ByteArray := prog_26_method_12_code
def yX11_takesSign : MethodName := ⟨RX11, "takesSign", "(I)Z"⟩
def dkwX11_takesSign_1 : List UInt8 := [181, 0, 238, 4, 172]
abbrev dktX11_takesSign_1 : List UInt8 := dkwX11_takesSign_1 ++ []
def dkwX11_takesSign_0 : List UInt8 := [42, 180, 0, 232, 154, 0, 11, 42, 182, 0, 244, 27, 159, 0, 5, 3, 172, 42, 89, 180, 0, 238, 4, 96]
abbrev dktX11_takesSign_0 : List UInt8 := dkwX11_takesSign_0 ++ dktX11_takesSign_1
theorem dksX11_takesSign_0 : cX11_takesSign.data.toList.drop 0 = dktX11_takesSign_0 := by decide +kernel
theorem dksX11_takesSign_1 : cX11_takesSign.data.toList.drop 24 = dktX11_takesSign_1 := dk_seg dksX11_takesSign_0 24 rfl rfl
theorem dX11_takesSign_0 : decode cX11_takesSign 0 = .ok (.aload_n 0, 1) := dk_42 (dk_at dksX11_takesSign_0 0 rfl rfl)
theorem dX11_takesSign_1 : decode cX11_takesSign 1 = .ok (.getfield 232, 3) := dk_180 0 232 (dk_at dksX11_takesSign_0 1 rfl rfl)
theorem dX11_takesSign_4 : decode cX11_takesSign 4 = .ok (.ifCond .ne 11, 3) := dk_154 0 11 (dk_at dksX11_takesSign_0 4 rfl rfl)
theorem dX11_takesSign_7 : decode cX11_takesSign 7 = .ok (.aload_n 0, 1) := dk_42 (dk_at dksX11_takesSign_0 7 rfl rfl)
theorem dX11_takesSign_8 : decode cX11_takesSign 8 = .ok (.invokevirtual 244, 3) := dk_182 0 244 (dk_at dksX11_takesSign_0 8 rfl rfl)
theorem dX11_takesSign_11 : decode cX11_takesSign 11 = .ok (.iload_n 1, 1) := dk_27 (dk_at dksX11_takesSign_0 11 rfl rfl)
theorem dX11_takesSign_12 : decode cX11_takesSign 12 = .ok (.if_icmp .eq 5, 3) := dk_159 0 5 (dk_at dksX11_takesSign_0 12 rfl rfl)
theorem dX11_takesSign_15 : decode cX11_takesSign 15 = .ok (.iconst 0, 1) := dk_3 (dk_at dksX11_takesSign_0 15 rfl rfl)
theorem dX11_takesSign_16 : decode cX11_takesSign 16 = .ok (.ireturn, 1) := dk_172 (dk_at dksX11_takesSign_0 16 rfl rfl)
theorem dX11_takesSign_17 : decode cX11_takesSign 17 = .ok (.aload_n 0, 1) := dk_42 (dk_at dksX11_takesSign_0 17 rfl rfl)
theorem dX11_takesSign_18 : decode cX11_takesSign 18 = .ok (.dup, 1) := dk_89 (dk_at dksX11_takesSign_0 18 rfl rfl)
theorem dX11_takesSign_19 : decode cX11_takesSign 19 = .ok (.getfield 238, 3) := dk_180 0 238 (dk_at dksX11_takesSign_0 19 rfl rfl)
theorem dX11_takesSign_22 : decode cX11_takesSign 22 = .ok (.iconst 1, 1) := dk_4 (dk_at dksX11_takesSign_0 22 rfl rfl)
theorem dX11_takesSign_23 : decode cX11_takesSign 23 = .ok (.iadd, 1) := dk_96 (dk_at dksX11_takesSign_0 23 rfl rfl)
theorem dX11_takesSign_24 : decode cX11_takesSign 24 = .ok (.putfield 238, 3) := dk_181 0 238 (dk_at dksX11_takesSign_1 0 rfl rfl)
theorem dX11_takesSign_27 : decode cX11_takesSign 27 = .ok (.iconst 1, 1) := dk_4 (dk_at dksX11_takesSign_1 3 rfl rfl)
theorem dX11_takesSign_28 : decode cX11_takesSign 28 = .ok (.ireturn, 1) := dk_172 (dk_at dksX11_takesSign_1 4 rfl rfl)
abbrev cX11_statementTold : ByteArray := prog_26_method_20_code
def yX11_statementTold : MethodName := ⟨RX11, "statementTold", "()V"⟩
def dkwX11_statementTold_4 : List UInt8 := [16, 100, 182, 1, 30, 79, 42, 16, 59, 182, 1, 34, 42, 89, 180, 1, 59, 4, 96, 181, 1, 59, 177]
abbrev dktX11_statementTold_4 : List UInt8 := dkwX11_statementTold_4 ++ []
def dkwX11_statementTold_3 : List UInt8 := [4, 27, 182, 1, 65, 167, 0, 24, 42, 42, 180, 0, 42, 182, 1, 26, 42, 180, 0, 96, 7, 42, 3]
abbrev dktX11_statementTold_3 : List UInt8 := dkwX11_statementTold_3 ++ dktX11_statementTold_4
def dkwX11_statementTold_2 : List UInt8 := [153, 0, 12, 42, 3, 27, 182, 1, 65, 167, 0, 44, 42, 42, 180, 0, 39, 182, 1, 3, 153, 0, 12, 42]
abbrev dktX11_statementTold_2 : List UInt8 := dkwX11_statementTold_2 ++ dktX11_statementTold_3
def dkwX11_statementTold_1 : List UInt8 := [180, 0, 30, 182, 1, 3, 153, 0, 10, 42, 182, 1, 62, 167, 0, 64, 42, 42, 180, 0, 36, 182, 1, 3]
abbrev dktX11_statementTold_1 : List UInt8 := dkwX11_statementTold_1 ++ dktX11_statementTold_2
def dkwX11_statementTold_0 : List UInt8 := [42, 180, 0, 238, 60, 42, 180, 1, 59, 16, 40, 160, 0, 10, 42, 8, 27, 182, 1, 6, 177, 42, 42]
abbrev dktX11_statementTold_0 : List UInt8 := dkwX11_statementTold_0 ++ dktX11_statementTold_1
theorem dksX11_statementTold_0 : cX11_statementTold.data.toList.drop 0 = dktX11_statementTold_0 := by decide +kernel
theorem dksX11_statementTold_1 : cX11_statementTold.data.toList.drop 23 = dktX11_statementTold_1 := dk_seg dksX11_statementTold_0 23 rfl rfl
theorem dksX11_statementTold_2 : cX11_statementTold.data.toList.drop 47 = dktX11_statementTold_2 := dk_seg dksX11_statementTold_1 24 rfl rfl
theorem dksX11_statementTold_3 : cX11_statementTold.data.toList.drop 71 = dktX11_statementTold_3 := dk_seg dksX11_statementTold_2 24 rfl rfl
theorem dksX11_statementTold_4 : cX11_statementTold.data.toList.drop 94 = dktX11_statementTold_4 := dk_seg dksX11_statementTold_3 23 rfl rfl
theorem dX11_statementTold_0 : decode cX11_statementTold 0 = .ok (.aload_n 0, 1) := dk_42 (dk_at dksX11_statementTold_0 0 rfl rfl)
theorem dX11_statementTold_1 : decode cX11_statementTold 1 = .ok (.getfield 238, 3) := dk_180 0 238 (dk_at dksX11_statementTold_0 1 rfl rfl)
theorem dX11_statementTold_4 : decode cX11_statementTold 4 = .ok (.istore_n 1, 1) := dk_60 (dk_at dksX11_statementTold_0 4 rfl rfl)
theorem dX11_statementTold_5 : decode cX11_statementTold 5 = .ok (.aload_n 0, 1) := dk_42 (dk_at dksX11_statementTold_0 5 rfl rfl)
theorem dX11_statementTold_6 : decode cX11_statementTold 6 = .ok (.getfield 315, 3) := dk_180 1 59 (dk_at dksX11_statementTold_0 6 rfl rfl)
theorem dX11_statementTold_9 : decode cX11_statementTold 9 = .ok (.bipush 40, 2) := dk_16 40 (dk_at dksX11_statementTold_0 9 rfl rfl)
theorem dX11_statementTold_11 : decode cX11_statementTold 11 = .ok (.if_icmp .ne 10, 3) := dk_160 0 10 (dk_at dksX11_statementTold_0 11 rfl rfl)
theorem dX11_statementTold_14 : decode cX11_statementTold 14 = .ok (.aload_n 0, 1) := dk_42 (dk_at dksX11_statementTold_0 14 rfl rfl)
theorem dX11_statementTold_15 : decode cX11_statementTold 15 = .ok (.iconst 5, 1) := dk_8 (dk_at dksX11_statementTold_0 15 rfl rfl)
theorem dX11_statementTold_16 : decode cX11_statementTold 16 = .ok (.iload_n 1, 1) := dk_27 (dk_at dksX11_statementTold_0 16 rfl rfl)
theorem dX11_statementTold_17 : decode cX11_statementTold 17 = .ok (.invokevirtual 262, 3) := dk_182 1 6 (dk_at dksX11_statementTold_0 17 rfl rfl)
theorem dX11_statementTold_20 : decode cX11_statementTold 20 = .ok (.return_, 1) := dk_177 (dk_at dksX11_statementTold_0 20 rfl rfl)
theorem dX11_statementTold_21 : decode cX11_statementTold 21 = .ok (.aload_n 0, 1) := dk_42 (dk_at dksX11_statementTold_0 21 rfl rfl)
theorem dX11_statementTold_22 : decode cX11_statementTold 22 = .ok (.aload_n 0, 1) := dk_42 (dk_at dksX11_statementTold_0 22 rfl rfl)
theorem dX11_statementTold_23 : decode cX11_statementTold 23 = .ok (.getfield 30, 3) := dk_180 0 30 (dk_at dksX11_statementTold_1 0 rfl rfl)
theorem dX11_statementTold_26 : decode cX11_statementTold 26 = .ok (.invokevirtual 259, 3) := dk_182 1 3 (dk_at dksX11_statementTold_1 3 rfl rfl)
theorem dX11_statementTold_29 : decode cX11_statementTold 29 = .ok (.ifCond .eq 10, 3) := dk_153 0 10 (dk_at dksX11_statementTold_1 6 rfl rfl)
theorem dX11_statementTold_32 : decode cX11_statementTold 32 = .ok (.aload_n 0, 1) := dk_42 (dk_at dksX11_statementTold_1 9 rfl rfl)
theorem dX11_statementTold_33 : decode cX11_statementTold 33 = .ok (.invokevirtual 318, 3) := dk_182 1 62 (dk_at dksX11_statementTold_1 10 rfl rfl)
theorem dX11_statementTold_36 : decode cX11_statementTold 36 = .ok (.goto 64, 3) := dk_167 0 64 (dk_at dksX11_statementTold_1 13 rfl rfl)
theorem dX11_statementTold_39 : decode cX11_statementTold 39 = .ok (.aload_n 0, 1) := dk_42 (dk_at dksX11_statementTold_1 16 rfl rfl)
theorem dX11_statementTold_40 : decode cX11_statementTold 40 = .ok (.aload_n 0, 1) := dk_42 (dk_at dksX11_statementTold_1 17 rfl rfl)
theorem dX11_statementTold_41 : decode cX11_statementTold 41 = .ok (.getfield 36, 3) := dk_180 0 36 (dk_at dksX11_statementTold_1 18 rfl rfl)
theorem dX11_statementTold_44 : decode cX11_statementTold 44 = .ok (.invokevirtual 259, 3) := dk_182 1 3 (dk_at dksX11_statementTold_1 21 rfl rfl)
theorem dX11_statementTold_47 : decode cX11_statementTold 47 = .ok (.ifCond .eq 12, 3) := dk_153 0 12 (dk_at dksX11_statementTold_2 0 rfl rfl)
theorem dX11_statementTold_50 : decode cX11_statementTold 50 = .ok (.aload_n 0, 1) := dk_42 (dk_at dksX11_statementTold_2 3 rfl rfl)
theorem dX11_statementTold_51 : decode cX11_statementTold 51 = .ok (.iconst 0, 1) := dk_3 (dk_at dksX11_statementTold_2 4 rfl rfl)
theorem dX11_statementTold_52 : decode cX11_statementTold 52 = .ok (.iload_n 1, 1) := dk_27 (dk_at dksX11_statementTold_2 5 rfl rfl)
theorem dX11_statementTold_53 : decode cX11_statementTold 53 = .ok (.invokevirtual 321, 3) := dk_182 1 65 (dk_at dksX11_statementTold_2 6 rfl rfl)
theorem dX11_statementTold_56 : decode cX11_statementTold 56 = .ok (.goto 44, 3) := dk_167 0 44 (dk_at dksX11_statementTold_2 9 rfl rfl)
theorem dX11_statementTold_59 : decode cX11_statementTold 59 = .ok (.aload_n 0, 1) := dk_42 (dk_at dksX11_statementTold_2 12 rfl rfl)
theorem dX11_statementTold_60 : decode cX11_statementTold 60 = .ok (.aload_n 0, 1) := dk_42 (dk_at dksX11_statementTold_2 13 rfl rfl)
theorem dX11_statementTold_61 : decode cX11_statementTold 61 = .ok (.getfield 39, 3) := dk_180 0 39 (dk_at dksX11_statementTold_2 14 rfl rfl)
theorem dX11_statementTold_64 : decode cX11_statementTold 64 = .ok (.invokevirtual 259, 3) := dk_182 1 3 (dk_at dksX11_statementTold_2 17 rfl rfl)
theorem dX11_statementTold_67 : decode cX11_statementTold 67 = .ok (.ifCond .eq 12, 3) := dk_153 0 12 (dk_at dksX11_statementTold_2 20 rfl rfl)
theorem dX11_statementTold_70 : decode cX11_statementTold 70 = .ok (.aload_n 0, 1) := dk_42 (dk_at dksX11_statementTold_2 23 rfl rfl)
theorem dX11_statementTold_71 : decode cX11_statementTold 71 = .ok (.iconst 1, 1) := dk_4 (dk_at dksX11_statementTold_3 0 rfl rfl)
theorem dX11_statementTold_72 : decode cX11_statementTold 72 = .ok (.iload_n 1, 1) := dk_27 (dk_at dksX11_statementTold_3 1 rfl rfl)
theorem dX11_statementTold_73 : decode cX11_statementTold 73 = .ok (.invokevirtual 321, 3) := dk_182 1 65 (dk_at dksX11_statementTold_3 2 rfl rfl)
theorem dX11_statementTold_76 : decode cX11_statementTold 76 = .ok (.goto 24, 3) := dk_167 0 24 (dk_at dksX11_statementTold_3 5 rfl rfl)
theorem dX11_statementTold_79 : decode cX11_statementTold 79 = .ok (.aload_n 0, 1) := dk_42 (dk_at dksX11_statementTold_3 8 rfl rfl)
theorem dX11_statementTold_80 : decode cX11_statementTold 80 = .ok (.aload_n 0, 1) := dk_42 (dk_at dksX11_statementTold_3 9 rfl rfl)
theorem dX11_statementTold_81 : decode cX11_statementTold 81 = .ok (.getfield 42, 3) := dk_180 0 42 (dk_at dksX11_statementTold_3 10 rfl rfl)
theorem dX11_statementTold_84 : decode cX11_statementTold 84 = .ok (.invokevirtual 282, 3) := dk_182 1 26 (dk_at dksX11_statementTold_3 13 rfl rfl)
theorem dX11_statementTold_87 : decode cX11_statementTold 87 = .ok (.aload_n 0, 1) := dk_42 (dk_at dksX11_statementTold_3 16 rfl rfl)
theorem dX11_statementTold_88 : decode cX11_statementTold 88 = .ok (.getfield 96, 3) := dk_180 0 96 (dk_at dksX11_statementTold_3 17 rfl rfl)
theorem dX11_statementTold_91 : decode cX11_statementTold 91 = .ok (.iconst 4, 1) := dk_7 (dk_at dksX11_statementTold_3 20 rfl rfl)
theorem dX11_statementTold_92 : decode cX11_statementTold 92 = .ok (.aload_n 0, 1) := dk_42 (dk_at dksX11_statementTold_3 21 rfl rfl)
theorem dX11_statementTold_93 : decode cX11_statementTold 93 = .ok (.iconst 0, 1) := dk_3 (dk_at dksX11_statementTold_3 22 rfl rfl)
theorem dX11_statementTold_94 : decode cX11_statementTold 94 = .ok (.bipush 100, 2) := dk_16 100 (dk_at dksX11_statementTold_4 0 rfl rfl)
theorem dX11_statementTold_96 : decode cX11_statementTold 96 = .ok (.invokevirtual 286, 3) := dk_182 1 30 (dk_at dksX11_statementTold_4 2 rfl rfl)
theorem dX11_statementTold_99 : decode cX11_statementTold 99 = .ok (.iastore, 1) := dk_79 (dk_at dksX11_statementTold_4 5 rfl rfl)
theorem dX11_statementTold_100 : decode cX11_statementTold 100 = .ok (.aload_n 0, 1) := dk_42 (dk_at dksX11_statementTold_4 6 rfl rfl)
theorem dX11_statementTold_101 : decode cX11_statementTold 101 = .ok (.bipush 59, 2) := dk_16 59 (dk_at dksX11_statementTold_4 7 rfl rfl)
theorem dX11_statementTold_103 : decode cX11_statementTold 103 = .ok (.invokevirtual 290, 3) := dk_182 1 34 (dk_at dksX11_statementTold_4 9 rfl rfl)
theorem dX11_statementTold_106 : decode cX11_statementTold 106 = .ok (.aload_n 0, 1) := dk_42 (dk_at dksX11_statementTold_4 12 rfl rfl)
theorem dX11_statementTold_107 : decode cX11_statementTold 107 = .ok (.dup, 1) := dk_89 (dk_at dksX11_statementTold_4 13 rfl rfl)
theorem dX11_statementTold_108 : decode cX11_statementTold 108 = .ok (.getfield 315, 3) := dk_180 1 59 (dk_at dksX11_statementTold_4 14 rfl rfl)
theorem dX11_statementTold_111 : decode cX11_statementTold 111 = .ok (.iconst 1, 1) := dk_4 (dk_at dksX11_statementTold_4 17 rfl rfl)
theorem dX11_statementTold_112 : decode cX11_statementTold 112 = .ok (.iadd, 1) := dk_96 (dk_at dksX11_statementTold_4 18 rfl rfl)
theorem dX11_statementTold_113 : decode cX11_statementTold 113 = .ok (.putfield 315, 3) := dk_181 1 59 (dk_at dksX11_statementTold_4 19 rfl rfl)
theorem dX11_statementTold_116 : decode cX11_statementTold 116 = .ok (.return_, 1) := dk_177 (dk_at dksX11_statementTold_4 22 rfl rfl)
abbrev cX11_putTold : ByteArray := prog_26_method_18_code
def yX11_putTold : MethodName := ⟨RX11, "putTold", "()V"⟩
def dkwX11_putTold_4 : List UInt8 := [4, 96, 79, 177]
abbrev dktX11_putTold_4 : List UInt8 := dkwX11_putTold_4 ++ []
def dkwX11_putTold_3 : List UInt8 := [79, 42, 180, 0, 99, 6, 42, 180, 0, 96, 6, 46, 104, 5, 96, 29, 79, 42, 180, 0, 96, 6, 92, 46]
abbrev dktX11_putTold_3 : List UInt8 := dkwX11_putTold_3 ++ dktX11_putTold_4
def dkwX11_putTold_2 : List UInt8 := [42, 180, 0, 96, 6, 46, 104, 27, 79, 42, 180, 0, 99, 6, 42, 180, 0, 96, 6, 46, 104, 4, 96, 28]
abbrev dktX11_putTold_2 : List UInt8 := dkwX11_putTold_2 ++ dktX11_putTold_3
def dkwX11_putTold_1 : List UInt8 := [182, 1, 26, 42, 3, 16, 40, 182, 1, 30, 62, 42, 180, 0, 232, 153, 0, 4, 177, 42, 180, 0, 99, 6]
abbrev dktX11_putTold_1 : List UInt8 := dkwX11_putTold_1 ++ dktX11_putTold_2
def dkwX11_putTold_0 : List UInt8 := [42, 3, 16, 15, 182, 1, 30, 60, 42, 3, 17, 3, 231, 182, 1, 30, 61, 42, 42, 180, 0, 33]
abbrev dktX11_putTold_0 : List UInt8 := dkwX11_putTold_0 ++ dktX11_putTold_1
theorem dksX11_putTold_0 : cX11_putTold.data.toList.drop 0 = dktX11_putTold_0 := by decide +kernel
theorem dksX11_putTold_1 : cX11_putTold.data.toList.drop 22 = dktX11_putTold_1 := dk_seg dksX11_putTold_0 22 rfl rfl
theorem dksX11_putTold_2 : cX11_putTold.data.toList.drop 46 = dktX11_putTold_2 := dk_seg dksX11_putTold_1 24 rfl rfl
theorem dksX11_putTold_3 : cX11_putTold.data.toList.drop 70 = dktX11_putTold_3 := dk_seg dksX11_putTold_2 24 rfl rfl
theorem dksX11_putTold_4 : cX11_putTold.data.toList.drop 94 = dktX11_putTold_4 := dk_seg dksX11_putTold_3 24 rfl rfl
theorem dX11_putTold_0 : decode cX11_putTold 0 = .ok (.aload_n 0, 1) := dk_42 (dk_at dksX11_putTold_0 0 rfl rfl)
theorem dX11_putTold_1 : decode cX11_putTold 1 = .ok (.iconst 0, 1) := dk_3 (dk_at dksX11_putTold_0 1 rfl rfl)
theorem dX11_putTold_2 : decode cX11_putTold 2 = .ok (.bipush 15, 2) := dk_16 15 (dk_at dksX11_putTold_0 2 rfl rfl)
theorem dX11_putTold_4 : decode cX11_putTold 4 = .ok (.invokevirtual 286, 3) := dk_182 1 30 (dk_at dksX11_putTold_0 4 rfl rfl)
theorem dX11_putTold_7 : decode cX11_putTold 7 = .ok (.istore_n 1, 1) := dk_60 (dk_at dksX11_putTold_0 7 rfl rfl)
theorem dX11_putTold_8 : decode cX11_putTold 8 = .ok (.aload_n 0, 1) := dk_42 (dk_at dksX11_putTold_0 8 rfl rfl)
theorem dX11_putTold_9 : decode cX11_putTold 9 = .ok (.iconst 0, 1) := dk_3 (dk_at dksX11_putTold_0 9 rfl rfl)
theorem dX11_putTold_10 : decode cX11_putTold 10 = .ok (.sipush 999, 3) := dk_17 3 231 (dk_at dksX11_putTold_0 10 rfl rfl)
theorem dX11_putTold_13 : decode cX11_putTold 13 = .ok (.invokevirtual 286, 3) := dk_182 1 30 (dk_at dksX11_putTold_0 13 rfl rfl)
theorem dX11_putTold_16 : decode cX11_putTold 16 = .ok (.istore_n 2, 1) := dk_61 (dk_at dksX11_putTold_0 16 rfl rfl)
theorem dX11_putTold_17 : decode cX11_putTold 17 = .ok (.aload_n 0, 1) := dk_42 (dk_at dksX11_putTold_0 17 rfl rfl)
theorem dX11_putTold_18 : decode cX11_putTold 18 = .ok (.aload_n 0, 1) := dk_42 (dk_at dksX11_putTold_0 18 rfl rfl)
theorem dX11_putTold_19 : decode cX11_putTold 19 = .ok (.getfield 33, 3) := dk_180 0 33 (dk_at dksX11_putTold_0 19 rfl rfl)
theorem dX11_putTold_22 : decode cX11_putTold 22 = .ok (.invokevirtual 282, 3) := dk_182 1 26 (dk_at dksX11_putTold_1 0 rfl rfl)
theorem dX11_putTold_25 : decode cX11_putTold 25 = .ok (.aload_n 0, 1) := dk_42 (dk_at dksX11_putTold_1 3 rfl rfl)
theorem dX11_putTold_26 : decode cX11_putTold 26 = .ok (.iconst 0, 1) := dk_3 (dk_at dksX11_putTold_1 4 rfl rfl)
theorem dX11_putTold_27 : decode cX11_putTold 27 = .ok (.bipush 40, 2) := dk_16 40 (dk_at dksX11_putTold_1 5 rfl rfl)
theorem dX11_putTold_29 : decode cX11_putTold 29 = .ok (.invokevirtual 286, 3) := dk_182 1 30 (dk_at dksX11_putTold_1 7 rfl rfl)
theorem dX11_putTold_32 : decode cX11_putTold 32 = .ok (.istore_n 3, 1) := dk_62 (dk_at dksX11_putTold_1 10 rfl rfl)
theorem dX11_putTold_33 : decode cX11_putTold 33 = .ok (.aload_n 0, 1) := dk_42 (dk_at dksX11_putTold_1 11 rfl rfl)
theorem dX11_putTold_34 : decode cX11_putTold 34 = .ok (.getfield 232, 3) := dk_180 0 232 (dk_at dksX11_putTold_1 12 rfl rfl)
theorem dX11_putTold_37 : decode cX11_putTold 37 = .ok (.ifCond .eq 4, 3) := dk_153 0 4 (dk_at dksX11_putTold_1 15 rfl rfl)
theorem dX11_putTold_40 : decode cX11_putTold 40 = .ok (.return_, 1) := dk_177 (dk_at dksX11_putTold_1 18 rfl rfl)
theorem dX11_putTold_41 : decode cX11_putTold 41 = .ok (.aload_n 0, 1) := dk_42 (dk_at dksX11_putTold_1 19 rfl rfl)
theorem dX11_putTold_42 : decode cX11_putTold 42 = .ok (.getfield 99, 3) := dk_180 0 99 (dk_at dksX11_putTold_1 20 rfl rfl)
theorem dX11_putTold_45 : decode cX11_putTold 45 = .ok (.iconst 3, 1) := dk_6 (dk_at dksX11_putTold_1 23 rfl rfl)
theorem dX11_putTold_46 : decode cX11_putTold 46 = .ok (.aload_n 0, 1) := dk_42 (dk_at dksX11_putTold_2 0 rfl rfl)
theorem dX11_putTold_47 : decode cX11_putTold 47 = .ok (.getfield 96, 3) := dk_180 0 96 (dk_at dksX11_putTold_2 1 rfl rfl)
theorem dX11_putTold_50 : decode cX11_putTold 50 = .ok (.iconst 3, 1) := dk_6 (dk_at dksX11_putTold_2 4 rfl rfl)
theorem dX11_putTold_51 : decode cX11_putTold 51 = .ok (.iaload, 1) := dk_46 (dk_at dksX11_putTold_2 5 rfl rfl)
theorem dX11_putTold_52 : decode cX11_putTold 52 = .ok (.imul, 1) := dk_104 (dk_at dksX11_putTold_2 6 rfl rfl)
theorem dX11_putTold_53 : decode cX11_putTold 53 = .ok (.iload_n 1, 1) := dk_27 (dk_at dksX11_putTold_2 7 rfl rfl)
theorem dX11_putTold_54 : decode cX11_putTold 54 = .ok (.iastore, 1) := dk_79 (dk_at dksX11_putTold_2 8 rfl rfl)
theorem dX11_putTold_55 : decode cX11_putTold 55 = .ok (.aload_n 0, 1) := dk_42 (dk_at dksX11_putTold_2 9 rfl rfl)
theorem dX11_putTold_56 : decode cX11_putTold 56 = .ok (.getfield 99, 3) := dk_180 0 99 (dk_at dksX11_putTold_2 10 rfl rfl)
theorem dX11_putTold_59 : decode cX11_putTold 59 = .ok (.iconst 3, 1) := dk_6 (dk_at dksX11_putTold_2 13 rfl rfl)
theorem dX11_putTold_60 : decode cX11_putTold 60 = .ok (.aload_n 0, 1) := dk_42 (dk_at dksX11_putTold_2 14 rfl rfl)
theorem dX11_putTold_61 : decode cX11_putTold 61 = .ok (.getfield 96, 3) := dk_180 0 96 (dk_at dksX11_putTold_2 15 rfl rfl)
theorem dX11_putTold_64 : decode cX11_putTold 64 = .ok (.iconst 3, 1) := dk_6 (dk_at dksX11_putTold_2 18 rfl rfl)
theorem dX11_putTold_65 : decode cX11_putTold 65 = .ok (.iaload, 1) := dk_46 (dk_at dksX11_putTold_2 19 rfl rfl)
theorem dX11_putTold_66 : decode cX11_putTold 66 = .ok (.imul, 1) := dk_104 (dk_at dksX11_putTold_2 20 rfl rfl)
theorem dX11_putTold_67 : decode cX11_putTold 67 = .ok (.iconst 1, 1) := dk_4 (dk_at dksX11_putTold_2 21 rfl rfl)
theorem dX11_putTold_68 : decode cX11_putTold 68 = .ok (.iadd, 1) := dk_96 (dk_at dksX11_putTold_2 22 rfl rfl)
theorem dX11_putTold_69 : decode cX11_putTold 69 = .ok (.iload_n 2, 1) := dk_28 (dk_at dksX11_putTold_2 23 rfl rfl)
theorem dX11_putTold_70 : decode cX11_putTold 70 = .ok (.iastore, 1) := dk_79 (dk_at dksX11_putTold_3 0 rfl rfl)
theorem dX11_putTold_71 : decode cX11_putTold 71 = .ok (.aload_n 0, 1) := dk_42 (dk_at dksX11_putTold_3 1 rfl rfl)
theorem dX11_putTold_72 : decode cX11_putTold 72 = .ok (.getfield 99, 3) := dk_180 0 99 (dk_at dksX11_putTold_3 2 rfl rfl)
theorem dX11_putTold_75 : decode cX11_putTold 75 = .ok (.iconst 3, 1) := dk_6 (dk_at dksX11_putTold_3 5 rfl rfl)
theorem dX11_putTold_76 : decode cX11_putTold 76 = .ok (.aload_n 0, 1) := dk_42 (dk_at dksX11_putTold_3 6 rfl rfl)
theorem dX11_putTold_77 : decode cX11_putTold 77 = .ok (.getfield 96, 3) := dk_180 0 96 (dk_at dksX11_putTold_3 7 rfl rfl)
theorem dX11_putTold_80 : decode cX11_putTold 80 = .ok (.iconst 3, 1) := dk_6 (dk_at dksX11_putTold_3 10 rfl rfl)
theorem dX11_putTold_81 : decode cX11_putTold 81 = .ok (.iaload, 1) := dk_46 (dk_at dksX11_putTold_3 11 rfl rfl)
theorem dX11_putTold_82 : decode cX11_putTold 82 = .ok (.imul, 1) := dk_104 (dk_at dksX11_putTold_3 12 rfl rfl)
theorem dX11_putTold_83 : decode cX11_putTold 83 = .ok (.iconst 2, 1) := dk_5 (dk_at dksX11_putTold_3 13 rfl rfl)
theorem dX11_putTold_84 : decode cX11_putTold 84 = .ok (.iadd, 1) := dk_96 (dk_at dksX11_putTold_3 14 rfl rfl)
theorem dX11_putTold_85 : decode cX11_putTold 85 = .ok (.iload_n 3, 1) := dk_29 (dk_at dksX11_putTold_3 15 rfl rfl)
theorem dX11_putTold_86 : decode cX11_putTold 86 = .ok (.iastore, 1) := dk_79 (dk_at dksX11_putTold_3 16 rfl rfl)
theorem dX11_putTold_87 : decode cX11_putTold 87 = .ok (.aload_n 0, 1) := dk_42 (dk_at dksX11_putTold_3 17 rfl rfl)
theorem dX11_putTold_88 : decode cX11_putTold 88 = .ok (.getfield 96, 3) := dk_180 0 96 (dk_at dksX11_putTold_3 18 rfl rfl)
theorem dX11_putTold_91 : decode cX11_putTold 91 = .ok (.iconst 3, 1) := dk_6 (dk_at dksX11_putTold_3 21 rfl rfl)
theorem dX11_putTold_92 : decode cX11_putTold 92 = .ok (.dup2, 1) := dk_92 (dk_at dksX11_putTold_3 22 rfl rfl)
theorem dX11_putTold_93 : decode cX11_putTold 93 = .ok (.iaload, 1) := dk_46 (dk_at dksX11_putTold_3 23 rfl rfl)
theorem dX11_putTold_94 : decode cX11_putTold 94 = .ok (.iconst 1, 1) := dk_4 (dk_at dksX11_putTold_4 0 rfl rfl)
theorem dX11_putTold_95 : decode cX11_putTold 95 = .ok (.iadd, 1) := dk_96 (dk_at dksX11_putTold_4 1 rfl rfl)
theorem dX11_putTold_96 : decode cX11_putTold 96 = .ok (.iastore, 1) := dk_79 (dk_at dksX11_putTold_4 2 rfl rfl)
theorem dX11_putTold_97 : decode cX11_putTold 97 = .ok (.return_, 1) := dk_177 (dk_at dksX11_putTold_4 3 rfl rfl)
abbrev cX11_codesTold : ByteArray := prog_26_method_19_code
def yX11_codesTold : MethodName := ⟨RX11, "codesTold", "(II)V"⟩
def dkwX11_codesTold_5 : List UInt8 := [96, 181, 1, 56, 132, 3, 1, 167, 255, 220, 42, 180, 0, 105, 27, 42, 180, 1, 56, 79, 177]
abbrev dktX11_codesTold_5 : List UInt8 := dkwX11_codesTold_5 ++ []
def dkwX11_codesTold_4 : List UInt8 := [162, 0, 34, 42, 180, 0, 108, 42, 180, 1, 56, 42, 180, 0, 216, 29, 46, 79, 42, 89, 180, 1, 56, 4]
abbrev dktX11_codesTold_4 : List UInt8 := dkwX11_codesTold_4 ++ dktX11_codesTold_5
def dkwX11_codesTold_3 : List UInt8 := [180, 0, 232, 153, 0, 4, 177, 42, 180, 0, 102, 27, 42, 180, 1, 56, 79, 3, 62, 29, 42, 180, 1, 38]
abbrev dktX11_codesTold_3 : List UInt8 := dkwX11_codesTold_3 ++ dktX11_codesTold_4
def dkwX11_codesTold_2 : List UInt8 := [181, 1, 44, 42, 3, 181, 1, 47, 27, 154, 0, 10, 42, 182, 1, 50, 167, 0, 7, 42, 182, 1, 53, 42]
abbrev dktX11_codesTold_2 : List UInt8 := dkwX11_codesTold_2 ++ dktX11_codesTold_3
def dkwX11_codesTold_1 : List UInt8 := [180, 0, 232, 153, 0, 4, 177, 42, 27, 181, 1, 23, 42, 3, 181, 1, 38, 42, 3, 181, 1, 41, 42, 3]
abbrev dktX11_codesTold_1 : List UInt8 := dkwX11_codesTold_1 ++ dktX11_codesTold_2
def dkwX11_codesTold_0 : List UInt8 := [42, 180, 0, 232, 154, 0, 19, 42, 180, 0, 102, 27, 46, 2, 159, 0, 9, 42, 8, 28, 182, 1, 6, 42]
abbrev dktX11_codesTold_0 : List UInt8 := dkwX11_codesTold_0 ++ dktX11_codesTold_1
theorem dksX11_codesTold_0 : cX11_codesTold.data.toList.drop 0 = dktX11_codesTold_0 := by decide +kernel
theorem dksX11_codesTold_1 : cX11_codesTold.data.toList.drop 24 = dktX11_codesTold_1 := dk_seg dksX11_codesTold_0 24 rfl rfl
theorem dksX11_codesTold_2 : cX11_codesTold.data.toList.drop 48 = dktX11_codesTold_2 := dk_seg dksX11_codesTold_1 24 rfl rfl
theorem dksX11_codesTold_3 : cX11_codesTold.data.toList.drop 72 = dktX11_codesTold_3 := dk_seg dksX11_codesTold_2 24 rfl rfl
theorem dksX11_codesTold_4 : cX11_codesTold.data.toList.drop 96 = dktX11_codesTold_4 := dk_seg dksX11_codesTold_3 24 rfl rfl
theorem dksX11_codesTold_5 : cX11_codesTold.data.toList.drop 120 = dktX11_codesTold_5 := dk_seg dksX11_codesTold_4 24 rfl rfl
theorem dX11_codesTold_0 : decode cX11_codesTold 0 = .ok (.aload_n 0, 1) := dk_42 (dk_at dksX11_codesTold_0 0 rfl rfl)
theorem dX11_codesTold_1 : decode cX11_codesTold 1 = .ok (.getfield 232, 3) := dk_180 0 232 (dk_at dksX11_codesTold_0 1 rfl rfl)
theorem dX11_codesTold_4 : decode cX11_codesTold 4 = .ok (.ifCond .ne 19, 3) := dk_154 0 19 (dk_at dksX11_codesTold_0 4 rfl rfl)
theorem dX11_codesTold_7 : decode cX11_codesTold 7 = .ok (.aload_n 0, 1) := dk_42 (dk_at dksX11_codesTold_0 7 rfl rfl)
theorem dX11_codesTold_8 : decode cX11_codesTold 8 = .ok (.getfield 102, 3) := dk_180 0 102 (dk_at dksX11_codesTold_0 8 rfl rfl)
theorem dX11_codesTold_11 : decode cX11_codesTold 11 = .ok (.iload_n 1, 1) := dk_27 (dk_at dksX11_codesTold_0 11 rfl rfl)
theorem dX11_codesTold_12 : decode cX11_codesTold 12 = .ok (.iaload, 1) := dk_46 (dk_at dksX11_codesTold_0 12 rfl rfl)
theorem dX11_codesTold_13 : decode cX11_codesTold 13 = .ok (.iconst (-1), 1) := dk_2 (dk_at dksX11_codesTold_0 13 rfl rfl)
theorem dX11_codesTold_14 : decode cX11_codesTold 14 = .ok (.if_icmp .eq 9, 3) := dk_159 0 9 (dk_at dksX11_codesTold_0 14 rfl rfl)
theorem dX11_codesTold_17 : decode cX11_codesTold 17 = .ok (.aload_n 0, 1) := dk_42 (dk_at dksX11_codesTold_0 17 rfl rfl)
theorem dX11_codesTold_18 : decode cX11_codesTold 18 = .ok (.iconst 5, 1) := dk_8 (dk_at dksX11_codesTold_0 18 rfl rfl)
theorem dX11_codesTold_19 : decode cX11_codesTold 19 = .ok (.iload_n 2, 1) := dk_28 (dk_at dksX11_codesTold_0 19 rfl rfl)
theorem dX11_codesTold_20 : decode cX11_codesTold 20 = .ok (.invokevirtual 262, 3) := dk_182 1 6 (dk_at dksX11_codesTold_0 20 rfl rfl)
theorem dX11_codesTold_23 : decode cX11_codesTold 23 = .ok (.aload_n 0, 1) := dk_42 (dk_at dksX11_codesTold_0 23 rfl rfl)
theorem dX11_codesTold_24 : decode cX11_codesTold 24 = .ok (.getfield 232, 3) := dk_180 0 232 (dk_at dksX11_codesTold_1 0 rfl rfl)
theorem dX11_codesTold_27 : decode cX11_codesTold 27 = .ok (.ifCond .eq 4, 3) := dk_153 0 4 (dk_at dksX11_codesTold_1 3 rfl rfl)
theorem dX11_codesTold_30 : decode cX11_codesTold 30 = .ok (.return_, 1) := dk_177 (dk_at dksX11_codesTold_1 6 rfl rfl)
theorem dX11_codesTold_31 : decode cX11_codesTold 31 = .ok (.aload_n 0, 1) := dk_42 (dk_at dksX11_codesTold_1 7 rfl rfl)
theorem dX11_codesTold_32 : decode cX11_codesTold 32 = .ok (.iload_n 1, 1) := dk_27 (dk_at dksX11_codesTold_1 8 rfl rfl)
theorem dX11_codesTold_33 : decode cX11_codesTold 33 = .ok (.putfield 279, 3) := dk_181 1 23 (dk_at dksX11_codesTold_1 9 rfl rfl)
theorem dX11_codesTold_36 : decode cX11_codesTold 36 = .ok (.aload_n 0, 1) := dk_42 (dk_at dksX11_codesTold_1 12 rfl rfl)
theorem dX11_codesTold_37 : decode cX11_codesTold 37 = .ok (.iconst 0, 1) := dk_3 (dk_at dksX11_codesTold_1 13 rfl rfl)
theorem dX11_codesTold_38 : decode cX11_codesTold 38 = .ok (.putfield 294, 3) := dk_181 1 38 (dk_at dksX11_codesTold_1 14 rfl rfl)
theorem dX11_codesTold_41 : decode cX11_codesTold 41 = .ok (.aload_n 0, 1) := dk_42 (dk_at dksX11_codesTold_1 17 rfl rfl)
theorem dX11_codesTold_42 : decode cX11_codesTold 42 = .ok (.iconst 0, 1) := dk_3 (dk_at dksX11_codesTold_1 18 rfl rfl)
theorem dX11_codesTold_43 : decode cX11_codesTold 43 = .ok (.putfield 297, 3) := dk_181 1 41 (dk_at dksX11_codesTold_1 19 rfl rfl)
theorem dX11_codesTold_46 : decode cX11_codesTold 46 = .ok (.aload_n 0, 1) := dk_42 (dk_at dksX11_codesTold_1 22 rfl rfl)
theorem dX11_codesTold_47 : decode cX11_codesTold 47 = .ok (.iconst 0, 1) := dk_3 (dk_at dksX11_codesTold_1 23 rfl rfl)
theorem dX11_codesTold_48 : decode cX11_codesTold 48 = .ok (.putfield 300, 3) := dk_181 1 44 (dk_at dksX11_codesTold_2 0 rfl rfl)
theorem dX11_codesTold_51 : decode cX11_codesTold 51 = .ok (.aload_n 0, 1) := dk_42 (dk_at dksX11_codesTold_2 3 rfl rfl)
theorem dX11_codesTold_52 : decode cX11_codesTold 52 = .ok (.iconst 0, 1) := dk_3 (dk_at dksX11_codesTold_2 4 rfl rfl)
theorem dX11_codesTold_53 : decode cX11_codesTold 53 = .ok (.putfield 303, 3) := dk_181 1 47 (dk_at dksX11_codesTold_2 5 rfl rfl)
theorem dX11_codesTold_56 : decode cX11_codesTold 56 = .ok (.iload_n 1, 1) := dk_27 (dk_at dksX11_codesTold_2 8 rfl rfl)
theorem dX11_codesTold_57 : decode cX11_codesTold 57 = .ok (.ifCond .ne 10, 3) := dk_154 0 10 (dk_at dksX11_codesTold_2 9 rfl rfl)
theorem dX11_codesTold_60 : decode cX11_codesTold 60 = .ok (.aload_n 0, 1) := dk_42 (dk_at dksX11_codesTold_2 12 rfl rfl)
theorem dX11_codesTold_61 : decode cX11_codesTold 61 = .ok (.invokevirtual 306, 3) := dk_182 1 50 (dk_at dksX11_codesTold_2 13 rfl rfl)
theorem dX11_codesTold_64 : decode cX11_codesTold 64 = .ok (.goto 7, 3) := dk_167 0 7 (dk_at dksX11_codesTold_2 16 rfl rfl)
theorem dX11_codesTold_67 : decode cX11_codesTold 67 = .ok (.aload_n 0, 1) := dk_42 (dk_at dksX11_codesTold_2 19 rfl rfl)
theorem dX11_codesTold_68 : decode cX11_codesTold 68 = .ok (.invokevirtual 309, 3) := dk_182 1 53 (dk_at dksX11_codesTold_2 20 rfl rfl)
theorem dX11_codesTold_71 : decode cX11_codesTold 71 = .ok (.aload_n 0, 1) := dk_42 (dk_at dksX11_codesTold_2 23 rfl rfl)
theorem dX11_codesTold_72 : decode cX11_codesTold 72 = .ok (.getfield 232, 3) := dk_180 0 232 (dk_at dksX11_codesTold_3 0 rfl rfl)
theorem dX11_codesTold_75 : decode cX11_codesTold 75 = .ok (.ifCond .eq 4, 3) := dk_153 0 4 (dk_at dksX11_codesTold_3 3 rfl rfl)
theorem dX11_codesTold_78 : decode cX11_codesTold 78 = .ok (.return_, 1) := dk_177 (dk_at dksX11_codesTold_3 6 rfl rfl)
theorem dX11_codesTold_79 : decode cX11_codesTold 79 = .ok (.aload_n 0, 1) := dk_42 (dk_at dksX11_codesTold_3 7 rfl rfl)
theorem dX11_codesTold_80 : decode cX11_codesTold 80 = .ok (.getfield 102, 3) := dk_180 0 102 (dk_at dksX11_codesTold_3 8 rfl rfl)
theorem dX11_codesTold_83 : decode cX11_codesTold 83 = .ok (.iload_n 1, 1) := dk_27 (dk_at dksX11_codesTold_3 11 rfl rfl)
theorem dX11_codesTold_84 : decode cX11_codesTold 84 = .ok (.aload_n 0, 1) := dk_42 (dk_at dksX11_codesTold_3 12 rfl rfl)
theorem dX11_codesTold_85 : decode cX11_codesTold 85 = .ok (.getfield 312, 3) := dk_180 1 56 (dk_at dksX11_codesTold_3 13 rfl rfl)
theorem dX11_codesTold_88 : decode cX11_codesTold 88 = .ok (.iastore, 1) := dk_79 (dk_at dksX11_codesTold_3 16 rfl rfl)
theorem dX11_codesTold_89 : decode cX11_codesTold 89 = .ok (.iconst 0, 1) := dk_3 (dk_at dksX11_codesTold_3 17 rfl rfl)
theorem dX11_codesTold_90 : decode cX11_codesTold 90 = .ok (.istore_n 3, 1) := dk_62 (dk_at dksX11_codesTold_3 18 rfl rfl)
theorem dX11_codesTold_91 : decode cX11_codesTold 91 = .ok (.iload_n 3, 1) := dk_29 (dk_at dksX11_codesTold_3 19 rfl rfl)
theorem dX11_codesTold_92 : decode cX11_codesTold 92 = .ok (.aload_n 0, 1) := dk_42 (dk_at dksX11_codesTold_3 20 rfl rfl)
theorem dX11_codesTold_93 : decode cX11_codesTold 93 = .ok (.getfield 294, 3) := dk_180 1 38 (dk_at dksX11_codesTold_3 21 rfl rfl)
theorem dX11_codesTold_96 : decode cX11_codesTold 96 = .ok (.if_icmp .ge 34, 3) := dk_162 0 34 (dk_at dksX11_codesTold_4 0 rfl rfl)
theorem dX11_codesTold_99 : decode cX11_codesTold 99 = .ok (.aload_n 0, 1) := dk_42 (dk_at dksX11_codesTold_4 3 rfl rfl)
theorem dX11_codesTold_100 : decode cX11_codesTold 100 = .ok (.getfield 108, 3) := dk_180 0 108 (dk_at dksX11_codesTold_4 4 rfl rfl)
theorem dX11_codesTold_103 : decode cX11_codesTold 103 = .ok (.aload_n 0, 1) := dk_42 (dk_at dksX11_codesTold_4 7 rfl rfl)
theorem dX11_codesTold_104 : decode cX11_codesTold 104 = .ok (.getfield 312, 3) := dk_180 1 56 (dk_at dksX11_codesTold_4 8 rfl rfl)
theorem dX11_codesTold_107 : decode cX11_codesTold 107 = .ok (.aload_n 0, 1) := dk_42 (dk_at dksX11_codesTold_4 11 rfl rfl)
theorem dX11_codesTold_108 : decode cX11_codesTold 108 = .ok (.getfield 216, 3) := dk_180 0 216 (dk_at dksX11_codesTold_4 12 rfl rfl)
theorem dX11_codesTold_111 : decode cX11_codesTold 111 = .ok (.iload_n 3, 1) := dk_29 (dk_at dksX11_codesTold_4 15 rfl rfl)
theorem dX11_codesTold_112 : decode cX11_codesTold 112 = .ok (.iaload, 1) := dk_46 (dk_at dksX11_codesTold_4 16 rfl rfl)
theorem dX11_codesTold_113 : decode cX11_codesTold 113 = .ok (.iastore, 1) := dk_79 (dk_at dksX11_codesTold_4 17 rfl rfl)
theorem dX11_codesTold_114 : decode cX11_codesTold 114 = .ok (.aload_n 0, 1) := dk_42 (dk_at dksX11_codesTold_4 18 rfl rfl)
theorem dX11_codesTold_115 : decode cX11_codesTold 115 = .ok (.dup, 1) := dk_89 (dk_at dksX11_codesTold_4 19 rfl rfl)
theorem dX11_codesTold_116 : decode cX11_codesTold 116 = .ok (.getfield 312, 3) := dk_180 1 56 (dk_at dksX11_codesTold_4 20 rfl rfl)
theorem dX11_codesTold_119 : decode cX11_codesTold 119 = .ok (.iconst 1, 1) := dk_4 (dk_at dksX11_codesTold_4 23 rfl rfl)
theorem dX11_codesTold_120 : decode cX11_codesTold 120 = .ok (.iadd, 1) := dk_96 (dk_at dksX11_codesTold_5 0 rfl rfl)
theorem dX11_codesTold_121 : decode cX11_codesTold 121 = .ok (.putfield 312, 3) := dk_181 1 56 (dk_at dksX11_codesTold_5 1 rfl rfl)
theorem dX11_codesTold_124 : decode cX11_codesTold 124 = .ok (.iinc 3 1, 3) := dk_132 3 1 (dk_at dksX11_codesTold_5 4 rfl rfl)
theorem dX11_codesTold_127 : decode cX11_codesTold 127 = .ok (.goto (-36), 3) := dk_167 255 220 (dk_at dksX11_codesTold_5 7 rfl rfl)
theorem dX11_codesTold_130 : decode cX11_codesTold 130 = .ok (.aload_n 0, 1) := dk_42 (dk_at dksX11_codesTold_5 10 rfl rfl)
theorem dX11_codesTold_131 : decode cX11_codesTold 131 = .ok (.getfield 105, 3) := dk_180 0 105 (dk_at dksX11_codesTold_5 11 rfl rfl)
theorem dX11_codesTold_134 : decode cX11_codesTold 134 = .ok (.iload_n 1, 1) := dk_27 (dk_at dksX11_codesTold_5 14 rfl rfl)
theorem dX11_codesTold_135 : decode cX11_codesTold 135 = .ok (.aload_n 0, 1) := dk_42 (dk_at dksX11_codesTold_5 15 rfl rfl)
theorem dX11_codesTold_136 : decode cX11_codesTold 136 = .ok (.getfield 312, 3) := dk_180 1 56 (dk_at dksX11_codesTold_5 16 rfl rfl)
theorem dX11_codesTold_139 : decode cX11_codesTold 139 = .ok (.iastore, 1) := dk_79 (dk_at dksX11_codesTold_5 19 rfl rfl)
theorem dX11_codesTold_140 : decode cX11_codesTold 140 = .ok (.return_, 1) := dk_177 (dk_at dksX11_codesTold_5 20 rfl rfl)
abbrev cX11_qTest : ByteArray := prog_26_method_140_code
def yX11_qTest : MethodName := ⟨RX11, "qTest", "()V"⟩
def dkwX11_qTest_5 : List UInt8 := [180, 1, 41, 158, 0, 10, 42, 182, 2, 150, 167, 255, 238, 177]
abbrev dktX11_qTest_5 : List UInt8 := dkwX11_qTest_5 ++ []
def dkwX11_qTest_4 : List UInt8 := [42, 182, 2, 192, 153, 0, 7, 4, 167, 0, 4, 3, 60, 167, 255, 151, 42, 180, 0, 232, 154, 0, 17, 42]
abbrev dktX11_qTest_4 : List UInt8 := dkwX11_qTest_4 ++ dktX11_qTest_5
def dkwX11_qTest_3 : List UInt8 := [180, 0, 168, 182, 1, 26, 167, 255, 182, 42, 182, 2, 186, 42, 182, 2, 189, 42, 180, 0, 232, 154, 0, 14]
abbrev dktX11_qTest_3 : List UInt8 := dkwX11_qTest_3 ++ dktX11_qTest_4
def dkwX11_qTest_2 : List UInt8 := [42, 180, 0, 168, 182, 0, 255, 153, 0, 24, 42, 16, 12, 42, 180, 0, 238, 182, 2, 162, 42, 42]
abbrev dktX11_qTest_2 : List UInt8 := dkwX11_qTest_2 ++ dktX11_qTest_3
def dkwX11_qTest_1 : List UInt8 := [42, 16, 25, 42, 180, 0, 238, 182, 2, 162, 42, 89, 180, 0, 238, 4, 96, 181, 0, 238, 167, 255, 214, 42]
abbrev dktX11_qTest_1 : List UInt8 := dkwX11_qTest_1 ++ dktX11_qTest_2
def dkwX11_qTest_0 : List UInt8 := [4, 60, 27, 153, 0, 107, 42, 180, 0, 232, 154, 0, 100, 42, 182, 0, 244, 61, 28, 16, 91, 160, 0, 26]
abbrev dktX11_qTest_0 : List UInt8 := dkwX11_qTest_0 ++ dktX11_qTest_1
theorem dksX11_qTest_0 : cX11_qTest.data.toList.drop 0 = dktX11_qTest_0 := by decide +kernel
theorem dksX11_qTest_1 : cX11_qTest.data.toList.drop 24 = dktX11_qTest_1 := dk_seg dksX11_qTest_0 24 rfl rfl
theorem dksX11_qTest_2 : cX11_qTest.data.toList.drop 48 = dktX11_qTest_2 := dk_seg dksX11_qTest_1 24 rfl rfl
theorem dksX11_qTest_3 : cX11_qTest.data.toList.drop 70 = dktX11_qTest_3 := dk_seg dksX11_qTest_2 22 rfl rfl
theorem dksX11_qTest_4 : cX11_qTest.data.toList.drop 94 = dktX11_qTest_4 := dk_seg dksX11_qTest_3 24 rfl rfl
theorem dksX11_qTest_5 : cX11_qTest.data.toList.drop 118 = dktX11_qTest_5 := dk_seg dksX11_qTest_4 24 rfl rfl
theorem dX11_qTest_0 : decode cX11_qTest 0 = .ok (.iconst 1, 1) := dk_4 (dk_at dksX11_qTest_0 0 rfl rfl)
theorem dX11_qTest_1 : decode cX11_qTest 1 = .ok (.istore_n 1, 1) := dk_60 (dk_at dksX11_qTest_0 1 rfl rfl)
theorem dX11_qTest_2 : decode cX11_qTest 2 = .ok (.iload_n 1, 1) := dk_27 (dk_at dksX11_qTest_0 2 rfl rfl)
theorem dX11_qTest_3 : decode cX11_qTest 3 = .ok (.ifCond .eq 107, 3) := dk_153 0 107 (dk_at dksX11_qTest_0 3 rfl rfl)
theorem dX11_qTest_6 : decode cX11_qTest 6 = .ok (.aload_n 0, 1) := dk_42 (dk_at dksX11_qTest_0 6 rfl rfl)
theorem dX11_qTest_7 : decode cX11_qTest 7 = .ok (.getfield 232, 3) := dk_180 0 232 (dk_at dksX11_qTest_0 7 rfl rfl)
theorem dX11_qTest_10 : decode cX11_qTest 10 = .ok (.ifCond .ne 100, 3) := dk_154 0 100 (dk_at dksX11_qTest_0 10 rfl rfl)
theorem dX11_qTest_13 : decode cX11_qTest 13 = .ok (.aload_n 0, 1) := dk_42 (dk_at dksX11_qTest_0 13 rfl rfl)
theorem dX11_qTest_14 : decode cX11_qTest 14 = .ok (.invokevirtual 244, 3) := dk_182 0 244 (dk_at dksX11_qTest_0 14 rfl rfl)
theorem dX11_qTest_17 : decode cX11_qTest 17 = .ok (.istore_n 2, 1) := dk_61 (dk_at dksX11_qTest_0 17 rfl rfl)
theorem dX11_qTest_18 : decode cX11_qTest 18 = .ok (.iload_n 2, 1) := dk_28 (dk_at dksX11_qTest_0 18 rfl rfl)
theorem dX11_qTest_19 : decode cX11_qTest 19 = .ok (.bipush 91, 2) := dk_16 91 (dk_at dksX11_qTest_0 19 rfl rfl)
theorem dX11_qTest_21 : decode cX11_qTest 21 = .ok (.if_icmp .ne 26, 3) := dk_160 0 26 (dk_at dksX11_qTest_0 21 rfl rfl)
theorem dX11_qTest_24 : decode cX11_qTest 24 = .ok (.aload_n 0, 1) := dk_42 (dk_at dksX11_qTest_1 0 rfl rfl)
theorem dX11_qTest_25 : decode cX11_qTest 25 = .ok (.bipush 25, 2) := dk_16 25 (dk_at dksX11_qTest_1 1 rfl rfl)
theorem dX11_qTest_27 : decode cX11_qTest 27 = .ok (.aload_n 0, 1) := dk_42 (dk_at dksX11_qTest_1 3 rfl rfl)
theorem dX11_qTest_28 : decode cX11_qTest 28 = .ok (.getfield 238, 3) := dk_180 0 238 (dk_at dksX11_qTest_1 4 rfl rfl)
theorem dX11_qTest_31 : decode cX11_qTest 31 = .ok (.invokevirtual 674, 3) := dk_182 2 162 (dk_at dksX11_qTest_1 7 rfl rfl)
theorem dX11_qTest_34 : decode cX11_qTest 34 = .ok (.aload_n 0, 1) := dk_42 (dk_at dksX11_qTest_1 10 rfl rfl)
theorem dX11_qTest_35 : decode cX11_qTest 35 = .ok (.dup, 1) := dk_89 (dk_at dksX11_qTest_1 11 rfl rfl)
theorem dX11_qTest_36 : decode cX11_qTest 36 = .ok (.getfield 238, 3) := dk_180 0 238 (dk_at dksX11_qTest_1 12 rfl rfl)
theorem dX11_qTest_39 : decode cX11_qTest 39 = .ok (.iconst 1, 1) := dk_4 (dk_at dksX11_qTest_1 15 rfl rfl)
theorem dX11_qTest_40 : decode cX11_qTest 40 = .ok (.iadd, 1) := dk_96 (dk_at dksX11_qTest_1 16 rfl rfl)
theorem dX11_qTest_41 : decode cX11_qTest 41 = .ok (.putfield 238, 3) := dk_181 0 238 (dk_at dksX11_qTest_1 17 rfl rfl)
theorem dX11_qTest_44 : decode cX11_qTest 44 = .ok (.goto (-42), 3) := dk_167 255 214 (dk_at dksX11_qTest_1 20 rfl rfl)
theorem dX11_qTest_47 : decode cX11_qTest 47 = .ok (.aload_n 0, 1) := dk_42 (dk_at dksX11_qTest_1 23 rfl rfl)
theorem dX11_qTest_48 : decode cX11_qTest 48 = .ok (.aload_n 0, 1) := dk_42 (dk_at dksX11_qTest_2 0 rfl rfl)
theorem dX11_qTest_49 : decode cX11_qTest 49 = .ok (.getfield 168, 3) := dk_180 0 168 (dk_at dksX11_qTest_2 1 rfl rfl)
theorem dX11_qTest_52 : decode cX11_qTest 52 = .ok (.invokevirtual 255, 3) := dk_182 0 255 (dk_at dksX11_qTest_2 4 rfl rfl)
theorem dX11_qTest_55 : decode cX11_qTest 55 = .ok (.ifCond .eq 24, 3) := dk_153 0 24 (dk_at dksX11_qTest_2 7 rfl rfl)
theorem dX11_qTest_58 : decode cX11_qTest 58 = .ok (.aload_n 0, 1) := dk_42 (dk_at dksX11_qTest_2 10 rfl rfl)
theorem dX11_qTest_59 : decode cX11_qTest 59 = .ok (.bipush 12, 2) := dk_16 12 (dk_at dksX11_qTest_2 11 rfl rfl)
theorem dX11_qTest_61 : decode cX11_qTest 61 = .ok (.aload_n 0, 1) := dk_42 (dk_at dksX11_qTest_2 13 rfl rfl)
theorem dX11_qTest_62 : decode cX11_qTest 62 = .ok (.getfield 238, 3) := dk_180 0 238 (dk_at dksX11_qTest_2 14 rfl rfl)
theorem dX11_qTest_65 : decode cX11_qTest 65 = .ok (.invokevirtual 674, 3) := dk_182 2 162 (dk_at dksX11_qTest_2 17 rfl rfl)
theorem dX11_qTest_68 : decode cX11_qTest 68 = .ok (.aload_n 0, 1) := dk_42 (dk_at dksX11_qTest_2 20 rfl rfl)
theorem dX11_qTest_69 : decode cX11_qTest 69 = .ok (.aload_n 0, 1) := dk_42 (dk_at dksX11_qTest_2 21 rfl rfl)
theorem dX11_qTest_70 : decode cX11_qTest 70 = .ok (.getfield 168, 3) := dk_180 0 168 (dk_at dksX11_qTest_3 0 rfl rfl)
theorem dX11_qTest_73 : decode cX11_qTest 73 = .ok (.invokevirtual 282, 3) := dk_182 1 26 (dk_at dksX11_qTest_3 3 rfl rfl)
theorem dX11_qTest_76 : decode cX11_qTest 76 = .ok (.goto (-74), 3) := dk_167 255 182 (dk_at dksX11_qTest_3 6 rfl rfl)
theorem dX11_qTest_79 : decode cX11_qTest 79 = .ok (.aload_n 0, 1) := dk_42 (dk_at dksX11_qTest_3 9 rfl rfl)
theorem dX11_qTest_80 : decode cX11_qTest 80 = .ok (.invokevirtual 698, 3) := dk_182 2 186 (dk_at dksX11_qTest_3 10 rfl rfl)
theorem dX11_qTest_83 : decode cX11_qTest 83 = .ok (.aload_n 0, 1) := dk_42 (dk_at dksX11_qTest_3 13 rfl rfl)
theorem dX11_qTest_84 : decode cX11_qTest 84 = .ok (.invokevirtual 701, 3) := dk_182 2 189 (dk_at dksX11_qTest_3 14 rfl rfl)
theorem dX11_qTest_87 : decode cX11_qTest 87 = .ok (.aload_n 0, 1) := dk_42 (dk_at dksX11_qTest_3 17 rfl rfl)
theorem dX11_qTest_88 : decode cX11_qTest 88 = .ok (.getfield 232, 3) := dk_180 0 232 (dk_at dksX11_qTest_3 18 rfl rfl)
theorem dX11_qTest_91 : decode cX11_qTest 91 = .ok (.ifCond .ne 14, 3) := dk_154 0 14 (dk_at dksX11_qTest_3 21 rfl rfl)
theorem dX11_qTest_94 : decode cX11_qTest 94 = .ok (.aload_n 0, 1) := dk_42 (dk_at dksX11_qTest_4 0 rfl rfl)
theorem dX11_qTest_95 : decode cX11_qTest 95 = .ok (.invokevirtual 704, 3) := dk_182 2 192 (dk_at dksX11_qTest_4 1 rfl rfl)
theorem dX11_qTest_98 : decode cX11_qTest 98 = .ok (.ifCond .eq 7, 3) := dk_153 0 7 (dk_at dksX11_qTest_4 4 rfl rfl)
theorem dX11_qTest_101 : decode cX11_qTest 101 = .ok (.iconst 1, 1) := dk_4 (dk_at dksX11_qTest_4 7 rfl rfl)
theorem dX11_qTest_102 : decode cX11_qTest 102 = .ok (.goto 4, 3) := dk_167 0 4 (dk_at dksX11_qTest_4 8 rfl rfl)
theorem dX11_qTest_105 : decode cX11_qTest 105 = .ok (.iconst 0, 1) := dk_3 (dk_at dksX11_qTest_4 11 rfl rfl)
theorem dX11_qTest_106 : decode cX11_qTest 106 = .ok (.istore_n 1, 1) := dk_60 (dk_at dksX11_qTest_4 12 rfl rfl)
theorem dX11_qTest_107 : decode cX11_qTest 107 = .ok (.goto (-105), 3) := dk_167 255 151 (dk_at dksX11_qTest_4 13 rfl rfl)
theorem dX11_qTest_110 : decode cX11_qTest 110 = .ok (.aload_n 0, 1) := dk_42 (dk_at dksX11_qTest_4 16 rfl rfl)
theorem dX11_qTest_111 : decode cX11_qTest 111 = .ok (.getfield 232, 3) := dk_180 0 232 (dk_at dksX11_qTest_4 17 rfl rfl)
theorem dX11_qTest_114 : decode cX11_qTest 114 = .ok (.ifCond .ne 17, 3) := dk_154 0 17 (dk_at dksX11_qTest_4 20 rfl rfl)
theorem dX11_qTest_117 : decode cX11_qTest 117 = .ok (.aload_n 0, 1) := dk_42 (dk_at dksX11_qTest_4 23 rfl rfl)
theorem dX11_qTest_118 : decode cX11_qTest 118 = .ok (.getfield 297, 3) := dk_180 1 41 (dk_at dksX11_qTest_5 0 rfl rfl)
theorem dX11_qTest_121 : decode cX11_qTest 121 = .ok (.ifCond .le 10, 3) := dk_158 0 10 (dk_at dksX11_qTest_5 3 rfl rfl)
theorem dX11_qTest_124 : decode cX11_qTest 124 = .ok (.aload_n 0, 1) := dk_42 (dk_at dksX11_qTest_5 6 rfl rfl)
theorem dX11_qTest_125 : decode cX11_qTest 125 = .ok (.invokevirtual 662, 3) := dk_182 2 150 (dk_at dksX11_qTest_5 7 rfl rfl)
theorem dX11_qTest_128 : decode cX11_qTest 128 = .ok (.goto (-18), 3) := dk_167 255 238 (dk_at dksX11_qTest_5 10 rfl rfl)
theorem dX11_qTest_131 : decode cX11_qTest 131 = .ok (.return_, 1) := dk_177 (dk_at dksX11_qTest_5 13 rfl rfl)
abbrev cX11_qOpens : ByteArray := prog_26_method_124_code
def yX11_qOpens : MethodName := ⟨RX11, "qOpens", "(II)V"⟩
def dkwX11_qOpens_2 : List UInt8 := [180, 1, 41, 4, 96, 181, 1, 41, 177]
abbrev dktX11_qOpens_2 : List UInt8 := dkwX11_qOpens_2 ++ []
def dkwX11_qOpens_1 : List UInt8 := [42, 89, 180, 1, 44, 4, 96, 181, 1, 44, 42, 180, 0, 219, 42, 180, 1, 41, 27, 79, 42, 89]
abbrev dktX11_qOpens_1 : List UInt8 := dkwX11_qOpens_1 ++ dktX11_qOpens_2
def dkwX11_qOpens_0 : List UInt8 := [42, 180, 0, 232, 153, 0, 4, 177, 42, 180, 1, 44, 16, 6, 160, 0, 10, 42, 7, 28, 182, 1, 6, 177]
abbrev dktX11_qOpens_0 : List UInt8 := dkwX11_qOpens_0 ++ dktX11_qOpens_1
theorem dksX11_qOpens_0 : cX11_qOpens.data.toList.drop 0 = dktX11_qOpens_0 := by decide +kernel
theorem dksX11_qOpens_1 : cX11_qOpens.data.toList.drop 24 = dktX11_qOpens_1 := dk_seg dksX11_qOpens_0 24 rfl rfl
theorem dksX11_qOpens_2 : cX11_qOpens.data.toList.drop 46 = dktX11_qOpens_2 := dk_seg dksX11_qOpens_1 22 rfl rfl
theorem dX11_qOpens_0 : decode cX11_qOpens 0 = .ok (.aload_n 0, 1) := dk_42 (dk_at dksX11_qOpens_0 0 rfl rfl)
theorem dX11_qOpens_1 : decode cX11_qOpens 1 = .ok (.getfield 232, 3) := dk_180 0 232 (dk_at dksX11_qOpens_0 1 rfl rfl)
theorem dX11_qOpens_4 : decode cX11_qOpens 4 = .ok (.ifCond .eq 4, 3) := dk_153 0 4 (dk_at dksX11_qOpens_0 4 rfl rfl)
theorem dX11_qOpens_7 : decode cX11_qOpens 7 = .ok (.return_, 1) := dk_177 (dk_at dksX11_qOpens_0 7 rfl rfl)
theorem dX11_qOpens_8 : decode cX11_qOpens 8 = .ok (.aload_n 0, 1) := dk_42 (dk_at dksX11_qOpens_0 8 rfl rfl)
theorem dX11_qOpens_9 : decode cX11_qOpens 9 = .ok (.getfield 300, 3) := dk_180 1 44 (dk_at dksX11_qOpens_0 9 rfl rfl)
theorem dX11_qOpens_12 : decode cX11_qOpens 12 = .ok (.bipush 6, 2) := dk_16 6 (dk_at dksX11_qOpens_0 12 rfl rfl)
theorem dX11_qOpens_14 : decode cX11_qOpens 14 = .ok (.if_icmp .ne 10, 3) := dk_160 0 10 (dk_at dksX11_qOpens_0 14 rfl rfl)
theorem dX11_qOpens_17 : decode cX11_qOpens 17 = .ok (.aload_n 0, 1) := dk_42 (dk_at dksX11_qOpens_0 17 rfl rfl)
theorem dX11_qOpens_18 : decode cX11_qOpens 18 = .ok (.iconst 4, 1) := dk_7 (dk_at dksX11_qOpens_0 18 rfl rfl)
theorem dX11_qOpens_19 : decode cX11_qOpens 19 = .ok (.iload_n 2, 1) := dk_28 (dk_at dksX11_qOpens_0 19 rfl rfl)
theorem dX11_qOpens_20 : decode cX11_qOpens 20 = .ok (.invokevirtual 262, 3) := dk_182 1 6 (dk_at dksX11_qOpens_0 20 rfl rfl)
theorem dX11_qOpens_23 : decode cX11_qOpens 23 = .ok (.return_, 1) := dk_177 (dk_at dksX11_qOpens_0 23 rfl rfl)
theorem dX11_qOpens_24 : decode cX11_qOpens 24 = .ok (.aload_n 0, 1) := dk_42 (dk_at dksX11_qOpens_1 0 rfl rfl)
theorem dX11_qOpens_25 : decode cX11_qOpens 25 = .ok (.dup, 1) := dk_89 (dk_at dksX11_qOpens_1 1 rfl rfl)
theorem dX11_qOpens_26 : decode cX11_qOpens 26 = .ok (.getfield 300, 3) := dk_180 1 44 (dk_at dksX11_qOpens_1 2 rfl rfl)
theorem dX11_qOpens_29 : decode cX11_qOpens 29 = .ok (.iconst 1, 1) := dk_4 (dk_at dksX11_qOpens_1 5 rfl rfl)
theorem dX11_qOpens_30 : decode cX11_qOpens 30 = .ok (.iadd, 1) := dk_96 (dk_at dksX11_qOpens_1 6 rfl rfl)
theorem dX11_qOpens_31 : decode cX11_qOpens 31 = .ok (.putfield 300, 3) := dk_181 1 44 (dk_at dksX11_qOpens_1 7 rfl rfl)
theorem dX11_qOpens_34 : decode cX11_qOpens 34 = .ok (.aload_n 0, 1) := dk_42 (dk_at dksX11_qOpens_1 10 rfl rfl)
theorem dX11_qOpens_35 : decode cX11_qOpens 35 = .ok (.getfield 219, 3) := dk_180 0 219 (dk_at dksX11_qOpens_1 11 rfl rfl)
theorem dX11_qOpens_38 : decode cX11_qOpens 38 = .ok (.aload_n 0, 1) := dk_42 (dk_at dksX11_qOpens_1 14 rfl rfl)
theorem dX11_qOpens_39 : decode cX11_qOpens 39 = .ok (.getfield 297, 3) := dk_180 1 41 (dk_at dksX11_qOpens_1 15 rfl rfl)
theorem dX11_qOpens_42 : decode cX11_qOpens 42 = .ok (.iload_n 1, 1) := dk_27 (dk_at dksX11_qOpens_1 18 rfl rfl)
theorem dX11_qOpens_43 : decode cX11_qOpens 43 = .ok (.iastore, 1) := dk_79 (dk_at dksX11_qOpens_1 19 rfl rfl)
theorem dX11_qOpens_44 : decode cX11_qOpens 44 = .ok (.aload_n 0, 1) := dk_42 (dk_at dksX11_qOpens_1 20 rfl rfl)
theorem dX11_qOpens_45 : decode cX11_qOpens 45 = .ok (.dup, 1) := dk_89 (dk_at dksX11_qOpens_1 21 rfl rfl)
theorem dX11_qOpens_46 : decode cX11_qOpens 46 = .ok (.getfield 297, 3) := dk_180 1 41 (dk_at dksX11_qOpens_2 0 rfl rfl)
theorem dX11_qOpens_49 : decode cX11_qOpens 49 = .ok (.iconst 1, 1) := dk_4 (dk_at dksX11_qOpens_2 3 rfl rfl)
theorem dX11_qOpens_50 : decode cX11_qOpens 50 = .ok (.iadd, 1) := dk_96 (dk_at dksX11_qOpens_2 4 rfl rfl)
theorem dX11_qOpens_51 : decode cX11_qOpens 51 = .ok (.putfield 297, 3) := dk_181 1 41 (dk_at dksX11_qOpens_2 5 rfl rfl)
theorem dX11_qOpens_54 : decode cX11_qOpens 54 = .ok (.return_, 1) := dk_177 (dk_at dksX11_qOpens_2 8 rfl rfl)
abbrev cX11_qFact : ByteArray := prog_26_method_137_code
def yX11_qFact : MethodName := ⟨RX11, "qFact", "()V"⟩
def dkwX11_qFact_4 : List UInt8 := [160, 0, 8, 16, 8, 167, 0, 5, 16, 9, 182, 2, 144, 177]
abbrev dktX11_qFact_4 : List UInt8 := dkwX11_qFact_4 ++ []
def dkwX11_qFact_3 : List UInt8 := [181, 0, 238, 42, 182, 1, 53, 42, 27, 16, 60, 160, 0, 8, 16, 7, 167, 0, 16, 27, 16, 62]
abbrev dktX11_qFact_3 : List UInt8 := dkwX11_qFact_3 ++ dktX11_qFact_4
def dkwX11_qFact_2 : List UInt8 := [27, 16, 61, 159, 0, 13, 42, 4, 42, 180, 0, 238, 182, 1, 6, 177, 42, 89, 180, 0, 238, 4, 96]
abbrev dktX11_qFact_2 : List UInt8 := dkwX11_qFact_2 ++ dktX11_qFact_3
def dkwX11_qFact_1 : List UInt8 := [180, 0, 232, 153, 0, 4, 177, 42, 182, 0, 244, 60, 27, 16, 60, 159, 0, 25, 27, 16, 62, 159, 0, 19]
abbrev dktX11_qFact_1 : List UInt8 := dkwX11_qFact_1 ++ dktX11_qFact_2
def dkwX11_qFact_0 : List UInt8 := [42, 42, 180, 0, 177, 182, 1, 3, 153, 0, 10, 42, 16, 13, 182, 2, 144, 177, 42, 182, 1, 53, 42]
abbrev dktX11_qFact_0 : List UInt8 := dkwX11_qFact_0 ++ dktX11_qFact_1
theorem dksX11_qFact_0 : cX11_qFact.data.toList.drop 0 = dktX11_qFact_0 := by decide +kernel
theorem dksX11_qFact_1 : cX11_qFact.data.toList.drop 23 = dktX11_qFact_1 := dk_seg dksX11_qFact_0 23 rfl rfl
theorem dksX11_qFact_2 : cX11_qFact.data.toList.drop 47 = dktX11_qFact_2 := dk_seg dksX11_qFact_1 24 rfl rfl
theorem dksX11_qFact_3 : cX11_qFact.data.toList.drop 70 = dktX11_qFact_3 := dk_seg dksX11_qFact_2 23 rfl rfl
theorem dksX11_qFact_4 : cX11_qFact.data.toList.drop 92 = dktX11_qFact_4 := dk_seg dksX11_qFact_3 22 rfl rfl
theorem dX11_qFact_0 : decode cX11_qFact 0 = .ok (.aload_n 0, 1) := dk_42 (dk_at dksX11_qFact_0 0 rfl rfl)
theorem dX11_qFact_1 : decode cX11_qFact 1 = .ok (.aload_n 0, 1) := dk_42 (dk_at dksX11_qFact_0 1 rfl rfl)
theorem dX11_qFact_2 : decode cX11_qFact 2 = .ok (.getfield 177, 3) := dk_180 0 177 (dk_at dksX11_qFact_0 2 rfl rfl)
theorem dX11_qFact_5 : decode cX11_qFact 5 = .ok (.invokevirtual 259, 3) := dk_182 1 3 (dk_at dksX11_qFact_0 5 rfl rfl)
theorem dX11_qFact_8 : decode cX11_qFact 8 = .ok (.ifCond .eq 10, 3) := dk_153 0 10 (dk_at dksX11_qFact_0 8 rfl rfl)
theorem dX11_qFact_11 : decode cX11_qFact 11 = .ok (.aload_n 0, 1) := dk_42 (dk_at dksX11_qFact_0 11 rfl rfl)
theorem dX11_qFact_12 : decode cX11_qFact 12 = .ok (.bipush 13, 2) := dk_16 13 (dk_at dksX11_qFact_0 12 rfl rfl)
theorem dX11_qFact_14 : decode cX11_qFact 14 = .ok (.invokevirtual 656, 3) := dk_182 2 144 (dk_at dksX11_qFact_0 14 rfl rfl)
theorem dX11_qFact_17 : decode cX11_qFact 17 = .ok (.return_, 1) := dk_177 (dk_at dksX11_qFact_0 17 rfl rfl)
theorem dX11_qFact_18 : decode cX11_qFact 18 = .ok (.aload_n 0, 1) := dk_42 (dk_at dksX11_qFact_0 18 rfl rfl)
theorem dX11_qFact_19 : decode cX11_qFact 19 = .ok (.invokevirtual 309, 3) := dk_182 1 53 (dk_at dksX11_qFact_0 19 rfl rfl)
theorem dX11_qFact_22 : decode cX11_qFact 22 = .ok (.aload_n 0, 1) := dk_42 (dk_at dksX11_qFact_0 22 rfl rfl)
theorem dX11_qFact_23 : decode cX11_qFact 23 = .ok (.getfield 232, 3) := dk_180 0 232 (dk_at dksX11_qFact_1 0 rfl rfl)
theorem dX11_qFact_26 : decode cX11_qFact 26 = .ok (.ifCond .eq 4, 3) := dk_153 0 4 (dk_at dksX11_qFact_1 3 rfl rfl)
theorem dX11_qFact_29 : decode cX11_qFact 29 = .ok (.return_, 1) := dk_177 (dk_at dksX11_qFact_1 6 rfl rfl)
theorem dX11_qFact_30 : decode cX11_qFact 30 = .ok (.aload_n 0, 1) := dk_42 (dk_at dksX11_qFact_1 7 rfl rfl)
theorem dX11_qFact_31 : decode cX11_qFact 31 = .ok (.invokevirtual 244, 3) := dk_182 0 244 (dk_at dksX11_qFact_1 8 rfl rfl)
theorem dX11_qFact_34 : decode cX11_qFact 34 = .ok (.istore_n 1, 1) := dk_60 (dk_at dksX11_qFact_1 11 rfl rfl)
theorem dX11_qFact_35 : decode cX11_qFact 35 = .ok (.iload_n 1, 1) := dk_27 (dk_at dksX11_qFact_1 12 rfl rfl)
theorem dX11_qFact_36 : decode cX11_qFact 36 = .ok (.bipush 60, 2) := dk_16 60 (dk_at dksX11_qFact_1 13 rfl rfl)
theorem dX11_qFact_38 : decode cX11_qFact 38 = .ok (.if_icmp .eq 25, 3) := dk_159 0 25 (dk_at dksX11_qFact_1 15 rfl rfl)
theorem dX11_qFact_41 : decode cX11_qFact 41 = .ok (.iload_n 1, 1) := dk_27 (dk_at dksX11_qFact_1 18 rfl rfl)
theorem dX11_qFact_42 : decode cX11_qFact 42 = .ok (.bipush 62, 2) := dk_16 62 (dk_at dksX11_qFact_1 19 rfl rfl)
theorem dX11_qFact_44 : decode cX11_qFact 44 = .ok (.if_icmp .eq 19, 3) := dk_159 0 19 (dk_at dksX11_qFact_1 21 rfl rfl)
theorem dX11_qFact_47 : decode cX11_qFact 47 = .ok (.iload_n 1, 1) := dk_27 (dk_at dksX11_qFact_2 0 rfl rfl)
theorem dX11_qFact_48 : decode cX11_qFact 48 = .ok (.bipush 61, 2) := dk_16 61 (dk_at dksX11_qFact_2 1 rfl rfl)
theorem dX11_qFact_50 : decode cX11_qFact 50 = .ok (.if_icmp .eq 13, 3) := dk_159 0 13 (dk_at dksX11_qFact_2 3 rfl rfl)
theorem dX11_qFact_53 : decode cX11_qFact 53 = .ok (.aload_n 0, 1) := dk_42 (dk_at dksX11_qFact_2 6 rfl rfl)
theorem dX11_qFact_54 : decode cX11_qFact 54 = .ok (.iconst 1, 1) := dk_4 (dk_at dksX11_qFact_2 7 rfl rfl)
theorem dX11_qFact_55 : decode cX11_qFact 55 = .ok (.aload_n 0, 1) := dk_42 (dk_at dksX11_qFact_2 8 rfl rfl)
theorem dX11_qFact_56 : decode cX11_qFact 56 = .ok (.getfield 238, 3) := dk_180 0 238 (dk_at dksX11_qFact_2 9 rfl rfl)
theorem dX11_qFact_59 : decode cX11_qFact 59 = .ok (.invokevirtual 262, 3) := dk_182 1 6 (dk_at dksX11_qFact_2 12 rfl rfl)
theorem dX11_qFact_62 : decode cX11_qFact 62 = .ok (.return_, 1) := dk_177 (dk_at dksX11_qFact_2 15 rfl rfl)
theorem dX11_qFact_63 : decode cX11_qFact 63 = .ok (.aload_n 0, 1) := dk_42 (dk_at dksX11_qFact_2 16 rfl rfl)
theorem dX11_qFact_64 : decode cX11_qFact 64 = .ok (.dup, 1) := dk_89 (dk_at dksX11_qFact_2 17 rfl rfl)
theorem dX11_qFact_65 : decode cX11_qFact 65 = .ok (.getfield 238, 3) := dk_180 0 238 (dk_at dksX11_qFact_2 18 rfl rfl)
theorem dX11_qFact_68 : decode cX11_qFact 68 = .ok (.iconst 1, 1) := dk_4 (dk_at dksX11_qFact_2 21 rfl rfl)
theorem dX11_qFact_69 : decode cX11_qFact 69 = .ok (.iadd, 1) := dk_96 (dk_at dksX11_qFact_2 22 rfl rfl)
theorem dX11_qFact_70 : decode cX11_qFact 70 = .ok (.putfield 238, 3) := dk_181 0 238 (dk_at dksX11_qFact_3 0 rfl rfl)
theorem dX11_qFact_73 : decode cX11_qFact 73 = .ok (.aload_n 0, 1) := dk_42 (dk_at dksX11_qFact_3 3 rfl rfl)
theorem dX11_qFact_74 : decode cX11_qFact 74 = .ok (.invokevirtual 309, 3) := dk_182 1 53 (dk_at dksX11_qFact_3 4 rfl rfl)
theorem dX11_qFact_77 : decode cX11_qFact 77 = .ok (.aload_n 0, 1) := dk_42 (dk_at dksX11_qFact_3 7 rfl rfl)
theorem dX11_qFact_78 : decode cX11_qFact 78 = .ok (.iload_n 1, 1) := dk_27 (dk_at dksX11_qFact_3 8 rfl rfl)
theorem dX11_qFact_79 : decode cX11_qFact 79 = .ok (.bipush 60, 2) := dk_16 60 (dk_at dksX11_qFact_3 9 rfl rfl)
theorem dX11_qFact_81 : decode cX11_qFact 81 = .ok (.if_icmp .ne 8, 3) := dk_160 0 8 (dk_at dksX11_qFact_3 11 rfl rfl)
theorem dX11_qFact_84 : decode cX11_qFact 84 = .ok (.bipush 7, 2) := dk_16 7 (dk_at dksX11_qFact_3 14 rfl rfl)
theorem dX11_qFact_86 : decode cX11_qFact 86 = .ok (.goto 16, 3) := dk_167 0 16 (dk_at dksX11_qFact_3 16 rfl rfl)
theorem dX11_qFact_89 : decode cX11_qFact 89 = .ok (.iload_n 1, 1) := dk_27 (dk_at dksX11_qFact_3 19 rfl rfl)
theorem dX11_qFact_90 : decode cX11_qFact 90 = .ok (.bipush 62, 2) := dk_16 62 (dk_at dksX11_qFact_3 20 rfl rfl)
theorem dX11_qFact_92 : decode cX11_qFact 92 = .ok (.if_icmp .ne 8, 3) := dk_160 0 8 (dk_at dksX11_qFact_4 0 rfl rfl)
theorem dX11_qFact_95 : decode cX11_qFact 95 = .ok (.bipush 8, 2) := dk_16 8 (dk_at dksX11_qFact_4 3 rfl rfl)
theorem dX11_qFact_97 : decode cX11_qFact 97 = .ok (.goto 5, 3) := dk_167 0 5 (dk_at dksX11_qFact_4 5 rfl rfl)
theorem dX11_qFact_100 : decode cX11_qFact 100 = .ok (.bipush 9, 2) := dk_16 9 (dk_at dksX11_qFact_4 8 rfl rfl)
theorem dX11_qFact_102 : decode cX11_qFact 102 = .ok (.invokevirtual 656, 3) := dk_182 2 144 (dk_at dksX11_qFact_4 10 rfl rfl)
theorem dX11_qFact_105 : decode cX11_qFact 105 = .ok (.return_, 1) := dk_177 (dk_at dksX11_qFact_4 13 rfl rfl)
abbrev cX11_qCode : ByteArray := prog_26_method_123_code
def yX11_qCode : MethodName := ⟨RX11, "qCode", "(I)V"⟩
def dkwX11_qCode_0 : List UInt8 := [42, 180, 0, 216, 42, 180, 1, 38, 27, 79, 42, 89, 180, 1, 38, 4, 96, 181, 1, 38, 177]
abbrev dktX11_qCode_0 : List UInt8 := dkwX11_qCode_0 ++ []
theorem dksX11_qCode_0 : cX11_qCode.data.toList.drop 0 = dktX11_qCode_0 := by decide +kernel
theorem dX11_qCode_0 : decode cX11_qCode 0 = .ok (.aload_n 0, 1) := dk_42 (dk_at dksX11_qCode_0 0 rfl rfl)
theorem dX11_qCode_1 : decode cX11_qCode 1 = .ok (.getfield 216, 3) := dk_180 0 216 (dk_at dksX11_qCode_0 1 rfl rfl)
theorem dX11_qCode_4 : decode cX11_qCode 4 = .ok (.aload_n 0, 1) := dk_42 (dk_at dksX11_qCode_0 4 rfl rfl)
theorem dX11_qCode_5 : decode cX11_qCode 5 = .ok (.getfield 294, 3) := dk_180 1 38 (dk_at dksX11_qCode_0 5 rfl rfl)
theorem dX11_qCode_8 : decode cX11_qCode 8 = .ok (.iload_n 1, 1) := dk_27 (dk_at dksX11_qCode_0 8 rfl rfl)
theorem dX11_qCode_9 : decode cX11_qCode 9 = .ok (.iastore, 1) := dk_79 (dk_at dksX11_qCode_0 9 rfl rfl)
theorem dX11_qCode_10 : decode cX11_qCode 10 = .ok (.aload_n 0, 1) := dk_42 (dk_at dksX11_qCode_0 10 rfl rfl)
theorem dX11_qCode_11 : decode cX11_qCode 11 = .ok (.dup, 1) := dk_89 (dk_at dksX11_qCode_0 11 rfl rfl)
theorem dX11_qCode_12 : decode cX11_qCode 12 = .ok (.getfield 294, 3) := dk_180 1 38 (dk_at dksX11_qCode_0 12 rfl rfl)
theorem dX11_qCode_15 : decode cX11_qCode 15 = .ok (.iconst 1, 1) := dk_4 (dk_at dksX11_qCode_0 15 rfl rfl)
theorem dX11_qCode_16 : decode cX11_qCode 16 = .ok (.iadd, 1) := dk_96 (dk_at dksX11_qCode_0 16 rfl rfl)
theorem dX11_qCode_17 : decode cX11_qCode 17 = .ok (.putfield 294, 3) := dk_181 1 38 (dk_at dksX11_qCode_0 17 rfl rfl)
theorem dX11_qCode_20 : decode cX11_qCode 20 = .ok (.return_, 1) := dk_177 (dk_at dksX11_qCode_0 20 rfl rfl)
abbrev cX11_qSums : ByteArray := prog_26_method_136_code
def yX11_qSums : MethodName := ⟨RX11, "qSums", "()V"⟩
def dkwX11_qSums_3 : List UInt8 := [164, 0, 10, 42, 182, 2, 150, 167, 255, 234, 42, 27, 181, 1, 47, 177]
abbrev dktX11_qSums_3 : List UInt8 := dkwX11_qSums_3 ++ []
def dkwX11_qSums_2 : List UInt8 := [167, 0, 4, 3, 61, 167, 255, 221, 42, 180, 0, 232, 154, 0, 21, 42, 180, 1, 41, 42, 180, 1, 47]
abbrev dktX11_qSums_2 : List UInt8 := dkwX11_qSums_2 ++ dktX11_qSums_3
def dkwX11_qSums_1 : List UInt8 := [154, 0, 30, 42, 182, 2, 180, 42, 180, 0, 232, 154, 0, 14, 42, 182, 2, 183, 153, 0, 7, 4]
abbrev dktX11_qSums_1 : List UInt8 := dkwX11_qSums_1 ++ dktX11_qSums_2
def dkwX11_qSums_0 : List UInt8 := [42, 180, 1, 47, 60, 42, 42, 180, 1, 41, 181, 1, 47, 4, 61, 28, 153, 0, 37, 42, 180, 0, 232]
abbrev dktX11_qSums_0 : List UInt8 := dkwX11_qSums_0 ++ dktX11_qSums_1
theorem dksX11_qSums_0 : cX11_qSums.data.toList.drop 0 = dktX11_qSums_0 := by decide +kernel
theorem dksX11_qSums_1 : cX11_qSums.data.toList.drop 23 = dktX11_qSums_1 := dk_seg dksX11_qSums_0 23 rfl rfl
theorem dksX11_qSums_2 : cX11_qSums.data.toList.drop 45 = dktX11_qSums_2 := dk_seg dksX11_qSums_1 22 rfl rfl
theorem dksX11_qSums_3 : cX11_qSums.data.toList.drop 68 = dktX11_qSums_3 := dk_seg dksX11_qSums_2 23 rfl rfl
theorem dX11_qSums_0 : decode cX11_qSums 0 = .ok (.aload_n 0, 1) := dk_42 (dk_at dksX11_qSums_0 0 rfl rfl)
theorem dX11_qSums_1 : decode cX11_qSums 1 = .ok (.getfield 303, 3) := dk_180 1 47 (dk_at dksX11_qSums_0 1 rfl rfl)
theorem dX11_qSums_4 : decode cX11_qSums 4 = .ok (.istore_n 1, 1) := dk_60 (dk_at dksX11_qSums_0 4 rfl rfl)
theorem dX11_qSums_5 : decode cX11_qSums 5 = .ok (.aload_n 0, 1) := dk_42 (dk_at dksX11_qSums_0 5 rfl rfl)
theorem dX11_qSums_6 : decode cX11_qSums 6 = .ok (.aload_n 0, 1) := dk_42 (dk_at dksX11_qSums_0 6 rfl rfl)
theorem dX11_qSums_7 : decode cX11_qSums 7 = .ok (.getfield 297, 3) := dk_180 1 41 (dk_at dksX11_qSums_0 7 rfl rfl)
theorem dX11_qSums_10 : decode cX11_qSums 10 = .ok (.putfield 303, 3) := dk_181 1 47 (dk_at dksX11_qSums_0 10 rfl rfl)
theorem dX11_qSums_13 : decode cX11_qSums 13 = .ok (.iconst 1, 1) := dk_4 (dk_at dksX11_qSums_0 13 rfl rfl)
theorem dX11_qSums_14 : decode cX11_qSums 14 = .ok (.istore_n 2, 1) := dk_61 (dk_at dksX11_qSums_0 14 rfl rfl)
theorem dX11_qSums_15 : decode cX11_qSums 15 = .ok (.iload_n 2, 1) := dk_28 (dk_at dksX11_qSums_0 15 rfl rfl)
theorem dX11_qSums_16 : decode cX11_qSums 16 = .ok (.ifCond .eq 37, 3) := dk_153 0 37 (dk_at dksX11_qSums_0 16 rfl rfl)
theorem dX11_qSums_19 : decode cX11_qSums 19 = .ok (.aload_n 0, 1) := dk_42 (dk_at dksX11_qSums_0 19 rfl rfl)
theorem dX11_qSums_20 : decode cX11_qSums 20 = .ok (.getfield 232, 3) := dk_180 0 232 (dk_at dksX11_qSums_0 20 rfl rfl)
theorem dX11_qSums_23 : decode cX11_qSums 23 = .ok (.ifCond .ne 30, 3) := dk_154 0 30 (dk_at dksX11_qSums_1 0 rfl rfl)
theorem dX11_qSums_26 : decode cX11_qSums 26 = .ok (.aload_n 0, 1) := dk_42 (dk_at dksX11_qSums_1 3 rfl rfl)
theorem dX11_qSums_27 : decode cX11_qSums 27 = .ok (.invokevirtual 692, 3) := dk_182 2 180 (dk_at dksX11_qSums_1 4 rfl rfl)
theorem dX11_qSums_30 : decode cX11_qSums 30 = .ok (.aload_n 0, 1) := dk_42 (dk_at dksX11_qSums_1 7 rfl rfl)
theorem dX11_qSums_31 : decode cX11_qSums 31 = .ok (.getfield 232, 3) := dk_180 0 232 (dk_at dksX11_qSums_1 8 rfl rfl)
theorem dX11_qSums_34 : decode cX11_qSums 34 = .ok (.ifCond .ne 14, 3) := dk_154 0 14 (dk_at dksX11_qSums_1 11 rfl rfl)
theorem dX11_qSums_37 : decode cX11_qSums 37 = .ok (.aload_n 0, 1) := dk_42 (dk_at dksX11_qSums_1 14 rfl rfl)
theorem dX11_qSums_38 : decode cX11_qSums 38 = .ok (.invokevirtual 695, 3) := dk_182 2 183 (dk_at dksX11_qSums_1 15 rfl rfl)
theorem dX11_qSums_41 : decode cX11_qSums 41 = .ok (.ifCond .eq 7, 3) := dk_153 0 7 (dk_at dksX11_qSums_1 18 rfl rfl)
theorem dX11_qSums_44 : decode cX11_qSums 44 = .ok (.iconst 1, 1) := dk_4 (dk_at dksX11_qSums_1 21 rfl rfl)
theorem dX11_qSums_45 : decode cX11_qSums 45 = .ok (.goto 4, 3) := dk_167 0 4 (dk_at dksX11_qSums_2 0 rfl rfl)
theorem dX11_qSums_48 : decode cX11_qSums 48 = .ok (.iconst 0, 1) := dk_3 (dk_at dksX11_qSums_2 3 rfl rfl)
theorem dX11_qSums_49 : decode cX11_qSums 49 = .ok (.istore_n 2, 1) := dk_61 (dk_at dksX11_qSums_2 4 rfl rfl)
theorem dX11_qSums_50 : decode cX11_qSums 50 = .ok (.goto (-35), 3) := dk_167 255 221 (dk_at dksX11_qSums_2 5 rfl rfl)
theorem dX11_qSums_53 : decode cX11_qSums 53 = .ok (.aload_n 0, 1) := dk_42 (dk_at dksX11_qSums_2 8 rfl rfl)
theorem dX11_qSums_54 : decode cX11_qSums 54 = .ok (.getfield 232, 3) := dk_180 0 232 (dk_at dksX11_qSums_2 9 rfl rfl)
theorem dX11_qSums_57 : decode cX11_qSums 57 = .ok (.ifCond .ne 21, 3) := dk_154 0 21 (dk_at dksX11_qSums_2 12 rfl rfl)
theorem dX11_qSums_60 : decode cX11_qSums 60 = .ok (.aload_n 0, 1) := dk_42 (dk_at dksX11_qSums_2 15 rfl rfl)
theorem dX11_qSums_61 : decode cX11_qSums 61 = .ok (.getfield 297, 3) := dk_180 1 41 (dk_at dksX11_qSums_2 16 rfl rfl)
theorem dX11_qSums_64 : decode cX11_qSums 64 = .ok (.aload_n 0, 1) := dk_42 (dk_at dksX11_qSums_2 19 rfl rfl)
theorem dX11_qSums_65 : decode cX11_qSums 65 = .ok (.getfield 303, 3) := dk_180 1 47 (dk_at dksX11_qSums_2 20 rfl rfl)
theorem dX11_qSums_68 : decode cX11_qSums 68 = .ok (.if_icmp .le 10, 3) := dk_164 0 10 (dk_at dksX11_qSums_3 0 rfl rfl)
theorem dX11_qSums_71 : decode cX11_qSums 71 = .ok (.aload_n 0, 1) := dk_42 (dk_at dksX11_qSums_3 3 rfl rfl)
theorem dX11_qSums_72 : decode cX11_qSums 72 = .ok (.invokevirtual 662, 3) := dk_182 2 150 (dk_at dksX11_qSums_3 4 rfl rfl)
theorem dX11_qSums_75 : decode cX11_qSums 75 = .ok (.goto (-22), 3) := dk_167 255 234 (dk_at dksX11_qSums_3 7 rfl rfl)
theorem dX11_qSums_78 : decode cX11_qSums 78 = .ok (.aload_n 0, 1) := dk_42 (dk_at dksX11_qSums_3 10 rfl rfl)
theorem dX11_qSums_79 : decode cX11_qSums 79 = .ok (.iload_n 1, 1) := dk_27 (dk_at dksX11_qSums_3 11 rfl rfl)
theorem dX11_qSums_80 : decode cX11_qSums 80 = .ok (.putfield 303, 3) := dk_181 1 47 (dk_at dksX11_qSums_3 12 rfl rfl)
theorem dX11_qSums_83 : decode cX11_qSums 83 = .ok (.return_, 1) := dk_177 (dk_at dksX11_qSums_3 15 rfl rfl)
abbrev cX11_qPartTold : ByteArray := prog_26_method_134_code
def yX11_qPartTold : MethodName := ⟨RX11, "qPartTold", "()V"⟩
def dkwX11_qPartTold_10 : List UInt8 := [182, 1, 30, 96, 182, 2, 144, 42, 182, 2, 168, 177]
abbrev dktX11_qPartTold_10 : List UInt8 := dkwX11_qPartTold_10 ++ []
def dkwX11_qPartTold_9 : List UInt8 := [182, 2, 165, 42, 28, 2, 159, 0, 10, 16, 40, 28, 96, 167, 0, 15, 17, 3, 232, 42, 3, 17, 39, 15]
abbrev dktX11_qPartTold_9 : List UInt8 := dkwX11_qPartTold_9 ++ dktX11_qPartTold_10
def dkwX11_qPartTold_8 : List UInt8 := [180, 0, 232, 153, 0, 4, 177, 42, 3, 16, 9, 182, 2, 159, 61, 28, 2, 159, 0, 8, 42, 28]
abbrev dktX11_qPartTold_8 : List UInt8 := dkwX11_qPartTold_8 ++ dktX11_qPartTold_9
def dkwX11_qPartTold_7 : List UInt8 := [100, 42, 180, 0, 238, 182, 2, 162, 42, 29, 182, 2, 165, 167, 0, 5, 3, 60, 167, 255, 75, 42]
abbrev dktX11_qPartTold_7 : List UInt8 := dkwX11_qPartTold_7 ++ dktX11_qPartTold_8
def dkwX11_qPartTold_6 : List UInt8 := [182, 2, 162, 42, 16, 40, 182, 1, 34, 167, 0, 33, 29, 2, 159, 0, 26, 42, 16, 60, 29, 96, 16, 9]
abbrev dktX11_qPartTold_6 : List UInt8 := dkwX11_qPartTold_6 ++ dktX11_qPartTold_7
def dkwX11_qPartTold_5 : List UInt8 := [2, 54, 5, 21, 5, 2, 159, 0, 21, 42, 21, 4, 153, 0, 8, 16, 21, 167, 0, 5, 16, 22, 21, 5]
abbrev dktX11_qPartTold_5 : List UInt8 := dkwX11_qPartTold_5 ++ dktX11_qPartTold_6
def dkwX11_qPartTold_4 : List UInt8 := [42, 42, 180, 0, 183, 182, 1, 26, 42, 182, 0, 244, 16, 40, 160, 0, 10, 42, 180, 0, 238, 167, 0, 4]
abbrev dktX11_qPartTold_4 : List UInt8 := dkwX11_qPartTold_4 ++ dktX11_qPartTold_5
def dkwX11_qPartTold_3 : List UInt8 := [180, 0, 183, 182, 0, 255, 153, 0, 78, 42, 42, 180, 0, 180, 182, 1, 3, 54, 4, 21, 4, 154, 0, 11]
abbrev dktX11_qPartTold_3 : List UInt8 := dkwX11_qPartTold_3 ++ dktX11_qPartTold_4
def dkwX11_qPartTold_2 : List UInt8 := [180, 0, 238, 4, 96, 181, 0, 238, 167, 0, 130, 42, 42, 180, 0, 180, 182, 0, 255, 154, 0, 14, 42, 42]
abbrev dktX11_qPartTold_2 : List UInt8 := dkwX11_qPartTold_2 ++ dktX11_qPartTold_3
def dkwX11_qPartTold_1 : List UInt8 := [182, 2, 159, 62, 28, 16, 40, 160, 0, 26, 42, 16, 20, 42, 180, 0, 238, 182, 2, 162, 42, 89]
abbrev dktX11_qPartTold_1 : List UInt8 := dkwX11_qPartTold_1 ++ dktX11_qPartTold_2
def dkwX11_qPartTold_0 : List UInt8 := [4, 60, 27, 153, 0, 183, 42, 180, 0, 232, 154, 0, 176, 42, 182, 0, 244, 61, 42, 16, 9, 16, 11]
abbrev dktX11_qPartTold_0 : List UInt8 := dkwX11_qPartTold_0 ++ dktX11_qPartTold_1
theorem dksX11_qPartTold_0 : cX11_qPartTold.data.toList.drop 0 = dktX11_qPartTold_0 := by decide +kernel
theorem dksX11_qPartTold_1 : cX11_qPartTold.data.toList.drop 23 = dktX11_qPartTold_1 := dk_seg dksX11_qPartTold_0 23 rfl rfl
theorem dksX11_qPartTold_2 : cX11_qPartTold.data.toList.drop 45 = dktX11_qPartTold_2 := dk_seg dksX11_qPartTold_1 22 rfl rfl
theorem dksX11_qPartTold_3 : cX11_qPartTold.data.toList.drop 69 = dktX11_qPartTold_3 := dk_seg dksX11_qPartTold_2 24 rfl rfl
theorem dksX11_qPartTold_4 : cX11_qPartTold.data.toList.drop 93 = dktX11_qPartTold_4 := dk_seg dksX11_qPartTold_3 24 rfl rfl
theorem dksX11_qPartTold_5 : cX11_qPartTold.data.toList.drop 117 = dktX11_qPartTold_5 := dk_seg dksX11_qPartTold_4 24 rfl rfl
theorem dksX11_qPartTold_6 : cX11_qPartTold.data.toList.drop 141 = dktX11_qPartTold_6 := dk_seg dksX11_qPartTold_5 24 rfl rfl
theorem dksX11_qPartTold_7 : cX11_qPartTold.data.toList.drop 165 = dktX11_qPartTold_7 := dk_seg dksX11_qPartTold_6 24 rfl rfl
theorem dksX11_qPartTold_8 : cX11_qPartTold.data.toList.drop 187 = dktX11_qPartTold_8 := dk_seg dksX11_qPartTold_7 22 rfl rfl
theorem dksX11_qPartTold_9 : cX11_qPartTold.data.toList.drop 209 = dktX11_qPartTold_9 := dk_seg dksX11_qPartTold_8 22 rfl rfl
theorem dksX11_qPartTold_10 : cX11_qPartTold.data.toList.drop 233 = dktX11_qPartTold_10 := dk_seg dksX11_qPartTold_9 24 rfl rfl
theorem dX11_qPartTold_0 : decode cX11_qPartTold 0 = .ok (.iconst 1, 1) := dk_4 (dk_at dksX11_qPartTold_0 0 rfl rfl)
theorem dX11_qPartTold_1 : decode cX11_qPartTold 1 = .ok (.istore_n 1, 1) := dk_60 (dk_at dksX11_qPartTold_0 1 rfl rfl)
theorem dX11_qPartTold_2 : decode cX11_qPartTold 2 = .ok (.iload_n 1, 1) := dk_27 (dk_at dksX11_qPartTold_0 2 rfl rfl)
theorem dX11_qPartTold_3 : decode cX11_qPartTold 3 = .ok (.ifCond .eq 183, 3) := dk_153 0 183 (dk_at dksX11_qPartTold_0 3 rfl rfl)
theorem dX11_qPartTold_6 : decode cX11_qPartTold 6 = .ok (.aload_n 0, 1) := dk_42 (dk_at dksX11_qPartTold_0 6 rfl rfl)
theorem dX11_qPartTold_7 : decode cX11_qPartTold 7 = .ok (.getfield 232, 3) := dk_180 0 232 (dk_at dksX11_qPartTold_0 7 rfl rfl)
theorem dX11_qPartTold_10 : decode cX11_qPartTold 10 = .ok (.ifCond .ne 176, 3) := dk_154 0 176 (dk_at dksX11_qPartTold_0 10 rfl rfl)
theorem dX11_qPartTold_13 : decode cX11_qPartTold 13 = .ok (.aload_n 0, 1) := dk_42 (dk_at dksX11_qPartTold_0 13 rfl rfl)
theorem dX11_qPartTold_14 : decode cX11_qPartTold 14 = .ok (.invokevirtual 244, 3) := dk_182 0 244 (dk_at dksX11_qPartTold_0 14 rfl rfl)
theorem dX11_qPartTold_17 : decode cX11_qPartTold 17 = .ok (.istore_n 2, 1) := dk_61 (dk_at dksX11_qPartTold_0 17 rfl rfl)
theorem dX11_qPartTold_18 : decode cX11_qPartTold 18 = .ok (.aload_n 0, 1) := dk_42 (dk_at dksX11_qPartTold_0 18 rfl rfl)
theorem dX11_qPartTold_19 : decode cX11_qPartTold 19 = .ok (.bipush 9, 2) := dk_16 9 (dk_at dksX11_qPartTold_0 19 rfl rfl)
theorem dX11_qPartTold_21 : decode cX11_qPartTold 21 = .ok (.bipush 11, 2) := dk_16 11 (dk_at dksX11_qPartTold_0 21 rfl rfl)
theorem dX11_qPartTold_23 : decode cX11_qPartTold 23 = .ok (.invokevirtual 671, 3) := dk_182 2 159 (dk_at dksX11_qPartTold_1 0 rfl rfl)
theorem dX11_qPartTold_26 : decode cX11_qPartTold 26 = .ok (.istore_n 3, 1) := dk_62 (dk_at dksX11_qPartTold_1 3 rfl rfl)
theorem dX11_qPartTold_27 : decode cX11_qPartTold 27 = .ok (.iload_n 2, 1) := dk_28 (dk_at dksX11_qPartTold_1 4 rfl rfl)
theorem dX11_qPartTold_28 : decode cX11_qPartTold 28 = .ok (.bipush 40, 2) := dk_16 40 (dk_at dksX11_qPartTold_1 5 rfl rfl)
theorem dX11_qPartTold_30 : decode cX11_qPartTold 30 = .ok (.if_icmp .ne 26, 3) := dk_160 0 26 (dk_at dksX11_qPartTold_1 7 rfl rfl)
theorem dX11_qPartTold_33 : decode cX11_qPartTold 33 = .ok (.aload_n 0, 1) := dk_42 (dk_at dksX11_qPartTold_1 10 rfl rfl)
theorem dX11_qPartTold_34 : decode cX11_qPartTold 34 = .ok (.bipush 20, 2) := dk_16 20 (dk_at dksX11_qPartTold_1 11 rfl rfl)
theorem dX11_qPartTold_36 : decode cX11_qPartTold 36 = .ok (.aload_n 0, 1) := dk_42 (dk_at dksX11_qPartTold_1 13 rfl rfl)
theorem dX11_qPartTold_37 : decode cX11_qPartTold 37 = .ok (.getfield 238, 3) := dk_180 0 238 (dk_at dksX11_qPartTold_1 14 rfl rfl)
theorem dX11_qPartTold_40 : decode cX11_qPartTold 40 = .ok (.invokevirtual 674, 3) := dk_182 2 162 (dk_at dksX11_qPartTold_1 17 rfl rfl)
theorem dX11_qPartTold_43 : decode cX11_qPartTold 43 = .ok (.aload_n 0, 1) := dk_42 (dk_at dksX11_qPartTold_1 20 rfl rfl)
theorem dX11_qPartTold_44 : decode cX11_qPartTold 44 = .ok (.dup, 1) := dk_89 (dk_at dksX11_qPartTold_1 21 rfl rfl)
theorem dX11_qPartTold_45 : decode cX11_qPartTold 45 = .ok (.getfield 238, 3) := dk_180 0 238 (dk_at dksX11_qPartTold_2 0 rfl rfl)
theorem dX11_qPartTold_48 : decode cX11_qPartTold 48 = .ok (.iconst 1, 1) := dk_4 (dk_at dksX11_qPartTold_2 3 rfl rfl)
theorem dX11_qPartTold_49 : decode cX11_qPartTold 49 = .ok (.iadd, 1) := dk_96 (dk_at dksX11_qPartTold_2 4 rfl rfl)
theorem dX11_qPartTold_50 : decode cX11_qPartTold 50 = .ok (.putfield 238, 3) := dk_181 0 238 (dk_at dksX11_qPartTold_2 5 rfl rfl)
theorem dX11_qPartTold_53 : decode cX11_qPartTold 53 = .ok (.goto 130, 3) := dk_167 0 130 (dk_at dksX11_qPartTold_2 8 rfl rfl)
theorem dX11_qPartTold_56 : decode cX11_qPartTold 56 = .ok (.aload_n 0, 1) := dk_42 (dk_at dksX11_qPartTold_2 11 rfl rfl)
theorem dX11_qPartTold_57 : decode cX11_qPartTold 57 = .ok (.aload_n 0, 1) := dk_42 (dk_at dksX11_qPartTold_2 12 rfl rfl)
theorem dX11_qPartTold_58 : decode cX11_qPartTold 58 = .ok (.getfield 180, 3) := dk_180 0 180 (dk_at dksX11_qPartTold_2 13 rfl rfl)
theorem dX11_qPartTold_61 : decode cX11_qPartTold 61 = .ok (.invokevirtual 255, 3) := dk_182 0 255 (dk_at dksX11_qPartTold_2 16 rfl rfl)
theorem dX11_qPartTold_64 : decode cX11_qPartTold 64 = .ok (.ifCond .ne 14, 3) := dk_154 0 14 (dk_at dksX11_qPartTold_2 19 rfl rfl)
theorem dX11_qPartTold_67 : decode cX11_qPartTold 67 = .ok (.aload_n 0, 1) := dk_42 (dk_at dksX11_qPartTold_2 22 rfl rfl)
theorem dX11_qPartTold_68 : decode cX11_qPartTold 68 = .ok (.aload_n 0, 1) := dk_42 (dk_at dksX11_qPartTold_2 23 rfl rfl)
theorem dX11_qPartTold_69 : decode cX11_qPartTold 69 = .ok (.getfield 183, 3) := dk_180 0 183 (dk_at dksX11_qPartTold_3 0 rfl rfl)
theorem dX11_qPartTold_72 : decode cX11_qPartTold 72 = .ok (.invokevirtual 255, 3) := dk_182 0 255 (dk_at dksX11_qPartTold_3 3 rfl rfl)
theorem dX11_qPartTold_75 : decode cX11_qPartTold 75 = .ok (.ifCond .eq 78, 3) := dk_153 0 78 (dk_at dksX11_qPartTold_3 6 rfl rfl)
theorem dX11_qPartTold_78 : decode cX11_qPartTold 78 = .ok (.aload_n 0, 1) := dk_42 (dk_at dksX11_qPartTold_3 9 rfl rfl)
theorem dX11_qPartTold_79 : decode cX11_qPartTold 79 = .ok (.aload_n 0, 1) := dk_42 (dk_at dksX11_qPartTold_3 10 rfl rfl)
theorem dX11_qPartTold_80 : decode cX11_qPartTold 80 = .ok (.getfield 180, 3) := dk_180 0 180 (dk_at dksX11_qPartTold_3 11 rfl rfl)
theorem dX11_qPartTold_83 : decode cX11_qPartTold 83 = .ok (.invokevirtual 259, 3) := dk_182 1 3 (dk_at dksX11_qPartTold_3 14 rfl rfl)
theorem dX11_qPartTold_86 : decode cX11_qPartTold 86 = .ok (.istore 4, 2) := dk_54 4 (dk_at dksX11_qPartTold_3 17 rfl rfl)
theorem dX11_qPartTold_88 : decode cX11_qPartTold 88 = .ok (.iload 4, 2) := dk_21 4 (dk_at dksX11_qPartTold_3 19 rfl rfl)
theorem dX11_qPartTold_90 : decode cX11_qPartTold 90 = .ok (.ifCond .ne 11, 3) := dk_154 0 11 (dk_at dksX11_qPartTold_3 21 rfl rfl)
theorem dX11_qPartTold_93 : decode cX11_qPartTold 93 = .ok (.aload_n 0, 1) := dk_42 (dk_at dksX11_qPartTold_4 0 rfl rfl)
theorem dX11_qPartTold_94 : decode cX11_qPartTold 94 = .ok (.aload_n 0, 1) := dk_42 (dk_at dksX11_qPartTold_4 1 rfl rfl)
theorem dX11_qPartTold_95 : decode cX11_qPartTold 95 = .ok (.getfield 183, 3) := dk_180 0 183 (dk_at dksX11_qPartTold_4 2 rfl rfl)
theorem dX11_qPartTold_98 : decode cX11_qPartTold 98 = .ok (.invokevirtual 282, 3) := dk_182 1 26 (dk_at dksX11_qPartTold_4 5 rfl rfl)
theorem dX11_qPartTold_101 : decode cX11_qPartTold 101 = .ok (.aload_n 0, 1) := dk_42 (dk_at dksX11_qPartTold_4 8 rfl rfl)
theorem dX11_qPartTold_102 : decode cX11_qPartTold 102 = .ok (.invokevirtual 244, 3) := dk_182 0 244 (dk_at dksX11_qPartTold_4 9 rfl rfl)
theorem dX11_qPartTold_105 : decode cX11_qPartTold 105 = .ok (.bipush 40, 2) := dk_16 40 (dk_at dksX11_qPartTold_4 12 rfl rfl)
theorem dX11_qPartTold_107 : decode cX11_qPartTold 107 = .ok (.if_icmp .ne 10, 3) := dk_160 0 10 (dk_at dksX11_qPartTold_4 14 rfl rfl)
theorem dX11_qPartTold_110 : decode cX11_qPartTold 110 = .ok (.aload_n 0, 1) := dk_42 (dk_at dksX11_qPartTold_4 17 rfl rfl)
theorem dX11_qPartTold_111 : decode cX11_qPartTold 111 = .ok (.getfield 238, 3) := dk_180 0 238 (dk_at dksX11_qPartTold_4 18 rfl rfl)
theorem dX11_qPartTold_114 : decode cX11_qPartTold 114 = .ok (.goto 4, 3) := dk_167 0 4 (dk_at dksX11_qPartTold_4 21 rfl rfl)
theorem dX11_qPartTold_117 : decode cX11_qPartTold 117 = .ok (.iconst (-1), 1) := dk_2 (dk_at dksX11_qPartTold_5 0 rfl rfl)
theorem dX11_qPartTold_118 : decode cX11_qPartTold 118 = .ok (.istore 5, 2) := dk_54 5 (dk_at dksX11_qPartTold_5 1 rfl rfl)
theorem dX11_qPartTold_120 : decode cX11_qPartTold 120 = .ok (.iload 5, 2) := dk_21 5 (dk_at dksX11_qPartTold_5 3 rfl rfl)
theorem dX11_qPartTold_122 : decode cX11_qPartTold 122 = .ok (.iconst (-1), 1) := dk_2 (dk_at dksX11_qPartTold_5 5 rfl rfl)
theorem dX11_qPartTold_123 : decode cX11_qPartTold 123 = .ok (.if_icmp .eq 21, 3) := dk_159 0 21 (dk_at dksX11_qPartTold_5 6 rfl rfl)
theorem dX11_qPartTold_126 : decode cX11_qPartTold 126 = .ok (.aload_n 0, 1) := dk_42 (dk_at dksX11_qPartTold_5 9 rfl rfl)
theorem dX11_qPartTold_127 : decode cX11_qPartTold 127 = .ok (.iload 4, 2) := dk_21 4 (dk_at dksX11_qPartTold_5 10 rfl rfl)
theorem dX11_qPartTold_129 : decode cX11_qPartTold 129 = .ok (.ifCond .eq 8, 3) := dk_153 0 8 (dk_at dksX11_qPartTold_5 12 rfl rfl)
theorem dX11_qPartTold_132 : decode cX11_qPartTold 132 = .ok (.bipush 21, 2) := dk_16 21 (dk_at dksX11_qPartTold_5 15 rfl rfl)
theorem dX11_qPartTold_134 : decode cX11_qPartTold 134 = .ok (.goto 5, 3) := dk_167 0 5 (dk_at dksX11_qPartTold_5 17 rfl rfl)
theorem dX11_qPartTold_137 : decode cX11_qPartTold 137 = .ok (.bipush 22, 2) := dk_16 22 (dk_at dksX11_qPartTold_5 20 rfl rfl)
theorem dX11_qPartTold_139 : decode cX11_qPartTold 139 = .ok (.iload 5, 2) := dk_21 5 (dk_at dksX11_qPartTold_5 22 rfl rfl)
theorem dX11_qPartTold_141 : decode cX11_qPartTold 141 = .ok (.invokevirtual 674, 3) := dk_182 2 162 (dk_at dksX11_qPartTold_6 0 rfl rfl)
theorem dX11_qPartTold_144 : decode cX11_qPartTold 144 = .ok (.aload_n 0, 1) := dk_42 (dk_at dksX11_qPartTold_6 3 rfl rfl)
theorem dX11_qPartTold_145 : decode cX11_qPartTold 145 = .ok (.bipush 40, 2) := dk_16 40 (dk_at dksX11_qPartTold_6 4 rfl rfl)
theorem dX11_qPartTold_147 : decode cX11_qPartTold 147 = .ok (.invokevirtual 290, 3) := dk_182 1 34 (dk_at dksX11_qPartTold_6 6 rfl rfl)
theorem dX11_qPartTold_150 : decode cX11_qPartTold 150 = .ok (.goto 33, 3) := dk_167 0 33 (dk_at dksX11_qPartTold_6 9 rfl rfl)
theorem dX11_qPartTold_153 : decode cX11_qPartTold 153 = .ok (.iload_n 3, 1) := dk_29 (dk_at dksX11_qPartTold_6 12 rfl rfl)
theorem dX11_qPartTold_154 : decode cX11_qPartTold 154 = .ok (.iconst (-1), 1) := dk_2 (dk_at dksX11_qPartTold_6 13 rfl rfl)
theorem dX11_qPartTold_155 : decode cX11_qPartTold 155 = .ok (.if_icmp .eq 26, 3) := dk_159 0 26 (dk_at dksX11_qPartTold_6 14 rfl rfl)
theorem dX11_qPartTold_158 : decode cX11_qPartTold 158 = .ok (.aload_n 0, 1) := dk_42 (dk_at dksX11_qPartTold_6 17 rfl rfl)
theorem dX11_qPartTold_159 : decode cX11_qPartTold 159 = .ok (.bipush 60, 2) := dk_16 60 (dk_at dksX11_qPartTold_6 18 rfl rfl)
theorem dX11_qPartTold_161 : decode cX11_qPartTold 161 = .ok (.iload_n 3, 1) := dk_29 (dk_at dksX11_qPartTold_6 20 rfl rfl)
theorem dX11_qPartTold_162 : decode cX11_qPartTold 162 = .ok (.iadd, 1) := dk_96 (dk_at dksX11_qPartTold_6 21 rfl rfl)
theorem dX11_qPartTold_163 : decode cX11_qPartTold 163 = .ok (.bipush 9, 2) := dk_16 9 (dk_at dksX11_qPartTold_6 22 rfl rfl)
theorem dX11_qPartTold_165 : decode cX11_qPartTold 165 = .ok (.isub, 1) := dk_100 (dk_at dksX11_qPartTold_7 0 rfl rfl)
theorem dX11_qPartTold_166 : decode cX11_qPartTold 166 = .ok (.aload_n 0, 1) := dk_42 (dk_at dksX11_qPartTold_7 1 rfl rfl)
theorem dX11_qPartTold_167 : decode cX11_qPartTold 167 = .ok (.getfield 238, 3) := dk_180 0 238 (dk_at dksX11_qPartTold_7 2 rfl rfl)
theorem dX11_qPartTold_170 : decode cX11_qPartTold 170 = .ok (.invokevirtual 674, 3) := dk_182 2 162 (dk_at dksX11_qPartTold_7 5 rfl rfl)
theorem dX11_qPartTold_173 : decode cX11_qPartTold 173 = .ok (.aload_n 0, 1) := dk_42 (dk_at dksX11_qPartTold_7 8 rfl rfl)
theorem dX11_qPartTold_174 : decode cX11_qPartTold 174 = .ok (.iload_n 3, 1) := dk_29 (dk_at dksX11_qPartTold_7 9 rfl rfl)
theorem dX11_qPartTold_175 : decode cX11_qPartTold 175 = .ok (.invokevirtual 677, 3) := dk_182 2 165 (dk_at dksX11_qPartTold_7 10 rfl rfl)
theorem dX11_qPartTold_178 : decode cX11_qPartTold 178 = .ok (.goto 5, 3) := dk_167 0 5 (dk_at dksX11_qPartTold_7 13 rfl rfl)
theorem dX11_qPartTold_181 : decode cX11_qPartTold 181 = .ok (.iconst 0, 1) := dk_3 (dk_at dksX11_qPartTold_7 16 rfl rfl)
theorem dX11_qPartTold_182 : decode cX11_qPartTold 182 = .ok (.istore_n 1, 1) := dk_60 (dk_at dksX11_qPartTold_7 17 rfl rfl)
theorem dX11_qPartTold_183 : decode cX11_qPartTold 183 = .ok (.goto (-181), 3) := dk_167 255 75 (dk_at dksX11_qPartTold_7 18 rfl rfl)
theorem dX11_qPartTold_186 : decode cX11_qPartTold 186 = .ok (.aload_n 0, 1) := dk_42 (dk_at dksX11_qPartTold_7 21 rfl rfl)
theorem dX11_qPartTold_187 : decode cX11_qPartTold 187 = .ok (.getfield 232, 3) := dk_180 0 232 (dk_at dksX11_qPartTold_8 0 rfl rfl)
theorem dX11_qPartTold_190 : decode cX11_qPartTold 190 = .ok (.ifCond .eq 4, 3) := dk_153 0 4 (dk_at dksX11_qPartTold_8 3 rfl rfl)
theorem dX11_qPartTold_193 : decode cX11_qPartTold 193 = .ok (.return_, 1) := dk_177 (dk_at dksX11_qPartTold_8 6 rfl rfl)
theorem dX11_qPartTold_194 : decode cX11_qPartTold 194 = .ok (.aload_n 0, 1) := dk_42 (dk_at dksX11_qPartTold_8 7 rfl rfl)
theorem dX11_qPartTold_195 : decode cX11_qPartTold 195 = .ok (.iconst 0, 1) := dk_3 (dk_at dksX11_qPartTold_8 8 rfl rfl)
theorem dX11_qPartTold_196 : decode cX11_qPartTold 196 = .ok (.bipush 9, 2) := dk_16 9 (dk_at dksX11_qPartTold_8 9 rfl rfl)
theorem dX11_qPartTold_198 : decode cX11_qPartTold 198 = .ok (.invokevirtual 671, 3) := dk_182 2 159 (dk_at dksX11_qPartTold_8 11 rfl rfl)
theorem dX11_qPartTold_201 : decode cX11_qPartTold 201 = .ok (.istore_n 2, 1) := dk_61 (dk_at dksX11_qPartTold_8 14 rfl rfl)
theorem dX11_qPartTold_202 : decode cX11_qPartTold 202 = .ok (.iload_n 2, 1) := dk_28 (dk_at dksX11_qPartTold_8 15 rfl rfl)
theorem dX11_qPartTold_203 : decode cX11_qPartTold 203 = .ok (.iconst (-1), 1) := dk_2 (dk_at dksX11_qPartTold_8 16 rfl rfl)
theorem dX11_qPartTold_204 : decode cX11_qPartTold 204 = .ok (.if_icmp .eq 8, 3) := dk_159 0 8 (dk_at dksX11_qPartTold_8 17 rfl rfl)
theorem dX11_qPartTold_207 : decode cX11_qPartTold 207 = .ok (.aload_n 0, 1) := dk_42 (dk_at dksX11_qPartTold_8 20 rfl rfl)
theorem dX11_qPartTold_208 : decode cX11_qPartTold 208 = .ok (.iload_n 2, 1) := dk_28 (dk_at dksX11_qPartTold_8 21 rfl rfl)
theorem dX11_qPartTold_209 : decode cX11_qPartTold 209 = .ok (.invokevirtual 677, 3) := dk_182 2 165 (dk_at dksX11_qPartTold_9 0 rfl rfl)
theorem dX11_qPartTold_212 : decode cX11_qPartTold 212 = .ok (.aload_n 0, 1) := dk_42 (dk_at dksX11_qPartTold_9 3 rfl rfl)
theorem dX11_qPartTold_213 : decode cX11_qPartTold 213 = .ok (.iload_n 2, 1) := dk_28 (dk_at dksX11_qPartTold_9 4 rfl rfl)
theorem dX11_qPartTold_214 : decode cX11_qPartTold 214 = .ok (.iconst (-1), 1) := dk_2 (dk_at dksX11_qPartTold_9 5 rfl rfl)
theorem dX11_qPartTold_215 : decode cX11_qPartTold 215 = .ok (.if_icmp .eq 10, 3) := dk_159 0 10 (dk_at dksX11_qPartTold_9 6 rfl rfl)
theorem dX11_qPartTold_218 : decode cX11_qPartTold 218 = .ok (.bipush 40, 2) := dk_16 40 (dk_at dksX11_qPartTold_9 9 rfl rfl)
theorem dX11_qPartTold_220 : decode cX11_qPartTold 220 = .ok (.iload_n 2, 1) := dk_28 (dk_at dksX11_qPartTold_9 11 rfl rfl)
theorem dX11_qPartTold_221 : decode cX11_qPartTold 221 = .ok (.iadd, 1) := dk_96 (dk_at dksX11_qPartTold_9 12 rfl rfl)
theorem dX11_qPartTold_222 : decode cX11_qPartTold 222 = .ok (.goto 15, 3) := dk_167 0 15 (dk_at dksX11_qPartTold_9 13 rfl rfl)
theorem dX11_qPartTold_225 : decode cX11_qPartTold 225 = .ok (.sipush 1000, 3) := dk_17 3 232 (dk_at dksX11_qPartTold_9 16 rfl rfl)
theorem dX11_qPartTold_228 : decode cX11_qPartTold 228 = .ok (.aload_n 0, 1) := dk_42 (dk_at dksX11_qPartTold_9 19 rfl rfl)
theorem dX11_qPartTold_229 : decode cX11_qPartTold 229 = .ok (.iconst 0, 1) := dk_3 (dk_at dksX11_qPartTold_9 20 rfl rfl)
theorem dX11_qPartTold_230 : decode cX11_qPartTold 230 = .ok (.sipush 9999, 3) := dk_17 39 15 (dk_at dksX11_qPartTold_9 21 rfl rfl)
theorem dX11_qPartTold_233 : decode cX11_qPartTold 233 = .ok (.invokevirtual 286, 3) := dk_182 1 30 (dk_at dksX11_qPartTold_10 0 rfl rfl)
theorem dX11_qPartTold_236 : decode cX11_qPartTold 236 = .ok (.iadd, 1) := dk_96 (dk_at dksX11_qPartTold_10 3 rfl rfl)
theorem dX11_qPartTold_237 : decode cX11_qPartTold 237 = .ok (.invokevirtual 656, 3) := dk_182 2 144 (dk_at dksX11_qPartTold_10 4 rfl rfl)
theorem dX11_qPartTold_240 : decode cX11_qPartTold 240 = .ok (.aload_n 0, 1) := dk_42 (dk_at dksX11_qPartTold_10 7 rfl rfl)
theorem dX11_qPartTold_241 : decode cX11_qPartTold 241 = .ok (.invokevirtual 680, 3) := dk_182 2 168 (dk_at dksX11_qPartTold_10 8 rfl rfl)
theorem dX11_qPartTold_244 : decode cX11_qPartTold 244 = .ok (.return_, 1) := dk_177 (dk_at dksX11_qPartTold_10 11 rfl rfl)
abbrev cX11_qWordOf : ByteArray := prog_26_method_131_code
def yX11_qWordOf : MethodName := ⟨RX11, "qWordOf", "(II)I"⟩
def dkwX11_qWordOf_1 : List UInt8 := [167, 0, 4, 2, 172]
abbrev dktX11_qWordOf_1 : List UInt8 := dkwX11_qWordOf_1 ++ []
def dkwX11_qWordOf_0 : List UInt8 := [42, 182, 2, 153, 62, 29, 27, 161, 0, 20, 29, 28, 162, 0, 15, 42, 29, 182, 2, 156, 153, 0, 7, 29]
abbrev dktX11_qWordOf_0 : List UInt8 := dkwX11_qWordOf_0 ++ dktX11_qWordOf_1
theorem dksX11_qWordOf_0 : cX11_qWordOf.data.toList.drop 0 = dktX11_qWordOf_0 := by decide +kernel
theorem dksX11_qWordOf_1 : cX11_qWordOf.data.toList.drop 24 = dktX11_qWordOf_1 := dk_seg dksX11_qWordOf_0 24 rfl rfl
theorem dX11_qWordOf_0 : decode cX11_qWordOf 0 = .ok (.aload_n 0, 1) := dk_42 (dk_at dksX11_qWordOf_0 0 rfl rfl)
theorem dX11_qWordOf_1 : decode cX11_qWordOf 1 = .ok (.invokevirtual 665, 3) := dk_182 2 153 (dk_at dksX11_qWordOf_0 1 rfl rfl)
theorem dX11_qWordOf_4 : decode cX11_qWordOf 4 = .ok (.istore_n 3, 1) := dk_62 (dk_at dksX11_qWordOf_0 4 rfl rfl)
theorem dX11_qWordOf_5 : decode cX11_qWordOf 5 = .ok (.iload_n 3, 1) := dk_29 (dk_at dksX11_qWordOf_0 5 rfl rfl)
theorem dX11_qWordOf_6 : decode cX11_qWordOf 6 = .ok (.iload_n 1, 1) := dk_27 (dk_at dksX11_qWordOf_0 6 rfl rfl)
theorem dX11_qWordOf_7 : decode cX11_qWordOf 7 = .ok (.if_icmp .lt 20, 3) := dk_161 0 20 (dk_at dksX11_qWordOf_0 7 rfl rfl)
theorem dX11_qWordOf_10 : decode cX11_qWordOf 10 = .ok (.iload_n 3, 1) := dk_29 (dk_at dksX11_qWordOf_0 10 rfl rfl)
theorem dX11_qWordOf_11 : decode cX11_qWordOf 11 = .ok (.iload_n 2, 1) := dk_28 (dk_at dksX11_qWordOf_0 11 rfl rfl)
theorem dX11_qWordOf_12 : decode cX11_qWordOf 12 = .ok (.if_icmp .ge 15, 3) := dk_162 0 15 (dk_at dksX11_qWordOf_0 12 rfl rfl)
theorem dX11_qWordOf_15 : decode cX11_qWordOf 15 = .ok (.aload_n 0, 1) := dk_42 (dk_at dksX11_qWordOf_0 15 rfl rfl)
theorem dX11_qWordOf_16 : decode cX11_qWordOf 16 = .ok (.iload_n 3, 1) := dk_29 (dk_at dksX11_qWordOf_0 16 rfl rfl)
theorem dX11_qWordOf_17 : decode cX11_qWordOf 17 = .ok (.invokevirtual 668, 3) := dk_182 2 156 (dk_at dksX11_qWordOf_0 17 rfl rfl)
theorem dX11_qWordOf_20 : decode cX11_qWordOf 20 = .ok (.ifCond .eq 7, 3) := dk_153 0 7 (dk_at dksX11_qWordOf_0 20 rfl rfl)
theorem dX11_qWordOf_23 : decode cX11_qWordOf 23 = .ok (.iload_n 3, 1) := dk_29 (dk_at dksX11_qWordOf_0 23 rfl rfl)
theorem dX11_qWordOf_24 : decode cX11_qWordOf 24 = .ok (.goto 4, 3) := dk_167 0 4 (dk_at dksX11_qWordOf_1 0 rfl rfl)
theorem dX11_qWordOf_27 : decode cX11_qWordOf 27 = .ok (.iconst (-1), 1) := dk_2 (dk_at dksX11_qWordOf_1 3 rfl rfl)
theorem dX11_qWordOf_28 : decode cX11_qWordOf 28 = .ok (.ireturn, 1) := dk_172 (dk_at dksX11_qWordOf_1 4 rfl rfl)
abbrev cX11_qWordHere : ByteArray := prog_26_method_130_code
def yX11_qWordHere : MethodName := ⟨RX11, "qWordHere", "()I"⟩
def dkwX11_qWordHere_6 : List UInt8 := [182, 0, 255, 153, 0, 6, 16, 10, 172, 2, 172]
abbrev dktX11_qWordHere_6 : List UInt8 := dkwX11_qWordHere_6 ++ []
def dkwX11_qWordHere_5 : List UInt8 := [16, 8, 172, 42, 42, 180, 0, 210, 182, 0, 255, 153, 0, 6, 16, 9, 172, 42, 42, 180, 0, 213]
abbrev dktX11_qWordHere_5 : List UInt8 := dkwX11_qWordHere_5 ++ dktX11_qWordHere_6
def dkwX11_qWordHere_4 : List UInt8 := [180, 0, 150, 182, 0, 255, 153, 0, 6, 16, 7, 172, 42, 42, 180, 0, 207, 182, 0, 255, 153, 0, 6]
abbrev dktX11_qWordHere_4 : List UInt8 := dkwX11_qWordHere_4 ++ dktX11_qWordHere_5
def dkwX11_qWordHere_3 : List UInt8 := [182, 0, 255, 153, 0, 5, 8, 172, 42, 42, 180, 0, 204, 182, 0, 255, 153, 0, 6, 16, 6, 172, 42, 42]
abbrev dktX11_qWordHere_3 : List UInt8 := dkwX11_qWordHere_3 ++ dktX11_qWordHere_4
def dkwX11_qWordHere_2 : List UInt8 := [153, 0, 5, 6, 172, 42, 42, 180, 0, 198, 182, 0, 255, 153, 0, 5, 7, 172, 42, 42, 180, 0, 201]
abbrev dktX11_qWordHere_2 : List UInt8 := dkwX11_qWordHere_2 ++ dktX11_qWordHere_3
def dkwX11_qWordHere_1 : List UInt8 := [4, 172, 42, 42, 180, 0, 192, 182, 0, 255, 153, 0, 5, 5, 172, 42, 42, 180, 0, 195, 182, 0, 255]
abbrev dktX11_qWordHere_1 : List UInt8 := dkwX11_qWordHere_1 ++ dktX11_qWordHere_2
def dkwX11_qWordHere_0 : List UInt8 := [42, 42, 180, 0, 186, 182, 0, 255, 153, 0, 5, 3, 172, 42, 42, 180, 0, 189, 182, 0, 255, 153, 0, 5]
abbrev dktX11_qWordHere_0 : List UInt8 := dkwX11_qWordHere_0 ++ dktX11_qWordHere_1
theorem dksX11_qWordHere_0 : cX11_qWordHere.data.toList.drop 0 = dktX11_qWordHere_0 := by decide +kernel
theorem dksX11_qWordHere_1 : cX11_qWordHere.data.toList.drop 24 = dktX11_qWordHere_1 := dk_seg dksX11_qWordHere_0 24 rfl rfl
theorem dksX11_qWordHere_2 : cX11_qWordHere.data.toList.drop 47 = dktX11_qWordHere_2 := dk_seg dksX11_qWordHere_1 23 rfl rfl
theorem dksX11_qWordHere_3 : cX11_qWordHere.data.toList.drop 70 = dktX11_qWordHere_3 := dk_seg dksX11_qWordHere_2 23 rfl rfl
theorem dksX11_qWordHere_4 : cX11_qWordHere.data.toList.drop 94 = dktX11_qWordHere_4 := dk_seg dksX11_qWordHere_3 24 rfl rfl
theorem dksX11_qWordHere_5 : cX11_qWordHere.data.toList.drop 117 = dktX11_qWordHere_5 := dk_seg dksX11_qWordHere_4 23 rfl rfl
theorem dksX11_qWordHere_6 : cX11_qWordHere.data.toList.drop 139 = dktX11_qWordHere_6 := dk_seg dksX11_qWordHere_5 22 rfl rfl
theorem dX11_qWordHere_0 : decode cX11_qWordHere 0 = .ok (.aload_n 0, 1) := dk_42 (dk_at dksX11_qWordHere_0 0 rfl rfl)
theorem dX11_qWordHere_1 : decode cX11_qWordHere 1 = .ok (.aload_n 0, 1) := dk_42 (dk_at dksX11_qWordHere_0 1 rfl rfl)
theorem dX11_qWordHere_2 : decode cX11_qWordHere 2 = .ok (.getfield 186, 3) := dk_180 0 186 (dk_at dksX11_qWordHere_0 2 rfl rfl)
theorem dX11_qWordHere_5 : decode cX11_qWordHere 5 = .ok (.invokevirtual 255, 3) := dk_182 0 255 (dk_at dksX11_qWordHere_0 5 rfl rfl)
theorem dX11_qWordHere_8 : decode cX11_qWordHere 8 = .ok (.ifCond .eq 5, 3) := dk_153 0 5 (dk_at dksX11_qWordHere_0 8 rfl rfl)
theorem dX11_qWordHere_11 : decode cX11_qWordHere 11 = .ok (.iconst 0, 1) := dk_3 (dk_at dksX11_qWordHere_0 11 rfl rfl)
theorem dX11_qWordHere_12 : decode cX11_qWordHere 12 = .ok (.ireturn, 1) := dk_172 (dk_at dksX11_qWordHere_0 12 rfl rfl)
theorem dX11_qWordHere_13 : decode cX11_qWordHere 13 = .ok (.aload_n 0, 1) := dk_42 (dk_at dksX11_qWordHere_0 13 rfl rfl)
theorem dX11_qWordHere_14 : decode cX11_qWordHere 14 = .ok (.aload_n 0, 1) := dk_42 (dk_at dksX11_qWordHere_0 14 rfl rfl)
theorem dX11_qWordHere_15 : decode cX11_qWordHere 15 = .ok (.getfield 189, 3) := dk_180 0 189 (dk_at dksX11_qWordHere_0 15 rfl rfl)
theorem dX11_qWordHere_18 : decode cX11_qWordHere 18 = .ok (.invokevirtual 255, 3) := dk_182 0 255 (dk_at dksX11_qWordHere_0 18 rfl rfl)
theorem dX11_qWordHere_21 : decode cX11_qWordHere 21 = .ok (.ifCond .eq 5, 3) := dk_153 0 5 (dk_at dksX11_qWordHere_0 21 rfl rfl)
theorem dX11_qWordHere_24 : decode cX11_qWordHere 24 = .ok (.iconst 1, 1) := dk_4 (dk_at dksX11_qWordHere_1 0 rfl rfl)
theorem dX11_qWordHere_25 : decode cX11_qWordHere 25 = .ok (.ireturn, 1) := dk_172 (dk_at dksX11_qWordHere_1 1 rfl rfl)
theorem dX11_qWordHere_26 : decode cX11_qWordHere 26 = .ok (.aload_n 0, 1) := dk_42 (dk_at dksX11_qWordHere_1 2 rfl rfl)
theorem dX11_qWordHere_27 : decode cX11_qWordHere 27 = .ok (.aload_n 0, 1) := dk_42 (dk_at dksX11_qWordHere_1 3 rfl rfl)
theorem dX11_qWordHere_28 : decode cX11_qWordHere 28 = .ok (.getfield 192, 3) := dk_180 0 192 (dk_at dksX11_qWordHere_1 4 rfl rfl)
theorem dX11_qWordHere_31 : decode cX11_qWordHere 31 = .ok (.invokevirtual 255, 3) := dk_182 0 255 (dk_at dksX11_qWordHere_1 7 rfl rfl)
theorem dX11_qWordHere_34 : decode cX11_qWordHere 34 = .ok (.ifCond .eq 5, 3) := dk_153 0 5 (dk_at dksX11_qWordHere_1 10 rfl rfl)
theorem dX11_qWordHere_37 : decode cX11_qWordHere 37 = .ok (.iconst 2, 1) := dk_5 (dk_at dksX11_qWordHere_1 13 rfl rfl)
theorem dX11_qWordHere_38 : decode cX11_qWordHere 38 = .ok (.ireturn, 1) := dk_172 (dk_at dksX11_qWordHere_1 14 rfl rfl)
theorem dX11_qWordHere_39 : decode cX11_qWordHere 39 = .ok (.aload_n 0, 1) := dk_42 (dk_at dksX11_qWordHere_1 15 rfl rfl)
theorem dX11_qWordHere_40 : decode cX11_qWordHere 40 = .ok (.aload_n 0, 1) := dk_42 (dk_at dksX11_qWordHere_1 16 rfl rfl)
theorem dX11_qWordHere_41 : decode cX11_qWordHere 41 = .ok (.getfield 195, 3) := dk_180 0 195 (dk_at dksX11_qWordHere_1 17 rfl rfl)
theorem dX11_qWordHere_44 : decode cX11_qWordHere 44 = .ok (.invokevirtual 255, 3) := dk_182 0 255 (dk_at dksX11_qWordHere_1 20 rfl rfl)
theorem dX11_qWordHere_47 : decode cX11_qWordHere 47 = .ok (.ifCond .eq 5, 3) := dk_153 0 5 (dk_at dksX11_qWordHere_2 0 rfl rfl)
theorem dX11_qWordHere_50 : decode cX11_qWordHere 50 = .ok (.iconst 3, 1) := dk_6 (dk_at dksX11_qWordHere_2 3 rfl rfl)
theorem dX11_qWordHere_51 : decode cX11_qWordHere 51 = .ok (.ireturn, 1) := dk_172 (dk_at dksX11_qWordHere_2 4 rfl rfl)
theorem dX11_qWordHere_52 : decode cX11_qWordHere 52 = .ok (.aload_n 0, 1) := dk_42 (dk_at dksX11_qWordHere_2 5 rfl rfl)
theorem dX11_qWordHere_53 : decode cX11_qWordHere 53 = .ok (.aload_n 0, 1) := dk_42 (dk_at dksX11_qWordHere_2 6 rfl rfl)
theorem dX11_qWordHere_54 : decode cX11_qWordHere 54 = .ok (.getfield 198, 3) := dk_180 0 198 (dk_at dksX11_qWordHere_2 7 rfl rfl)
theorem dX11_qWordHere_57 : decode cX11_qWordHere 57 = .ok (.invokevirtual 255, 3) := dk_182 0 255 (dk_at dksX11_qWordHere_2 10 rfl rfl)
theorem dX11_qWordHere_60 : decode cX11_qWordHere 60 = .ok (.ifCond .eq 5, 3) := dk_153 0 5 (dk_at dksX11_qWordHere_2 13 rfl rfl)
theorem dX11_qWordHere_63 : decode cX11_qWordHere 63 = .ok (.iconst 4, 1) := dk_7 (dk_at dksX11_qWordHere_2 16 rfl rfl)
theorem dX11_qWordHere_64 : decode cX11_qWordHere 64 = .ok (.ireturn, 1) := dk_172 (dk_at dksX11_qWordHere_2 17 rfl rfl)
theorem dX11_qWordHere_65 : decode cX11_qWordHere 65 = .ok (.aload_n 0, 1) := dk_42 (dk_at dksX11_qWordHere_2 18 rfl rfl)
theorem dX11_qWordHere_66 : decode cX11_qWordHere 66 = .ok (.aload_n 0, 1) := dk_42 (dk_at dksX11_qWordHere_2 19 rfl rfl)
theorem dX11_qWordHere_67 : decode cX11_qWordHere 67 = .ok (.getfield 201, 3) := dk_180 0 201 (dk_at dksX11_qWordHere_2 20 rfl rfl)
theorem dX11_qWordHere_70 : decode cX11_qWordHere 70 = .ok (.invokevirtual 255, 3) := dk_182 0 255 (dk_at dksX11_qWordHere_3 0 rfl rfl)
theorem dX11_qWordHere_73 : decode cX11_qWordHere 73 = .ok (.ifCond .eq 5, 3) := dk_153 0 5 (dk_at dksX11_qWordHere_3 3 rfl rfl)
theorem dX11_qWordHere_76 : decode cX11_qWordHere 76 = .ok (.iconst 5, 1) := dk_8 (dk_at dksX11_qWordHere_3 6 rfl rfl)
theorem dX11_qWordHere_77 : decode cX11_qWordHere 77 = .ok (.ireturn, 1) := dk_172 (dk_at dksX11_qWordHere_3 7 rfl rfl)
theorem dX11_qWordHere_78 : decode cX11_qWordHere 78 = .ok (.aload_n 0, 1) := dk_42 (dk_at dksX11_qWordHere_3 8 rfl rfl)
theorem dX11_qWordHere_79 : decode cX11_qWordHere 79 = .ok (.aload_n 0, 1) := dk_42 (dk_at dksX11_qWordHere_3 9 rfl rfl)
theorem dX11_qWordHere_80 : decode cX11_qWordHere 80 = .ok (.getfield 204, 3) := dk_180 0 204 (dk_at dksX11_qWordHere_3 10 rfl rfl)
theorem dX11_qWordHere_83 : decode cX11_qWordHere 83 = .ok (.invokevirtual 255, 3) := dk_182 0 255 (dk_at dksX11_qWordHere_3 13 rfl rfl)
theorem dX11_qWordHere_86 : decode cX11_qWordHere 86 = .ok (.ifCond .eq 6, 3) := dk_153 0 6 (dk_at dksX11_qWordHere_3 16 rfl rfl)
theorem dX11_qWordHere_89 : decode cX11_qWordHere 89 = .ok (.bipush 6, 2) := dk_16 6 (dk_at dksX11_qWordHere_3 19 rfl rfl)
theorem dX11_qWordHere_91 : decode cX11_qWordHere 91 = .ok (.ireturn, 1) := dk_172 (dk_at dksX11_qWordHere_3 21 rfl rfl)
theorem dX11_qWordHere_92 : decode cX11_qWordHere 92 = .ok (.aload_n 0, 1) := dk_42 (dk_at dksX11_qWordHere_3 22 rfl rfl)
theorem dX11_qWordHere_93 : decode cX11_qWordHere 93 = .ok (.aload_n 0, 1) := dk_42 (dk_at dksX11_qWordHere_3 23 rfl rfl)
theorem dX11_qWordHere_94 : decode cX11_qWordHere 94 = .ok (.getfield 150, 3) := dk_180 0 150 (dk_at dksX11_qWordHere_4 0 rfl rfl)
theorem dX11_qWordHere_97 : decode cX11_qWordHere 97 = .ok (.invokevirtual 255, 3) := dk_182 0 255 (dk_at dksX11_qWordHere_4 3 rfl rfl)
theorem dX11_qWordHere_100 : decode cX11_qWordHere 100 = .ok (.ifCond .eq 6, 3) := dk_153 0 6 (dk_at dksX11_qWordHere_4 6 rfl rfl)
theorem dX11_qWordHere_103 : decode cX11_qWordHere 103 = .ok (.bipush 7, 2) := dk_16 7 (dk_at dksX11_qWordHere_4 9 rfl rfl)
theorem dX11_qWordHere_105 : decode cX11_qWordHere 105 = .ok (.ireturn, 1) := dk_172 (dk_at dksX11_qWordHere_4 11 rfl rfl)
theorem dX11_qWordHere_106 : decode cX11_qWordHere 106 = .ok (.aload_n 0, 1) := dk_42 (dk_at dksX11_qWordHere_4 12 rfl rfl)
theorem dX11_qWordHere_107 : decode cX11_qWordHere 107 = .ok (.aload_n 0, 1) := dk_42 (dk_at dksX11_qWordHere_4 13 rfl rfl)
theorem dX11_qWordHere_108 : decode cX11_qWordHere 108 = .ok (.getfield 207, 3) := dk_180 0 207 (dk_at dksX11_qWordHere_4 14 rfl rfl)
theorem dX11_qWordHere_111 : decode cX11_qWordHere 111 = .ok (.invokevirtual 255, 3) := dk_182 0 255 (dk_at dksX11_qWordHere_4 17 rfl rfl)
theorem dX11_qWordHere_114 : decode cX11_qWordHere 114 = .ok (.ifCond .eq 6, 3) := dk_153 0 6 (dk_at dksX11_qWordHere_4 20 rfl rfl)
theorem dX11_qWordHere_117 : decode cX11_qWordHere 117 = .ok (.bipush 8, 2) := dk_16 8 (dk_at dksX11_qWordHere_5 0 rfl rfl)
theorem dX11_qWordHere_119 : decode cX11_qWordHere 119 = .ok (.ireturn, 1) := dk_172 (dk_at dksX11_qWordHere_5 2 rfl rfl)
theorem dX11_qWordHere_120 : decode cX11_qWordHere 120 = .ok (.aload_n 0, 1) := dk_42 (dk_at dksX11_qWordHere_5 3 rfl rfl)
theorem dX11_qWordHere_121 : decode cX11_qWordHere 121 = .ok (.aload_n 0, 1) := dk_42 (dk_at dksX11_qWordHere_5 4 rfl rfl)
theorem dX11_qWordHere_122 : decode cX11_qWordHere 122 = .ok (.getfield 210, 3) := dk_180 0 210 (dk_at dksX11_qWordHere_5 5 rfl rfl)
theorem dX11_qWordHere_125 : decode cX11_qWordHere 125 = .ok (.invokevirtual 255, 3) := dk_182 0 255 (dk_at dksX11_qWordHere_5 8 rfl rfl)
theorem dX11_qWordHere_128 : decode cX11_qWordHere 128 = .ok (.ifCond .eq 6, 3) := dk_153 0 6 (dk_at dksX11_qWordHere_5 11 rfl rfl)
theorem dX11_qWordHere_131 : decode cX11_qWordHere 131 = .ok (.bipush 9, 2) := dk_16 9 (dk_at dksX11_qWordHere_5 14 rfl rfl)
theorem dX11_qWordHere_133 : decode cX11_qWordHere 133 = .ok (.ireturn, 1) := dk_172 (dk_at dksX11_qWordHere_5 16 rfl rfl)
theorem dX11_qWordHere_134 : decode cX11_qWordHere 134 = .ok (.aload_n 0, 1) := dk_42 (dk_at dksX11_qWordHere_5 17 rfl rfl)
theorem dX11_qWordHere_135 : decode cX11_qWordHere 135 = .ok (.aload_n 0, 1) := dk_42 (dk_at dksX11_qWordHere_5 18 rfl rfl)
theorem dX11_qWordHere_136 : decode cX11_qWordHere 136 = .ok (.getfield 213, 3) := dk_180 0 213 (dk_at dksX11_qWordHere_5 19 rfl rfl)
theorem dX11_qWordHere_139 : decode cX11_qWordHere 139 = .ok (.invokevirtual 255, 3) := dk_182 0 255 (dk_at dksX11_qWordHere_6 0 rfl rfl)
theorem dX11_qWordHere_142 : decode cX11_qWordHere 142 = .ok (.ifCond .eq 6, 3) := dk_153 0 6 (dk_at dksX11_qWordHere_6 3 rfl rfl)
theorem dX11_qWordHere_145 : decode cX11_qWordHere 145 = .ok (.bipush 10, 2) := dk_16 10 (dk_at dksX11_qWordHere_6 6 rfl rfl)
theorem dX11_qWordHere_147 : decode cX11_qWordHere 147 = .ok (.ireturn, 1) := dk_172 (dk_at dksX11_qWordHere_6 8 rfl rfl)
theorem dX11_qWordHere_148 : decode cX11_qWordHere 148 = .ok (.iconst (-1), 1) := dk_2 (dk_at dksX11_qWordHere_6 9 rfl rfl)
theorem dX11_qWordHere_149 : decode cX11_qWordHere 149 = .ok (.ireturn, 1) := dk_172 (dk_at dksX11_qWordHere_6 10 rfl rfl)
abbrev cX11_isAllowed : ByteArray := prog_26_method_16_code
def yX11_isAllowed : MethodName := ⟨RX11, "isAllowed", "(I)Z"⟩
def dkwX11_isAllowed_3 : List UInt8 := [153, 0, 8, 27, 7, 164, 0, 7, 4, 167, 0, 4, 3, 172]
abbrev dktX11_isAllowed_3 : List UInt8 := dkwX11_isAllowed_3 ++ []
def dkwX11_isAllowed_2 : List UInt8 := [27, 8, 162, 0, 7, 4, 167, 0, 4, 3, 172, 27, 6, 162, 0, 7, 4, 167, 0, 4, 3, 172, 27]
abbrev dktX11_isAllowed_2 : List UInt8 := dkwX11_isAllowed_2 ++ dktX11_isAllowed_3
def dkwX11_isAllowed_1 : List UInt8 := [171, 0, 0, 0, 0, 0, 0, 50, 0, 0, 0, 2, 0, 0, 0, 0, 0, 0, 0, 28, 0, 0, 0, 1, 0, 0, 0, 39]
abbrev dktX11_isAllowed_1 : List UInt8 := dkwX11_isAllowed_1 ++ dktX11_isAllowed_2
def dkwX11_isAllowed_0 : List UInt8 := [42, 180, 1, 23]
abbrev dktX11_isAllowed_0 : List UInt8 := dkwX11_isAllowed_0 ++ dktX11_isAllowed_1
theorem dksX11_isAllowed_0 : cX11_isAllowed.data.toList.drop 0 = dktX11_isAllowed_0 := by decide +kernel
theorem dksX11_isAllowed_1 : cX11_isAllowed.data.toList.drop 4 = dktX11_isAllowed_1 := dk_seg dksX11_isAllowed_0 4 rfl rfl
theorem dksX11_isAllowed_2 : cX11_isAllowed.data.toList.drop 32 = dktX11_isAllowed_2 := dk_seg dksX11_isAllowed_1 28 rfl rfl
theorem dksX11_isAllowed_3 : cX11_isAllowed.data.toList.drop 55 = dktX11_isAllowed_3 := dk_seg dksX11_isAllowed_2 23 rfl rfl
theorem dX11_isAllowed_0 : decode cX11_isAllowed 0 = .ok (.aload_n 0, 1) := dk_42 (dk_at dksX11_isAllowed_0 0 rfl rfl)
theorem dX11_isAllowed_1 : decode cX11_isAllowed 1 = .ok (.getfield 279, 3) := dk_180 1 23 (dk_at dksX11_isAllowed_0 1 rfl rfl)
theorem dX11_isAllowed_4 : decode cX11_isAllowed 4 = .ok (.lookupswitch 50 #[(0, 28), (1, 39)], 28) := by decide +kernel
theorem dX11_isAllowed_32 : decode cX11_isAllowed 32 = .ok (.iload_n 1, 1) := dk_27 (dk_at dksX11_isAllowed_2 0 rfl rfl)
theorem dX11_isAllowed_33 : decode cX11_isAllowed 33 = .ok (.iconst 5, 1) := dk_8 (dk_at dksX11_isAllowed_2 1 rfl rfl)
theorem dX11_isAllowed_34 : decode cX11_isAllowed 34 = .ok (.if_icmp .ge 7, 3) := dk_162 0 7 (dk_at dksX11_isAllowed_2 2 rfl rfl)
theorem dX11_isAllowed_37 : decode cX11_isAllowed 37 = .ok (.iconst 1, 1) := dk_4 (dk_at dksX11_isAllowed_2 5 rfl rfl)
theorem dX11_isAllowed_38 : decode cX11_isAllowed 38 = .ok (.goto 4, 3) := dk_167 0 4 (dk_at dksX11_isAllowed_2 6 rfl rfl)
theorem dX11_isAllowed_41 : decode cX11_isAllowed 41 = .ok (.iconst 0, 1) := dk_3 (dk_at dksX11_isAllowed_2 9 rfl rfl)
theorem dX11_isAllowed_42 : decode cX11_isAllowed 42 = .ok (.ireturn, 1) := dk_172 (dk_at dksX11_isAllowed_2 10 rfl rfl)
theorem dX11_isAllowed_43 : decode cX11_isAllowed 43 = .ok (.iload_n 1, 1) := dk_27 (dk_at dksX11_isAllowed_2 11 rfl rfl)
theorem dX11_isAllowed_44 : decode cX11_isAllowed 44 = .ok (.iconst 3, 1) := dk_6 (dk_at dksX11_isAllowed_2 12 rfl rfl)
theorem dX11_isAllowed_45 : decode cX11_isAllowed 45 = .ok (.if_icmp .ge 7, 3) := dk_162 0 7 (dk_at dksX11_isAllowed_2 13 rfl rfl)
theorem dX11_isAllowed_48 : decode cX11_isAllowed 48 = .ok (.iconst 1, 1) := dk_4 (dk_at dksX11_isAllowed_2 16 rfl rfl)
theorem dX11_isAllowed_49 : decode cX11_isAllowed 49 = .ok (.goto 4, 3) := dk_167 0 4 (dk_at dksX11_isAllowed_2 17 rfl rfl)
theorem dX11_isAllowed_52 : decode cX11_isAllowed 52 = .ok (.iconst 0, 1) := dk_3 (dk_at dksX11_isAllowed_2 20 rfl rfl)
theorem dX11_isAllowed_53 : decode cX11_isAllowed 53 = .ok (.ireturn, 1) := dk_172 (dk_at dksX11_isAllowed_2 21 rfl rfl)
theorem dX11_isAllowed_54 : decode cX11_isAllowed 54 = .ok (.iload_n 1, 1) := dk_27 (dk_at dksX11_isAllowed_2 22 rfl rfl)
theorem dX11_isAllowed_55 : decode cX11_isAllowed 55 = .ok (.ifCond .eq 8, 3) := dk_153 0 8 (dk_at dksX11_isAllowed_3 0 rfl rfl)
theorem dX11_isAllowed_58 : decode cX11_isAllowed 58 = .ok (.iload_n 1, 1) := dk_27 (dk_at dksX11_isAllowed_3 3 rfl rfl)
theorem dX11_isAllowed_59 : decode cX11_isAllowed 59 = .ok (.iconst 4, 1) := dk_7 (dk_at dksX11_isAllowed_3 4 rfl rfl)
theorem dX11_isAllowed_60 : decode cX11_isAllowed 60 = .ok (.if_icmp .le 7, 3) := dk_164 0 7 (dk_at dksX11_isAllowed_3 5 rfl rfl)
theorem dX11_isAllowed_63 : decode cX11_isAllowed 63 = .ok (.iconst 1, 1) := dk_4 (dk_at dksX11_isAllowed_3 8 rfl rfl)
theorem dX11_isAllowed_64 : decode cX11_isAllowed 64 = .ok (.goto 4, 3) := dk_167 0 4 (dk_at dksX11_isAllowed_3 9 rfl rfl)
theorem dX11_isAllowed_67 : decode cX11_isAllowed 67 = .ok (.iconst 0, 1) := dk_3 (dk_at dksX11_isAllowed_3 12 rfl rfl)
theorem dX11_isAllowed_68 : decode cX11_isAllowed 68 = .ok (.ireturn, 1) := dk_172 (dk_at dksX11_isAllowed_3 13 rfl rfl)
abbrev cX11_qAsksWord : ByteArray := prog_26_method_132_code
def yX11_qAsksWord : MethodName := ⟨RX11, "qAsksWord", "(I)V"⟩
def dkwX11_qAsksWord_7 : List UInt8 := [180, 0, 213, 182, 1, 26, 177]
abbrev dktX11_qAsksWord_7 : List UInt8 := dkwX11_qAsksWord_7 ++ []
def dkwX11_qAsksWord_6 : List UInt8 := [180, 0, 207, 182, 1, 26, 167, 0, 22, 42, 42, 180, 0, 210, 182, 1, 26, 167, 0, 11, 42, 42]
abbrev dktX11_qAsksWord_6 : List UInt8 := dkwX11_qAsksWord_6 ++ dktX11_qAsksWord_7
def dkwX11_qAsksWord_5 : List UInt8 := [180, 0, 204, 182, 1, 26, 167, 0, 44, 42, 42, 180, 0, 150, 182, 1, 26, 167, 0, 33, 42, 42]
abbrev dktX11_qAsksWord_5 : List UInt8 := dkwX11_qAsksWord_5 ++ dktX11_qAsksWord_6
def dkwX11_qAsksWord_4 : List UInt8 := [180, 0, 198, 182, 1, 26, 167, 0, 66, 42, 42, 180, 0, 201, 182, 1, 26, 167, 0, 55, 42, 42]
abbrev dktX11_qAsksWord_4 : List UInt8 := dkwX11_qAsksWord_4 ++ dktX11_qAsksWord_5
def dkwX11_qAsksWord_3 : List UInt8 := [180, 0, 192, 182, 1, 26, 167, 0, 88, 42, 42, 180, 0, 195, 182, 1, 26, 167, 0, 77, 42, 42]
abbrev dktX11_qAsksWord_3 : List UInt8 := dkwX11_qAsksWord_3 ++ dktX11_qAsksWord_4
def dkwX11_qAsksWord_2 : List UInt8 := [42, 42, 180, 0, 186, 182, 1, 26, 167, 0, 110, 42, 42, 180, 0, 189, 182, 1, 26, 167, 0, 99, 42, 42]
abbrev dktX11_qAsksWord_2 : List UInt8 := dkwX11_qAsksWord_2 ++ dktX11_qAsksWord_3
def dkwX11_qAsksWord_1 : List UInt8 := [170, 0, 0, 0, 0, 0, 165, 0, 0, 0, 0, 0, 0, 0, 9, 0, 0, 0, 55, 0, 0, 0, 66, 0, 0, 0, 77, 0, 0, 0, 88, 0, 0, 0, 99, 0, 0, 0, 110, 0, 0, 0, 121, 0, 0, 0, 132, 0, 0, 0, 143, 0, 0, 0, 154]
abbrev dktX11_qAsksWord_1 : List UInt8 := dkwX11_qAsksWord_1 ++ dktX11_qAsksWord_2
def dkwX11_qAsksWord_0 : List UInt8 := [27]
abbrev dktX11_qAsksWord_0 : List UInt8 := dkwX11_qAsksWord_0 ++ dktX11_qAsksWord_1
theorem dksX11_qAsksWord_0 : cX11_qAsksWord.data.toList.drop 0 = dktX11_qAsksWord_0 := by decide +kernel
theorem dksX11_qAsksWord_1 : cX11_qAsksWord.data.toList.drop 1 = dktX11_qAsksWord_1 := dk_seg dksX11_qAsksWord_0 1 rfl rfl
theorem dksX11_qAsksWord_2 : cX11_qAsksWord.data.toList.drop 56 = dktX11_qAsksWord_2 := dk_seg dksX11_qAsksWord_1 55 rfl rfl
theorem dksX11_qAsksWord_3 : cX11_qAsksWord.data.toList.drop 80 = dktX11_qAsksWord_3 := dk_seg dksX11_qAsksWord_2 24 rfl rfl
theorem dksX11_qAsksWord_4 : cX11_qAsksWord.data.toList.drop 102 = dktX11_qAsksWord_4 := dk_seg dksX11_qAsksWord_3 22 rfl rfl
theorem dksX11_qAsksWord_5 : cX11_qAsksWord.data.toList.drop 124 = dktX11_qAsksWord_5 := dk_seg dksX11_qAsksWord_4 22 rfl rfl
theorem dksX11_qAsksWord_6 : cX11_qAsksWord.data.toList.drop 146 = dktX11_qAsksWord_6 := dk_seg dksX11_qAsksWord_5 22 rfl rfl
theorem dksX11_qAsksWord_7 : cX11_qAsksWord.data.toList.drop 168 = dktX11_qAsksWord_7 := dk_seg dksX11_qAsksWord_6 22 rfl rfl
theorem dX11_qAsksWord_0 : decode cX11_qAsksWord 0 = .ok (.iload_n 1, 1) := dk_27 (dk_at dksX11_qAsksWord_0 0 rfl rfl)
theorem dX11_qAsksWord_1 : decode cX11_qAsksWord 1 = .ok (.tableswitch 165 0 9 #[55, 66, 77, 88, 99, 110, 121, 132, 143, 154], 55) := by decide +kernel
theorem dX11_qAsksWord_56 : decode cX11_qAsksWord 56 = .ok (.aload_n 0, 1) := dk_42 (dk_at dksX11_qAsksWord_2 0 rfl rfl)
theorem dX11_qAsksWord_57 : decode cX11_qAsksWord 57 = .ok (.aload_n 0, 1) := dk_42 (dk_at dksX11_qAsksWord_2 1 rfl rfl)
theorem dX11_qAsksWord_58 : decode cX11_qAsksWord 58 = .ok (.getfield 186, 3) := dk_180 0 186 (dk_at dksX11_qAsksWord_2 2 rfl rfl)
theorem dX11_qAsksWord_61 : decode cX11_qAsksWord 61 = .ok (.invokevirtual 282, 3) := dk_182 1 26 (dk_at dksX11_qAsksWord_2 5 rfl rfl)
theorem dX11_qAsksWord_64 : decode cX11_qAsksWord 64 = .ok (.goto 110, 3) := dk_167 0 110 (dk_at dksX11_qAsksWord_2 8 rfl rfl)
theorem dX11_qAsksWord_67 : decode cX11_qAsksWord 67 = .ok (.aload_n 0, 1) := dk_42 (dk_at dksX11_qAsksWord_2 11 rfl rfl)
theorem dX11_qAsksWord_68 : decode cX11_qAsksWord 68 = .ok (.aload_n 0, 1) := dk_42 (dk_at dksX11_qAsksWord_2 12 rfl rfl)
theorem dX11_qAsksWord_69 : decode cX11_qAsksWord 69 = .ok (.getfield 189, 3) := dk_180 0 189 (dk_at dksX11_qAsksWord_2 13 rfl rfl)
theorem dX11_qAsksWord_72 : decode cX11_qAsksWord 72 = .ok (.invokevirtual 282, 3) := dk_182 1 26 (dk_at dksX11_qAsksWord_2 16 rfl rfl)
theorem dX11_qAsksWord_75 : decode cX11_qAsksWord 75 = .ok (.goto 99, 3) := dk_167 0 99 (dk_at dksX11_qAsksWord_2 19 rfl rfl)
theorem dX11_qAsksWord_78 : decode cX11_qAsksWord 78 = .ok (.aload_n 0, 1) := dk_42 (dk_at dksX11_qAsksWord_2 22 rfl rfl)
theorem dX11_qAsksWord_79 : decode cX11_qAsksWord 79 = .ok (.aload_n 0, 1) := dk_42 (dk_at dksX11_qAsksWord_2 23 rfl rfl)
theorem dX11_qAsksWord_80 : decode cX11_qAsksWord 80 = .ok (.getfield 192, 3) := dk_180 0 192 (dk_at dksX11_qAsksWord_3 0 rfl rfl)
theorem dX11_qAsksWord_83 : decode cX11_qAsksWord 83 = .ok (.invokevirtual 282, 3) := dk_182 1 26 (dk_at dksX11_qAsksWord_3 3 rfl rfl)
theorem dX11_qAsksWord_86 : decode cX11_qAsksWord 86 = .ok (.goto 88, 3) := dk_167 0 88 (dk_at dksX11_qAsksWord_3 6 rfl rfl)
theorem dX11_qAsksWord_89 : decode cX11_qAsksWord 89 = .ok (.aload_n 0, 1) := dk_42 (dk_at dksX11_qAsksWord_3 9 rfl rfl)
theorem dX11_qAsksWord_90 : decode cX11_qAsksWord 90 = .ok (.aload_n 0, 1) := dk_42 (dk_at dksX11_qAsksWord_3 10 rfl rfl)
theorem dX11_qAsksWord_91 : decode cX11_qAsksWord 91 = .ok (.getfield 195, 3) := dk_180 0 195 (dk_at dksX11_qAsksWord_3 11 rfl rfl)
theorem dX11_qAsksWord_94 : decode cX11_qAsksWord 94 = .ok (.invokevirtual 282, 3) := dk_182 1 26 (dk_at dksX11_qAsksWord_3 14 rfl rfl)
theorem dX11_qAsksWord_97 : decode cX11_qAsksWord 97 = .ok (.goto 77, 3) := dk_167 0 77 (dk_at dksX11_qAsksWord_3 17 rfl rfl)
theorem dX11_qAsksWord_100 : decode cX11_qAsksWord 100 = .ok (.aload_n 0, 1) := dk_42 (dk_at dksX11_qAsksWord_3 20 rfl rfl)
theorem dX11_qAsksWord_101 : decode cX11_qAsksWord 101 = .ok (.aload_n 0, 1) := dk_42 (dk_at dksX11_qAsksWord_3 21 rfl rfl)
theorem dX11_qAsksWord_102 : decode cX11_qAsksWord 102 = .ok (.getfield 198, 3) := dk_180 0 198 (dk_at dksX11_qAsksWord_4 0 rfl rfl)
theorem dX11_qAsksWord_105 : decode cX11_qAsksWord 105 = .ok (.invokevirtual 282, 3) := dk_182 1 26 (dk_at dksX11_qAsksWord_4 3 rfl rfl)
theorem dX11_qAsksWord_108 : decode cX11_qAsksWord 108 = .ok (.goto 66, 3) := dk_167 0 66 (dk_at dksX11_qAsksWord_4 6 rfl rfl)
theorem dX11_qAsksWord_111 : decode cX11_qAsksWord 111 = .ok (.aload_n 0, 1) := dk_42 (dk_at dksX11_qAsksWord_4 9 rfl rfl)
theorem dX11_qAsksWord_112 : decode cX11_qAsksWord 112 = .ok (.aload_n 0, 1) := dk_42 (dk_at dksX11_qAsksWord_4 10 rfl rfl)
theorem dX11_qAsksWord_113 : decode cX11_qAsksWord 113 = .ok (.getfield 201, 3) := dk_180 0 201 (dk_at dksX11_qAsksWord_4 11 rfl rfl)
theorem dX11_qAsksWord_116 : decode cX11_qAsksWord 116 = .ok (.invokevirtual 282, 3) := dk_182 1 26 (dk_at dksX11_qAsksWord_4 14 rfl rfl)
theorem dX11_qAsksWord_119 : decode cX11_qAsksWord 119 = .ok (.goto 55, 3) := dk_167 0 55 (dk_at dksX11_qAsksWord_4 17 rfl rfl)
theorem dX11_qAsksWord_122 : decode cX11_qAsksWord 122 = .ok (.aload_n 0, 1) := dk_42 (dk_at dksX11_qAsksWord_4 20 rfl rfl)
theorem dX11_qAsksWord_123 : decode cX11_qAsksWord 123 = .ok (.aload_n 0, 1) := dk_42 (dk_at dksX11_qAsksWord_4 21 rfl rfl)
theorem dX11_qAsksWord_124 : decode cX11_qAsksWord 124 = .ok (.getfield 204, 3) := dk_180 0 204 (dk_at dksX11_qAsksWord_5 0 rfl rfl)
theorem dX11_qAsksWord_127 : decode cX11_qAsksWord 127 = .ok (.invokevirtual 282, 3) := dk_182 1 26 (dk_at dksX11_qAsksWord_5 3 rfl rfl)
theorem dX11_qAsksWord_130 : decode cX11_qAsksWord 130 = .ok (.goto 44, 3) := dk_167 0 44 (dk_at dksX11_qAsksWord_5 6 rfl rfl)
theorem dX11_qAsksWord_133 : decode cX11_qAsksWord 133 = .ok (.aload_n 0, 1) := dk_42 (dk_at dksX11_qAsksWord_5 9 rfl rfl)
theorem dX11_qAsksWord_134 : decode cX11_qAsksWord 134 = .ok (.aload_n 0, 1) := dk_42 (dk_at dksX11_qAsksWord_5 10 rfl rfl)
theorem dX11_qAsksWord_135 : decode cX11_qAsksWord 135 = .ok (.getfield 150, 3) := dk_180 0 150 (dk_at dksX11_qAsksWord_5 11 rfl rfl)
theorem dX11_qAsksWord_138 : decode cX11_qAsksWord 138 = .ok (.invokevirtual 282, 3) := dk_182 1 26 (dk_at dksX11_qAsksWord_5 14 rfl rfl)
theorem dX11_qAsksWord_141 : decode cX11_qAsksWord 141 = .ok (.goto 33, 3) := dk_167 0 33 (dk_at dksX11_qAsksWord_5 17 rfl rfl)
theorem dX11_qAsksWord_144 : decode cX11_qAsksWord 144 = .ok (.aload_n 0, 1) := dk_42 (dk_at dksX11_qAsksWord_5 20 rfl rfl)
theorem dX11_qAsksWord_145 : decode cX11_qAsksWord 145 = .ok (.aload_n 0, 1) := dk_42 (dk_at dksX11_qAsksWord_5 21 rfl rfl)
theorem dX11_qAsksWord_146 : decode cX11_qAsksWord 146 = .ok (.getfield 207, 3) := dk_180 0 207 (dk_at dksX11_qAsksWord_6 0 rfl rfl)
theorem dX11_qAsksWord_149 : decode cX11_qAsksWord 149 = .ok (.invokevirtual 282, 3) := dk_182 1 26 (dk_at dksX11_qAsksWord_6 3 rfl rfl)
theorem dX11_qAsksWord_152 : decode cX11_qAsksWord 152 = .ok (.goto 22, 3) := dk_167 0 22 (dk_at dksX11_qAsksWord_6 6 rfl rfl)
theorem dX11_qAsksWord_155 : decode cX11_qAsksWord 155 = .ok (.aload_n 0, 1) := dk_42 (dk_at dksX11_qAsksWord_6 9 rfl rfl)
theorem dX11_qAsksWord_156 : decode cX11_qAsksWord 156 = .ok (.aload_n 0, 1) := dk_42 (dk_at dksX11_qAsksWord_6 10 rfl rfl)
theorem dX11_qAsksWord_157 : decode cX11_qAsksWord 157 = .ok (.getfield 210, 3) := dk_180 0 210 (dk_at dksX11_qAsksWord_6 11 rfl rfl)
theorem dX11_qAsksWord_160 : decode cX11_qAsksWord 160 = .ok (.invokevirtual 282, 3) := dk_182 1 26 (dk_at dksX11_qAsksWord_6 14 rfl rfl)
theorem dX11_qAsksWord_163 : decode cX11_qAsksWord 163 = .ok (.goto 11, 3) := dk_167 0 11 (dk_at dksX11_qAsksWord_6 17 rfl rfl)
theorem dX11_qAsksWord_166 : decode cX11_qAsksWord 166 = .ok (.aload_n 0, 1) := dk_42 (dk_at dksX11_qAsksWord_6 20 rfl rfl)
theorem dX11_qAsksWord_167 : decode cX11_qAsksWord 167 = .ok (.aload_n 0, 1) := dk_42 (dk_at dksX11_qAsksWord_6 21 rfl rfl)
theorem dX11_qAsksWord_168 : decode cX11_qAsksWord 168 = .ok (.getfield 213, 3) := dk_180 0 213 (dk_at dksX11_qAsksWord_7 0 rfl rfl)
theorem dX11_qAsksWord_171 : decode cX11_qAsksWord 171 = .ok (.invokevirtual 282, 3) := dk_182 1 26 (dk_at dksX11_qAsksWord_7 3 rfl rfl)
theorem dX11_qAsksWord_174 : decode cX11_qAsksWord 174 = .ok (.return_, 1) := dk_177 (dk_at dksX11_qAsksWord_7 6 rfl rfl)
abbrev cX11_qEndsPart : ByteArray := prog_26_method_133_code
def yX11_qEndsPart : MethodName := ⟨RX11, "qEndsPart", "()V"⟩
def dkwX11_qEndsPart_2 : List UInt8 := [182, 2, 150, 167, 255, 208, 177]
abbrev dktX11_qEndsPart_2 : List UInt8 := dkwX11_qEndsPart_2 ++ []
def dkwX11_qEndsPart_1 : List UInt8 := [180, 1, 41, 4, 100, 46, 16, 60, 161, 0, 20, 42, 89, 180, 1, 44, 4, 100, 181, 1, 44, 42]
abbrev dktX11_qEndsPart_1 : List UInt8 := dkwX11_qEndsPart_1 ++ dktX11_qEndsPart_2
def dkwX11_qEndsPart_0 : List UInt8 := [42, 180, 0, 232, 154, 0, 47, 42, 180, 1, 41, 42, 180, 1, 47, 164, 0, 36, 42, 180, 0, 219, 42]
abbrev dktX11_qEndsPart_0 : List UInt8 := dkwX11_qEndsPart_0 ++ dktX11_qEndsPart_1
theorem dksX11_qEndsPart_0 : cX11_qEndsPart.data.toList.drop 0 = dktX11_qEndsPart_0 := by decide +kernel
theorem dksX11_qEndsPart_1 : cX11_qEndsPart.data.toList.drop 23 = dktX11_qEndsPart_1 := dk_seg dksX11_qEndsPart_0 23 rfl rfl
theorem dksX11_qEndsPart_2 : cX11_qEndsPart.data.toList.drop 45 = dktX11_qEndsPart_2 := dk_seg dksX11_qEndsPart_1 22 rfl rfl
theorem dX11_qEndsPart_0 : decode cX11_qEndsPart 0 = .ok (.aload_n 0, 1) := dk_42 (dk_at dksX11_qEndsPart_0 0 rfl rfl)
theorem dX11_qEndsPart_1 : decode cX11_qEndsPart 1 = .ok (.getfield 232, 3) := dk_180 0 232 (dk_at dksX11_qEndsPart_0 1 rfl rfl)
theorem dX11_qEndsPart_4 : decode cX11_qEndsPart 4 = .ok (.ifCond .ne 47, 3) := dk_154 0 47 (dk_at dksX11_qEndsPart_0 4 rfl rfl)
theorem dX11_qEndsPart_7 : decode cX11_qEndsPart 7 = .ok (.aload_n 0, 1) := dk_42 (dk_at dksX11_qEndsPart_0 7 rfl rfl)
theorem dX11_qEndsPart_8 : decode cX11_qEndsPart 8 = .ok (.getfield 297, 3) := dk_180 1 41 (dk_at dksX11_qEndsPart_0 8 rfl rfl)
theorem dX11_qEndsPart_11 : decode cX11_qEndsPart 11 = .ok (.aload_n 0, 1) := dk_42 (dk_at dksX11_qEndsPart_0 11 rfl rfl)
theorem dX11_qEndsPart_12 : decode cX11_qEndsPart 12 = .ok (.getfield 303, 3) := dk_180 1 47 (dk_at dksX11_qEndsPart_0 12 rfl rfl)
theorem dX11_qEndsPart_15 : decode cX11_qEndsPart 15 = .ok (.if_icmp .le 36, 3) := dk_164 0 36 (dk_at dksX11_qEndsPart_0 15 rfl rfl)
theorem dX11_qEndsPart_18 : decode cX11_qEndsPart 18 = .ok (.aload_n 0, 1) := dk_42 (dk_at dksX11_qEndsPart_0 18 rfl rfl)
theorem dX11_qEndsPart_19 : decode cX11_qEndsPart 19 = .ok (.getfield 219, 3) := dk_180 0 219 (dk_at dksX11_qEndsPart_0 19 rfl rfl)
theorem dX11_qEndsPart_22 : decode cX11_qEndsPart 22 = .ok (.aload_n 0, 1) := dk_42 (dk_at dksX11_qEndsPart_0 22 rfl rfl)
theorem dX11_qEndsPart_23 : decode cX11_qEndsPart 23 = .ok (.getfield 297, 3) := dk_180 1 41 (dk_at dksX11_qEndsPart_1 0 rfl rfl)
theorem dX11_qEndsPart_26 : decode cX11_qEndsPart 26 = .ok (.iconst 1, 1) := dk_4 (dk_at dksX11_qEndsPart_1 3 rfl rfl)
theorem dX11_qEndsPart_27 : decode cX11_qEndsPart 27 = .ok (.isub, 1) := dk_100 (dk_at dksX11_qEndsPart_1 4 rfl rfl)
theorem dX11_qEndsPart_28 : decode cX11_qEndsPart 28 = .ok (.iaload, 1) := dk_46 (dk_at dksX11_qEndsPart_1 5 rfl rfl)
theorem dX11_qEndsPart_29 : decode cX11_qEndsPart 29 = .ok (.bipush 60, 2) := dk_16 60 (dk_at dksX11_qEndsPart_1 6 rfl rfl)
theorem dX11_qEndsPart_31 : decode cX11_qEndsPart 31 = .ok (.if_icmp .lt 20, 3) := dk_161 0 20 (dk_at dksX11_qEndsPart_1 8 rfl rfl)
theorem dX11_qEndsPart_34 : decode cX11_qEndsPart 34 = .ok (.aload_n 0, 1) := dk_42 (dk_at dksX11_qEndsPart_1 11 rfl rfl)
theorem dX11_qEndsPart_35 : decode cX11_qEndsPart 35 = .ok (.dup, 1) := dk_89 (dk_at dksX11_qEndsPart_1 12 rfl rfl)
theorem dX11_qEndsPart_36 : decode cX11_qEndsPart 36 = .ok (.getfield 300, 3) := dk_180 1 44 (dk_at dksX11_qEndsPart_1 13 rfl rfl)
theorem dX11_qEndsPart_39 : decode cX11_qEndsPart 39 = .ok (.iconst 1, 1) := dk_4 (dk_at dksX11_qEndsPart_1 16 rfl rfl)
theorem dX11_qEndsPart_40 : decode cX11_qEndsPart 40 = .ok (.isub, 1) := dk_100 (dk_at dksX11_qEndsPart_1 17 rfl rfl)
theorem dX11_qEndsPart_41 : decode cX11_qEndsPart 41 = .ok (.putfield 300, 3) := dk_181 1 44 (dk_at dksX11_qEndsPart_1 18 rfl rfl)
theorem dX11_qEndsPart_44 : decode cX11_qEndsPart 44 = .ok (.aload_n 0, 1) := dk_42 (dk_at dksX11_qEndsPart_1 21 rfl rfl)
theorem dX11_qEndsPart_45 : decode cX11_qEndsPart 45 = .ok (.invokevirtual 662, 3) := dk_182 2 150 (dk_at dksX11_qEndsPart_2 0 rfl rfl)
theorem dX11_qEndsPart_48 : decode cX11_qEndsPart 48 = .ok (.goto (-48), 3) := dk_167 255 208 (dk_at dksX11_qEndsPart_2 3 rfl rfl)
theorem dX11_qEndsPart_51 : decode cX11_qEndsPart 51 = .ok (.return_, 1) := dk_177 (dk_at dksX11_qEndsPart_2 6 rfl rfl)
abbrev cX11_qDrops : ByteArray := prog_26_method_126_code
def yX11_qDrops : MethodName := ⟨RX11, "qDrops", "()V"⟩
def dkwX11_qDrops_0 : List UInt8 := [42, 89, 180, 1, 41, 4, 100, 181, 1, 41, 42, 42, 180, 0, 219, 42, 180, 1, 41, 46, 182, 2, 144, 177]
abbrev dktX11_qDrops_0 : List UInt8 := dkwX11_qDrops_0 ++ []
theorem dksX11_qDrops_0 : cX11_qDrops.data.toList.drop 0 = dktX11_qDrops_0 := by decide +kernel
theorem dX11_qDrops_0 : decode cX11_qDrops 0 = .ok (.aload_n 0, 1) := dk_42 (dk_at dksX11_qDrops_0 0 rfl rfl)
theorem dX11_qDrops_1 : decode cX11_qDrops 1 = .ok (.dup, 1) := dk_89 (dk_at dksX11_qDrops_0 1 rfl rfl)
theorem dX11_qDrops_2 : decode cX11_qDrops 2 = .ok (.getfield 297, 3) := dk_180 1 41 (dk_at dksX11_qDrops_0 2 rfl rfl)
theorem dX11_qDrops_5 : decode cX11_qDrops 5 = .ok (.iconst 1, 1) := dk_4 (dk_at dksX11_qDrops_0 5 rfl rfl)
theorem dX11_qDrops_6 : decode cX11_qDrops 6 = .ok (.isub, 1) := dk_100 (dk_at dksX11_qDrops_0 6 rfl rfl)
theorem dX11_qDrops_7 : decode cX11_qDrops 7 = .ok (.putfield 297, 3) := dk_181 1 41 (dk_at dksX11_qDrops_0 7 rfl rfl)
theorem dX11_qDrops_10 : decode cX11_qDrops 10 = .ok (.aload_n 0, 1) := dk_42 (dk_at dksX11_qDrops_0 10 rfl rfl)
theorem dX11_qDrops_11 : decode cX11_qDrops 11 = .ok (.aload_n 0, 1) := dk_42 (dk_at dksX11_qDrops_0 11 rfl rfl)
theorem dX11_qDrops_12 : decode cX11_qDrops 12 = .ok (.getfield 219, 3) := dk_180 0 219 (dk_at dksX11_qDrops_0 12 rfl rfl)
theorem dX11_qDrops_15 : decode cX11_qDrops 15 = .ok (.aload_n 0, 1) := dk_42 (dk_at dksX11_qDrops_0 15 rfl rfl)
theorem dX11_qDrops_16 : decode cX11_qDrops 16 = .ok (.getfield 297, 3) := dk_180 1 41 (dk_at dksX11_qDrops_0 16 rfl rfl)
theorem dX11_qDrops_19 : decode cX11_qDrops 19 = .ok (.iaload, 1) := dk_46 (dk_at dksX11_qDrops_0 19 rfl rfl)
theorem dX11_qDrops_20 : decode cX11_qDrops 20 = .ok (.invokevirtual 656, 3) := dk_182 2 144 (dk_at dksX11_qDrops_0 20 rfl rfl)
theorem dX11_qDrops_23 : decode cX11_qDrops 23 = .ok (.return_, 1) := dk_177 (dk_at dksX11_qDrops_0 23 rfl rfl)
abbrev cX11_qGoesOn : ByteArray := prog_26_method_135_code
def yX11_qGoesOn : MethodName := ⟨RX11, "qGoesOn", "()Z"⟩
def dkwX11_qGoesOn_16 : List UInt8 := [154, 0, 12, 42, 4, 42, 180, 0, 238, 182, 1, 6, 3, 172]
abbrev dktX11_qGoesOn_16 : List UInt8 := dkwX11_qGoesOn_16 ++ []
def dkwX11_qGoesOn_15 : List UInt8 := [180, 1, 41, 4, 100, 92, 46, 5, 96, 79, 4, 172, 42, 182, 2, 171, 2, 159, 0, 19, 42, 180, 0, 232]
abbrev dktX11_qGoesOn_15 : List UInt8 := dkwX11_qGoesOn_15 ++ dktX11_qGoesOn_16
def dkwX11_qGoesOn_14 : List UInt8 := [16, 44, 182, 1, 34, 42, 180, 0, 232, 153, 0, 5, 3, 172, 42, 182, 2, 174, 42, 180, 0, 219, 42]
abbrev dktX11_qGoesOn_14 : List UInt8 := dkwX11_qGoesOn_14 ++ dktX11_qGoesOn_15
def dkwX11_qGoesOn_13 : List UInt8 := [181, 1, 41, 4, 172, 42, 182, 2, 171, 16, 21, 159, 0, 12, 42, 182, 2, 171, 16, 22, 160, 0, 39, 42]
abbrev dktX11_qGoesOn_13 : List UInt8 := dkwX11_qGoesOn_13 ++ dktX11_qGoesOn_14
def dkwX11_qGoesOn_12 : List UInt8 := [182, 2, 150, 167, 255, 220, 42, 180, 0, 219, 42, 180, 1, 41, 27, 79, 42, 89, 180, 1, 41, 4, 96]
abbrev dktX11_qGoesOn_12 : List UInt8 := dkwX11_qGoesOn_12 ++ dktX11_qGoesOn_13
def dkwX11_qGoesOn_11 : List UInt8 := [182, 2, 177, 154, 0, 19, 42, 4, 182, 2, 177, 154, 0, 11, 42, 5, 182, 2, 177, 153, 0, 10, 42]
abbrev dktX11_qGoesOn_11 : List UInt8 := dkwX11_qGoesOn_11 ++ dktX11_qGoesOn_12
def dkwX11_qGoesOn_10 : List UInt8 := [100, 46, 16, 43, 160, 0, 7, 4, 167, 0, 4, 5, 60, 42, 6, 182, 2, 177, 154, 0, 27, 42, 7]
abbrev dktX11_qGoesOn_10 : List UInt8 := dkwX11_qGoesOn_10 ++ dktX11_qGoesOn_11
def dkwX11_qGoesOn_9 : List UInt8 := [182, 1, 10, 154, 0, 12, 42, 16, 45, 182, 1, 10, 153, 0, 86, 42, 180, 0, 7, 42, 180, 0, 238, 4]
abbrev dktX11_qGoesOn_9 : List UInt8 := dkwX11_qGoesOn_9 ++ dktX11_qGoesOn_10
def dkwX11_qGoesOn_8 : List UInt8 := [180, 0, 219, 42, 180, 1, 41, 27, 79, 42, 89, 180, 1, 41, 4, 96, 181, 1, 41, 4, 172, 42, 16, 43]
abbrev dktX11_qGoesOn_8 : List UInt8 := dkwX11_qGoesOn_8 ++ dktX11_qGoesOn_9
def dkwX11_qGoesOn_7 : List UInt8 := [182, 2, 177, 154, 0, 11, 42, 7, 182, 2, 177, 153, 0, 10, 42, 182, 2, 150, 167, 255, 236, 42]
abbrev dktX11_qGoesOn_7 : List UInt8 := dkwX11_qGoesOn_7 ++ dktX11_qGoesOn_8
def dkwX11_qGoesOn_6 : List UInt8 := [42, 180, 0, 7, 42, 180, 0, 238, 4, 100, 46, 16, 42, 160, 0, 7, 6, 167, 0, 4, 7, 60, 42, 6]
abbrev dktX11_qGoesOn_6 : List UInt8 := dkwX11_qGoesOn_6 ++ dktX11_qGoesOn_7
def dkwX11_qGoesOn_5 : List UInt8 := [182, 2, 168, 167, 255, 137, 42, 16, 42, 182, 1, 10, 154, 0, 12, 42, 16, 47, 182, 1, 10, 153, 0, 70]
abbrev dktX11_qGoesOn_5 : List UInt8 := dkwX11_qGoesOn_5 ++ dktX11_qGoesOn_6
def dkwX11_qGoesOn_4 : List UInt8 := [180, 0, 219, 42, 180, 1, 41, 46, 16, 23, 160, 0, 7, 8, 167, 0, 5, 16, 6, 182, 2, 144, 42]
abbrev dktX11_qGoesOn_4 : List UInt8 := dkwX11_qGoesOn_4 ++ dktX11_qGoesOn_5
def dkwX11_qGoesOn_3 : List UInt8 := [180, 1, 44, 4, 100, 181, 1, 44, 42, 180, 0, 219, 42, 180, 1, 41, 46, 16, 20, 159, 0, 27, 42, 42]
abbrev dktX11_qGoesOn_3 : List UInt8 := dkwX11_qGoesOn_3 ++ dktX11_qGoesOn_4
def dkwX11_qGoesOn_2 : List UInt8 := [180, 0, 238, 4, 96, 181, 0, 238, 42, 182, 2, 174, 42, 89, 180, 1, 41, 4, 100, 181, 1, 41, 42, 89]
abbrev dktX11_qGoesOn_2 : List UInt8 := dkwX11_qGoesOn_2 ++ dktX11_qGoesOn_3
def dkwX11_qGoesOn_1 : List UInt8 := [159, 0, 21, 42, 182, 2, 171, 16, 23, 159, 0, 12, 42, 182, 2, 171, 16, 24, 160, 0, 82, 42, 89]
abbrev dktX11_qGoesOn_1 : List UInt8 := dkwX11_qGoesOn_1 ++ dktX11_qGoesOn_2
def dkwX11_qGoesOn_0 : List UInt8 := [42, 180, 0, 232, 154, 0, 118, 42, 182, 0, 244, 16, 41, 160, 0, 109, 42, 182, 2, 171, 16, 20]
abbrev dktX11_qGoesOn_0 : List UInt8 := dkwX11_qGoesOn_0 ++ dktX11_qGoesOn_1
theorem dksX11_qGoesOn_0 : cX11_qGoesOn.data.toList.drop 0 = dktX11_qGoesOn_0 := by decide +kernel
theorem dksX11_qGoesOn_1 : cX11_qGoesOn.data.toList.drop 22 = dktX11_qGoesOn_1 := dk_seg dksX11_qGoesOn_0 22 rfl rfl
theorem dksX11_qGoesOn_2 : cX11_qGoesOn.data.toList.drop 45 = dktX11_qGoesOn_2 := dk_seg dksX11_qGoesOn_1 23 rfl rfl
theorem dksX11_qGoesOn_3 : cX11_qGoesOn.data.toList.drop 69 = dktX11_qGoesOn_3 := dk_seg dksX11_qGoesOn_2 24 rfl rfl
theorem dksX11_qGoesOn_4 : cX11_qGoesOn.data.toList.drop 93 = dktX11_qGoesOn_4 := dk_seg dksX11_qGoesOn_3 24 rfl rfl
theorem dksX11_qGoesOn_5 : cX11_qGoesOn.data.toList.drop 116 = dktX11_qGoesOn_5 := dk_seg dksX11_qGoesOn_4 23 rfl rfl
theorem dksX11_qGoesOn_6 : cX11_qGoesOn.data.toList.drop 140 = dktX11_qGoesOn_6 := dk_seg dksX11_qGoesOn_5 24 rfl rfl
theorem dksX11_qGoesOn_7 : cX11_qGoesOn.data.toList.drop 164 = dktX11_qGoesOn_7 := dk_seg dksX11_qGoesOn_6 24 rfl rfl
theorem dksX11_qGoesOn_8 : cX11_qGoesOn.data.toList.drop 186 = dktX11_qGoesOn_8 := dk_seg dksX11_qGoesOn_7 22 rfl rfl
theorem dksX11_qGoesOn_9 : cX11_qGoesOn.data.toList.drop 210 = dktX11_qGoesOn_9 := dk_seg dksX11_qGoesOn_8 24 rfl rfl
theorem dksX11_qGoesOn_10 : cX11_qGoesOn.data.toList.drop 234 = dktX11_qGoesOn_10 := dk_seg dksX11_qGoesOn_9 24 rfl rfl
theorem dksX11_qGoesOn_11 : cX11_qGoesOn.data.toList.drop 257 = dktX11_qGoesOn_11 := dk_seg dksX11_qGoesOn_10 23 rfl rfl
theorem dksX11_qGoesOn_12 : cX11_qGoesOn.data.toList.drop 280 = dktX11_qGoesOn_12 := dk_seg dksX11_qGoesOn_11 23 rfl rfl
theorem dksX11_qGoesOn_13 : cX11_qGoesOn.data.toList.drop 303 = dktX11_qGoesOn_13 := dk_seg dksX11_qGoesOn_12 23 rfl rfl
theorem dksX11_qGoesOn_14 : cX11_qGoesOn.data.toList.drop 327 = dktX11_qGoesOn_14 := dk_seg dksX11_qGoesOn_13 24 rfl rfl
theorem dksX11_qGoesOn_15 : cX11_qGoesOn.data.toList.drop 350 = dktX11_qGoesOn_15 := dk_seg dksX11_qGoesOn_14 23 rfl rfl
theorem dksX11_qGoesOn_16 : cX11_qGoesOn.data.toList.drop 374 = dktX11_qGoesOn_16 := dk_seg dksX11_qGoesOn_15 24 rfl rfl
theorem dX11_qGoesOn_0 : decode cX11_qGoesOn 0 = .ok (.aload_n 0, 1) := dk_42 (dk_at dksX11_qGoesOn_0 0 rfl rfl)
theorem dX11_qGoesOn_1 : decode cX11_qGoesOn 1 = .ok (.getfield 232, 3) := dk_180 0 232 (dk_at dksX11_qGoesOn_0 1 rfl rfl)
theorem dX11_qGoesOn_4 : decode cX11_qGoesOn 4 = .ok (.ifCond .ne 118, 3) := dk_154 0 118 (dk_at dksX11_qGoesOn_0 4 rfl rfl)
theorem dX11_qGoesOn_7 : decode cX11_qGoesOn 7 = .ok (.aload_n 0, 1) := dk_42 (dk_at dksX11_qGoesOn_0 7 rfl rfl)
theorem dX11_qGoesOn_8 : decode cX11_qGoesOn 8 = .ok (.invokevirtual 244, 3) := dk_182 0 244 (dk_at dksX11_qGoesOn_0 8 rfl rfl)
theorem dX11_qGoesOn_11 : decode cX11_qGoesOn 11 = .ok (.bipush 41, 2) := dk_16 41 (dk_at dksX11_qGoesOn_0 11 rfl rfl)
theorem dX11_qGoesOn_13 : decode cX11_qGoesOn 13 = .ok (.if_icmp .ne 109, 3) := dk_160 0 109 (dk_at dksX11_qGoesOn_0 13 rfl rfl)
theorem dX11_qGoesOn_16 : decode cX11_qGoesOn 16 = .ok (.aload_n 0, 1) := dk_42 (dk_at dksX11_qGoesOn_0 16 rfl rfl)
theorem dX11_qGoesOn_17 : decode cX11_qGoesOn 17 = .ok (.invokevirtual 683, 3) := dk_182 2 171 (dk_at dksX11_qGoesOn_0 17 rfl rfl)
theorem dX11_qGoesOn_20 : decode cX11_qGoesOn 20 = .ok (.bipush 20, 2) := dk_16 20 (dk_at dksX11_qGoesOn_0 20 rfl rfl)
theorem dX11_qGoesOn_22 : decode cX11_qGoesOn 22 = .ok (.if_icmp .eq 21, 3) := dk_159 0 21 (dk_at dksX11_qGoesOn_1 0 rfl rfl)
theorem dX11_qGoesOn_25 : decode cX11_qGoesOn 25 = .ok (.aload_n 0, 1) := dk_42 (dk_at dksX11_qGoesOn_1 3 rfl rfl)
theorem dX11_qGoesOn_26 : decode cX11_qGoesOn 26 = .ok (.invokevirtual 683, 3) := dk_182 2 171 (dk_at dksX11_qGoesOn_1 4 rfl rfl)
theorem dX11_qGoesOn_29 : decode cX11_qGoesOn 29 = .ok (.bipush 23, 2) := dk_16 23 (dk_at dksX11_qGoesOn_1 7 rfl rfl)
theorem dX11_qGoesOn_31 : decode cX11_qGoesOn 31 = .ok (.if_icmp .eq 12, 3) := dk_159 0 12 (dk_at dksX11_qGoesOn_1 9 rfl rfl)
theorem dX11_qGoesOn_34 : decode cX11_qGoesOn 34 = .ok (.aload_n 0, 1) := dk_42 (dk_at dksX11_qGoesOn_1 12 rfl rfl)
theorem dX11_qGoesOn_35 : decode cX11_qGoesOn 35 = .ok (.invokevirtual 683, 3) := dk_182 2 171 (dk_at dksX11_qGoesOn_1 13 rfl rfl)
theorem dX11_qGoesOn_38 : decode cX11_qGoesOn 38 = .ok (.bipush 24, 2) := dk_16 24 (dk_at dksX11_qGoesOn_1 16 rfl rfl)
theorem dX11_qGoesOn_40 : decode cX11_qGoesOn 40 = .ok (.if_icmp .ne 82, 3) := dk_160 0 82 (dk_at dksX11_qGoesOn_1 18 rfl rfl)
theorem dX11_qGoesOn_43 : decode cX11_qGoesOn 43 = .ok (.aload_n 0, 1) := dk_42 (dk_at dksX11_qGoesOn_1 21 rfl rfl)
theorem dX11_qGoesOn_44 : decode cX11_qGoesOn 44 = .ok (.dup, 1) := dk_89 (dk_at dksX11_qGoesOn_1 22 rfl rfl)
theorem dX11_qGoesOn_45 : decode cX11_qGoesOn 45 = .ok (.getfield 238, 3) := dk_180 0 238 (dk_at dksX11_qGoesOn_2 0 rfl rfl)
theorem dX11_qGoesOn_48 : decode cX11_qGoesOn 48 = .ok (.iconst 1, 1) := dk_4 (dk_at dksX11_qGoesOn_2 3 rfl rfl)
theorem dX11_qGoesOn_49 : decode cX11_qGoesOn 49 = .ok (.iadd, 1) := dk_96 (dk_at dksX11_qGoesOn_2 4 rfl rfl)
theorem dX11_qGoesOn_50 : decode cX11_qGoesOn 50 = .ok (.putfield 238, 3) := dk_181 0 238 (dk_at dksX11_qGoesOn_2 5 rfl rfl)
theorem dX11_qGoesOn_53 : decode cX11_qGoesOn 53 = .ok (.aload_n 0, 1) := dk_42 (dk_at dksX11_qGoesOn_2 8 rfl rfl)
theorem dX11_qGoesOn_54 : decode cX11_qGoesOn 54 = .ok (.invokevirtual 686, 3) := dk_182 2 174 (dk_at dksX11_qGoesOn_2 9 rfl rfl)
theorem dX11_qGoesOn_57 : decode cX11_qGoesOn 57 = .ok (.aload_n 0, 1) := dk_42 (dk_at dksX11_qGoesOn_2 12 rfl rfl)
theorem dX11_qGoesOn_58 : decode cX11_qGoesOn 58 = .ok (.dup, 1) := dk_89 (dk_at dksX11_qGoesOn_2 13 rfl rfl)
theorem dX11_qGoesOn_59 : decode cX11_qGoesOn 59 = .ok (.getfield 297, 3) := dk_180 1 41 (dk_at dksX11_qGoesOn_2 14 rfl rfl)
theorem dX11_qGoesOn_62 : decode cX11_qGoesOn 62 = .ok (.iconst 1, 1) := dk_4 (dk_at dksX11_qGoesOn_2 17 rfl rfl)
theorem dX11_qGoesOn_63 : decode cX11_qGoesOn 63 = .ok (.isub, 1) := dk_100 (dk_at dksX11_qGoesOn_2 18 rfl rfl)
theorem dX11_qGoesOn_64 : decode cX11_qGoesOn 64 = .ok (.putfield 297, 3) := dk_181 1 41 (dk_at dksX11_qGoesOn_2 19 rfl rfl)
theorem dX11_qGoesOn_67 : decode cX11_qGoesOn 67 = .ok (.aload_n 0, 1) := dk_42 (dk_at dksX11_qGoesOn_2 22 rfl rfl)
theorem dX11_qGoesOn_68 : decode cX11_qGoesOn 68 = .ok (.dup, 1) := dk_89 (dk_at dksX11_qGoesOn_2 23 rfl rfl)
theorem dX11_qGoesOn_69 : decode cX11_qGoesOn 69 = .ok (.getfield 300, 3) := dk_180 1 44 (dk_at dksX11_qGoesOn_3 0 rfl rfl)
theorem dX11_qGoesOn_72 : decode cX11_qGoesOn 72 = .ok (.iconst 1, 1) := dk_4 (dk_at dksX11_qGoesOn_3 3 rfl rfl)
theorem dX11_qGoesOn_73 : decode cX11_qGoesOn 73 = .ok (.isub, 1) := dk_100 (dk_at dksX11_qGoesOn_3 4 rfl rfl)
theorem dX11_qGoesOn_74 : decode cX11_qGoesOn 74 = .ok (.putfield 300, 3) := dk_181 1 44 (dk_at dksX11_qGoesOn_3 5 rfl rfl)
theorem dX11_qGoesOn_77 : decode cX11_qGoesOn 77 = .ok (.aload_n 0, 1) := dk_42 (dk_at dksX11_qGoesOn_3 8 rfl rfl)
theorem dX11_qGoesOn_78 : decode cX11_qGoesOn 78 = .ok (.getfield 219, 3) := dk_180 0 219 (dk_at dksX11_qGoesOn_3 9 rfl rfl)
theorem dX11_qGoesOn_81 : decode cX11_qGoesOn 81 = .ok (.aload_n 0, 1) := dk_42 (dk_at dksX11_qGoesOn_3 12 rfl rfl)
theorem dX11_qGoesOn_82 : decode cX11_qGoesOn 82 = .ok (.getfield 297, 3) := dk_180 1 41 (dk_at dksX11_qGoesOn_3 13 rfl rfl)
theorem dX11_qGoesOn_85 : decode cX11_qGoesOn 85 = .ok (.iaload, 1) := dk_46 (dk_at dksX11_qGoesOn_3 16 rfl rfl)
theorem dX11_qGoesOn_86 : decode cX11_qGoesOn 86 = .ok (.bipush 20, 2) := dk_16 20 (dk_at dksX11_qGoesOn_3 17 rfl rfl)
theorem dX11_qGoesOn_88 : decode cX11_qGoesOn 88 = .ok (.if_icmp .eq 27, 3) := dk_159 0 27 (dk_at dksX11_qGoesOn_3 19 rfl rfl)
theorem dX11_qGoesOn_91 : decode cX11_qGoesOn 91 = .ok (.aload_n 0, 1) := dk_42 (dk_at dksX11_qGoesOn_3 22 rfl rfl)
theorem dX11_qGoesOn_92 : decode cX11_qGoesOn 92 = .ok (.aload_n 0, 1) := dk_42 (dk_at dksX11_qGoesOn_3 23 rfl rfl)
theorem dX11_qGoesOn_93 : decode cX11_qGoesOn 93 = .ok (.getfield 219, 3) := dk_180 0 219 (dk_at dksX11_qGoesOn_4 0 rfl rfl)
theorem dX11_qGoesOn_96 : decode cX11_qGoesOn 96 = .ok (.aload_n 0, 1) := dk_42 (dk_at dksX11_qGoesOn_4 3 rfl rfl)
theorem dX11_qGoesOn_97 : decode cX11_qGoesOn 97 = .ok (.getfield 297, 3) := dk_180 1 41 (dk_at dksX11_qGoesOn_4 4 rfl rfl)
theorem dX11_qGoesOn_100 : decode cX11_qGoesOn 100 = .ok (.iaload, 1) := dk_46 (dk_at dksX11_qGoesOn_4 7 rfl rfl)
theorem dX11_qGoesOn_101 : decode cX11_qGoesOn 101 = .ok (.bipush 23, 2) := dk_16 23 (dk_at dksX11_qGoesOn_4 8 rfl rfl)
theorem dX11_qGoesOn_103 : decode cX11_qGoesOn 103 = .ok (.if_icmp .ne 7, 3) := dk_160 0 7 (dk_at dksX11_qGoesOn_4 10 rfl rfl)
theorem dX11_qGoesOn_106 : decode cX11_qGoesOn 106 = .ok (.iconst 5, 1) := dk_8 (dk_at dksX11_qGoesOn_4 13 rfl rfl)
theorem dX11_qGoesOn_107 : decode cX11_qGoesOn 107 = .ok (.goto 5, 3) := dk_167 0 5 (dk_at dksX11_qGoesOn_4 14 rfl rfl)
theorem dX11_qGoesOn_110 : decode cX11_qGoesOn 110 = .ok (.bipush 6, 2) := dk_16 6 (dk_at dksX11_qGoesOn_4 17 rfl rfl)
theorem dX11_qGoesOn_112 : decode cX11_qGoesOn 112 = .ok (.invokevirtual 656, 3) := dk_182 2 144 (dk_at dksX11_qGoesOn_4 19 rfl rfl)
theorem dX11_qGoesOn_115 : decode cX11_qGoesOn 115 = .ok (.aload_n 0, 1) := dk_42 (dk_at dksX11_qGoesOn_4 22 rfl rfl)
theorem dX11_qGoesOn_116 : decode cX11_qGoesOn 116 = .ok (.invokevirtual 680, 3) := dk_182 2 168 (dk_at dksX11_qGoesOn_5 0 rfl rfl)
theorem dX11_qGoesOn_119 : decode cX11_qGoesOn 119 = .ok (.goto (-119), 3) := dk_167 255 137 (dk_at dksX11_qGoesOn_5 3 rfl rfl)
theorem dX11_qGoesOn_122 : decode cX11_qGoesOn 122 = .ok (.aload_n 0, 1) := dk_42 (dk_at dksX11_qGoesOn_5 6 rfl rfl)
theorem dX11_qGoesOn_123 : decode cX11_qGoesOn 123 = .ok (.bipush 42, 2) := dk_16 42 (dk_at dksX11_qGoesOn_5 7 rfl rfl)
theorem dX11_qGoesOn_125 : decode cX11_qGoesOn 125 = .ok (.invokevirtual 266, 3) := dk_182 1 10 (dk_at dksX11_qGoesOn_5 9 rfl rfl)
theorem dX11_qGoesOn_128 : decode cX11_qGoesOn 128 = .ok (.ifCond .ne 12, 3) := dk_154 0 12 (dk_at dksX11_qGoesOn_5 12 rfl rfl)
theorem dX11_qGoesOn_131 : decode cX11_qGoesOn 131 = .ok (.aload_n 0, 1) := dk_42 (dk_at dksX11_qGoesOn_5 15 rfl rfl)
theorem dX11_qGoesOn_132 : decode cX11_qGoesOn 132 = .ok (.bipush 47, 2) := dk_16 47 (dk_at dksX11_qGoesOn_5 16 rfl rfl)
theorem dX11_qGoesOn_134 : decode cX11_qGoesOn 134 = .ok (.invokevirtual 266, 3) := dk_182 1 10 (dk_at dksX11_qGoesOn_5 18 rfl rfl)
theorem dX11_qGoesOn_137 : decode cX11_qGoesOn 137 = .ok (.ifCond .eq 70, 3) := dk_153 0 70 (dk_at dksX11_qGoesOn_5 21 rfl rfl)
theorem dX11_qGoesOn_140 : decode cX11_qGoesOn 140 = .ok (.aload_n 0, 1) := dk_42 (dk_at dksX11_qGoesOn_6 0 rfl rfl)
theorem dX11_qGoesOn_141 : decode cX11_qGoesOn 141 = .ok (.getfield 7, 3) := dk_180 0 7 (dk_at dksX11_qGoesOn_6 1 rfl rfl)
theorem dX11_qGoesOn_144 : decode cX11_qGoesOn 144 = .ok (.aload_n 0, 1) := dk_42 (dk_at dksX11_qGoesOn_6 4 rfl rfl)
theorem dX11_qGoesOn_145 : decode cX11_qGoesOn 145 = .ok (.getfield 238, 3) := dk_180 0 238 (dk_at dksX11_qGoesOn_6 5 rfl rfl)
theorem dX11_qGoesOn_148 : decode cX11_qGoesOn 148 = .ok (.iconst 1, 1) := dk_4 (dk_at dksX11_qGoesOn_6 8 rfl rfl)
theorem dX11_qGoesOn_149 : decode cX11_qGoesOn 149 = .ok (.isub, 1) := dk_100 (dk_at dksX11_qGoesOn_6 9 rfl rfl)
theorem dX11_qGoesOn_150 : decode cX11_qGoesOn 150 = .ok (.iaload, 1) := dk_46 (dk_at dksX11_qGoesOn_6 10 rfl rfl)
theorem dX11_qGoesOn_151 : decode cX11_qGoesOn 151 = .ok (.bipush 42, 2) := dk_16 42 (dk_at dksX11_qGoesOn_6 11 rfl rfl)
theorem dX11_qGoesOn_153 : decode cX11_qGoesOn 153 = .ok (.if_icmp .ne 7, 3) := dk_160 0 7 (dk_at dksX11_qGoesOn_6 13 rfl rfl)
theorem dX11_qGoesOn_156 : decode cX11_qGoesOn 156 = .ok (.iconst 3, 1) := dk_6 (dk_at dksX11_qGoesOn_6 16 rfl rfl)
theorem dX11_qGoesOn_157 : decode cX11_qGoesOn 157 = .ok (.goto 4, 3) := dk_167 0 4 (dk_at dksX11_qGoesOn_6 17 rfl rfl)
theorem dX11_qGoesOn_160 : decode cX11_qGoesOn 160 = .ok (.iconst 4, 1) := dk_7 (dk_at dksX11_qGoesOn_6 20 rfl rfl)
theorem dX11_qGoesOn_161 : decode cX11_qGoesOn 161 = .ok (.istore_n 1, 1) := dk_60 (dk_at dksX11_qGoesOn_6 21 rfl rfl)
theorem dX11_qGoesOn_162 : decode cX11_qGoesOn 162 = .ok (.aload_n 0, 1) := dk_42 (dk_at dksX11_qGoesOn_6 22 rfl rfl)
theorem dX11_qGoesOn_163 : decode cX11_qGoesOn 163 = .ok (.iconst 3, 1) := dk_6 (dk_at dksX11_qGoesOn_6 23 rfl rfl)
theorem dX11_qGoesOn_164 : decode cX11_qGoesOn 164 = .ok (.invokevirtual 689, 3) := dk_182 2 177 (dk_at dksX11_qGoesOn_7 0 rfl rfl)
theorem dX11_qGoesOn_167 : decode cX11_qGoesOn 167 = .ok (.ifCond .ne 11, 3) := dk_154 0 11 (dk_at dksX11_qGoesOn_7 3 rfl rfl)
theorem dX11_qGoesOn_170 : decode cX11_qGoesOn 170 = .ok (.aload_n 0, 1) := dk_42 (dk_at dksX11_qGoesOn_7 6 rfl rfl)
theorem dX11_qGoesOn_171 : decode cX11_qGoesOn 171 = .ok (.iconst 4, 1) := dk_7 (dk_at dksX11_qGoesOn_7 7 rfl rfl)
theorem dX11_qGoesOn_172 : decode cX11_qGoesOn 172 = .ok (.invokevirtual 689, 3) := dk_182 2 177 (dk_at dksX11_qGoesOn_7 8 rfl rfl)
theorem dX11_qGoesOn_175 : decode cX11_qGoesOn 175 = .ok (.ifCond .eq 10, 3) := dk_153 0 10 (dk_at dksX11_qGoesOn_7 11 rfl rfl)
theorem dX11_qGoesOn_178 : decode cX11_qGoesOn 178 = .ok (.aload_n 0, 1) := dk_42 (dk_at dksX11_qGoesOn_7 14 rfl rfl)
theorem dX11_qGoesOn_179 : decode cX11_qGoesOn 179 = .ok (.invokevirtual 662, 3) := dk_182 2 150 (dk_at dksX11_qGoesOn_7 15 rfl rfl)
theorem dX11_qGoesOn_182 : decode cX11_qGoesOn 182 = .ok (.goto (-20), 3) := dk_167 255 236 (dk_at dksX11_qGoesOn_7 18 rfl rfl)
theorem dX11_qGoesOn_185 : decode cX11_qGoesOn 185 = .ok (.aload_n 0, 1) := dk_42 (dk_at dksX11_qGoesOn_7 21 rfl rfl)
theorem dX11_qGoesOn_186 : decode cX11_qGoesOn 186 = .ok (.getfield 219, 3) := dk_180 0 219 (dk_at dksX11_qGoesOn_8 0 rfl rfl)
theorem dX11_qGoesOn_189 : decode cX11_qGoesOn 189 = .ok (.aload_n 0, 1) := dk_42 (dk_at dksX11_qGoesOn_8 3 rfl rfl)
theorem dX11_qGoesOn_190 : decode cX11_qGoesOn 190 = .ok (.getfield 297, 3) := dk_180 1 41 (dk_at dksX11_qGoesOn_8 4 rfl rfl)
theorem dX11_qGoesOn_193 : decode cX11_qGoesOn 193 = .ok (.iload_n 1, 1) := dk_27 (dk_at dksX11_qGoesOn_8 7 rfl rfl)
theorem dX11_qGoesOn_194 : decode cX11_qGoesOn 194 = .ok (.iastore, 1) := dk_79 (dk_at dksX11_qGoesOn_8 8 rfl rfl)
theorem dX11_qGoesOn_195 : decode cX11_qGoesOn 195 = .ok (.aload_n 0, 1) := dk_42 (dk_at dksX11_qGoesOn_8 9 rfl rfl)
theorem dX11_qGoesOn_196 : decode cX11_qGoesOn 196 = .ok (.dup, 1) := dk_89 (dk_at dksX11_qGoesOn_8 10 rfl rfl)
theorem dX11_qGoesOn_197 : decode cX11_qGoesOn 197 = .ok (.getfield 297, 3) := dk_180 1 41 (dk_at dksX11_qGoesOn_8 11 rfl rfl)
theorem dX11_qGoesOn_200 : decode cX11_qGoesOn 200 = .ok (.iconst 1, 1) := dk_4 (dk_at dksX11_qGoesOn_8 14 rfl rfl)
theorem dX11_qGoesOn_201 : decode cX11_qGoesOn 201 = .ok (.iadd, 1) := dk_96 (dk_at dksX11_qGoesOn_8 15 rfl rfl)
theorem dX11_qGoesOn_202 : decode cX11_qGoesOn 202 = .ok (.putfield 297, 3) := dk_181 1 41 (dk_at dksX11_qGoesOn_8 16 rfl rfl)
theorem dX11_qGoesOn_205 : decode cX11_qGoesOn 205 = .ok (.iconst 1, 1) := dk_4 (dk_at dksX11_qGoesOn_8 19 rfl rfl)
theorem dX11_qGoesOn_206 : decode cX11_qGoesOn 206 = .ok (.ireturn, 1) := dk_172 (dk_at dksX11_qGoesOn_8 20 rfl rfl)
theorem dX11_qGoesOn_207 : decode cX11_qGoesOn 207 = .ok (.aload_n 0, 1) := dk_42 (dk_at dksX11_qGoesOn_8 21 rfl rfl)
theorem dX11_qGoesOn_208 : decode cX11_qGoesOn 208 = .ok (.bipush 43, 2) := dk_16 43 (dk_at dksX11_qGoesOn_8 22 rfl rfl)
theorem dX11_qGoesOn_210 : decode cX11_qGoesOn 210 = .ok (.invokevirtual 266, 3) := dk_182 1 10 (dk_at dksX11_qGoesOn_9 0 rfl rfl)
theorem dX11_qGoesOn_213 : decode cX11_qGoesOn 213 = .ok (.ifCond .ne 12, 3) := dk_154 0 12 (dk_at dksX11_qGoesOn_9 3 rfl rfl)
theorem dX11_qGoesOn_216 : decode cX11_qGoesOn 216 = .ok (.aload_n 0, 1) := dk_42 (dk_at dksX11_qGoesOn_9 6 rfl rfl)
theorem dX11_qGoesOn_217 : decode cX11_qGoesOn 217 = .ok (.bipush 45, 2) := dk_16 45 (dk_at dksX11_qGoesOn_9 7 rfl rfl)
theorem dX11_qGoesOn_219 : decode cX11_qGoesOn 219 = .ok (.invokevirtual 266, 3) := dk_182 1 10 (dk_at dksX11_qGoesOn_9 9 rfl rfl)
theorem dX11_qGoesOn_222 : decode cX11_qGoesOn 222 = .ok (.ifCond .eq 86, 3) := dk_153 0 86 (dk_at dksX11_qGoesOn_9 12 rfl rfl)
theorem dX11_qGoesOn_225 : decode cX11_qGoesOn 225 = .ok (.aload_n 0, 1) := dk_42 (dk_at dksX11_qGoesOn_9 15 rfl rfl)
theorem dX11_qGoesOn_226 : decode cX11_qGoesOn 226 = .ok (.getfield 7, 3) := dk_180 0 7 (dk_at dksX11_qGoesOn_9 16 rfl rfl)
theorem dX11_qGoesOn_229 : decode cX11_qGoesOn 229 = .ok (.aload_n 0, 1) := dk_42 (dk_at dksX11_qGoesOn_9 19 rfl rfl)
theorem dX11_qGoesOn_230 : decode cX11_qGoesOn 230 = .ok (.getfield 238, 3) := dk_180 0 238 (dk_at dksX11_qGoesOn_9 20 rfl rfl)
theorem dX11_qGoesOn_233 : decode cX11_qGoesOn 233 = .ok (.iconst 1, 1) := dk_4 (dk_at dksX11_qGoesOn_9 23 rfl rfl)
theorem dX11_qGoesOn_234 : decode cX11_qGoesOn 234 = .ok (.isub, 1) := dk_100 (dk_at dksX11_qGoesOn_10 0 rfl rfl)
theorem dX11_qGoesOn_235 : decode cX11_qGoesOn 235 = .ok (.iaload, 1) := dk_46 (dk_at dksX11_qGoesOn_10 1 rfl rfl)
theorem dX11_qGoesOn_236 : decode cX11_qGoesOn 236 = .ok (.bipush 43, 2) := dk_16 43 (dk_at dksX11_qGoesOn_10 2 rfl rfl)
theorem dX11_qGoesOn_238 : decode cX11_qGoesOn 238 = .ok (.if_icmp .ne 7, 3) := dk_160 0 7 (dk_at dksX11_qGoesOn_10 4 rfl rfl)
theorem dX11_qGoesOn_241 : decode cX11_qGoesOn 241 = .ok (.iconst 1, 1) := dk_4 (dk_at dksX11_qGoesOn_10 7 rfl rfl)
theorem dX11_qGoesOn_242 : decode cX11_qGoesOn 242 = .ok (.goto 4, 3) := dk_167 0 4 (dk_at dksX11_qGoesOn_10 8 rfl rfl)
theorem dX11_qGoesOn_245 : decode cX11_qGoesOn 245 = .ok (.iconst 2, 1) := dk_5 (dk_at dksX11_qGoesOn_10 11 rfl rfl)
theorem dX11_qGoesOn_246 : decode cX11_qGoesOn 246 = .ok (.istore_n 1, 1) := dk_60 (dk_at dksX11_qGoesOn_10 12 rfl rfl)
theorem dX11_qGoesOn_247 : decode cX11_qGoesOn 247 = .ok (.aload_n 0, 1) := dk_42 (dk_at dksX11_qGoesOn_10 13 rfl rfl)
theorem dX11_qGoesOn_248 : decode cX11_qGoesOn 248 = .ok (.iconst 3, 1) := dk_6 (dk_at dksX11_qGoesOn_10 14 rfl rfl)
theorem dX11_qGoesOn_249 : decode cX11_qGoesOn 249 = .ok (.invokevirtual 689, 3) := dk_182 2 177 (dk_at dksX11_qGoesOn_10 15 rfl rfl)
theorem dX11_qGoesOn_252 : decode cX11_qGoesOn 252 = .ok (.ifCond .ne 27, 3) := dk_154 0 27 (dk_at dksX11_qGoesOn_10 18 rfl rfl)
theorem dX11_qGoesOn_255 : decode cX11_qGoesOn 255 = .ok (.aload_n 0, 1) := dk_42 (dk_at dksX11_qGoesOn_10 21 rfl rfl)
theorem dX11_qGoesOn_256 : decode cX11_qGoesOn 256 = .ok (.iconst 4, 1) := dk_7 (dk_at dksX11_qGoesOn_10 22 rfl rfl)
theorem dX11_qGoesOn_257 : decode cX11_qGoesOn 257 = .ok (.invokevirtual 689, 3) := dk_182 2 177 (dk_at dksX11_qGoesOn_11 0 rfl rfl)
theorem dX11_qGoesOn_260 : decode cX11_qGoesOn 260 = .ok (.ifCond .ne 19, 3) := dk_154 0 19 (dk_at dksX11_qGoesOn_11 3 rfl rfl)
theorem dX11_qGoesOn_263 : decode cX11_qGoesOn 263 = .ok (.aload_n 0, 1) := dk_42 (dk_at dksX11_qGoesOn_11 6 rfl rfl)
theorem dX11_qGoesOn_264 : decode cX11_qGoesOn 264 = .ok (.iconst 1, 1) := dk_4 (dk_at dksX11_qGoesOn_11 7 rfl rfl)
theorem dX11_qGoesOn_265 : decode cX11_qGoesOn 265 = .ok (.invokevirtual 689, 3) := dk_182 2 177 (dk_at dksX11_qGoesOn_11 8 rfl rfl)
theorem dX11_qGoesOn_268 : decode cX11_qGoesOn 268 = .ok (.ifCond .ne 11, 3) := dk_154 0 11 (dk_at dksX11_qGoesOn_11 11 rfl rfl)
theorem dX11_qGoesOn_271 : decode cX11_qGoesOn 271 = .ok (.aload_n 0, 1) := dk_42 (dk_at dksX11_qGoesOn_11 14 rfl rfl)
theorem dX11_qGoesOn_272 : decode cX11_qGoesOn 272 = .ok (.iconst 2, 1) := dk_5 (dk_at dksX11_qGoesOn_11 15 rfl rfl)
theorem dX11_qGoesOn_273 : decode cX11_qGoesOn 273 = .ok (.invokevirtual 689, 3) := dk_182 2 177 (dk_at dksX11_qGoesOn_11 16 rfl rfl)
theorem dX11_qGoesOn_276 : decode cX11_qGoesOn 276 = .ok (.ifCond .eq 10, 3) := dk_153 0 10 (dk_at dksX11_qGoesOn_11 19 rfl rfl)
theorem dX11_qGoesOn_279 : decode cX11_qGoesOn 279 = .ok (.aload_n 0, 1) := dk_42 (dk_at dksX11_qGoesOn_11 22 rfl rfl)
theorem dX11_qGoesOn_280 : decode cX11_qGoesOn 280 = .ok (.invokevirtual 662, 3) := dk_182 2 150 (dk_at dksX11_qGoesOn_12 0 rfl rfl)
theorem dX11_qGoesOn_283 : decode cX11_qGoesOn 283 = .ok (.goto (-36), 3) := dk_167 255 220 (dk_at dksX11_qGoesOn_12 3 rfl rfl)
theorem dX11_qGoesOn_286 : decode cX11_qGoesOn 286 = .ok (.aload_n 0, 1) := dk_42 (dk_at dksX11_qGoesOn_12 6 rfl rfl)
theorem dX11_qGoesOn_287 : decode cX11_qGoesOn 287 = .ok (.getfield 219, 3) := dk_180 0 219 (dk_at dksX11_qGoesOn_12 7 rfl rfl)
theorem dX11_qGoesOn_290 : decode cX11_qGoesOn 290 = .ok (.aload_n 0, 1) := dk_42 (dk_at dksX11_qGoesOn_12 10 rfl rfl)
theorem dX11_qGoesOn_291 : decode cX11_qGoesOn 291 = .ok (.getfield 297, 3) := dk_180 1 41 (dk_at dksX11_qGoesOn_12 11 rfl rfl)
theorem dX11_qGoesOn_294 : decode cX11_qGoesOn 294 = .ok (.iload_n 1, 1) := dk_27 (dk_at dksX11_qGoesOn_12 14 rfl rfl)
theorem dX11_qGoesOn_295 : decode cX11_qGoesOn 295 = .ok (.iastore, 1) := dk_79 (dk_at dksX11_qGoesOn_12 15 rfl rfl)
theorem dX11_qGoesOn_296 : decode cX11_qGoesOn 296 = .ok (.aload_n 0, 1) := dk_42 (dk_at dksX11_qGoesOn_12 16 rfl rfl)
theorem dX11_qGoesOn_297 : decode cX11_qGoesOn 297 = .ok (.dup, 1) := dk_89 (dk_at dksX11_qGoesOn_12 17 rfl rfl)
theorem dX11_qGoesOn_298 : decode cX11_qGoesOn 298 = .ok (.getfield 297, 3) := dk_180 1 41 (dk_at dksX11_qGoesOn_12 18 rfl rfl)
theorem dX11_qGoesOn_301 : decode cX11_qGoesOn 301 = .ok (.iconst 1, 1) := dk_4 (dk_at dksX11_qGoesOn_12 21 rfl rfl)
theorem dX11_qGoesOn_302 : decode cX11_qGoesOn 302 = .ok (.iadd, 1) := dk_96 (dk_at dksX11_qGoesOn_12 22 rfl rfl)
theorem dX11_qGoesOn_303 : decode cX11_qGoesOn 303 = .ok (.putfield 297, 3) := dk_181 1 41 (dk_at dksX11_qGoesOn_13 0 rfl rfl)
theorem dX11_qGoesOn_306 : decode cX11_qGoesOn 306 = .ok (.iconst 1, 1) := dk_4 (dk_at dksX11_qGoesOn_13 3 rfl rfl)
theorem dX11_qGoesOn_307 : decode cX11_qGoesOn 307 = .ok (.ireturn, 1) := dk_172 (dk_at dksX11_qGoesOn_13 4 rfl rfl)
theorem dX11_qGoesOn_308 : decode cX11_qGoesOn 308 = .ok (.aload_n 0, 1) := dk_42 (dk_at dksX11_qGoesOn_13 5 rfl rfl)
theorem dX11_qGoesOn_309 : decode cX11_qGoesOn 309 = .ok (.invokevirtual 683, 3) := dk_182 2 171 (dk_at dksX11_qGoesOn_13 6 rfl rfl)
theorem dX11_qGoesOn_312 : decode cX11_qGoesOn 312 = .ok (.bipush 21, 2) := dk_16 21 (dk_at dksX11_qGoesOn_13 9 rfl rfl)
theorem dX11_qGoesOn_314 : decode cX11_qGoesOn 314 = .ok (.if_icmp .eq 12, 3) := dk_159 0 12 (dk_at dksX11_qGoesOn_13 11 rfl rfl)
theorem dX11_qGoesOn_317 : decode cX11_qGoesOn 317 = .ok (.aload_n 0, 1) := dk_42 (dk_at dksX11_qGoesOn_13 14 rfl rfl)
theorem dX11_qGoesOn_318 : decode cX11_qGoesOn 318 = .ok (.invokevirtual 683, 3) := dk_182 2 171 (dk_at dksX11_qGoesOn_13 15 rfl rfl)
theorem dX11_qGoesOn_321 : decode cX11_qGoesOn 321 = .ok (.bipush 22, 2) := dk_16 22 (dk_at dksX11_qGoesOn_13 18 rfl rfl)
theorem dX11_qGoesOn_323 : decode cX11_qGoesOn 323 = .ok (.if_icmp .ne 39, 3) := dk_160 0 39 (dk_at dksX11_qGoesOn_13 20 rfl rfl)
theorem dX11_qGoesOn_326 : decode cX11_qGoesOn 326 = .ok (.aload_n 0, 1) := dk_42 (dk_at dksX11_qGoesOn_13 23 rfl rfl)
theorem dX11_qGoesOn_327 : decode cX11_qGoesOn 327 = .ok (.bipush 44, 2) := dk_16 44 (dk_at dksX11_qGoesOn_14 0 rfl rfl)
theorem dX11_qGoesOn_329 : decode cX11_qGoesOn 329 = .ok (.invokevirtual 290, 3) := dk_182 1 34 (dk_at dksX11_qGoesOn_14 2 rfl rfl)
theorem dX11_qGoesOn_332 : decode cX11_qGoesOn 332 = .ok (.aload_n 0, 1) := dk_42 (dk_at dksX11_qGoesOn_14 5 rfl rfl)
theorem dX11_qGoesOn_333 : decode cX11_qGoesOn 333 = .ok (.getfield 232, 3) := dk_180 0 232 (dk_at dksX11_qGoesOn_14 6 rfl rfl)
theorem dX11_qGoesOn_336 : decode cX11_qGoesOn 336 = .ok (.ifCond .eq 5, 3) := dk_153 0 5 (dk_at dksX11_qGoesOn_14 9 rfl rfl)
theorem dX11_qGoesOn_339 : decode cX11_qGoesOn 339 = .ok (.iconst 0, 1) := dk_3 (dk_at dksX11_qGoesOn_14 12 rfl rfl)
theorem dX11_qGoesOn_340 : decode cX11_qGoesOn 340 = .ok (.ireturn, 1) := dk_172 (dk_at dksX11_qGoesOn_14 13 rfl rfl)
theorem dX11_qGoesOn_341 : decode cX11_qGoesOn 341 = .ok (.aload_n 0, 1) := dk_42 (dk_at dksX11_qGoesOn_14 14 rfl rfl)
theorem dX11_qGoesOn_342 : decode cX11_qGoesOn 342 = .ok (.invokevirtual 686, 3) := dk_182 2 174 (dk_at dksX11_qGoesOn_14 15 rfl rfl)
theorem dX11_qGoesOn_345 : decode cX11_qGoesOn 345 = .ok (.aload_n 0, 1) := dk_42 (dk_at dksX11_qGoesOn_14 18 rfl rfl)
theorem dX11_qGoesOn_346 : decode cX11_qGoesOn 346 = .ok (.getfield 219, 3) := dk_180 0 219 (dk_at dksX11_qGoesOn_14 19 rfl rfl)
theorem dX11_qGoesOn_349 : decode cX11_qGoesOn 349 = .ok (.aload_n 0, 1) := dk_42 (dk_at dksX11_qGoesOn_14 22 rfl rfl)
theorem dX11_qGoesOn_350 : decode cX11_qGoesOn 350 = .ok (.getfield 297, 3) := dk_180 1 41 (dk_at dksX11_qGoesOn_15 0 rfl rfl)
theorem dX11_qGoesOn_353 : decode cX11_qGoesOn 353 = .ok (.iconst 1, 1) := dk_4 (dk_at dksX11_qGoesOn_15 3 rfl rfl)
theorem dX11_qGoesOn_354 : decode cX11_qGoesOn 354 = .ok (.isub, 1) := dk_100 (dk_at dksX11_qGoesOn_15 4 rfl rfl)
theorem dX11_qGoesOn_355 : decode cX11_qGoesOn 355 = .ok (.dup2, 1) := dk_92 (dk_at dksX11_qGoesOn_15 5 rfl rfl)
theorem dX11_qGoesOn_356 : decode cX11_qGoesOn 356 = .ok (.iaload, 1) := dk_46 (dk_at dksX11_qGoesOn_15 6 rfl rfl)
theorem dX11_qGoesOn_357 : decode cX11_qGoesOn 357 = .ok (.iconst 2, 1) := dk_5 (dk_at dksX11_qGoesOn_15 7 rfl rfl)
theorem dX11_qGoesOn_358 : decode cX11_qGoesOn 358 = .ok (.iadd, 1) := dk_96 (dk_at dksX11_qGoesOn_15 8 rfl rfl)
theorem dX11_qGoesOn_359 : decode cX11_qGoesOn 359 = .ok (.iastore, 1) := dk_79 (dk_at dksX11_qGoesOn_15 9 rfl rfl)
theorem dX11_qGoesOn_360 : decode cX11_qGoesOn 360 = .ok (.iconst 1, 1) := dk_4 (dk_at dksX11_qGoesOn_15 10 rfl rfl)
theorem dX11_qGoesOn_361 : decode cX11_qGoesOn 361 = .ok (.ireturn, 1) := dk_172 (dk_at dksX11_qGoesOn_15 11 rfl rfl)
theorem dX11_qGoesOn_362 : decode cX11_qGoesOn 362 = .ok (.aload_n 0, 1) := dk_42 (dk_at dksX11_qGoesOn_15 12 rfl rfl)
theorem dX11_qGoesOn_363 : decode cX11_qGoesOn 363 = .ok (.invokevirtual 683, 3) := dk_182 2 171 (dk_at dksX11_qGoesOn_15 13 rfl rfl)
theorem dX11_qGoesOn_366 : decode cX11_qGoesOn 366 = .ok (.iconst (-1), 1) := dk_2 (dk_at dksX11_qGoesOn_15 16 rfl rfl)
theorem dX11_qGoesOn_367 : decode cX11_qGoesOn 367 = .ok (.if_icmp .eq 19, 3) := dk_159 0 19 (dk_at dksX11_qGoesOn_15 17 rfl rfl)
theorem dX11_qGoesOn_370 : decode cX11_qGoesOn 370 = .ok (.aload_n 0, 1) := dk_42 (dk_at dksX11_qGoesOn_15 20 rfl rfl)
theorem dX11_qGoesOn_371 : decode cX11_qGoesOn 371 = .ok (.getfield 232, 3) := dk_180 0 232 (dk_at dksX11_qGoesOn_15 21 rfl rfl)
theorem dX11_qGoesOn_374 : decode cX11_qGoesOn 374 = .ok (.ifCond .ne 12, 3) := dk_154 0 12 (dk_at dksX11_qGoesOn_16 0 rfl rfl)
theorem dX11_qGoesOn_377 : decode cX11_qGoesOn 377 = .ok (.aload_n 0, 1) := dk_42 (dk_at dksX11_qGoesOn_16 3 rfl rfl)
theorem dX11_qGoesOn_378 : decode cX11_qGoesOn 378 = .ok (.iconst 1, 1) := dk_4 (dk_at dksX11_qGoesOn_16 4 rfl rfl)
theorem dX11_qGoesOn_379 : decode cX11_qGoesOn 379 = .ok (.aload_n 0, 1) := dk_42 (dk_at dksX11_qGoesOn_16 5 rfl rfl)
theorem dX11_qGoesOn_380 : decode cX11_qGoesOn 380 = .ok (.getfield 238, 3) := dk_180 0 238 (dk_at dksX11_qGoesOn_16 6 rfl rfl)
theorem dX11_qGoesOn_383 : decode cX11_qGoesOn 383 = .ok (.invokevirtual 262, 3) := dk_182 1 6 (dk_at dksX11_qGoesOn_16 9 rfl rfl)
theorem dX11_qGoesOn_386 : decode cX11_qGoesOn 386 = .ok (.iconst 0, 1) := dk_3 (dk_at dksX11_qGoesOn_16 12 rfl rfl)
theorem dX11_qGoesOn_387 : decode cX11_qGoesOn 387 = .ok (.ireturn, 1) := dk_172 (dk_at dksX11_qGoesOn_16 13 rfl rfl)
abbrev cX11_qBracket : ByteArray := prog_26_method_128_code
def yX11_qBracket : MethodName := ⟨RX11, "qBracket", "()I"⟩
def dkwX11_qBracket_2 : List UInt8 := [167, 0, 4, 2, 172]
abbrev dktX11_qBracket_2 : List UInt8 := dkwX11_qBracket_2 ++ []
def dkwX11_qBracket_1 : List UInt8 := [154, 0, 9, 132, 1, 255, 167, 255, 233, 27, 42, 180, 1, 47, 161, 0, 12, 42, 180, 0, 219, 27, 46]
abbrev dktX11_qBracket_1 : List UInt8 := dkwX11_qBracket_1 ++ dktX11_qBracket_2
def dkwX11_qBracket_0 : List UInt8 := [42, 180, 1, 41, 4, 100, 60, 27, 42, 180, 1, 47, 161, 0, 21, 42, 180, 0, 219, 27, 46, 184, 2, 147]
abbrev dktX11_qBracket_0 : List UInt8 := dkwX11_qBracket_0 ++ dktX11_qBracket_1
theorem dksX11_qBracket_0 : cX11_qBracket.data.toList.drop 0 = dktX11_qBracket_0 := by decide +kernel
theorem dksX11_qBracket_1 : cX11_qBracket.data.toList.drop 24 = dktX11_qBracket_1 := dk_seg dksX11_qBracket_0 24 rfl rfl
theorem dksX11_qBracket_2 : cX11_qBracket.data.toList.drop 47 = dktX11_qBracket_2 := dk_seg dksX11_qBracket_1 23 rfl rfl
theorem dX11_qBracket_0 : decode cX11_qBracket 0 = .ok (.aload_n 0, 1) := dk_42 (dk_at dksX11_qBracket_0 0 rfl rfl)
theorem dX11_qBracket_1 : decode cX11_qBracket 1 = .ok (.getfield 297, 3) := dk_180 1 41 (dk_at dksX11_qBracket_0 1 rfl rfl)
theorem dX11_qBracket_4 : decode cX11_qBracket 4 = .ok (.iconst 1, 1) := dk_4 (dk_at dksX11_qBracket_0 4 rfl rfl)
theorem dX11_qBracket_5 : decode cX11_qBracket 5 = .ok (.isub, 1) := dk_100 (dk_at dksX11_qBracket_0 5 rfl rfl)
theorem dX11_qBracket_6 : decode cX11_qBracket 6 = .ok (.istore_n 1, 1) := dk_60 (dk_at dksX11_qBracket_0 6 rfl rfl)
theorem dX11_qBracket_7 : decode cX11_qBracket 7 = .ok (.iload_n 1, 1) := dk_27 (dk_at dksX11_qBracket_0 7 rfl rfl)
theorem dX11_qBracket_8 : decode cX11_qBracket 8 = .ok (.aload_n 0, 1) := dk_42 (dk_at dksX11_qBracket_0 8 rfl rfl)
theorem dX11_qBracket_9 : decode cX11_qBracket 9 = .ok (.getfield 303, 3) := dk_180 1 47 (dk_at dksX11_qBracket_0 9 rfl rfl)
theorem dX11_qBracket_12 : decode cX11_qBracket 12 = .ok (.if_icmp .lt 21, 3) := dk_161 0 21 (dk_at dksX11_qBracket_0 12 rfl rfl)
theorem dX11_qBracket_15 : decode cX11_qBracket 15 = .ok (.aload_n 0, 1) := dk_42 (dk_at dksX11_qBracket_0 15 rfl rfl)
theorem dX11_qBracket_16 : decode cX11_qBracket 16 = .ok (.getfield 219, 3) := dk_180 0 219 (dk_at dksX11_qBracket_0 16 rfl rfl)
theorem dX11_qBracket_19 : decode cX11_qBracket 19 = .ok (.iload_n 1, 1) := dk_27 (dk_at dksX11_qBracket_0 19 rfl rfl)
theorem dX11_qBracket_20 : decode cX11_qBracket 20 = .ok (.iaload, 1) := dk_46 (dk_at dksX11_qBracket_0 20 rfl rfl)
theorem dX11_qBracket_21 : decode cX11_qBracket 21 = .ok (.invokestatic 659, 3) := dk_184 2 147 (dk_at dksX11_qBracket_0 21 rfl rfl)
theorem dX11_qBracket_24 : decode cX11_qBracket 24 = .ok (.ifCond .ne 9, 3) := dk_154 0 9 (dk_at dksX11_qBracket_1 0 rfl rfl)
theorem dX11_qBracket_27 : decode cX11_qBracket 27 = .ok (.iinc 1 (-1), 3) := dk_132 1 255 (dk_at dksX11_qBracket_1 3 rfl rfl)
theorem dX11_qBracket_30 : decode cX11_qBracket 30 = .ok (.goto (-23), 3) := dk_167 255 233 (dk_at dksX11_qBracket_1 6 rfl rfl)
theorem dX11_qBracket_33 : decode cX11_qBracket 33 = .ok (.iload_n 1, 1) := dk_27 (dk_at dksX11_qBracket_1 9 rfl rfl)
theorem dX11_qBracket_34 : decode cX11_qBracket 34 = .ok (.aload_n 0, 1) := dk_42 (dk_at dksX11_qBracket_1 10 rfl rfl)
theorem dX11_qBracket_35 : decode cX11_qBracket 35 = .ok (.getfield 303, 3) := dk_180 1 47 (dk_at dksX11_qBracket_1 11 rfl rfl)
theorem dX11_qBracket_38 : decode cX11_qBracket 38 = .ok (.if_icmp .lt 12, 3) := dk_161 0 12 (dk_at dksX11_qBracket_1 14 rfl rfl)
theorem dX11_qBracket_41 : decode cX11_qBracket 41 = .ok (.aload_n 0, 1) := dk_42 (dk_at dksX11_qBracket_1 17 rfl rfl)
theorem dX11_qBracket_42 : decode cX11_qBracket 42 = .ok (.getfield 219, 3) := dk_180 0 219 (dk_at dksX11_qBracket_1 18 rfl rfl)
theorem dX11_qBracket_45 : decode cX11_qBracket 45 = .ok (.iload_n 1, 1) := dk_27 (dk_at dksX11_qBracket_1 21 rfl rfl)
theorem dX11_qBracket_46 : decode cX11_qBracket 46 = .ok (.iaload, 1) := dk_46 (dk_at dksX11_qBracket_1 22 rfl rfl)
theorem dX11_qBracket_47 : decode cX11_qBracket 47 = .ok (.goto 4, 3) := dk_167 0 4 (dk_at dksX11_qBracket_2 0 rfl rfl)
theorem dX11_qBracket_50 : decode cX11_qBracket 50 = .ok (.iconst (-1), 1) := dk_2 (dk_at dksX11_qBracket_2 3 rfl rfl)
theorem dX11_qBracket_51 : decode cX11_qBracket 51 = .ok (.ireturn, 1) := dk_172 (dk_at dksX11_qBracket_2 4 rfl rfl)
abbrev cX11_qIsBracket : ByteArray := prog_26_method_127_code
def yX11_qIsBracket : MethodName := ⟨RX11, "qIsBracket", "(I)Z"⟩
def dkwX11_qIsBracket_0 : List UInt8 := [26, 16, 20, 161, 0, 13, 26, 16, 24, 163, 0, 7, 4, 167, 0, 4, 3, 172]
abbrev dktX11_qIsBracket_0 : List UInt8 := dkwX11_qIsBracket_0 ++ []
theorem dksX11_qIsBracket_0 : cX11_qIsBracket.data.toList.drop 0 = dktX11_qIsBracket_0 := by decide +kernel
theorem dX11_qIsBracket_0 : decode cX11_qIsBracket 0 = .ok (.iload_n 0, 1) := dk_26 (dk_at dksX11_qIsBracket_0 0 rfl rfl)
theorem dX11_qIsBracket_1 : decode cX11_qIsBracket 1 = .ok (.bipush 20, 2) := dk_16 20 (dk_at dksX11_qIsBracket_0 1 rfl rfl)
theorem dX11_qIsBracket_3 : decode cX11_qIsBracket 3 = .ok (.if_icmp .lt 13, 3) := dk_161 0 13 (dk_at dksX11_qIsBracket_0 3 rfl rfl)
theorem dX11_qIsBracket_6 : decode cX11_qIsBracket 6 = .ok (.iload_n 0, 1) := dk_26 (dk_at dksX11_qIsBracket_0 6 rfl rfl)
theorem dX11_qIsBracket_7 : decode cX11_qIsBracket 7 = .ok (.bipush 24, 2) := dk_16 24 (dk_at dksX11_qIsBracket_0 7 rfl rfl)
theorem dX11_qIsBracket_9 : decode cX11_qIsBracket 9 = .ok (.if_icmp .gt 7, 3) := dk_163 0 7 (dk_at dksX11_qIsBracket_0 9 rfl rfl)
theorem dX11_qIsBracket_12 : decode cX11_qIsBracket 12 = .ok (.iconst 1, 1) := dk_4 (dk_at dksX11_qIsBracket_0 12 rfl rfl)
theorem dX11_qIsBracket_13 : decode cX11_qIsBracket 13 = .ok (.goto 4, 3) := dk_167 0 4 (dk_at dksX11_qIsBracket_0 13 rfl rfl)
theorem dX11_qIsBracket_16 : decode cX11_qIsBracket 16 = .ok (.iconst 0, 1) := dk_3 (dk_at dksX11_qIsBracket_0 16 rfl rfl)
theorem dX11_qIsBracket_17 : decode cX11_qIsBracket 17 = .ok (.ireturn, 1) := dk_172 (dk_at dksX11_qIsBracket_0 17 rfl rfl)
abbrev cX11_qDropsToBracket : ByteArray := prog_26_method_129_code
def yX11_qDropsToBracket : MethodName := ⟨RX11, "qDropsToBracket", "()V"⟩
def dkwX11_qDropsToBracket_1 : List UInt8 := [184, 2, 147, 154, 0, 10, 42, 182, 2, 150, 167, 255, 224, 177]
abbrev dktX11_qDropsToBracket_1 : List UInt8 := dkwX11_qDropsToBracket_1 ++ []
def dkwX11_qDropsToBracket_0 : List UInt8 := [42, 180, 1, 41, 42, 180, 1, 47, 164, 0, 27, 42, 180, 0, 219, 42, 180, 1, 41, 4, 100, 46]
abbrev dktX11_qDropsToBracket_0 : List UInt8 := dkwX11_qDropsToBracket_0 ++ dktX11_qDropsToBracket_1
theorem dksX11_qDropsToBracket_0 : cX11_qDropsToBracket.data.toList.drop 0 = dktX11_qDropsToBracket_0 := by decide +kernel
theorem dksX11_qDropsToBracket_1 : cX11_qDropsToBracket.data.toList.drop 22 = dktX11_qDropsToBracket_1 := dk_seg dksX11_qDropsToBracket_0 22 rfl rfl
theorem dX11_qDropsToBracket_0 : decode cX11_qDropsToBracket 0 = .ok (.aload_n 0, 1) := dk_42 (dk_at dksX11_qDropsToBracket_0 0 rfl rfl)
theorem dX11_qDropsToBracket_1 : decode cX11_qDropsToBracket 1 = .ok (.getfield 297, 3) := dk_180 1 41 (dk_at dksX11_qDropsToBracket_0 1 rfl rfl)
theorem dX11_qDropsToBracket_4 : decode cX11_qDropsToBracket 4 = .ok (.aload_n 0, 1) := dk_42 (dk_at dksX11_qDropsToBracket_0 4 rfl rfl)
theorem dX11_qDropsToBracket_5 : decode cX11_qDropsToBracket 5 = .ok (.getfield 303, 3) := dk_180 1 47 (dk_at dksX11_qDropsToBracket_0 5 rfl rfl)
theorem dX11_qDropsToBracket_8 : decode cX11_qDropsToBracket 8 = .ok (.if_icmp .le 27, 3) := dk_164 0 27 (dk_at dksX11_qDropsToBracket_0 8 rfl rfl)
theorem dX11_qDropsToBracket_11 : decode cX11_qDropsToBracket 11 = .ok (.aload_n 0, 1) := dk_42 (dk_at dksX11_qDropsToBracket_0 11 rfl rfl)
theorem dX11_qDropsToBracket_12 : decode cX11_qDropsToBracket 12 = .ok (.getfield 219, 3) := dk_180 0 219 (dk_at dksX11_qDropsToBracket_0 12 rfl rfl)
theorem dX11_qDropsToBracket_15 : decode cX11_qDropsToBracket 15 = .ok (.aload_n 0, 1) := dk_42 (dk_at dksX11_qDropsToBracket_0 15 rfl rfl)
theorem dX11_qDropsToBracket_16 : decode cX11_qDropsToBracket 16 = .ok (.getfield 297, 3) := dk_180 1 41 (dk_at dksX11_qDropsToBracket_0 16 rfl rfl)
theorem dX11_qDropsToBracket_19 : decode cX11_qDropsToBracket 19 = .ok (.iconst 1, 1) := dk_4 (dk_at dksX11_qDropsToBracket_0 19 rfl rfl)
theorem dX11_qDropsToBracket_20 : decode cX11_qDropsToBracket 20 = .ok (.isub, 1) := dk_100 (dk_at dksX11_qDropsToBracket_0 20 rfl rfl)
theorem dX11_qDropsToBracket_21 : decode cX11_qDropsToBracket 21 = .ok (.iaload, 1) := dk_46 (dk_at dksX11_qDropsToBracket_0 21 rfl rfl)
theorem dX11_qDropsToBracket_22 : decode cX11_qDropsToBracket 22 = .ok (.invokestatic 659, 3) := dk_184 2 147 (dk_at dksX11_qDropsToBracket_1 0 rfl rfl)
theorem dX11_qDropsToBracket_25 : decode cX11_qDropsToBracket 25 = .ok (.ifCond .ne 10, 3) := dk_154 0 10 (dk_at dksX11_qDropsToBracket_1 3 rfl rfl)
theorem dX11_qDropsToBracket_28 : decode cX11_qDropsToBracket 28 = .ok (.aload_n 0, 1) := dk_42 (dk_at dksX11_qDropsToBracket_1 6 rfl rfl)
theorem dX11_qDropsToBracket_29 : decode cX11_qDropsToBracket 29 = .ok (.invokevirtual 662, 3) := dk_182 2 150 (dk_at dksX11_qDropsToBracket_1 7 rfl rfl)
theorem dX11_qDropsToBracket_32 : decode cX11_qDropsToBracket 32 = .ok (.goto (-32), 3) := dk_167 255 224 (dk_at dksX11_qDropsToBracket_1 10 rfl rfl)
theorem dX11_qDropsToBracket_35 : decode cX11_qDropsToBracket 35 = .ok (.return_, 1) := dk_177 (dk_at dksX11_qDropsToBracket_1 13 rfl rfl)
abbrev cX11_qIsOn : ByteArray := prog_26_method_125_code
def yX11_qIsOn : MethodName := ⟨RX11, "qIsOn", "(I)Z"⟩
def dkwX11_qIsOn_1 : List UInt8 := [167, 0, 4, 3, 172]
abbrev dktX11_qIsOn_1 : List UInt8 := dkwX11_qIsOn_1 ++ []
def dkwX11_qIsOn_0 : List UInt8 := [42, 180, 1, 41, 158, 0, 22, 42, 180, 0, 219, 42, 180, 1, 41, 4, 100, 46, 27, 160, 0, 7, 4]
abbrev dktX11_qIsOn_0 : List UInt8 := dkwX11_qIsOn_0 ++ dktX11_qIsOn_1
theorem dksX11_qIsOn_0 : cX11_qIsOn.data.toList.drop 0 = dktX11_qIsOn_0 := by decide +kernel
theorem dksX11_qIsOn_1 : cX11_qIsOn.data.toList.drop 23 = dktX11_qIsOn_1 := dk_seg dksX11_qIsOn_0 23 rfl rfl
theorem dX11_qIsOn_0 : decode cX11_qIsOn 0 = .ok (.aload_n 0, 1) := dk_42 (dk_at dksX11_qIsOn_0 0 rfl rfl)
theorem dX11_qIsOn_1 : decode cX11_qIsOn 1 = .ok (.getfield 297, 3) := dk_180 1 41 (dk_at dksX11_qIsOn_0 1 rfl rfl)
theorem dX11_qIsOn_4 : decode cX11_qIsOn 4 = .ok (.ifCond .le 22, 3) := dk_158 0 22 (dk_at dksX11_qIsOn_0 4 rfl rfl)
theorem dX11_qIsOn_7 : decode cX11_qIsOn 7 = .ok (.aload_n 0, 1) := dk_42 (dk_at dksX11_qIsOn_0 7 rfl rfl)
theorem dX11_qIsOn_8 : decode cX11_qIsOn 8 = .ok (.getfield 219, 3) := dk_180 0 219 (dk_at dksX11_qIsOn_0 8 rfl rfl)
theorem dX11_qIsOn_11 : decode cX11_qIsOn 11 = .ok (.aload_n 0, 1) := dk_42 (dk_at dksX11_qIsOn_0 11 rfl rfl)
theorem dX11_qIsOn_12 : decode cX11_qIsOn 12 = .ok (.getfield 297, 3) := dk_180 1 41 (dk_at dksX11_qIsOn_0 12 rfl rfl)
theorem dX11_qIsOn_15 : decode cX11_qIsOn 15 = .ok (.iconst 1, 1) := dk_4 (dk_at dksX11_qIsOn_0 15 rfl rfl)
theorem dX11_qIsOn_16 : decode cX11_qIsOn 16 = .ok (.isub, 1) := dk_100 (dk_at dksX11_qIsOn_0 16 rfl rfl)
theorem dX11_qIsOn_17 : decode cX11_qIsOn 17 = .ok (.iaload, 1) := dk_46 (dk_at dksX11_qIsOn_0 17 rfl rfl)
theorem dX11_qIsOn_18 : decode cX11_qIsOn 18 = .ok (.iload_n 1, 1) := dk_27 (dk_at dksX11_qIsOn_0 18 rfl rfl)
theorem dX11_qIsOn_19 : decode cX11_qIsOn 19 = .ok (.if_icmp .ne 7, 3) := dk_160 0 7 (dk_at dksX11_qIsOn_0 19 rfl rfl)
theorem dX11_qIsOn_22 : decode cX11_qIsOn 22 = .ok (.iconst 1, 1) := dk_4 (dk_at dksX11_qIsOn_0 22 rfl rfl)
theorem dX11_qIsOn_23 : decode cX11_qIsOn 23 = .ok (.goto 4, 3) := dk_167 0 4 (dk_at dksX11_qIsOn_1 0 rfl rfl)
theorem dX11_qIsOn_26 : decode cX11_qIsOn 26 = .ok (.iconst 0, 1) := dk_3 (dk_at dksX11_qIsOn_1 3 rfl rfl)
theorem dX11_qIsOn_27 : decode cX11_qIsOn 27 = .ok (.ireturn, 1) := dk_172 (dk_at dksX11_qIsOn_1 4 rfl rfl)
abbrev cX11_qDropsNots : ByteArray := prog_26_method_139_code
def yX11_qDropsNots : MethodName := ⟨RX11, "qDropsNots", "()V"⟩
def dkwX11_qDropsNots_1 : List UInt8 := [181, 1, 44, 42, 182, 2, 150, 167, 255, 226, 177]
abbrev dktX11_qDropsNots_1 : List UInt8 := dkwX11_qDropsNots_1 ++ []
def dkwX11_qDropsNots_0 : List UInt8 := [42, 180, 0, 232, 154, 0, 29, 42, 16, 12, 182, 2, 177, 153, 0, 20, 42, 89, 180, 1, 44, 4, 100]
abbrev dktX11_qDropsNots_0 : List UInt8 := dkwX11_qDropsNots_0 ++ dktX11_qDropsNots_1
theorem dksX11_qDropsNots_0 : cX11_qDropsNots.data.toList.drop 0 = dktX11_qDropsNots_0 := by decide +kernel
theorem dksX11_qDropsNots_1 : cX11_qDropsNots.data.toList.drop 23 = dktX11_qDropsNots_1 := dk_seg dksX11_qDropsNots_0 23 rfl rfl
theorem dX11_qDropsNots_0 : decode cX11_qDropsNots 0 = .ok (.aload_n 0, 1) := dk_42 (dk_at dksX11_qDropsNots_0 0 rfl rfl)
theorem dX11_qDropsNots_1 : decode cX11_qDropsNots 1 = .ok (.getfield 232, 3) := dk_180 0 232 (dk_at dksX11_qDropsNots_0 1 rfl rfl)
theorem dX11_qDropsNots_4 : decode cX11_qDropsNots 4 = .ok (.ifCond .ne 29, 3) := dk_154 0 29 (dk_at dksX11_qDropsNots_0 4 rfl rfl)
theorem dX11_qDropsNots_7 : decode cX11_qDropsNots 7 = .ok (.aload_n 0, 1) := dk_42 (dk_at dksX11_qDropsNots_0 7 rfl rfl)
theorem dX11_qDropsNots_8 : decode cX11_qDropsNots 8 = .ok (.bipush 12, 2) := dk_16 12 (dk_at dksX11_qDropsNots_0 8 rfl rfl)
theorem dX11_qDropsNots_10 : decode cX11_qDropsNots 10 = .ok (.invokevirtual 689, 3) := dk_182 2 177 (dk_at dksX11_qDropsNots_0 10 rfl rfl)
theorem dX11_qDropsNots_13 : decode cX11_qDropsNots 13 = .ok (.ifCond .eq 20, 3) := dk_153 0 20 (dk_at dksX11_qDropsNots_0 13 rfl rfl)
theorem dX11_qDropsNots_16 : decode cX11_qDropsNots 16 = .ok (.aload_n 0, 1) := dk_42 (dk_at dksX11_qDropsNots_0 16 rfl rfl)
theorem dX11_qDropsNots_17 : decode cX11_qDropsNots 17 = .ok (.dup, 1) := dk_89 (dk_at dksX11_qDropsNots_0 17 rfl rfl)
theorem dX11_qDropsNots_18 : decode cX11_qDropsNots 18 = .ok (.getfield 300, 3) := dk_180 1 44 (dk_at dksX11_qDropsNots_0 18 rfl rfl)
theorem dX11_qDropsNots_21 : decode cX11_qDropsNots 21 = .ok (.iconst 1, 1) := dk_4 (dk_at dksX11_qDropsNots_0 21 rfl rfl)
theorem dX11_qDropsNots_22 : decode cX11_qDropsNots 22 = .ok (.isub, 1) := dk_100 (dk_at dksX11_qDropsNots_0 22 rfl rfl)
theorem dX11_qDropsNots_23 : decode cX11_qDropsNots 23 = .ok (.putfield 300, 3) := dk_181 1 44 (dk_at dksX11_qDropsNots_1 0 rfl rfl)
theorem dX11_qDropsNots_26 : decode cX11_qDropsNots 26 = .ok (.aload_n 0, 1) := dk_42 (dk_at dksX11_qDropsNots_1 3 rfl rfl)
theorem dX11_qDropsNots_27 : decode cX11_qDropsNots 27 = .ok (.invokevirtual 662, 3) := dk_182 2 150 (dk_at dksX11_qDropsNots_1 4 rfl rfl)
theorem dX11_qDropsNots_30 : decode cX11_qDropsNots 30 = .ok (.goto (-30), 3) := dk_167 255 226 (dk_at dksX11_qDropsNots_1 7 rfl rfl)
theorem dX11_qDropsNots_33 : decode cX11_qDropsNots 33 = .ok (.return_, 1) := dk_177 (dk_at dksX11_qDropsNots_1 10 rfl rfl)
abbrev cX11_qGoesOnTest : ByteArray := prog_26_method_141_code
def yX11_qGoesOnTest : MethodName := ⟨RX11, "qGoesOnTest", "()Z"⟩
def dkwX11_qGoesOnTest_8 : List UInt8 := [180, 0, 232, 154, 0, 19, 42, 182, 2, 195, 153, 0, 12, 42, 4, 42, 180, 0, 238, 182, 1, 6, 3, 172]
abbrev dktX11_qGoesOnTest_8 : List UInt8 := dkwX11_qGoesOnTest_8 ++ []
def dkwX11_qGoesOnTest_7 : List UInt8 := [180, 0, 219, 42, 180, 1, 41, 16, 11, 79, 42, 89, 180, 1, 41, 4, 96, 181, 1, 41, 4, 172, 42]
abbrev dktX11_qGoesOnTest_7 : List UInt8 := dkwX11_qGoesOnTest_7 ++ dktX11_qGoesOnTest_8
def dkwX11_qGoesOnTest_6 : List UInt8 := [182, 2, 177, 154, 0, 12, 42, 16, 11, 182, 2, 177, 153, 0, 10, 42, 182, 2, 150, 167, 255, 234, 42]
abbrev dktX11_qGoesOnTest_6 : List UInt8 := dkwX11_qGoesOnTest_6 ++ dktX11_qGoesOnTest_7
def dkwX11_qGoesOnTest_5 : List UInt8 := [180, 1, 41, 4, 96, 181, 1, 41, 4, 172, 42, 42, 180, 0, 174, 182, 1, 3, 153, 0, 51, 42, 16, 10]
abbrev dktX11_qGoesOnTest_5 : List UInt8 := dkwX11_qGoesOnTest_5 ++ dktX11_qGoesOnTest_6
def dkwX11_qGoesOnTest_4 : List UInt8 := [153, 0, 10, 42, 182, 2, 150, 167, 255, 243, 42, 180, 0, 219, 42, 180, 1, 41, 16, 10, 79, 42, 89]
abbrev dktX11_qGoesOnTest_4 : List UInt8 := dkwX11_qGoesOnTest_4 ++ dktX11_qGoesOnTest_5
def dkwX11_qGoesOnTest_3 : List UInt8 := [182, 2, 189, 167, 255, 183, 42, 42, 180, 0, 171, 182, 1, 3, 153, 0, 42, 42, 16, 10, 182, 2, 177]
abbrev dktX11_qGoesOnTest_3 : List UInt8 := dkwX11_qGoesOnTest_3 ++ dktX11_qGoesOnTest_4
def dkwX11_qGoesOnTest_2 : List UInt8 := [167, 255, 243, 42, 89, 180, 1, 41, 4, 100, 181, 1, 41, 42, 89, 180, 1, 44, 4, 100, 181, 1, 44, 42]
abbrev dktX11_qGoesOnTest_2 : List UInt8 := dkwX11_qGoesOnTest_2 ++ dktX11_qGoesOnTest_3
def dkwX11_qGoesOnTest_1 : List UInt8 := [89, 180, 0, 238, 4, 96, 181, 0, 238, 42, 16, 25, 182, 2, 177, 154, 0, 10, 42, 182, 2, 150]
abbrev dktX11_qGoesOnTest_1 : List UInt8 := dkwX11_qGoesOnTest_1 ++ dktX11_qGoesOnTest_2
def dkwX11_qGoesOnTest_0 : List UInt8 := [42, 180, 0, 232, 154, 0, 72, 42, 182, 0, 244, 16, 93, 160, 0, 63, 42, 182, 2, 195, 153, 0, 56, 42]
abbrev dktX11_qGoesOnTest_0 : List UInt8 := dkwX11_qGoesOnTest_0 ++ dktX11_qGoesOnTest_1
theorem dksX11_qGoesOnTest_0 : cX11_qGoesOnTest.data.toList.drop 0 = dktX11_qGoesOnTest_0 := by decide +kernel
theorem dksX11_qGoesOnTest_1 : cX11_qGoesOnTest.data.toList.drop 24 = dktX11_qGoesOnTest_1 := dk_seg dksX11_qGoesOnTest_0 24 rfl rfl
theorem dksX11_qGoesOnTest_2 : cX11_qGoesOnTest.data.toList.drop 46 = dktX11_qGoesOnTest_2 := dk_seg dksX11_qGoesOnTest_1 22 rfl rfl
theorem dksX11_qGoesOnTest_3 : cX11_qGoesOnTest.data.toList.drop 70 = dktX11_qGoesOnTest_3 := dk_seg dksX11_qGoesOnTest_2 24 rfl rfl
theorem dksX11_qGoesOnTest_4 : cX11_qGoesOnTest.data.toList.drop 93 = dktX11_qGoesOnTest_4 := dk_seg dksX11_qGoesOnTest_3 23 rfl rfl
theorem dksX11_qGoesOnTest_5 : cX11_qGoesOnTest.data.toList.drop 116 = dktX11_qGoesOnTest_5 := dk_seg dksX11_qGoesOnTest_4 23 rfl rfl
theorem dksX11_qGoesOnTest_6 : cX11_qGoesOnTest.data.toList.drop 140 = dktX11_qGoesOnTest_6 := dk_seg dksX11_qGoesOnTest_5 24 rfl rfl
theorem dksX11_qGoesOnTest_7 : cX11_qGoesOnTest.data.toList.drop 163 = dktX11_qGoesOnTest_7 := dk_seg dksX11_qGoesOnTest_6 23 rfl rfl
theorem dksX11_qGoesOnTest_8 : cX11_qGoesOnTest.data.toList.drop 186 = dktX11_qGoesOnTest_8 := dk_seg dksX11_qGoesOnTest_7 23 rfl rfl
theorem dX11_qGoesOnTest_0 : decode cX11_qGoesOnTest 0 = .ok (.aload_n 0, 1) := dk_42 (dk_at dksX11_qGoesOnTest_0 0 rfl rfl)
theorem dX11_qGoesOnTest_1 : decode cX11_qGoesOnTest 1 = .ok (.getfield 232, 3) := dk_180 0 232 (dk_at dksX11_qGoesOnTest_0 1 rfl rfl)
theorem dX11_qGoesOnTest_4 : decode cX11_qGoesOnTest 4 = .ok (.ifCond .ne 72, 3) := dk_154 0 72 (dk_at dksX11_qGoesOnTest_0 4 rfl rfl)
theorem dX11_qGoesOnTest_7 : decode cX11_qGoesOnTest 7 = .ok (.aload_n 0, 1) := dk_42 (dk_at dksX11_qGoesOnTest_0 7 rfl rfl)
theorem dX11_qGoesOnTest_8 : decode cX11_qGoesOnTest 8 = .ok (.invokevirtual 244, 3) := dk_182 0 244 (dk_at dksX11_qGoesOnTest_0 8 rfl rfl)
theorem dX11_qGoesOnTest_11 : decode cX11_qGoesOnTest 11 = .ok (.bipush 93, 2) := dk_16 93 (dk_at dksX11_qGoesOnTest_0 11 rfl rfl)
theorem dX11_qGoesOnTest_13 : decode cX11_qGoesOnTest 13 = .ok (.if_icmp .ne 63, 3) := dk_160 0 63 (dk_at dksX11_qGoesOnTest_0 13 rfl rfl)
theorem dX11_qGoesOnTest_16 : decode cX11_qGoesOnTest 16 = .ok (.aload_n 0, 1) := dk_42 (dk_at dksX11_qGoesOnTest_0 16 rfl rfl)
theorem dX11_qGoesOnTest_17 : decode cX11_qGoesOnTest 17 = .ok (.invokevirtual 707, 3) := dk_182 2 195 (dk_at dksX11_qGoesOnTest_0 17 rfl rfl)
theorem dX11_qGoesOnTest_20 : decode cX11_qGoesOnTest 20 = .ok (.ifCond .eq 56, 3) := dk_153 0 56 (dk_at dksX11_qGoesOnTest_0 20 rfl rfl)
theorem dX11_qGoesOnTest_23 : decode cX11_qGoesOnTest 23 = .ok (.aload_n 0, 1) := dk_42 (dk_at dksX11_qGoesOnTest_0 23 rfl rfl)
theorem dX11_qGoesOnTest_24 : decode cX11_qGoesOnTest 24 = .ok (.dup, 1) := dk_89 (dk_at dksX11_qGoesOnTest_1 0 rfl rfl)
theorem dX11_qGoesOnTest_25 : decode cX11_qGoesOnTest 25 = .ok (.getfield 238, 3) := dk_180 0 238 (dk_at dksX11_qGoesOnTest_1 1 rfl rfl)
theorem dX11_qGoesOnTest_28 : decode cX11_qGoesOnTest 28 = .ok (.iconst 1, 1) := dk_4 (dk_at dksX11_qGoesOnTest_1 4 rfl rfl)
theorem dX11_qGoesOnTest_29 : decode cX11_qGoesOnTest 29 = .ok (.iadd, 1) := dk_96 (dk_at dksX11_qGoesOnTest_1 5 rfl rfl)
theorem dX11_qGoesOnTest_30 : decode cX11_qGoesOnTest 30 = .ok (.putfield 238, 3) := dk_181 0 238 (dk_at dksX11_qGoesOnTest_1 6 rfl rfl)
theorem dX11_qGoesOnTest_33 : decode cX11_qGoesOnTest 33 = .ok (.aload_n 0, 1) := dk_42 (dk_at dksX11_qGoesOnTest_1 9 rfl rfl)
theorem dX11_qGoesOnTest_34 : decode cX11_qGoesOnTest 34 = .ok (.bipush 25, 2) := dk_16 25 (dk_at dksX11_qGoesOnTest_1 10 rfl rfl)
theorem dX11_qGoesOnTest_36 : decode cX11_qGoesOnTest 36 = .ok (.invokevirtual 689, 3) := dk_182 2 177 (dk_at dksX11_qGoesOnTest_1 12 rfl rfl)
theorem dX11_qGoesOnTest_39 : decode cX11_qGoesOnTest 39 = .ok (.ifCond .ne 10, 3) := dk_154 0 10 (dk_at dksX11_qGoesOnTest_1 15 rfl rfl)
theorem dX11_qGoesOnTest_42 : decode cX11_qGoesOnTest 42 = .ok (.aload_n 0, 1) := dk_42 (dk_at dksX11_qGoesOnTest_1 18 rfl rfl)
theorem dX11_qGoesOnTest_43 : decode cX11_qGoesOnTest 43 = .ok (.invokevirtual 662, 3) := dk_182 2 150 (dk_at dksX11_qGoesOnTest_1 19 rfl rfl)
theorem dX11_qGoesOnTest_46 : decode cX11_qGoesOnTest 46 = .ok (.goto (-13), 3) := dk_167 255 243 (dk_at dksX11_qGoesOnTest_2 0 rfl rfl)
theorem dX11_qGoesOnTest_49 : decode cX11_qGoesOnTest 49 = .ok (.aload_n 0, 1) := dk_42 (dk_at dksX11_qGoesOnTest_2 3 rfl rfl)
theorem dX11_qGoesOnTest_50 : decode cX11_qGoesOnTest 50 = .ok (.dup, 1) := dk_89 (dk_at dksX11_qGoesOnTest_2 4 rfl rfl)
theorem dX11_qGoesOnTest_51 : decode cX11_qGoesOnTest 51 = .ok (.getfield 297, 3) := dk_180 1 41 (dk_at dksX11_qGoesOnTest_2 5 rfl rfl)
theorem dX11_qGoesOnTest_54 : decode cX11_qGoesOnTest 54 = .ok (.iconst 1, 1) := dk_4 (dk_at dksX11_qGoesOnTest_2 8 rfl rfl)
theorem dX11_qGoesOnTest_55 : decode cX11_qGoesOnTest 55 = .ok (.isub, 1) := dk_100 (dk_at dksX11_qGoesOnTest_2 9 rfl rfl)
theorem dX11_qGoesOnTest_56 : decode cX11_qGoesOnTest 56 = .ok (.putfield 297, 3) := dk_181 1 41 (dk_at dksX11_qGoesOnTest_2 10 rfl rfl)
theorem dX11_qGoesOnTest_59 : decode cX11_qGoesOnTest 59 = .ok (.aload_n 0, 1) := dk_42 (dk_at dksX11_qGoesOnTest_2 13 rfl rfl)
theorem dX11_qGoesOnTest_60 : decode cX11_qGoesOnTest 60 = .ok (.dup, 1) := dk_89 (dk_at dksX11_qGoesOnTest_2 14 rfl rfl)
theorem dX11_qGoesOnTest_61 : decode cX11_qGoesOnTest 61 = .ok (.getfield 300, 3) := dk_180 1 44 (dk_at dksX11_qGoesOnTest_2 15 rfl rfl)
theorem dX11_qGoesOnTest_64 : decode cX11_qGoesOnTest 64 = .ok (.iconst 1, 1) := dk_4 (dk_at dksX11_qGoesOnTest_2 18 rfl rfl)
theorem dX11_qGoesOnTest_65 : decode cX11_qGoesOnTest 65 = .ok (.isub, 1) := dk_100 (dk_at dksX11_qGoesOnTest_2 19 rfl rfl)
theorem dX11_qGoesOnTest_66 : decode cX11_qGoesOnTest 66 = .ok (.putfield 300, 3) := dk_181 1 44 (dk_at dksX11_qGoesOnTest_2 20 rfl rfl)
theorem dX11_qGoesOnTest_69 : decode cX11_qGoesOnTest 69 = .ok (.aload_n 0, 1) := dk_42 (dk_at dksX11_qGoesOnTest_2 23 rfl rfl)
theorem dX11_qGoesOnTest_70 : decode cX11_qGoesOnTest 70 = .ok (.invokevirtual 701, 3) := dk_182 2 189 (dk_at dksX11_qGoesOnTest_3 0 rfl rfl)
theorem dX11_qGoesOnTest_73 : decode cX11_qGoesOnTest 73 = .ok (.goto (-73), 3) := dk_167 255 183 (dk_at dksX11_qGoesOnTest_3 3 rfl rfl)
theorem dX11_qGoesOnTest_76 : decode cX11_qGoesOnTest 76 = .ok (.aload_n 0, 1) := dk_42 (dk_at dksX11_qGoesOnTest_3 6 rfl rfl)
theorem dX11_qGoesOnTest_77 : decode cX11_qGoesOnTest 77 = .ok (.aload_n 0, 1) := dk_42 (dk_at dksX11_qGoesOnTest_3 7 rfl rfl)
theorem dX11_qGoesOnTest_78 : decode cX11_qGoesOnTest 78 = .ok (.getfield 171, 3) := dk_180 0 171 (dk_at dksX11_qGoesOnTest_3 8 rfl rfl)
theorem dX11_qGoesOnTest_81 : decode cX11_qGoesOnTest 81 = .ok (.invokevirtual 259, 3) := dk_182 1 3 (dk_at dksX11_qGoesOnTest_3 11 rfl rfl)
theorem dX11_qGoesOnTest_84 : decode cX11_qGoesOnTest 84 = .ok (.ifCond .eq 42, 3) := dk_153 0 42 (dk_at dksX11_qGoesOnTest_3 14 rfl rfl)
theorem dX11_qGoesOnTest_87 : decode cX11_qGoesOnTest 87 = .ok (.aload_n 0, 1) := dk_42 (dk_at dksX11_qGoesOnTest_3 17 rfl rfl)
theorem dX11_qGoesOnTest_88 : decode cX11_qGoesOnTest 88 = .ok (.bipush 10, 2) := dk_16 10 (dk_at dksX11_qGoesOnTest_3 18 rfl rfl)
theorem dX11_qGoesOnTest_90 : decode cX11_qGoesOnTest 90 = .ok (.invokevirtual 689, 3) := dk_182 2 177 (dk_at dksX11_qGoesOnTest_3 20 rfl rfl)
theorem dX11_qGoesOnTest_93 : decode cX11_qGoesOnTest 93 = .ok (.ifCond .eq 10, 3) := dk_153 0 10 (dk_at dksX11_qGoesOnTest_4 0 rfl rfl)
theorem dX11_qGoesOnTest_96 : decode cX11_qGoesOnTest 96 = .ok (.aload_n 0, 1) := dk_42 (dk_at dksX11_qGoesOnTest_4 3 rfl rfl)
theorem dX11_qGoesOnTest_97 : decode cX11_qGoesOnTest 97 = .ok (.invokevirtual 662, 3) := dk_182 2 150 (dk_at dksX11_qGoesOnTest_4 4 rfl rfl)
theorem dX11_qGoesOnTest_100 : decode cX11_qGoesOnTest 100 = .ok (.goto (-13), 3) := dk_167 255 243 (dk_at dksX11_qGoesOnTest_4 7 rfl rfl)
theorem dX11_qGoesOnTest_103 : decode cX11_qGoesOnTest 103 = .ok (.aload_n 0, 1) := dk_42 (dk_at dksX11_qGoesOnTest_4 10 rfl rfl)
theorem dX11_qGoesOnTest_104 : decode cX11_qGoesOnTest 104 = .ok (.getfield 219, 3) := dk_180 0 219 (dk_at dksX11_qGoesOnTest_4 11 rfl rfl)
theorem dX11_qGoesOnTest_107 : decode cX11_qGoesOnTest 107 = .ok (.aload_n 0, 1) := dk_42 (dk_at dksX11_qGoesOnTest_4 14 rfl rfl)
theorem dX11_qGoesOnTest_108 : decode cX11_qGoesOnTest 108 = .ok (.getfield 297, 3) := dk_180 1 41 (dk_at dksX11_qGoesOnTest_4 15 rfl rfl)
theorem dX11_qGoesOnTest_111 : decode cX11_qGoesOnTest 111 = .ok (.bipush 10, 2) := dk_16 10 (dk_at dksX11_qGoesOnTest_4 18 rfl rfl)
theorem dX11_qGoesOnTest_113 : decode cX11_qGoesOnTest 113 = .ok (.iastore, 1) := dk_79 (dk_at dksX11_qGoesOnTest_4 20 rfl rfl)
theorem dX11_qGoesOnTest_114 : decode cX11_qGoesOnTest 114 = .ok (.aload_n 0, 1) := dk_42 (dk_at dksX11_qGoesOnTest_4 21 rfl rfl)
theorem dX11_qGoesOnTest_115 : decode cX11_qGoesOnTest 115 = .ok (.dup, 1) := dk_89 (dk_at dksX11_qGoesOnTest_4 22 rfl rfl)
theorem dX11_qGoesOnTest_116 : decode cX11_qGoesOnTest 116 = .ok (.getfield 297, 3) := dk_180 1 41 (dk_at dksX11_qGoesOnTest_5 0 rfl rfl)
theorem dX11_qGoesOnTest_119 : decode cX11_qGoesOnTest 119 = .ok (.iconst 1, 1) := dk_4 (dk_at dksX11_qGoesOnTest_5 3 rfl rfl)
theorem dX11_qGoesOnTest_120 : decode cX11_qGoesOnTest 120 = .ok (.iadd, 1) := dk_96 (dk_at dksX11_qGoesOnTest_5 4 rfl rfl)
theorem dX11_qGoesOnTest_121 : decode cX11_qGoesOnTest 121 = .ok (.putfield 297, 3) := dk_181 1 41 (dk_at dksX11_qGoesOnTest_5 5 rfl rfl)
theorem dX11_qGoesOnTest_124 : decode cX11_qGoesOnTest 124 = .ok (.iconst 1, 1) := dk_4 (dk_at dksX11_qGoesOnTest_5 8 rfl rfl)
theorem dX11_qGoesOnTest_125 : decode cX11_qGoesOnTest 125 = .ok (.ireturn, 1) := dk_172 (dk_at dksX11_qGoesOnTest_5 9 rfl rfl)
theorem dX11_qGoesOnTest_126 : decode cX11_qGoesOnTest 126 = .ok (.aload_n 0, 1) := dk_42 (dk_at dksX11_qGoesOnTest_5 10 rfl rfl)
theorem dX11_qGoesOnTest_127 : decode cX11_qGoesOnTest 127 = .ok (.aload_n 0, 1) := dk_42 (dk_at dksX11_qGoesOnTest_5 11 rfl rfl)
theorem dX11_qGoesOnTest_128 : decode cX11_qGoesOnTest 128 = .ok (.getfield 174, 3) := dk_180 0 174 (dk_at dksX11_qGoesOnTest_5 12 rfl rfl)
theorem dX11_qGoesOnTest_131 : decode cX11_qGoesOnTest 131 = .ok (.invokevirtual 259, 3) := dk_182 1 3 (dk_at dksX11_qGoesOnTest_5 15 rfl rfl)
theorem dX11_qGoesOnTest_134 : decode cX11_qGoesOnTest 134 = .ok (.ifCond .eq 51, 3) := dk_153 0 51 (dk_at dksX11_qGoesOnTest_5 18 rfl rfl)
theorem dX11_qGoesOnTest_137 : decode cX11_qGoesOnTest 137 = .ok (.aload_n 0, 1) := dk_42 (dk_at dksX11_qGoesOnTest_5 21 rfl rfl)
theorem dX11_qGoesOnTest_138 : decode cX11_qGoesOnTest 138 = .ok (.bipush 10, 2) := dk_16 10 (dk_at dksX11_qGoesOnTest_5 22 rfl rfl)
theorem dX11_qGoesOnTest_140 : decode cX11_qGoesOnTest 140 = .ok (.invokevirtual 689, 3) := dk_182 2 177 (dk_at dksX11_qGoesOnTest_6 0 rfl rfl)
theorem dX11_qGoesOnTest_143 : decode cX11_qGoesOnTest 143 = .ok (.ifCond .ne 12, 3) := dk_154 0 12 (dk_at dksX11_qGoesOnTest_6 3 rfl rfl)
theorem dX11_qGoesOnTest_146 : decode cX11_qGoesOnTest 146 = .ok (.aload_n 0, 1) := dk_42 (dk_at dksX11_qGoesOnTest_6 6 rfl rfl)
theorem dX11_qGoesOnTest_147 : decode cX11_qGoesOnTest 147 = .ok (.bipush 11, 2) := dk_16 11 (dk_at dksX11_qGoesOnTest_6 7 rfl rfl)
theorem dX11_qGoesOnTest_149 : decode cX11_qGoesOnTest 149 = .ok (.invokevirtual 689, 3) := dk_182 2 177 (dk_at dksX11_qGoesOnTest_6 9 rfl rfl)
theorem dX11_qGoesOnTest_152 : decode cX11_qGoesOnTest 152 = .ok (.ifCond .eq 10, 3) := dk_153 0 10 (dk_at dksX11_qGoesOnTest_6 12 rfl rfl)
theorem dX11_qGoesOnTest_155 : decode cX11_qGoesOnTest 155 = .ok (.aload_n 0, 1) := dk_42 (dk_at dksX11_qGoesOnTest_6 15 rfl rfl)
theorem dX11_qGoesOnTest_156 : decode cX11_qGoesOnTest 156 = .ok (.invokevirtual 662, 3) := dk_182 2 150 (dk_at dksX11_qGoesOnTest_6 16 rfl rfl)
theorem dX11_qGoesOnTest_159 : decode cX11_qGoesOnTest 159 = .ok (.goto (-22), 3) := dk_167 255 234 (dk_at dksX11_qGoesOnTest_6 19 rfl rfl)
theorem dX11_qGoesOnTest_162 : decode cX11_qGoesOnTest 162 = .ok (.aload_n 0, 1) := dk_42 (dk_at dksX11_qGoesOnTest_6 22 rfl rfl)
theorem dX11_qGoesOnTest_163 : decode cX11_qGoesOnTest 163 = .ok (.getfield 219, 3) := dk_180 0 219 (dk_at dksX11_qGoesOnTest_7 0 rfl rfl)
theorem dX11_qGoesOnTest_166 : decode cX11_qGoesOnTest 166 = .ok (.aload_n 0, 1) := dk_42 (dk_at dksX11_qGoesOnTest_7 3 rfl rfl)
theorem dX11_qGoesOnTest_167 : decode cX11_qGoesOnTest 167 = .ok (.getfield 297, 3) := dk_180 1 41 (dk_at dksX11_qGoesOnTest_7 4 rfl rfl)
theorem dX11_qGoesOnTest_170 : decode cX11_qGoesOnTest 170 = .ok (.bipush 11, 2) := dk_16 11 (dk_at dksX11_qGoesOnTest_7 7 rfl rfl)
theorem dX11_qGoesOnTest_172 : decode cX11_qGoesOnTest 172 = .ok (.iastore, 1) := dk_79 (dk_at dksX11_qGoesOnTest_7 9 rfl rfl)
theorem dX11_qGoesOnTest_173 : decode cX11_qGoesOnTest 173 = .ok (.aload_n 0, 1) := dk_42 (dk_at dksX11_qGoesOnTest_7 10 rfl rfl)
theorem dX11_qGoesOnTest_174 : decode cX11_qGoesOnTest 174 = .ok (.dup, 1) := dk_89 (dk_at dksX11_qGoesOnTest_7 11 rfl rfl)
theorem dX11_qGoesOnTest_175 : decode cX11_qGoesOnTest 175 = .ok (.getfield 297, 3) := dk_180 1 41 (dk_at dksX11_qGoesOnTest_7 12 rfl rfl)
theorem dX11_qGoesOnTest_178 : decode cX11_qGoesOnTest 178 = .ok (.iconst 1, 1) := dk_4 (dk_at dksX11_qGoesOnTest_7 15 rfl rfl)
theorem dX11_qGoesOnTest_179 : decode cX11_qGoesOnTest 179 = .ok (.iadd, 1) := dk_96 (dk_at dksX11_qGoesOnTest_7 16 rfl rfl)
theorem dX11_qGoesOnTest_180 : decode cX11_qGoesOnTest 180 = .ok (.putfield 297, 3) := dk_181 1 41 (dk_at dksX11_qGoesOnTest_7 17 rfl rfl)
theorem dX11_qGoesOnTest_183 : decode cX11_qGoesOnTest 183 = .ok (.iconst 1, 1) := dk_4 (dk_at dksX11_qGoesOnTest_7 20 rfl rfl)
theorem dX11_qGoesOnTest_184 : decode cX11_qGoesOnTest 184 = .ok (.ireturn, 1) := dk_172 (dk_at dksX11_qGoesOnTest_7 21 rfl rfl)
theorem dX11_qGoesOnTest_185 : decode cX11_qGoesOnTest 185 = .ok (.aload_n 0, 1) := dk_42 (dk_at dksX11_qGoesOnTest_7 22 rfl rfl)
theorem dX11_qGoesOnTest_186 : decode cX11_qGoesOnTest 186 = .ok (.getfield 232, 3) := dk_180 0 232 (dk_at dksX11_qGoesOnTest_8 0 rfl rfl)
theorem dX11_qGoesOnTest_189 : decode cX11_qGoesOnTest 189 = .ok (.ifCond .ne 19, 3) := dk_154 0 19 (dk_at dksX11_qGoesOnTest_8 3 rfl rfl)
theorem dX11_qGoesOnTest_192 : decode cX11_qGoesOnTest 192 = .ok (.aload_n 0, 1) := dk_42 (dk_at dksX11_qGoesOnTest_8 6 rfl rfl)
theorem dX11_qGoesOnTest_193 : decode cX11_qGoesOnTest 193 = .ok (.invokevirtual 707, 3) := dk_182 2 195 (dk_at dksX11_qGoesOnTest_8 7 rfl rfl)
theorem dX11_qGoesOnTest_196 : decode cX11_qGoesOnTest 196 = .ok (.ifCond .eq 12, 3) := dk_153 0 12 (dk_at dksX11_qGoesOnTest_8 10 rfl rfl)
theorem dX11_qGoesOnTest_199 : decode cX11_qGoesOnTest 199 = .ok (.aload_n 0, 1) := dk_42 (dk_at dksX11_qGoesOnTest_8 13 rfl rfl)
theorem dX11_qGoesOnTest_200 : decode cX11_qGoesOnTest 200 = .ok (.iconst 1, 1) := dk_4 (dk_at dksX11_qGoesOnTest_8 14 rfl rfl)
theorem dX11_qGoesOnTest_201 : decode cX11_qGoesOnTest 201 = .ok (.aload_n 0, 1) := dk_42 (dk_at dksX11_qGoesOnTest_8 15 rfl rfl)
theorem dX11_qGoesOnTest_202 : decode cX11_qGoesOnTest 202 = .ok (.getfield 238, 3) := dk_180 0 238 (dk_at dksX11_qGoesOnTest_8 16 rfl rfl)
theorem dX11_qGoesOnTest_205 : decode cX11_qGoesOnTest 205 = .ok (.invokevirtual 262, 3) := dk_182 1 6 (dk_at dksX11_qGoesOnTest_8 19 rfl rfl)
theorem dX11_qGoesOnTest_208 : decode cX11_qGoesOnTest 208 = .ok (.iconst 0, 1) := dk_3 (dk_at dksX11_qGoesOnTest_8 22 rfl rfl)
theorem dX11_qGoesOnTest_209 : decode cX11_qGoesOnTest 209 = .ok (.ireturn, 1) := dk_172 (dk_at dksX11_qGoesOnTest_8 23 rfl rfl)
