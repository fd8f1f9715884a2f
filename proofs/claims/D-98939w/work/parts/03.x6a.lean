/-! PupilsPupilModel -/
set_option maxRecDepth 100000
def RX6 : String := "PupilsPupilModel"
def TX6 : u_T := fun k => match k with
  | 0 => ("PupilsPupilModel", "tape", "[I", true)
  | 1 => ("PupilsPupilModel", "taped", "I", false)
  | 2 => ("PupilsPupilModel", "at", "I", false)
  | 3 => ("PupilsPupilModel", "end", "I", false)
  | 4 => ("PupilsPupilModel", "ended", "I", false)
  | 5 => ("PupilsPupilModel", "bad", "I", false)
  | 6 => ("PupilsPupilModel", "badPlace", "I", false)
  | 7 => ("PupilsPupilModel", "fault", "I", false)
  | 8 => ("PupilsPupilModel", "faultPlace", "I", false)
  | 9 => ("PupilsPupilModel", "refused", "[I", true)
  | 10 => ("PupilsPupilModel", "factWord", "[C", true)
  | 11 => ("PupilsPupilModel", "worthWord", "[C", true)
  | 12 => ("PupilsPupilModel", "personWord", "[C", true)
  | 13 => ("PupilsPupilModel", "calmWord", "[C", true)
  | 14 => ("PupilsPupilModel", "knowsWord", "[C", true)
  | 15 => ("PupilsPupilModel", "errsWord", "[C", true)
  | 16 => ("PupilsPupilModel", "taughtWord", "[C", true)
  | 17 => ("PupilsPupilModel", "byWord", "[C", true)
  | 18 => ("PupilsPupilModel", "takesWord", "[C", true)
  | 19 => ("PupilsPupilModel", "garbleWord", "[C", true)
  | 20 => ("PupilsPupilModel", "sitsWord", "[C", true)
  | 21 => ("PupilsPupilModel", "passWord", "[C", true)
  | 22 => ("PupilsPupilModel", "triesWord", "[C", true)
  | 23 => ("PupilsPupilModel", "illWord", "[C", true)
  | 24 => ("PupilsPupilModel", "rightWord", "[C", true)
  | 25 => ("PupilsPupilModel", "wrongWord", "[C", true)
  | 26 => ("PupilsPupilModel", "yearWord", "[C", true)
  | 27 => ("PupilsPupilModel", "classWord", "[C", true)
  | 28 => ("PupilsPupilModel", "mcalmWord", "[C", true)
  | 29 => ("PupilsPupilModel", "leftWord", "[C", true)
  | 30 => ("PupilsPupilModel", "marksWord", "[C", true)
  | 31 => ("PupilsPupilModel", "numberWord", "[C", true)
  | 32 => ("PupilsPupilModel", "orWord", "[C", true)
  | 33 => ("PupilsPupilModel", "andWord", "[C", true)
  | 34 => ("PupilsPupilModel", "notWord", "[C", true)
  | 35 => ("PupilsPupilModel", "allWord", "[C", true)
  | 36 => ("PupilsPupilModel", "minWord", "[C", true)
  | 37 => ("PupilsPupilModel", "maxWord", "[C", true)
  | 38 => ("PupilsPupilModel", "namePlace", "I", false)
  | 39 => ("PupilsPupilModel", "many", "[I", true)
  | 40 => ("PupilsPupilModel", "names", "[J", true)
  | 41 => ("PupilsPupilModel", "worths", "[I", true)
  | 42 => ("PupilsPupilModel", "calms", "[I", true)
  | 43 => ("PupilsPupilModel", "rights", "[I", true)
  | 44 => ("PupilsPupilModel", "wrongs", "[I", true)
  | 45 => ("PupilsPupilModel", "masters", "[I", true)
  | 46 => ("PupilsPupilModel", "settings", "[I", true)
  | 47 => ("PupilsPupilModel", "codeFrom", "[I", true)
  | 48 => ("PupilsPupilModel", "codeEnd", "[I", true)
  | 49 => ("PupilsPupilModel", "codes", "[I", true)
  | 50 => ("PupilsPupilModel", "coded", "I", false)
  | 51 => ("PupilsPupilModel", "statements", "I", false)
  | 52 => ("PupilsPupilModel", "textKind", "I", false)
  | 53 => ("PupilsPupilModel", "now", "[I", true)
  | 54 => ("PupilsPupilModel", "aside", "[I", true)
  | 55 => ("PupilsPupilModel", "askWho", "I", false)
  | 56 => ("PupilsPupilModel", "teaching", "[I", true)
  | 57 => ("PupilsPupilModel", "learned", "[I", true)
  | 58 => ("PupilsPupilModel", "isThought", "Z", false)
  | 59 => ("PupilsPupilModel", "passedMany", "I", false)
  | 60 => ("PupilsPupilModel", "rowMany", "I", false)
  | 61 => ("PupilsPupilModel", "rows", "[I", true)
  | 62 => ("PupilsPupilModel", "heard", "[I", true)
  | 63 => ("PupilsPupilModel", "classes", "[I", true)
  | 64 => ("PupilsPupilModel", "kept0", "[I", true)
  | 65 => ("PupilsPupilModel", "undoable", "I", false)
  | 66 => ("PupilsPupilModel", "newest", "I", false)
  | 67 => ("PupilsPupilModel", "seeded", "J", false)
  | 68 => ("PupilsPupilModel", "firstAsked", "[C", true)
  | 69 => ("PupilsPupilModel", "lastAsked", "[C", true)
  | 70 => ("PupilsPupilModel", "oftenAsked", "[C", true)
  | 71 => ("PupilsPupilModel", "totalAsked", "[C", true)
  | 72 => ("PupilsPupilModel", "mostAsked", "[C", true)
  | 73 => ("PupilsPupilModel", "leastAsked", "[C", true)
  | 74 => ("PupilsPupilModel", "notAsked", "[C", true)
  | 75 => ("PupilsPupilModel", "andAsked", "[C", true)
  | 76 => ("PupilsPupilModel", "orAsked", "[C", true)
  | 77 => ("PupilsPupilModel", "allAsked", "[C", true)
  | 78 => ("PupilsPupilModel", "minAsked", "[C", true)
  | 79 => ("PupilsPupilModel", "maxAsked", "[C", true)
  | 80 => ("PupilsPupilModel", "calmAsked", "[C", true)
  | 81 => ("PupilsPupilModel", "rightAsked", "[C", true)
  | 82 => ("PupilsPupilModel", "wrongAsked", "[C", true)
  | 83 => ("PupilsPupilModel", "yearAsked", "[C", true)
  | 84 => ("PupilsPupilModel", "worthAsked", "[C", true)
  | 85 => ("PupilsPupilModel", "classAsked", "[C", true)
  | 86 => ("PupilsPupilModel", "mcalmAsked", "[C", true)
  | 87 => ("PupilsPupilModel", "leftAsked", "[C", true)
  | 88 => ("PupilsPupilModel", "marksAsked", "[C", true)
  | 89 => ("PupilsPupilModel", "numberAsked", "[C", true)
  | 90 => ("PupilsPupilModel", "knowsAsked", "[C", true)
  | 91 => ("PupilsPupilModel", "errsAsked", "[C", true)
  | 92 => ("PupilsPupilModel", "byAsked", "[C", true)
  | 93 => ("PupilsPupilModel", "qCodes", "[I", true)
  | 94 => ("PupilsPupilModel", "qCoded", "I", false)
  | 95 => ("PupilsPupilModel", "qWait", "[I", true)
  | 96 => ("PupilsPupilModel", "qWaits", "I", false)
  | 97 => ("PupilsPupilModel", "qOpened", "I", false)
  | 98 => ("PupilsPupilModel", "qBase", "I", false)
  | 99 => ("PupilsPupilModel", "qPile", "[J", true)
  | 100 => ("PupilsPupilModel", "qPiled", "I", false)
  | 101 => ("PupilsPupilModel", "qAnswer", "J", false)
  | 102 => ("PupilsPupilModel", "qIsNew", "Z", false)
  | 103 => ("PupilsPupilModel", "octet", "[I", true)
  | _ => ("PupilsPupilModel", "octets", "I", false)
def tyX6 : Nat → FieldType := fun k => match k with
  | 0 => .array .int
  | 1 => .int
  | 2 => .int
  | 3 => .int
  | 4 => .int
  | 5 => .int
  | 6 => .int
  | 7 => .int
  | 8 => .int
  | 9 => .array .int
  | 10 => .array .char
  | 11 => .array .char
  | 12 => .array .char
  | 13 => .array .char
  | 14 => .array .char
  | 15 => .array .char
  | 16 => .array .char
  | 17 => .array .char
  | 18 => .array .char
  | 19 => .array .char
  | 20 => .array .char
  | 21 => .array .char
  | 22 => .array .char
  | 23 => .array .char
  | 24 => .array .char
  | 25 => .array .char
  | 26 => .array .char
  | 27 => .array .char
  | 28 => .array .char
  | 29 => .array .char
  | 30 => .array .char
  | 31 => .array .char
  | 32 => .array .char
  | 33 => .array .char
  | 34 => .array .char
  | 35 => .array .char
  | 36 => .array .char
  | 37 => .array .char
  | 38 => .int
  | 39 => .array .int
  | 40 => .array .long
  | 41 => .array .int
  | 42 => .array .int
  | 43 => .array .int
  | 44 => .array .int
  | 45 => .array .int
  | 46 => .array .int
  | 47 => .array .int
  | 48 => .array .int
  | 49 => .array .int
  | 50 => .int
  | 51 => .int
  | 52 => .int
  | 53 => .array .int
  | 54 => .array .int
  | 55 => .int
  | 56 => .array .int
  | 57 => .array .int
  | 58 => .boolean
  | 59 => .int
  | 60 => .int
  | 61 => .array .int
  | 62 => .array .int
  | 63 => .array .int
  | 64 => .array .int
  | 65 => .int
  | 66 => .int
  | 67 => .long
  | 68 => .array .char
  | 69 => .array .char
  | 70 => .array .char
  | 71 => .array .char
  | 72 => .array .char
  | 73 => .array .char
  | 74 => .array .char
  | 75 => .array .char
  | 76 => .array .char
  | 77 => .array .char
  | 78 => .array .char
  | 79 => .array .char
  | 80 => .array .char
  | 81 => .array .char
  | 82 => .array .char
  | 83 => .array .char
  | 84 => .array .char
  | 85 => .array .char
  | 86 => .array .char
  | 87 => .array .char
  | 88 => .array .char
  | 89 => .array .char
  | 90 => .array .char
  | 91 => .array .char
  | 92 => .array .char
  | 93 => .array .int
  | 94 => .int
  | 95 => .array .int
  | 96 => .int
  | 97 => .int
  | 98 => .int
  | 99 => .array .long
  | 100 => .int
  | 101 => .long
  | 102 => .boolean
  | 103 => .array .int
  | _ => .int
abbrev wsX60 : List Cond := u_ws RX6 TX6 105
set_option maxRecDepth 100000 in
theorem nmX6 : ∀ a, a < 105 → ∀ b, b < 105 → a ≠ b → (TX6 a).2.1 ≠ (TX6 b).2.1 := by decide +kernel
set_option maxRecDepth 100000 in
theorem tyX6_ok : ∀ k, k < 105 → parseFieldDescriptor (TX6 k).2.2.1 = some (tyX6 k) := by decide +kernel
abbrev cX6_init : ByteArray := prog_22_method_1_code
def yX6_init : MethodName := ⟨RX6, "<init>", "()V"⟩
def dkwX6_init_74 : List UInt8 := [181, 0, 248, 42, 16, 43, 188, 10, 181, 0, 251, 177]
abbrev dktX6_init_74 : List UInt8 := dkwX6_init_74 ++ []
def dkwX6_init_73 : List UInt8 := [17, 6, 164, 188, 10, 181, 0, 242, 42, 17, 6, 164, 188, 10, 181, 0, 245, 42, 17, 6, 164, 188, 11]
abbrev dktX6_init_73 : List UInt8 := dkwX6_init_73 ++ dktX6_init_74
def dkwX6_init_72 : List UInt8 := [16, 115, 85, 181, 0, 236, 42, 5, 188, 5, 89, 3, 16, 98, 85, 89, 4, 16, 121, 85, 181, 0, 239, 42]
abbrev dktX6_init_72 : List UInt8 := dkwX6_init_72 ++ dktX6_init_73
def dkwX6_init_71 : List UInt8 := [181, 0, 233, 42, 7, 188, 5, 89, 3, 16, 101, 85, 89, 4, 16, 114, 85, 89, 5, 16, 114, 85, 89, 6]
abbrev dktX6_init_71 : List UInt8 := dkwX6_init_71 ++ dktX6_init_72
def dkwX6_init_70 : List UInt8 := [16, 107, 85, 89, 4, 16, 110, 85, 89, 5, 16, 111, 85, 89, 6, 16, 119, 85, 89, 7, 16, 115, 85]
abbrev dktX6_init_70 : List UInt8 := dkwX6_init_70 ++ dktX6_init_71
def dkwX6_init_69 : List UInt8 := [6, 16, 98, 85, 89, 7, 16, 101, 85, 89, 8, 16, 114, 85, 181, 0, 230, 42, 8, 188, 5, 89, 3]
abbrev dktX6_init_69 : List UInt8 := dkwX6_init_69 ++ dktX6_init_70
def dkwX6_init_68 : List UInt8 := [181, 0, 227, 42, 16, 6, 188, 5, 89, 3, 16, 110, 85, 89, 4, 16, 117, 85, 89, 5, 16, 109, 85, 89]
abbrev dktX6_init_68 : List UInt8 := dkwX6_init_68 ++ dktX6_init_69
def dkwX6_init_67 : List UInt8 := [16, 109, 85, 89, 4, 16, 97, 85, 89, 5, 16, 114, 85, 89, 6, 16, 107, 85, 89, 7, 16, 115, 85]
abbrev dktX6_init_67 : List UInt8 := dkwX6_init_67 ++ dktX6_init_68
def dkwX6_init_66 : List UInt8 := [4, 16, 101, 85, 89, 5, 16, 102, 85, 89, 6, 16, 116, 85, 181, 0, 224, 42, 8, 188, 5, 89, 3]
abbrev dktX6_init_66 : List UInt8 := dkwX6_init_66 ++ dktX6_init_67
def dkwX6_init_65 : List UInt8 := [85, 89, 6, 16, 108, 85, 89, 7, 16, 109, 85, 181, 0, 221, 42, 7, 188, 5, 89, 3, 16, 108, 85, 89]
abbrev dktX6_init_65 : List UInt8 := dkwX6_init_65 ++ dktX6_init_66
def dkwX6_init_64 : List UInt8 := [16, 115, 85, 181, 0, 218, 42, 8, 188, 5, 89, 3, 16, 109, 85, 89, 4, 16, 99, 85, 89, 5, 16, 97]
abbrev dktX6_init_64 : List UInt8 := dkwX6_init_64 ++ dktX6_init_65
def dkwX6_init_63 : List UInt8 := [188, 5, 89, 3, 16, 99, 85, 89, 4, 16, 108, 85, 89, 5, 16, 97, 85, 89, 6, 16, 115, 85, 89, 7]
abbrev dktX6_init_63 : List UInt8 := dkwX6_init_63 ++ dktX6_init_64
def dkwX6_init_62 : List UInt8 := [4, 16, 111, 85, 89, 5, 16, 114, 85, 89, 6, 16, 116, 85, 89, 7, 16, 104, 85, 181, 0, 215, 42, 8]
abbrev dktX6_init_62 : List UInt8 := dkwX6_init_62 ++ dktX6_init_63
def dkwX6_init_61 : List UInt8 := [85, 89, 5, 16, 97, 85, 89, 6, 16, 114, 85, 181, 0, 212, 42, 8, 188, 5, 89, 3, 16, 119, 85, 89]
abbrev dktX6_init_61 : List UInt8 := dkwX6_init_61 ++ dktX6_init_62
def dkwX6_init_60 : List UInt8 := [16, 110, 85, 89, 7, 16, 103, 85, 181, 0, 209, 42, 7, 188, 5, 89, 3, 16, 121, 85, 89, 4, 16, 101]
abbrev dktX6_init_60 : List UInt8 := dkwX6_init_60 ++ dktX6_init_61
def dkwX6_init_59 : List UInt8 := [181, 0, 206, 42, 8, 188, 5, 89, 3, 16, 119, 85, 89, 4, 16, 114, 85, 89, 5, 16, 111, 85, 89, 6]
abbrev dktX6_init_59 : List UInt8 := dkwX6_init_59 ++ dktX6_init_60
def dkwX6_init_58 : List UInt8 := [16, 114, 85, 89, 4, 16, 105, 85, 89, 5, 16, 103, 85, 89, 6, 16, 104, 85, 89, 7, 16, 116, 85]
abbrev dktX6_init_58 : List UInt8 := dkwX6_init_58 ++ dktX6_init_59
def dkwX6_init_57 : List UInt8 := [4, 16, 97, 85, 89, 5, 16, 108, 85, 89, 6, 16, 109, 85, 181, 0, 203, 42, 8, 188, 5, 89, 3]
abbrev dktX6_init_57 : List UInt8 := dkwX6_init_57 ++ dktX6_init_58
def dkwX6_init_56 : List UInt8 := [85, 89, 4, 16, 97, 85, 89, 5, 16, 120, 85, 181, 0, 200, 42, 7, 188, 5, 89, 3, 16, 99, 85, 89]
abbrev dktX6_init_56 : List UInt8 := dkwX6_init_56 ++ dktX6_init_57
def dkwX6_init_55 : List UInt8 := [16, 109, 85, 89, 4, 16, 105, 85, 89, 5, 16, 110, 85, 181, 0, 197, 42, 6, 188, 5, 89, 3, 16, 109]
abbrev dktX6_init_55 : List UInt8 := dkwX6_init_55 ++ dktX6_init_56
def dkwX6_init_54 : List UInt8 := [89, 3, 16, 97, 85, 89, 4, 16, 108, 85, 89, 5, 16, 108, 85, 181, 0, 194, 42, 6, 188, 5, 89, 3]
abbrev dktX6_init_54 : List UInt8 := dkwX6_init_54 ++ dktX6_init_55
def dkwX6_init_53 : List UInt8 := [181, 0, 188, 42, 5, 188, 5, 89, 3, 16, 111, 85, 89, 4, 16, 114, 85, 181, 0, 191, 42, 6, 188, 5]
abbrev dktX6_init_53 : List UInt8 := dkwX6_init_53 ++ dktX6_init_54
def dkwX6_init_52 : List UInt8 := [181, 0, 185, 42, 6, 188, 5, 89, 3, 16, 97, 85, 89, 4, 16, 110, 85, 89, 5, 16, 100, 85]
abbrev dktX6_init_52 : List UInt8 := dkwX6_init_52 ++ dktX6_init_53
def dkwX6_init_51 : List UInt8 := [181, 0, 182, 42, 6, 188, 5, 89, 3, 16, 110, 85, 89, 4, 16, 111, 85, 89, 5, 16, 116, 85]
abbrev dktX6_init_51 : List UInt8 := dkwX6_init_51 ++ dktX6_init_52
def dkwX6_init_50 : List UInt8 := [16, 108, 85, 89, 4, 16, 101, 85, 89, 5, 16, 97, 85, 89, 6, 16, 115, 85, 89, 7, 16, 116, 85]
abbrev dktX6_init_50 : List UInt8 := dkwX6_init_50 ++ dktX6_init_51
def dkwX6_init_49 : List UInt8 := [4, 16, 111, 85, 89, 5, 16, 115, 85, 89, 6, 16, 116, 85, 181, 0, 179, 42, 8, 188, 5, 89, 3]
abbrev dktX6_init_49 : List UInt8 := dkwX6_init_49 ++ dktX6_init_50
def dkwX6_init_48 : List UInt8 := [85, 89, 6, 16, 97, 85, 89, 7, 16, 108, 85, 181, 0, 176, 42, 7, 188, 5, 89, 3, 16, 109, 85, 89]
abbrev dktX6_init_48 : List UInt8 := dkwX6_init_48 ++ dktX6_init_49
def dkwX6_init_47 : List UInt8 := [16, 110, 85, 181, 0, 173, 42, 8, 188, 5, 89, 3, 16, 116, 85, 89, 4, 16, 111, 85, 89, 5, 16, 116]
abbrev dktX6_init_47 : List UInt8 := dkwX6_init_47 ++ dktX6_init_48
def dkwX6_init_46 : List UInt8 := [188, 5, 89, 3, 16, 111, 85, 89, 4, 16, 102, 85, 89, 5, 16, 116, 85, 89, 6, 16, 101, 85, 89, 7]
abbrev dktX6_init_46 : List UInt8 := dkwX6_init_46 ++ dktX6_init_47
def dkwX6_init_45 : List UInt8 := [16, 108, 85, 89, 4, 16, 97, 85, 89, 5, 16, 115, 85, 89, 6, 16, 116, 85, 181, 0, 170, 42, 8]
abbrev dktX6_init_45 : List UInt8 := dkwX6_init_45 ++ dktX6_init_46
def dkwX6_init_44 : List UInt8 := [89, 5, 16, 114, 85, 89, 6, 16, 115, 85, 89, 7, 16, 116, 85, 181, 0, 167, 42, 7, 188, 5, 89, 3]
abbrev dktX6_init_44 : List UInt8 := dkwX6_init_44 ++ dktX6_init_45
def dkwX6_init_43 : List UInt8 := [188, 10, 181, 0, 160, 42, 10, 181, 0, 163, 42, 8, 188, 5, 89, 3, 16, 102, 85, 89, 4, 16, 105, 85]
abbrev dktX6_init_43 : List UInt8 := dkwX6_init_43 ++ dktX6_init_44
def dkwX6_init_42 : List UInt8 := [181, 0, 151, 42, 16, 8, 188, 10, 181, 0, 154, 42, 16, 24, 188, 10, 181, 0, 157, 42, 17, 10, 80]
abbrev dktX6_init_42 : List UInt8 := dkwX6_init_42 ++ dktX6_init_43
def dkwX6_init_41 : List UInt8 := [181, 0, 142, 42, 16, 8, 188, 10, 181, 0, 145, 42, 16, 8, 188, 10, 181, 0, 148, 42, 16, 32, 188, 10]
abbrev dktX6_init_41 : List UInt8 := dkwX6_init_41 ++ dktX6_init_42
def dkwX6_init_40 : List UInt8 := [17, 12, 128, 188, 10, 181, 0, 136, 42, 17, 0, 132, 188, 10, 181, 0, 139, 42, 16, 41, 188, 10]
abbrev dktX6_init_40 : List UInt8 := dkwX6_init_40 ++ dktX6_init_41
def dkwX6_init_39 : List UInt8 := [2, 79, 89, 7, 2, 79, 89, 8, 2, 79, 181, 0, 130, 42, 16, 6, 188, 10, 181, 0, 133, 42]
abbrev dktX6_init_39 : List UInt8 := dkwX6_init_39 ++ dktX6_init_40
def dkwX6_init_38 : List UInt8 := [3, 79, 181, 0, 127, 42, 16, 6, 188, 10, 89, 3, 2, 79, 89, 4, 2, 79, 89, 5, 2, 79, 89, 6]
abbrev dktX6_init_38 : List UInt8 := dkwX6_init_38 ++ dktX6_init_39
def dkwX6_init_37 : List UInt8 := [89, 3, 16, 10, 79, 89, 4, 6, 79, 89, 5, 3, 79, 89, 6, 16, 10, 79, 89, 7, 6, 79, 89, 8]
abbrev dktX6_init_37 : List UInt8 := dkwX6_init_37 ++ dktX6_init_38
def dkwX6_init_36 : List UInt8 := [181, 0, 118, 42, 16, 8, 188, 10, 181, 0, 121, 42, 16, 8, 188, 10, 181, 0, 124, 42, 16, 6, 188, 10]
abbrev dktX6_init_36 : List UInt8 := dkwX6_init_36 ++ dktX6_init_37
def dkwX6_init_35 : List UInt8 := [181, 0, 108, 42, 16, 16, 188, 10, 181, 0, 112, 42, 16, 16, 188, 10, 181, 0, 115, 42, 16, 8, 188, 10]
abbrev dktX6_init_35 : List UInt8 := dkwX6_init_35 ++ dktX6_init_36
def dkwX6_init_34 : List UInt8 := [4, 16, 97, 85, 89, 5, 16, 120, 85, 181, 0, 102, 42, 7, 188, 10, 181, 0, 105, 42, 16, 32, 188, 11]
abbrev dktX6_init_34 : List UInt8 := dkwX6_init_34 ++ dktX6_init_35
def dkwX6_init_33 : List UInt8 := [85, 89, 4, 16, 105, 85, 89, 5, 16, 110, 85, 181, 0, 99, 42, 6, 188, 5, 89, 3, 16, 109, 85, 89]
abbrev dktX6_init_33 : List UInt8 := dkwX6_init_33 ++ dktX6_init_34
def dkwX6_init_32 : List UInt8 := [16, 97, 85, 89, 4, 16, 108, 85, 89, 5, 16, 108, 85, 181, 0, 96, 42, 6, 188, 5, 89, 3, 16, 109]
abbrev dktX6_init_32 : List UInt8 := dkwX6_init_32 ++ dktX6_init_33
def dkwX6_init_31 : List UInt8 := [89, 3, 16, 110, 85, 89, 4, 16, 111, 85, 89, 5, 16, 116, 85, 181, 0, 93, 42, 6, 188, 5, 89, 3]
abbrev dktX6_init_31 : List UInt8 := dkwX6_init_31 ++ dktX6_init_32
def dkwX6_init_30 : List UInt8 := [188, 5, 89, 3, 16, 97, 85, 89, 4, 16, 110, 85, 89, 5, 16, 100, 85, 181, 0, 90, 42, 6, 188, 5]
abbrev dktX6_init_30 : List UInt8 := dkwX6_init_30 ++ dktX6_init_31
def dkwX6_init_29 : List UInt8 := [85, 181, 0, 84, 42, 5, 188, 5, 89, 3, 16, 111, 85, 89, 4, 16, 114, 85, 181, 0, 87, 42, 6]
abbrev dktX6_init_29 : List UInt8 := dkwX6_init_29 ++ dktX6_init_30
def dkwX6_init_28 : List UInt8 := [89, 4, 16, 117, 85, 89, 5, 16, 109, 85, 89, 6, 16, 98, 85, 89, 7, 16, 101, 85, 89, 8, 16, 114]
abbrev dktX6_init_28 : List UInt8 := dkwX6_init_28 ++ dktX6_init_29
def dkwX6_init_27 : List UInt8 := [85, 89, 6, 16, 107, 85, 89, 7, 16, 115, 85, 181, 0, 81, 42, 16, 6, 188, 5, 89, 3, 16, 110, 85]
abbrev dktX6_init_27 : List UInt8 := dkwX6_init_27 ++ dktX6_init_28
def dkwX6_init_26 : List UInt8 := [16, 116, 85, 181, 0, 78, 42, 8, 188, 5, 89, 3, 16, 109, 85, 89, 4, 16, 97, 85, 89, 5, 16, 114]
abbrev dktX6_init_26 : List UInt8 := dkwX6_init_26 ++ dktX6_init_27
def dkwX6_init_25 : List UInt8 := [181, 0, 75, 42, 7, 188, 5, 89, 3, 16, 108, 85, 89, 4, 16, 101, 85, 89, 5, 16, 102, 85, 89, 6]
abbrev dktX6_init_25 : List UInt8 := dkwX6_init_25 ++ dktX6_init_26
def dkwX6_init_24 : List UInt8 := [3, 16, 109, 85, 89, 4, 16, 99, 85, 89, 5, 16, 97, 85, 89, 6, 16, 108, 85, 89, 7, 16, 109, 85]
abbrev dktX6_init_24 : List UInt8 := dkwX6_init_24 ++ dktX6_init_25
def dkwX6_init_23 : List UInt8 := [85, 89, 5, 16, 97, 85, 89, 6, 16, 115, 85, 89, 7, 16, 115, 85, 181, 0, 72, 42, 8, 188, 5, 89]
abbrev dktX6_init_23 : List UInt8 := dkwX6_init_23 ++ dktX6_init_24
def dkwX6_init_22 : List UInt8 := [16, 97, 85, 89, 6, 16, 114, 85, 181, 0, 69, 42, 8, 188, 5, 89, 3, 16, 99, 85, 89, 4, 16, 108]
abbrev dktX6_init_22 : List UInt8 := dkwX6_init_22 ++ dktX6_init_23
def dkwX6_init_21 : List UInt8 := [89, 7, 16, 103, 85, 181, 0, 66, 42, 7, 188, 5, 89, 3, 16, 121, 85, 89, 4, 16, 101, 85, 89, 5]
abbrev dktX6_init_21 : List UInt8 := dkwX6_init_21 ++ dktX6_init_22
def dkwX6_init_20 : List UInt8 := [42, 8, 188, 5, 89, 3, 16, 119, 85, 89, 4, 16, 114, 85, 89, 5, 16, 111, 85, 89, 6, 16, 110, 85]
abbrev dktX6_init_20 : List UInt8 := dkwX6_init_20 ++ dktX6_init_21
def dkwX6_init_19 : List UInt8 := [85, 89, 4, 16, 105, 85, 89, 5, 16, 103, 85, 89, 6, 16, 104, 85, 89, 7, 16, 116, 85, 181, 0, 63]
abbrev dktX6_init_19 : List UInt8 := dkwX6_init_19 ++ dktX6_init_20
def dkwX6_init_18 : List UInt8 := [16, 105, 85, 89, 4, 16, 108, 85, 89, 5, 16, 108, 85, 181, 0, 60, 42, 8, 188, 5, 89, 3, 16, 114]
abbrev dktX6_init_18 : List UInt8 := dkwX6_init_18 ++ dktX6_init_19
def dkwX6_init_17 : List UInt8 := [5, 16, 105, 85, 89, 6, 16, 101, 85, 89, 7, 16, 115, 85, 181, 0, 57, 42, 6, 188, 5, 89, 3]
abbrev dktX6_init_17 : List UInt8 := dkwX6_init_17 ++ dktX6_init_18
def dkwX6_init_16 : List UInt8 := [85, 89, 6, 16, 115, 85, 181, 0, 54, 42, 8, 188, 5, 89, 3, 16, 116, 85, 89, 4, 16, 114, 85, 89]
abbrev dktX6_init_16 : List UInt8 := dkwX6_init_16 ++ dktX6_init_17
def dkwX6_init_15 : List UInt8 := [16, 115, 85, 181, 0, 51, 42, 7, 188, 5, 89, 3, 16, 112, 85, 89, 4, 16, 97, 85, 89, 5, 16, 115]
abbrev dktX6_init_15 : List UInt8 := dkwX6_init_15 ++ dktX6_init_16
def dkwX6_init_14 : List UInt8 := [181, 0, 48, 42, 7, 188, 5, 89, 3, 16, 115, 85, 89, 4, 16, 105, 85, 89, 5, 16, 116, 85, 89, 6]
abbrev dktX6_init_14 : List UInt8 := dkwX6_init_14 ++ dktX6_init_15
def dkwX6_init_13 : List UInt8 := [16, 97, 85, 89, 5, 16, 114, 85, 89, 6, 16, 98, 85, 89, 7, 16, 108, 85, 89, 8, 16, 101, 85]
abbrev dktX6_init_13 : List UInt8 := dkwX6_init_13 ++ dktX6_init_14
def dkwX6_init_12 : List UInt8 := [16, 101, 85, 89, 7, 16, 115, 85, 181, 0, 45, 42, 16, 6, 188, 5, 89, 3, 16, 103, 85, 89, 4]
abbrev dktX6_init_12 : List UInt8 := dkwX6_init_12 ++ dktX6_init_13
def dkwX6_init_11 : List UInt8 := [181, 0, 42, 42, 8, 188, 5, 89, 3, 16, 116, 85, 89, 4, 16, 97, 85, 89, 5, 16, 107, 85, 89, 6]
abbrev dktX6_init_11 : List UInt8 := dkwX6_init_11 ++ dktX6_init_12
def dkwX6_init_10 : List UInt8 := [85, 89, 8, 16, 116, 85, 181, 0, 39, 42, 5, 188, 5, 89, 3, 16, 98, 85, 89, 4, 16, 121, 85]
abbrev dktX6_init_10 : List UInt8 := dkwX6_init_10 ++ dktX6_init_11
def dkwX6_init_9 : List UInt8 := [89, 3, 16, 116, 85, 89, 4, 16, 97, 85, 89, 5, 16, 117, 85, 89, 6, 16, 103, 85, 89, 7, 16, 104]
abbrev dktX6_init_9 : List UInt8 := dkwX6_init_9 ++ dktX6_init_10
def dkwX6_init_8 : List UInt8 := [85, 89, 4, 16, 114, 85, 89, 5, 16, 114, 85, 89, 6, 16, 115, 85, 181, 0, 36, 42, 16, 6, 188, 5]
abbrev dktX6_init_8 : List UInt8 := dkwX6_init_8 ++ dktX6_init_9
def dkwX6_init_7 : List UInt8 := [16, 111, 85, 89, 6, 16, 119, 85, 89, 7, 16, 115, 85, 181, 0, 33, 42, 7, 188, 5, 89, 3, 16, 101]
abbrev dktX6_init_7 : List UInt8 := dkwX6_init_7 ++ dktX6_init_8
def dkwX6_init_6 : List UInt8 := [6, 16, 109, 85, 181, 0, 30, 42, 8, 188, 5, 89, 3, 16, 107, 85, 89, 4, 16, 110, 85, 89, 5]
abbrev dktX6_init_6 : List UInt8 := dkwX6_init_6 ++ dktX6_init_7
def dkwX6_init_5 : List UInt8 := [85, 181, 0, 27, 42, 7, 188, 5, 89, 3, 16, 99, 85, 89, 4, 16, 97, 85, 89, 5, 16, 108, 85, 89]
abbrev dktX6_init_5 : List UInt8 := dkwX6_init_5 ++ dktX6_init_6
def dkwX6_init_4 : List UInt8 := [89, 4, 16, 101, 85, 89, 5, 16, 114, 85, 89, 6, 16, 115, 85, 89, 7, 16, 111, 85, 89, 8, 16, 110]
abbrev dktX6_init_4 : List UInt8 := dkwX6_init_4 ++ dktX6_init_5
def dkwX6_init_3 : List UInt8 := [85, 89, 6, 16, 116, 85, 89, 7, 16, 104, 85, 181, 0, 24, 42, 16, 6, 188, 5, 89, 3, 16, 112, 85]
abbrev dktX6_init_3 : List UInt8 := dkwX6_init_3 ++ dktX6_init_4
def dkwX6_init_2 : List UInt8 := [16, 116, 85, 181, 0, 20, 42, 8, 188, 5, 89, 3, 16, 119, 85, 89, 4, 16, 111, 85, 89, 5, 16, 114]
abbrev dktX6_init_2 : List UInt8 := dkwX6_init_2 ++ dktX6_init_3
def dkwX6_init_1 : List UInt8 := [181, 0, 17, 42, 7, 188, 5, 89, 3, 16, 102, 85, 89, 4, 16, 97, 85, 89, 5, 16, 99, 85, 89, 6]
abbrev dktX6_init_1 : List UInt8 := dkwX6_init_1 ++ dktX6_init_2
def dkwX6_init_0 : List UInt8 := [42, 183, 0, 1, 42, 17, 6, 64, 188, 10, 181, 0, 7, 42, 2, 181, 0, 13, 42, 16, 6, 188, 10]
abbrev dktX6_init_0 : List UInt8 := dkwX6_init_0 ++ dktX6_init_1
theorem dksX6_init_0 : cX6_init.data.toList.drop 0 = dktX6_init_0 := by decide +kernel
theorem dksX6_init_1 : cX6_init.data.toList.drop 23 = dktX6_init_1 := dk_seg dksX6_init_0 23 rfl rfl
theorem dksX6_init_2 : cX6_init.data.toList.drop 47 = dktX6_init_2 := dk_seg dksX6_init_1 24 rfl rfl
theorem dksX6_init_3 : cX6_init.data.toList.drop 71 = dktX6_init_3 := dk_seg dksX6_init_2 24 rfl rfl
theorem dksX6_init_4 : cX6_init.data.toList.drop 95 = dktX6_init_4 := dk_seg dksX6_init_3 24 rfl rfl
theorem dksX6_init_5 : cX6_init.data.toList.drop 119 = dktX6_init_5 := dk_seg dksX6_init_4 24 rfl rfl
theorem dksX6_init_6 : cX6_init.data.toList.drop 143 = dktX6_init_6 := dk_seg dksX6_init_5 24 rfl rfl
theorem dksX6_init_7 : cX6_init.data.toList.drop 166 = dktX6_init_7 := dk_seg dksX6_init_6 23 rfl rfl
theorem dksX6_init_8 : cX6_init.data.toList.drop 190 = dktX6_init_8 := dk_seg dksX6_init_7 24 rfl rfl
theorem dksX6_init_9 : cX6_init.data.toList.drop 214 = dktX6_init_9 := dk_seg dksX6_init_8 24 rfl rfl
theorem dksX6_init_10 : cX6_init.data.toList.drop 238 = dktX6_init_10 := dk_seg dksX6_init_9 24 rfl rfl
theorem dksX6_init_11 : cX6_init.data.toList.drop 261 = dktX6_init_11 := dk_seg dksX6_init_10 23 rfl rfl
theorem dksX6_init_12 : cX6_init.data.toList.drop 285 = dktX6_init_12 := dk_seg dksX6_init_11 24 rfl rfl
theorem dksX6_init_13 : cX6_init.data.toList.drop 308 = dktX6_init_13 := dk_seg dksX6_init_12 23 rfl rfl
theorem dksX6_init_14 : cX6_init.data.toList.drop 331 = dktX6_init_14 := dk_seg dksX6_init_13 23 rfl rfl
theorem dksX6_init_15 : cX6_init.data.toList.drop 355 = dktX6_init_15 := dk_seg dksX6_init_14 24 rfl rfl
theorem dksX6_init_16 : cX6_init.data.toList.drop 379 = dktX6_init_16 := dk_seg dksX6_init_15 24 rfl rfl
theorem dksX6_init_17 : cX6_init.data.toList.drop 403 = dktX6_init_17 := dk_seg dksX6_init_16 24 rfl rfl
theorem dksX6_init_18 : cX6_init.data.toList.drop 426 = dktX6_init_18 := dk_seg dksX6_init_17 23 rfl rfl
theorem dksX6_init_19 : cX6_init.data.toList.drop 450 = dktX6_init_19 := dk_seg dksX6_init_18 24 rfl rfl
theorem dksX6_init_20 : cX6_init.data.toList.drop 474 = dktX6_init_20 := dk_seg dksX6_init_19 24 rfl rfl
theorem dksX6_init_21 : cX6_init.data.toList.drop 498 = dktX6_init_21 := dk_seg dksX6_init_20 24 rfl rfl
theorem dksX6_init_22 : cX6_init.data.toList.drop 522 = dktX6_init_22 := dk_seg dksX6_init_21 24 rfl rfl
theorem dksX6_init_23 : cX6_init.data.toList.drop 546 = dktX6_init_23 := dk_seg dksX6_init_22 24 rfl rfl
theorem dksX6_init_24 : cX6_init.data.toList.drop 570 = dktX6_init_24 := dk_seg dksX6_init_23 24 rfl rfl
theorem dksX6_init_25 : cX6_init.data.toList.drop 594 = dktX6_init_25 := dk_seg dksX6_init_24 24 rfl rfl
theorem dksX6_init_26 : cX6_init.data.toList.drop 618 = dktX6_init_26 := dk_seg dksX6_init_25 24 rfl rfl
theorem dksX6_init_27 : cX6_init.data.toList.drop 642 = dktX6_init_27 := dk_seg dksX6_init_26 24 rfl rfl
theorem dksX6_init_28 : cX6_init.data.toList.drop 666 = dktX6_init_28 := dk_seg dksX6_init_27 24 rfl rfl
theorem dksX6_init_29 : cX6_init.data.toList.drop 690 = dktX6_init_29 := dk_seg dksX6_init_28 24 rfl rfl
theorem dksX6_init_30 : cX6_init.data.toList.drop 713 = dktX6_init_30 := dk_seg dksX6_init_29 23 rfl rfl
theorem dksX6_init_31 : cX6_init.data.toList.drop 737 = dktX6_init_31 := dk_seg dksX6_init_30 24 rfl rfl
theorem dksX6_init_32 : cX6_init.data.toList.drop 761 = dktX6_init_32 := dk_seg dksX6_init_31 24 rfl rfl
theorem dksX6_init_33 : cX6_init.data.toList.drop 785 = dktX6_init_33 := dk_seg dksX6_init_32 24 rfl rfl
theorem dksX6_init_34 : cX6_init.data.toList.drop 809 = dktX6_init_34 := dk_seg dksX6_init_33 24 rfl rfl
theorem dksX6_init_35 : cX6_init.data.toList.drop 833 = dktX6_init_35 := dk_seg dksX6_init_34 24 rfl rfl
theorem dksX6_init_36 : cX6_init.data.toList.drop 857 = dktX6_init_36 := dk_seg dksX6_init_35 24 rfl rfl
theorem dksX6_init_37 : cX6_init.data.toList.drop 881 = dktX6_init_37 := dk_seg dksX6_init_36 24 rfl rfl
theorem dksX6_init_38 : cX6_init.data.toList.drop 905 = dktX6_init_38 := dk_seg dksX6_init_37 24 rfl rfl
theorem dksX6_init_39 : cX6_init.data.toList.drop 929 = dktX6_init_39 := dk_seg dksX6_init_38 24 rfl rfl
theorem dksX6_init_40 : cX6_init.data.toList.drop 951 = dktX6_init_40 := dk_seg dksX6_init_39 22 rfl rfl
theorem dksX6_init_41 : cX6_init.data.toList.drop 973 = dktX6_init_41 := dk_seg dksX6_init_40 22 rfl rfl
theorem dksX6_init_42 : cX6_init.data.toList.drop 997 = dktX6_init_42 := dk_seg dksX6_init_41 24 rfl rfl
theorem dksX6_init_43 : cX6_init.data.toList.drop 1020 = dktX6_init_43 := dk_seg dksX6_init_42 23 rfl rfl
theorem dksX6_init_44 : cX6_init.data.toList.drop 1044 = dktX6_init_44 := dk_seg dksX6_init_43 24 rfl rfl
theorem dksX6_init_45 : cX6_init.data.toList.drop 1068 = dktX6_init_45 := dk_seg dksX6_init_44 24 rfl rfl
theorem dksX6_init_46 : cX6_init.data.toList.drop 1091 = dktX6_init_46 := dk_seg dksX6_init_45 23 rfl rfl
theorem dksX6_init_47 : cX6_init.data.toList.drop 1115 = dktX6_init_47 := dk_seg dksX6_init_46 24 rfl rfl
theorem dksX6_init_48 : cX6_init.data.toList.drop 1139 = dktX6_init_48 := dk_seg dksX6_init_47 24 rfl rfl
theorem dksX6_init_49 : cX6_init.data.toList.drop 1163 = dktX6_init_49 := dk_seg dksX6_init_48 24 rfl rfl
theorem dksX6_init_50 : cX6_init.data.toList.drop 1186 = dktX6_init_50 := dk_seg dksX6_init_49 23 rfl rfl
theorem dksX6_init_51 : cX6_init.data.toList.drop 1209 = dktX6_init_51 := dk_seg dksX6_init_50 23 rfl rfl
theorem dksX6_init_52 : cX6_init.data.toList.drop 1231 = dktX6_init_52 := dk_seg dksX6_init_51 22 rfl rfl
theorem dksX6_init_53 : cX6_init.data.toList.drop 1253 = dktX6_init_53 := dk_seg dksX6_init_52 22 rfl rfl
theorem dksX6_init_54 : cX6_init.data.toList.drop 1277 = dktX6_init_54 := dk_seg dksX6_init_53 24 rfl rfl
theorem dksX6_init_55 : cX6_init.data.toList.drop 1301 = dktX6_init_55 := dk_seg dksX6_init_54 24 rfl rfl
theorem dksX6_init_56 : cX6_init.data.toList.drop 1325 = dktX6_init_56 := dk_seg dksX6_init_55 24 rfl rfl
theorem dksX6_init_57 : cX6_init.data.toList.drop 1349 = dktX6_init_57 := dk_seg dksX6_init_56 24 rfl rfl
theorem dksX6_init_58 : cX6_init.data.toList.drop 1372 = dktX6_init_58 := dk_seg dksX6_init_57 23 rfl rfl
theorem dksX6_init_59 : cX6_init.data.toList.drop 1395 = dktX6_init_59 := dk_seg dksX6_init_58 23 rfl rfl
theorem dksX6_init_60 : cX6_init.data.toList.drop 1419 = dktX6_init_60 := dk_seg dksX6_init_59 24 rfl rfl
theorem dksX6_init_61 : cX6_init.data.toList.drop 1443 = dktX6_init_61 := dk_seg dksX6_init_60 24 rfl rfl
theorem dksX6_init_62 : cX6_init.data.toList.drop 1467 = dktX6_init_62 := dk_seg dksX6_init_61 24 rfl rfl
theorem dksX6_init_63 : cX6_init.data.toList.drop 1491 = dktX6_init_63 := dk_seg dksX6_init_62 24 rfl rfl
theorem dksX6_init_64 : cX6_init.data.toList.drop 1515 = dktX6_init_64 := dk_seg dksX6_init_63 24 rfl rfl
theorem dksX6_init_65 : cX6_init.data.toList.drop 1539 = dktX6_init_65 := dk_seg dksX6_init_64 24 rfl rfl
theorem dksX6_init_66 : cX6_init.data.toList.drop 1563 = dktX6_init_66 := dk_seg dksX6_init_65 24 rfl rfl
theorem dksX6_init_67 : cX6_init.data.toList.drop 1586 = dktX6_init_67 := dk_seg dksX6_init_66 23 rfl rfl
theorem dksX6_init_68 : cX6_init.data.toList.drop 1609 = dktX6_init_68 := dk_seg dksX6_init_67 23 rfl rfl
theorem dksX6_init_69 : cX6_init.data.toList.drop 1633 = dktX6_init_69 := dk_seg dksX6_init_68 24 rfl rfl
theorem dksX6_init_70 : cX6_init.data.toList.drop 1656 = dktX6_init_70 := dk_seg dksX6_init_69 23 rfl rfl
theorem dksX6_init_71 : cX6_init.data.toList.drop 1679 = dktX6_init_71 := dk_seg dksX6_init_70 23 rfl rfl
theorem dksX6_init_72 : cX6_init.data.toList.drop 1703 = dktX6_init_72 := dk_seg dksX6_init_71 24 rfl rfl
theorem dksX6_init_73 : cX6_init.data.toList.drop 1727 = dktX6_init_73 := dk_seg dksX6_init_72 24 rfl rfl
theorem dksX6_init_74 : cX6_init.data.toList.drop 1750 = dktX6_init_74 := dk_seg dksX6_init_73 23 rfl rfl
theorem dX6_init_0 : decode cX6_init 0 = .ok (.aload_n 0, 1) := dk_42 (dk_at dksX6_init_0 0 rfl rfl)
theorem dX6_init_1 : decode cX6_init 1 = .ok (.invokespecial 1, 3) := dk_183 0 1 (dk_at dksX6_init_0 1 rfl rfl)
theorem dX6_init_4 : decode cX6_init 4 = .ok (.aload_n 0, 1) := dk_42 (dk_at dksX6_init_0 4 rfl rfl)
theorem dX6_init_5 : decode cX6_init 5 = .ok (.sipush 1600, 3) := dk_17 6 64 (dk_at dksX6_init_0 5 rfl rfl)
theorem dX6_init_8 : decode cX6_init 8 = .ok (.newarray .int, 2) := dk_188_10 (dk_at dksX6_init_0 8 rfl rfl)
theorem dX6_init_10 : decode cX6_init 10 = .ok (.putfield 7, 3) := dk_181 0 7 (dk_at dksX6_init_0 10 rfl rfl)
theorem dX6_init_13 : decode cX6_init 13 = .ok (.aload_n 0, 1) := dk_42 (dk_at dksX6_init_0 13 rfl rfl)
theorem dX6_init_14 : decode cX6_init 14 = .ok (.iconst (-1), 1) := dk_2 (dk_at dksX6_init_0 14 rfl rfl)
theorem dX6_init_15 : decode cX6_init 15 = .ok (.putfield 13, 3) := dk_181 0 13 (dk_at dksX6_init_0 15 rfl rfl)
theorem dX6_init_18 : decode cX6_init 18 = .ok (.aload_n 0, 1) := dk_42 (dk_at dksX6_init_0 18 rfl rfl)
theorem dX6_init_19 : decode cX6_init 19 = .ok (.bipush 6, 2) := dk_16 6 (dk_at dksX6_init_0 19 rfl rfl)
theorem dX6_init_21 : decode cX6_init 21 = .ok (.newarray .int, 2) := dk_188_10 (dk_at dksX6_init_0 21 rfl rfl)
theorem dX6_init_23 : decode cX6_init 23 = .ok (.putfield 17, 3) := dk_181 0 17 (dk_at dksX6_init_1 0 rfl rfl)
theorem dX6_init_26 : decode cX6_init 26 = .ok (.aload_n 0, 1) := dk_42 (dk_at dksX6_init_1 3 rfl rfl)
theorem dX6_init_27 : decode cX6_init 27 = .ok (.iconst 4, 1) := dk_7 (dk_at dksX6_init_1 4 rfl rfl)
theorem dX6_init_28 : decode cX6_init 28 = .ok (.newarray .char, 2) := dk_188_5 (dk_at dksX6_init_1 5 rfl rfl)
theorem dX6_init_30 : decode cX6_init 30 = .ok (.dup, 1) := dk_89 (dk_at dksX6_init_1 7 rfl rfl)
theorem dX6_init_31 : decode cX6_init 31 = .ok (.iconst 0, 1) := dk_3 (dk_at dksX6_init_1 8 rfl rfl)
theorem dX6_init_32 : decode cX6_init 32 = .ok (.bipush 102, 2) := dk_16 102 (dk_at dksX6_init_1 9 rfl rfl)
theorem dX6_init_34 : decode cX6_init 34 = .ok (.castore, 1) := dk_85 (dk_at dksX6_init_1 11 rfl rfl)
theorem dX6_init_35 : decode cX6_init 35 = .ok (.dup, 1) := dk_89 (dk_at dksX6_init_1 12 rfl rfl)
theorem dX6_init_36 : decode cX6_init 36 = .ok (.iconst 1, 1) := dk_4 (dk_at dksX6_init_1 13 rfl rfl)
theorem dX6_init_37 : decode cX6_init 37 = .ok (.bipush 97, 2) := dk_16 97 (dk_at dksX6_init_1 14 rfl rfl)
theorem dX6_init_39 : decode cX6_init 39 = .ok (.castore, 1) := dk_85 (dk_at dksX6_init_1 16 rfl rfl)
theorem dX6_init_40 : decode cX6_init 40 = .ok (.dup, 1) := dk_89 (dk_at dksX6_init_1 17 rfl rfl)
theorem dX6_init_41 : decode cX6_init 41 = .ok (.iconst 2, 1) := dk_5 (dk_at dksX6_init_1 18 rfl rfl)
theorem dX6_init_42 : decode cX6_init 42 = .ok (.bipush 99, 2) := dk_16 99 (dk_at dksX6_init_1 19 rfl rfl)
theorem dX6_init_44 : decode cX6_init 44 = .ok (.castore, 1) := dk_85 (dk_at dksX6_init_1 21 rfl rfl)
theorem dX6_init_45 : decode cX6_init 45 = .ok (.dup, 1) := dk_89 (dk_at dksX6_init_1 22 rfl rfl)
theorem dX6_init_46 : decode cX6_init 46 = .ok (.iconst 3, 1) := dk_6 (dk_at dksX6_init_1 23 rfl rfl)
theorem dX6_init_47 : decode cX6_init 47 = .ok (.bipush 116, 2) := dk_16 116 (dk_at dksX6_init_2 0 rfl rfl)
theorem dX6_init_49 : decode cX6_init 49 = .ok (.castore, 1) := dk_85 (dk_at dksX6_init_2 2 rfl rfl)
theorem dX6_init_50 : decode cX6_init 50 = .ok (.putfield 20, 3) := dk_181 0 20 (dk_at dksX6_init_2 3 rfl rfl)
theorem dX6_init_53 : decode cX6_init 53 = .ok (.aload_n 0, 1) := dk_42 (dk_at dksX6_init_2 6 rfl rfl)
theorem dX6_init_54 : decode cX6_init 54 = .ok (.iconst 5, 1) := dk_8 (dk_at dksX6_init_2 7 rfl rfl)
theorem dX6_init_55 : decode cX6_init 55 = .ok (.newarray .char, 2) := dk_188_5 (dk_at dksX6_init_2 8 rfl rfl)
theorem dX6_init_57 : decode cX6_init 57 = .ok (.dup, 1) := dk_89 (dk_at dksX6_init_2 10 rfl rfl)
theorem dX6_init_58 : decode cX6_init 58 = .ok (.iconst 0, 1) := dk_3 (dk_at dksX6_init_2 11 rfl rfl)
theorem dX6_init_59 : decode cX6_init 59 = .ok (.bipush 119, 2) := dk_16 119 (dk_at dksX6_init_2 12 rfl rfl)
theorem dX6_init_61 : decode cX6_init 61 = .ok (.castore, 1) := dk_85 (dk_at dksX6_init_2 14 rfl rfl)
theorem dX6_init_62 : decode cX6_init 62 = .ok (.dup, 1) := dk_89 (dk_at dksX6_init_2 15 rfl rfl)
theorem dX6_init_63 : decode cX6_init 63 = .ok (.iconst 1, 1) := dk_4 (dk_at dksX6_init_2 16 rfl rfl)
theorem dX6_init_64 : decode cX6_init 64 = .ok (.bipush 111, 2) := dk_16 111 (dk_at dksX6_init_2 17 rfl rfl)
theorem dX6_init_66 : decode cX6_init 66 = .ok (.castore, 1) := dk_85 (dk_at dksX6_init_2 19 rfl rfl)
theorem dX6_init_67 : decode cX6_init 67 = .ok (.dup, 1) := dk_89 (dk_at dksX6_init_2 20 rfl rfl)
theorem dX6_init_68 : decode cX6_init 68 = .ok (.iconst 2, 1) := dk_5 (dk_at dksX6_init_2 21 rfl rfl)
theorem dX6_init_69 : decode cX6_init 69 = .ok (.bipush 114, 2) := dk_16 114 (dk_at dksX6_init_2 22 rfl rfl)
theorem dX6_init_71 : decode cX6_init 71 = .ok (.castore, 1) := dk_85 (dk_at dksX6_init_3 0 rfl rfl)
theorem dX6_init_72 : decode cX6_init 72 = .ok (.dup, 1) := dk_89 (dk_at dksX6_init_3 1 rfl rfl)
theorem dX6_init_73 : decode cX6_init 73 = .ok (.iconst 3, 1) := dk_6 (dk_at dksX6_init_3 2 rfl rfl)
theorem dX6_init_74 : decode cX6_init 74 = .ok (.bipush 116, 2) := dk_16 116 (dk_at dksX6_init_3 3 rfl rfl)
theorem dX6_init_76 : decode cX6_init 76 = .ok (.castore, 1) := dk_85 (dk_at dksX6_init_3 5 rfl rfl)
theorem dX6_init_77 : decode cX6_init 77 = .ok (.dup, 1) := dk_89 (dk_at dksX6_init_3 6 rfl rfl)
theorem dX6_init_78 : decode cX6_init 78 = .ok (.iconst 4, 1) := dk_7 (dk_at dksX6_init_3 7 rfl rfl)
theorem dX6_init_79 : decode cX6_init 79 = .ok (.bipush 104, 2) := dk_16 104 (dk_at dksX6_init_3 8 rfl rfl)
theorem dX6_init_81 : decode cX6_init 81 = .ok (.castore, 1) := dk_85 (dk_at dksX6_init_3 10 rfl rfl)
theorem dX6_init_82 : decode cX6_init 82 = .ok (.putfield 24, 3) := dk_181 0 24 (dk_at dksX6_init_3 11 rfl rfl)
theorem dX6_init_85 : decode cX6_init 85 = .ok (.aload_n 0, 1) := dk_42 (dk_at dksX6_init_3 14 rfl rfl)
theorem dX6_init_86 : decode cX6_init 86 = .ok (.bipush 6, 2) := dk_16 6 (dk_at dksX6_init_3 15 rfl rfl)
theorem dX6_init_88 : decode cX6_init 88 = .ok (.newarray .char, 2) := dk_188_5 (dk_at dksX6_init_3 17 rfl rfl)
theorem dX6_init_90 : decode cX6_init 90 = .ok (.dup, 1) := dk_89 (dk_at dksX6_init_3 19 rfl rfl)
theorem dX6_init_91 : decode cX6_init 91 = .ok (.iconst 0, 1) := dk_3 (dk_at dksX6_init_3 20 rfl rfl)
theorem dX6_init_92 : decode cX6_init 92 = .ok (.bipush 112, 2) := dk_16 112 (dk_at dksX6_init_3 21 rfl rfl)
theorem dX6_init_94 : decode cX6_init 94 = .ok (.castore, 1) := dk_85 (dk_at dksX6_init_3 23 rfl rfl)
theorem dX6_init_95 : decode cX6_init 95 = .ok (.dup, 1) := dk_89 (dk_at dksX6_init_4 0 rfl rfl)
theorem dX6_init_96 : decode cX6_init 96 = .ok (.iconst 1, 1) := dk_4 (dk_at dksX6_init_4 1 rfl rfl)
theorem dX6_init_97 : decode cX6_init 97 = .ok (.bipush 101, 2) := dk_16 101 (dk_at dksX6_init_4 2 rfl rfl)
theorem dX6_init_99 : decode cX6_init 99 = .ok (.castore, 1) := dk_85 (dk_at dksX6_init_4 4 rfl rfl)
theorem dX6_init_100 : decode cX6_init 100 = .ok (.dup, 1) := dk_89 (dk_at dksX6_init_4 5 rfl rfl)
theorem dX6_init_101 : decode cX6_init 101 = .ok (.iconst 2, 1) := dk_5 (dk_at dksX6_init_4 6 rfl rfl)
theorem dX6_init_102 : decode cX6_init 102 = .ok (.bipush 114, 2) := dk_16 114 (dk_at dksX6_init_4 7 rfl rfl)
theorem dX6_init_104 : decode cX6_init 104 = .ok (.castore, 1) := dk_85 (dk_at dksX6_init_4 9 rfl rfl)
theorem dX6_init_105 : decode cX6_init 105 = .ok (.dup, 1) := dk_89 (dk_at dksX6_init_4 10 rfl rfl)
theorem dX6_init_106 : decode cX6_init 106 = .ok (.iconst 3, 1) := dk_6 (dk_at dksX6_init_4 11 rfl rfl)
theorem dX6_init_107 : decode cX6_init 107 = .ok (.bipush 115, 2) := dk_16 115 (dk_at dksX6_init_4 12 rfl rfl)
theorem dX6_init_109 : decode cX6_init 109 = .ok (.castore, 1) := dk_85 (dk_at dksX6_init_4 14 rfl rfl)
theorem dX6_init_110 : decode cX6_init 110 = .ok (.dup, 1) := dk_89 (dk_at dksX6_init_4 15 rfl rfl)
theorem dX6_init_111 : decode cX6_init 111 = .ok (.iconst 4, 1) := dk_7 (dk_at dksX6_init_4 16 rfl rfl)
theorem dX6_init_112 : decode cX6_init 112 = .ok (.bipush 111, 2) := dk_16 111 (dk_at dksX6_init_4 17 rfl rfl)
theorem dX6_init_114 : decode cX6_init 114 = .ok (.castore, 1) := dk_85 (dk_at dksX6_init_4 19 rfl rfl)
theorem dX6_init_115 : decode cX6_init 115 = .ok (.dup, 1) := dk_89 (dk_at dksX6_init_4 20 rfl rfl)
theorem dX6_init_116 : decode cX6_init 116 = .ok (.iconst 5, 1) := dk_8 (dk_at dksX6_init_4 21 rfl rfl)
theorem dX6_init_117 : decode cX6_init 117 = .ok (.bipush 110, 2) := dk_16 110 (dk_at dksX6_init_4 22 rfl rfl)
theorem dX6_init_119 : decode cX6_init 119 = .ok (.castore, 1) := dk_85 (dk_at dksX6_init_5 0 rfl rfl)
theorem dX6_init_120 : decode cX6_init 120 = .ok (.putfield 27, 3) := dk_181 0 27 (dk_at dksX6_init_5 1 rfl rfl)
theorem dX6_init_123 : decode cX6_init 123 = .ok (.aload_n 0, 1) := dk_42 (dk_at dksX6_init_5 4 rfl rfl)
theorem dX6_init_124 : decode cX6_init 124 = .ok (.iconst 4, 1) := dk_7 (dk_at dksX6_init_5 5 rfl rfl)
theorem dX6_init_125 : decode cX6_init 125 = .ok (.newarray .char, 2) := dk_188_5 (dk_at dksX6_init_5 6 rfl rfl)
theorem dX6_init_127 : decode cX6_init 127 = .ok (.dup, 1) := dk_89 (dk_at dksX6_init_5 8 rfl rfl)
theorem dX6_init_128 : decode cX6_init 128 = .ok (.iconst 0, 1) := dk_3 (dk_at dksX6_init_5 9 rfl rfl)
theorem dX6_init_129 : decode cX6_init 129 = .ok (.bipush 99, 2) := dk_16 99 (dk_at dksX6_init_5 10 rfl rfl)
theorem dX6_init_131 : decode cX6_init 131 = .ok (.castore, 1) := dk_85 (dk_at dksX6_init_5 12 rfl rfl)
theorem dX6_init_132 : decode cX6_init 132 = .ok (.dup, 1) := dk_89 (dk_at dksX6_init_5 13 rfl rfl)
theorem dX6_init_133 : decode cX6_init 133 = .ok (.iconst 1, 1) := dk_4 (dk_at dksX6_init_5 14 rfl rfl)
theorem dX6_init_134 : decode cX6_init 134 = .ok (.bipush 97, 2) := dk_16 97 (dk_at dksX6_init_5 15 rfl rfl)
theorem dX6_init_136 : decode cX6_init 136 = .ok (.castore, 1) := dk_85 (dk_at dksX6_init_5 17 rfl rfl)
theorem dX6_init_137 : decode cX6_init 137 = .ok (.dup, 1) := dk_89 (dk_at dksX6_init_5 18 rfl rfl)
theorem dX6_init_138 : decode cX6_init 138 = .ok (.iconst 2, 1) := dk_5 (dk_at dksX6_init_5 19 rfl rfl)
theorem dX6_init_139 : decode cX6_init 139 = .ok (.bipush 108, 2) := dk_16 108 (dk_at dksX6_init_5 20 rfl rfl)
theorem dX6_init_141 : decode cX6_init 141 = .ok (.castore, 1) := dk_85 (dk_at dksX6_init_5 22 rfl rfl)
theorem dX6_init_142 : decode cX6_init 142 = .ok (.dup, 1) := dk_89 (dk_at dksX6_init_5 23 rfl rfl)
theorem dX6_init_143 : decode cX6_init 143 = .ok (.iconst 3, 1) := dk_6 (dk_at dksX6_init_6 0 rfl rfl)
theorem dX6_init_144 : decode cX6_init 144 = .ok (.bipush 109, 2) := dk_16 109 (dk_at dksX6_init_6 1 rfl rfl)
theorem dX6_init_146 : decode cX6_init 146 = .ok (.castore, 1) := dk_85 (dk_at dksX6_init_6 3 rfl rfl)
theorem dX6_init_147 : decode cX6_init 147 = .ok (.putfield 30, 3) := dk_181 0 30 (dk_at dksX6_init_6 4 rfl rfl)
theorem dX6_init_150 : decode cX6_init 150 = .ok (.aload_n 0, 1) := dk_42 (dk_at dksX6_init_6 7 rfl rfl)
theorem dX6_init_151 : decode cX6_init 151 = .ok (.iconst 5, 1) := dk_8 (dk_at dksX6_init_6 8 rfl rfl)
theorem dX6_init_152 : decode cX6_init 152 = .ok (.newarray .char, 2) := dk_188_5 (dk_at dksX6_init_6 9 rfl rfl)
theorem dX6_init_154 : decode cX6_init 154 = .ok (.dup, 1) := dk_89 (dk_at dksX6_init_6 11 rfl rfl)
theorem dX6_init_155 : decode cX6_init 155 = .ok (.iconst 0, 1) := dk_3 (dk_at dksX6_init_6 12 rfl rfl)
theorem dX6_init_156 : decode cX6_init 156 = .ok (.bipush 107, 2) := dk_16 107 (dk_at dksX6_init_6 13 rfl rfl)
theorem dX6_init_158 : decode cX6_init 158 = .ok (.castore, 1) := dk_85 (dk_at dksX6_init_6 15 rfl rfl)
theorem dX6_init_159 : decode cX6_init 159 = .ok (.dup, 1) := dk_89 (dk_at dksX6_init_6 16 rfl rfl)
theorem dX6_init_160 : decode cX6_init 160 = .ok (.iconst 1, 1) := dk_4 (dk_at dksX6_init_6 17 rfl rfl)
theorem dX6_init_161 : decode cX6_init 161 = .ok (.bipush 110, 2) := dk_16 110 (dk_at dksX6_init_6 18 rfl rfl)
theorem dX6_init_163 : decode cX6_init 163 = .ok (.castore, 1) := dk_85 (dk_at dksX6_init_6 20 rfl rfl)
theorem dX6_init_164 : decode cX6_init 164 = .ok (.dup, 1) := dk_89 (dk_at dksX6_init_6 21 rfl rfl)
theorem dX6_init_165 : decode cX6_init 165 = .ok (.iconst 2, 1) := dk_5 (dk_at dksX6_init_6 22 rfl rfl)
theorem dX6_init_166 : decode cX6_init 166 = .ok (.bipush 111, 2) := dk_16 111 (dk_at dksX6_init_7 0 rfl rfl)
theorem dX6_init_168 : decode cX6_init 168 = .ok (.castore, 1) := dk_85 (dk_at dksX6_init_7 2 rfl rfl)
theorem dX6_init_169 : decode cX6_init 169 = .ok (.dup, 1) := dk_89 (dk_at dksX6_init_7 3 rfl rfl)
theorem dX6_init_170 : decode cX6_init 170 = .ok (.iconst 3, 1) := dk_6 (dk_at dksX6_init_7 4 rfl rfl)
theorem dX6_init_171 : decode cX6_init 171 = .ok (.bipush 119, 2) := dk_16 119 (dk_at dksX6_init_7 5 rfl rfl)
theorem dX6_init_173 : decode cX6_init 173 = .ok (.castore, 1) := dk_85 (dk_at dksX6_init_7 7 rfl rfl)
theorem dX6_init_174 : decode cX6_init 174 = .ok (.dup, 1) := dk_89 (dk_at dksX6_init_7 8 rfl rfl)
theorem dX6_init_175 : decode cX6_init 175 = .ok (.iconst 4, 1) := dk_7 (dk_at dksX6_init_7 9 rfl rfl)
theorem dX6_init_176 : decode cX6_init 176 = .ok (.bipush 115, 2) := dk_16 115 (dk_at dksX6_init_7 10 rfl rfl)
theorem dX6_init_178 : decode cX6_init 178 = .ok (.castore, 1) := dk_85 (dk_at dksX6_init_7 12 rfl rfl)
theorem dX6_init_179 : decode cX6_init 179 = .ok (.putfield 33, 3) := dk_181 0 33 (dk_at dksX6_init_7 13 rfl rfl)
theorem dX6_init_182 : decode cX6_init 182 = .ok (.aload_n 0, 1) := dk_42 (dk_at dksX6_init_7 16 rfl rfl)
theorem dX6_init_183 : decode cX6_init 183 = .ok (.iconst 4, 1) := dk_7 (dk_at dksX6_init_7 17 rfl rfl)
theorem dX6_init_184 : decode cX6_init 184 = .ok (.newarray .char, 2) := dk_188_5 (dk_at dksX6_init_7 18 rfl rfl)
theorem dX6_init_186 : decode cX6_init 186 = .ok (.dup, 1) := dk_89 (dk_at dksX6_init_7 20 rfl rfl)
theorem dX6_init_187 : decode cX6_init 187 = .ok (.iconst 0, 1) := dk_3 (dk_at dksX6_init_7 21 rfl rfl)
theorem dX6_init_188 : decode cX6_init 188 = .ok (.bipush 101, 2) := dk_16 101 (dk_at dksX6_init_7 22 rfl rfl)
theorem dX6_init_190 : decode cX6_init 190 = .ok (.castore, 1) := dk_85 (dk_at dksX6_init_8 0 rfl rfl)
theorem dX6_init_191 : decode cX6_init 191 = .ok (.dup, 1) := dk_89 (dk_at dksX6_init_8 1 rfl rfl)
theorem dX6_init_192 : decode cX6_init 192 = .ok (.iconst 1, 1) := dk_4 (dk_at dksX6_init_8 2 rfl rfl)
theorem dX6_init_193 : decode cX6_init 193 = .ok (.bipush 114, 2) := dk_16 114 (dk_at dksX6_init_8 3 rfl rfl)
theorem dX6_init_195 : decode cX6_init 195 = .ok (.castore, 1) := dk_85 (dk_at dksX6_init_8 5 rfl rfl)
theorem dX6_init_196 : decode cX6_init 196 = .ok (.dup, 1) := dk_89 (dk_at dksX6_init_8 6 rfl rfl)
theorem dX6_init_197 : decode cX6_init 197 = .ok (.iconst 2, 1) := dk_5 (dk_at dksX6_init_8 7 rfl rfl)
theorem dX6_init_198 : decode cX6_init 198 = .ok (.bipush 114, 2) := dk_16 114 (dk_at dksX6_init_8 8 rfl rfl)
theorem dX6_init_200 : decode cX6_init 200 = .ok (.castore, 1) := dk_85 (dk_at dksX6_init_8 10 rfl rfl)
theorem dX6_init_201 : decode cX6_init 201 = .ok (.dup, 1) := dk_89 (dk_at dksX6_init_8 11 rfl rfl)
theorem dX6_init_202 : decode cX6_init 202 = .ok (.iconst 3, 1) := dk_6 (dk_at dksX6_init_8 12 rfl rfl)
theorem dX6_init_203 : decode cX6_init 203 = .ok (.bipush 115, 2) := dk_16 115 (dk_at dksX6_init_8 13 rfl rfl)
theorem dX6_init_205 : decode cX6_init 205 = .ok (.castore, 1) := dk_85 (dk_at dksX6_init_8 15 rfl rfl)
theorem dX6_init_206 : decode cX6_init 206 = .ok (.putfield 36, 3) := dk_181 0 36 (dk_at dksX6_init_8 16 rfl rfl)
theorem dX6_init_209 : decode cX6_init 209 = .ok (.aload_n 0, 1) := dk_42 (dk_at dksX6_init_8 19 rfl rfl)
theorem dX6_init_210 : decode cX6_init 210 = .ok (.bipush 6, 2) := dk_16 6 (dk_at dksX6_init_8 20 rfl rfl)
theorem dX6_init_212 : decode cX6_init 212 = .ok (.newarray .char, 2) := dk_188_5 (dk_at dksX6_init_8 22 rfl rfl)
theorem dX6_init_214 : decode cX6_init 214 = .ok (.dup, 1) := dk_89 (dk_at dksX6_init_9 0 rfl rfl)
theorem dX6_init_215 : decode cX6_init 215 = .ok (.iconst 0, 1) := dk_3 (dk_at dksX6_init_9 1 rfl rfl)
theorem dX6_init_216 : decode cX6_init 216 = .ok (.bipush 116, 2) := dk_16 116 (dk_at dksX6_init_9 2 rfl rfl)
theorem dX6_init_218 : decode cX6_init 218 = .ok (.castore, 1) := dk_85 (dk_at dksX6_init_9 4 rfl rfl)
theorem dX6_init_219 : decode cX6_init 219 = .ok (.dup, 1) := dk_89 (dk_at dksX6_init_9 5 rfl rfl)
theorem dX6_init_220 : decode cX6_init 220 = .ok (.iconst 1, 1) := dk_4 (dk_at dksX6_init_9 6 rfl rfl)
theorem dX6_init_221 : decode cX6_init 221 = .ok (.bipush 97, 2) := dk_16 97 (dk_at dksX6_init_9 7 rfl rfl)
theorem dX6_init_223 : decode cX6_init 223 = .ok (.castore, 1) := dk_85 (dk_at dksX6_init_9 9 rfl rfl)
theorem dX6_init_224 : decode cX6_init 224 = .ok (.dup, 1) := dk_89 (dk_at dksX6_init_9 10 rfl rfl)
theorem dX6_init_225 : decode cX6_init 225 = .ok (.iconst 2, 1) := dk_5 (dk_at dksX6_init_9 11 rfl rfl)
theorem dX6_init_226 : decode cX6_init 226 = .ok (.bipush 117, 2) := dk_16 117 (dk_at dksX6_init_9 12 rfl rfl)
theorem dX6_init_228 : decode cX6_init 228 = .ok (.castore, 1) := dk_85 (dk_at dksX6_init_9 14 rfl rfl)
theorem dX6_init_229 : decode cX6_init 229 = .ok (.dup, 1) := dk_89 (dk_at dksX6_init_9 15 rfl rfl)
theorem dX6_init_230 : decode cX6_init 230 = .ok (.iconst 3, 1) := dk_6 (dk_at dksX6_init_9 16 rfl rfl)
theorem dX6_init_231 : decode cX6_init 231 = .ok (.bipush 103, 2) := dk_16 103 (dk_at dksX6_init_9 17 rfl rfl)
theorem dX6_init_233 : decode cX6_init 233 = .ok (.castore, 1) := dk_85 (dk_at dksX6_init_9 19 rfl rfl)
theorem dX6_init_234 : decode cX6_init 234 = .ok (.dup, 1) := dk_89 (dk_at dksX6_init_9 20 rfl rfl)
theorem dX6_init_235 : decode cX6_init 235 = .ok (.iconst 4, 1) := dk_7 (dk_at dksX6_init_9 21 rfl rfl)
theorem dX6_init_236 : decode cX6_init 236 = .ok (.bipush 104, 2) := dk_16 104 (dk_at dksX6_init_9 22 rfl rfl)
theorem dX6_init_238 : decode cX6_init 238 = .ok (.castore, 1) := dk_85 (dk_at dksX6_init_10 0 rfl rfl)
theorem dX6_init_239 : decode cX6_init 239 = .ok (.dup, 1) := dk_89 (dk_at dksX6_init_10 1 rfl rfl)
theorem dX6_init_240 : decode cX6_init 240 = .ok (.iconst 5, 1) := dk_8 (dk_at dksX6_init_10 2 rfl rfl)
theorem dX6_init_241 : decode cX6_init 241 = .ok (.bipush 116, 2) := dk_16 116 (dk_at dksX6_init_10 3 rfl rfl)
theorem dX6_init_243 : decode cX6_init 243 = .ok (.castore, 1) := dk_85 (dk_at dksX6_init_10 5 rfl rfl)
theorem dX6_init_244 : decode cX6_init 244 = .ok (.putfield 39, 3) := dk_181 0 39 (dk_at dksX6_init_10 6 rfl rfl)
theorem dX6_init_247 : decode cX6_init 247 = .ok (.aload_n 0, 1) := dk_42 (dk_at dksX6_init_10 9 rfl rfl)
theorem dX6_init_248 : decode cX6_init 248 = .ok (.iconst 2, 1) := dk_5 (dk_at dksX6_init_10 10 rfl rfl)
theorem dX6_init_249 : decode cX6_init 249 = .ok (.newarray .char, 2) := dk_188_5 (dk_at dksX6_init_10 11 rfl rfl)
theorem dX6_init_251 : decode cX6_init 251 = .ok (.dup, 1) := dk_89 (dk_at dksX6_init_10 13 rfl rfl)
theorem dX6_init_252 : decode cX6_init 252 = .ok (.iconst 0, 1) := dk_3 (dk_at dksX6_init_10 14 rfl rfl)
theorem dX6_init_253 : decode cX6_init 253 = .ok (.bipush 98, 2) := dk_16 98 (dk_at dksX6_init_10 15 rfl rfl)
theorem dX6_init_255 : decode cX6_init 255 = .ok (.castore, 1) := dk_85 (dk_at dksX6_init_10 17 rfl rfl)
theorem dX6_init_256 : decode cX6_init 256 = .ok (.dup, 1) := dk_89 (dk_at dksX6_init_10 18 rfl rfl)
theorem dX6_init_257 : decode cX6_init 257 = .ok (.iconst 1, 1) := dk_4 (dk_at dksX6_init_10 19 rfl rfl)
theorem dX6_init_258 : decode cX6_init 258 = .ok (.bipush 121, 2) := dk_16 121 (dk_at dksX6_init_10 20 rfl rfl)
theorem dX6_init_260 : decode cX6_init 260 = .ok (.castore, 1) := dk_85 (dk_at dksX6_init_10 22 rfl rfl)
theorem dX6_init_261 : decode cX6_init 261 = .ok (.putfield 42, 3) := dk_181 0 42 (dk_at dksX6_init_11 0 rfl rfl)
theorem dX6_init_264 : decode cX6_init 264 = .ok (.aload_n 0, 1) := dk_42 (dk_at dksX6_init_11 3 rfl rfl)
theorem dX6_init_265 : decode cX6_init 265 = .ok (.iconst 5, 1) := dk_8 (dk_at dksX6_init_11 4 rfl rfl)
theorem dX6_init_266 : decode cX6_init 266 = .ok (.newarray .char, 2) := dk_188_5 (dk_at dksX6_init_11 5 rfl rfl)
theorem dX6_init_268 : decode cX6_init 268 = .ok (.dup, 1) := dk_89 (dk_at dksX6_init_11 7 rfl rfl)
theorem dX6_init_269 : decode cX6_init 269 = .ok (.iconst 0, 1) := dk_3 (dk_at dksX6_init_11 8 rfl rfl)
theorem dX6_init_270 : decode cX6_init 270 = .ok (.bipush 116, 2) := dk_16 116 (dk_at dksX6_init_11 9 rfl rfl)
theorem dX6_init_272 : decode cX6_init 272 = .ok (.castore, 1) := dk_85 (dk_at dksX6_init_11 11 rfl rfl)
theorem dX6_init_273 : decode cX6_init 273 = .ok (.dup, 1) := dk_89 (dk_at dksX6_init_11 12 rfl rfl)
theorem dX6_init_274 : decode cX6_init 274 = .ok (.iconst 1, 1) := dk_4 (dk_at dksX6_init_11 13 rfl rfl)
theorem dX6_init_275 : decode cX6_init 275 = .ok (.bipush 97, 2) := dk_16 97 (dk_at dksX6_init_11 14 rfl rfl)
theorem dX6_init_277 : decode cX6_init 277 = .ok (.castore, 1) := dk_85 (dk_at dksX6_init_11 16 rfl rfl)
theorem dX6_init_278 : decode cX6_init 278 = .ok (.dup, 1) := dk_89 (dk_at dksX6_init_11 17 rfl rfl)
theorem dX6_init_279 : decode cX6_init 279 = .ok (.iconst 2, 1) := dk_5 (dk_at dksX6_init_11 18 rfl rfl)
theorem dX6_init_280 : decode cX6_init 280 = .ok (.bipush 107, 2) := dk_16 107 (dk_at dksX6_init_11 19 rfl rfl)
theorem dX6_init_282 : decode cX6_init 282 = .ok (.castore, 1) := dk_85 (dk_at dksX6_init_11 21 rfl rfl)
theorem dX6_init_283 : decode cX6_init 283 = .ok (.dup, 1) := dk_89 (dk_at dksX6_init_11 22 rfl rfl)
theorem dX6_init_284 : decode cX6_init 284 = .ok (.iconst 3, 1) := dk_6 (dk_at dksX6_init_11 23 rfl rfl)
theorem dX6_init_285 : decode cX6_init 285 = .ok (.bipush 101, 2) := dk_16 101 (dk_at dksX6_init_12 0 rfl rfl)
theorem dX6_init_287 : decode cX6_init 287 = .ok (.castore, 1) := dk_85 (dk_at dksX6_init_12 2 rfl rfl)
theorem dX6_init_288 : decode cX6_init 288 = .ok (.dup, 1) := dk_89 (dk_at dksX6_init_12 3 rfl rfl)
theorem dX6_init_289 : decode cX6_init 289 = .ok (.iconst 4, 1) := dk_7 (dk_at dksX6_init_12 4 rfl rfl)
theorem dX6_init_290 : decode cX6_init 290 = .ok (.bipush 115, 2) := dk_16 115 (dk_at dksX6_init_12 5 rfl rfl)
theorem dX6_init_292 : decode cX6_init 292 = .ok (.castore, 1) := dk_85 (dk_at dksX6_init_12 7 rfl rfl)
theorem dX6_init_293 : decode cX6_init 293 = .ok (.putfield 45, 3) := dk_181 0 45 (dk_at dksX6_init_12 8 rfl rfl)
theorem dX6_init_296 : decode cX6_init 296 = .ok (.aload_n 0, 1) := dk_42 (dk_at dksX6_init_12 11 rfl rfl)
theorem dX6_init_297 : decode cX6_init 297 = .ok (.bipush 6, 2) := dk_16 6 (dk_at dksX6_init_12 12 rfl rfl)
theorem dX6_init_299 : decode cX6_init 299 = .ok (.newarray .char, 2) := dk_188_5 (dk_at dksX6_init_12 14 rfl rfl)
theorem dX6_init_301 : decode cX6_init 301 = .ok (.dup, 1) := dk_89 (dk_at dksX6_init_12 16 rfl rfl)
theorem dX6_init_302 : decode cX6_init 302 = .ok (.iconst 0, 1) := dk_3 (dk_at dksX6_init_12 17 rfl rfl)
theorem dX6_init_303 : decode cX6_init 303 = .ok (.bipush 103, 2) := dk_16 103 (dk_at dksX6_init_12 18 rfl rfl)
theorem dX6_init_305 : decode cX6_init 305 = .ok (.castore, 1) := dk_85 (dk_at dksX6_init_12 20 rfl rfl)
theorem dX6_init_306 : decode cX6_init 306 = .ok (.dup, 1) := dk_89 (dk_at dksX6_init_12 21 rfl rfl)
theorem dX6_init_307 : decode cX6_init 307 = .ok (.iconst 1, 1) := dk_4 (dk_at dksX6_init_12 22 rfl rfl)
theorem dX6_init_308 : decode cX6_init 308 = .ok (.bipush 97, 2) := dk_16 97 (dk_at dksX6_init_13 0 rfl rfl)
theorem dX6_init_310 : decode cX6_init 310 = .ok (.castore, 1) := dk_85 (dk_at dksX6_init_13 2 rfl rfl)
theorem dX6_init_311 : decode cX6_init 311 = .ok (.dup, 1) := dk_89 (dk_at dksX6_init_13 3 rfl rfl)
theorem dX6_init_312 : decode cX6_init 312 = .ok (.iconst 2, 1) := dk_5 (dk_at dksX6_init_13 4 rfl rfl)
theorem dX6_init_313 : decode cX6_init 313 = .ok (.bipush 114, 2) := dk_16 114 (dk_at dksX6_init_13 5 rfl rfl)
theorem dX6_init_315 : decode cX6_init 315 = .ok (.castore, 1) := dk_85 (dk_at dksX6_init_13 7 rfl rfl)
theorem dX6_init_316 : decode cX6_init 316 = .ok (.dup, 1) := dk_89 (dk_at dksX6_init_13 8 rfl rfl)
theorem dX6_init_317 : decode cX6_init 317 = .ok (.iconst 3, 1) := dk_6 (dk_at dksX6_init_13 9 rfl rfl)
theorem dX6_init_318 : decode cX6_init 318 = .ok (.bipush 98, 2) := dk_16 98 (dk_at dksX6_init_13 10 rfl rfl)
theorem dX6_init_320 : decode cX6_init 320 = .ok (.castore, 1) := dk_85 (dk_at dksX6_init_13 12 rfl rfl)
theorem dX6_init_321 : decode cX6_init 321 = .ok (.dup, 1) := dk_89 (dk_at dksX6_init_13 13 rfl rfl)
theorem dX6_init_322 : decode cX6_init 322 = .ok (.iconst 4, 1) := dk_7 (dk_at dksX6_init_13 14 rfl rfl)
theorem dX6_init_323 : decode cX6_init 323 = .ok (.bipush 108, 2) := dk_16 108 (dk_at dksX6_init_13 15 rfl rfl)
theorem dX6_init_325 : decode cX6_init 325 = .ok (.castore, 1) := dk_85 (dk_at dksX6_init_13 17 rfl rfl)
theorem dX6_init_326 : decode cX6_init 326 = .ok (.dup, 1) := dk_89 (dk_at dksX6_init_13 18 rfl rfl)
theorem dX6_init_327 : decode cX6_init 327 = .ok (.iconst 5, 1) := dk_8 (dk_at dksX6_init_13 19 rfl rfl)
theorem dX6_init_328 : decode cX6_init 328 = .ok (.bipush 101, 2) := dk_16 101 (dk_at dksX6_init_13 20 rfl rfl)
theorem dX6_init_330 : decode cX6_init 330 = .ok (.castore, 1) := dk_85 (dk_at dksX6_init_13 22 rfl rfl)
theorem dX6_init_331 : decode cX6_init 331 = .ok (.putfield 48, 3) := dk_181 0 48 (dk_at dksX6_init_14 0 rfl rfl)
theorem dX6_init_334 : decode cX6_init 334 = .ok (.aload_n 0, 1) := dk_42 (dk_at dksX6_init_14 3 rfl rfl)
theorem dX6_init_335 : decode cX6_init 335 = .ok (.iconst 4, 1) := dk_7 (dk_at dksX6_init_14 4 rfl rfl)
theorem dX6_init_336 : decode cX6_init 336 = .ok (.newarray .char, 2) := dk_188_5 (dk_at dksX6_init_14 5 rfl rfl)
theorem dX6_init_338 : decode cX6_init 338 = .ok (.dup, 1) := dk_89 (dk_at dksX6_init_14 7 rfl rfl)
theorem dX6_init_339 : decode cX6_init 339 = .ok (.iconst 0, 1) := dk_3 (dk_at dksX6_init_14 8 rfl rfl)
theorem dX6_init_340 : decode cX6_init 340 = .ok (.bipush 115, 2) := dk_16 115 (dk_at dksX6_init_14 9 rfl rfl)
theorem dX6_init_342 : decode cX6_init 342 = .ok (.castore, 1) := dk_85 (dk_at dksX6_init_14 11 rfl rfl)
theorem dX6_init_343 : decode cX6_init 343 = .ok (.dup, 1) := dk_89 (dk_at dksX6_init_14 12 rfl rfl)
theorem dX6_init_344 : decode cX6_init 344 = .ok (.iconst 1, 1) := dk_4 (dk_at dksX6_init_14 13 rfl rfl)
theorem dX6_init_345 : decode cX6_init 345 = .ok (.bipush 105, 2) := dk_16 105 (dk_at dksX6_init_14 14 rfl rfl)
theorem dX6_init_347 : decode cX6_init 347 = .ok (.castore, 1) := dk_85 (dk_at dksX6_init_14 16 rfl rfl)
theorem dX6_init_348 : decode cX6_init 348 = .ok (.dup, 1) := dk_89 (dk_at dksX6_init_14 17 rfl rfl)
theorem dX6_init_349 : decode cX6_init 349 = .ok (.iconst 2, 1) := dk_5 (dk_at dksX6_init_14 18 rfl rfl)
theorem dX6_init_350 : decode cX6_init 350 = .ok (.bipush 116, 2) := dk_16 116 (dk_at dksX6_init_14 19 rfl rfl)
theorem dX6_init_352 : decode cX6_init 352 = .ok (.castore, 1) := dk_85 (dk_at dksX6_init_14 21 rfl rfl)
theorem dX6_init_353 : decode cX6_init 353 = .ok (.dup, 1) := dk_89 (dk_at dksX6_init_14 22 rfl rfl)
theorem dX6_init_354 : decode cX6_init 354 = .ok (.iconst 3, 1) := dk_6 (dk_at dksX6_init_14 23 rfl rfl)
theorem dX6_init_355 : decode cX6_init 355 = .ok (.bipush 115, 2) := dk_16 115 (dk_at dksX6_init_15 0 rfl rfl)
theorem dX6_init_357 : decode cX6_init 357 = .ok (.castore, 1) := dk_85 (dk_at dksX6_init_15 2 rfl rfl)
theorem dX6_init_358 : decode cX6_init 358 = .ok (.putfield 51, 3) := dk_181 0 51 (dk_at dksX6_init_15 3 rfl rfl)
theorem dX6_init_361 : decode cX6_init 361 = .ok (.aload_n 0, 1) := dk_42 (dk_at dksX6_init_15 6 rfl rfl)
theorem dX6_init_362 : decode cX6_init 362 = .ok (.iconst 4, 1) := dk_7 (dk_at dksX6_init_15 7 rfl rfl)
theorem dX6_init_363 : decode cX6_init 363 = .ok (.newarray .char, 2) := dk_188_5 (dk_at dksX6_init_15 8 rfl rfl)
theorem dX6_init_365 : decode cX6_init 365 = .ok (.dup, 1) := dk_89 (dk_at dksX6_init_15 10 rfl rfl)
theorem dX6_init_366 : decode cX6_init 366 = .ok (.iconst 0, 1) := dk_3 (dk_at dksX6_init_15 11 rfl rfl)
theorem dX6_init_367 : decode cX6_init 367 = .ok (.bipush 112, 2) := dk_16 112 (dk_at dksX6_init_15 12 rfl rfl)
theorem dX6_init_369 : decode cX6_init 369 = .ok (.castore, 1) := dk_85 (dk_at dksX6_init_15 14 rfl rfl)
theorem dX6_init_370 : decode cX6_init 370 = .ok (.dup, 1) := dk_89 (dk_at dksX6_init_15 15 rfl rfl)
theorem dX6_init_371 : decode cX6_init 371 = .ok (.iconst 1, 1) := dk_4 (dk_at dksX6_init_15 16 rfl rfl)
theorem dX6_init_372 : decode cX6_init 372 = .ok (.bipush 97, 2) := dk_16 97 (dk_at dksX6_init_15 17 rfl rfl)
theorem dX6_init_374 : decode cX6_init 374 = .ok (.castore, 1) := dk_85 (dk_at dksX6_init_15 19 rfl rfl)
theorem dX6_init_375 : decode cX6_init 375 = .ok (.dup, 1) := dk_89 (dk_at dksX6_init_15 20 rfl rfl)
theorem dX6_init_376 : decode cX6_init 376 = .ok (.iconst 2, 1) := dk_5 (dk_at dksX6_init_15 21 rfl rfl)
theorem dX6_init_377 : decode cX6_init 377 = .ok (.bipush 115, 2) := dk_16 115 (dk_at dksX6_init_15 22 rfl rfl)
theorem dX6_init_379 : decode cX6_init 379 = .ok (.castore, 1) := dk_85 (dk_at dksX6_init_16 0 rfl rfl)
theorem dX6_init_380 : decode cX6_init 380 = .ok (.dup, 1) := dk_89 (dk_at dksX6_init_16 1 rfl rfl)
theorem dX6_init_381 : decode cX6_init 381 = .ok (.iconst 3, 1) := dk_6 (dk_at dksX6_init_16 2 rfl rfl)
theorem dX6_init_382 : decode cX6_init 382 = .ok (.bipush 115, 2) := dk_16 115 (dk_at dksX6_init_16 3 rfl rfl)
theorem dX6_init_384 : decode cX6_init 384 = .ok (.castore, 1) := dk_85 (dk_at dksX6_init_16 5 rfl rfl)
theorem dX6_init_385 : decode cX6_init 385 = .ok (.putfield 54, 3) := dk_181 0 54 (dk_at dksX6_init_16 6 rfl rfl)
theorem dX6_init_388 : decode cX6_init 388 = .ok (.aload_n 0, 1) := dk_42 (dk_at dksX6_init_16 9 rfl rfl)
theorem dX6_init_389 : decode cX6_init 389 = .ok (.iconst 5, 1) := dk_8 (dk_at dksX6_init_16 10 rfl rfl)
theorem dX6_init_390 : decode cX6_init 390 = .ok (.newarray .char, 2) := dk_188_5 (dk_at dksX6_init_16 11 rfl rfl)
theorem dX6_init_392 : decode cX6_init 392 = .ok (.dup, 1) := dk_89 (dk_at dksX6_init_16 13 rfl rfl)
theorem dX6_init_393 : decode cX6_init 393 = .ok (.iconst 0, 1) := dk_3 (dk_at dksX6_init_16 14 rfl rfl)
theorem dX6_init_394 : decode cX6_init 394 = .ok (.bipush 116, 2) := dk_16 116 (dk_at dksX6_init_16 15 rfl rfl)
theorem dX6_init_396 : decode cX6_init 396 = .ok (.castore, 1) := dk_85 (dk_at dksX6_init_16 17 rfl rfl)
theorem dX6_init_397 : decode cX6_init 397 = .ok (.dup, 1) := dk_89 (dk_at dksX6_init_16 18 rfl rfl)
theorem dX6_init_398 : decode cX6_init 398 = .ok (.iconst 1, 1) := dk_4 (dk_at dksX6_init_16 19 rfl rfl)
theorem dX6_init_399 : decode cX6_init 399 = .ok (.bipush 114, 2) := dk_16 114 (dk_at dksX6_init_16 20 rfl rfl)
theorem dX6_init_401 : decode cX6_init 401 = .ok (.castore, 1) := dk_85 (dk_at dksX6_init_16 22 rfl rfl)
theorem dX6_init_402 : decode cX6_init 402 = .ok (.dup, 1) := dk_89 (dk_at dksX6_init_16 23 rfl rfl)
theorem dX6_init_403 : decode cX6_init 403 = .ok (.iconst 2, 1) := dk_5 (dk_at dksX6_init_17 0 rfl rfl)
theorem dX6_init_404 : decode cX6_init 404 = .ok (.bipush 105, 2) := dk_16 105 (dk_at dksX6_init_17 1 rfl rfl)
theorem dX6_init_406 : decode cX6_init 406 = .ok (.castore, 1) := dk_85 (dk_at dksX6_init_17 3 rfl rfl)
theorem dX6_init_407 : decode cX6_init 407 = .ok (.dup, 1) := dk_89 (dk_at dksX6_init_17 4 rfl rfl)
theorem dX6_init_408 : decode cX6_init 408 = .ok (.iconst 3, 1) := dk_6 (dk_at dksX6_init_17 5 rfl rfl)
theorem dX6_init_409 : decode cX6_init 409 = .ok (.bipush 101, 2) := dk_16 101 (dk_at dksX6_init_17 6 rfl rfl)
theorem dX6_init_411 : decode cX6_init 411 = .ok (.castore, 1) := dk_85 (dk_at dksX6_init_17 8 rfl rfl)
theorem dX6_init_412 : decode cX6_init 412 = .ok (.dup, 1) := dk_89 (dk_at dksX6_init_17 9 rfl rfl)
theorem dX6_init_413 : decode cX6_init 413 = .ok (.iconst 4, 1) := dk_7 (dk_at dksX6_init_17 10 rfl rfl)
theorem dX6_init_414 : decode cX6_init 414 = .ok (.bipush 115, 2) := dk_16 115 (dk_at dksX6_init_17 11 rfl rfl)
theorem dX6_init_416 : decode cX6_init 416 = .ok (.castore, 1) := dk_85 (dk_at dksX6_init_17 13 rfl rfl)
theorem dX6_init_417 : decode cX6_init 417 = .ok (.putfield 57, 3) := dk_181 0 57 (dk_at dksX6_init_17 14 rfl rfl)
theorem dX6_init_420 : decode cX6_init 420 = .ok (.aload_n 0, 1) := dk_42 (dk_at dksX6_init_17 17 rfl rfl)
theorem dX6_init_421 : decode cX6_init 421 = .ok (.iconst 3, 1) := dk_6 (dk_at dksX6_init_17 18 rfl rfl)
theorem dX6_init_422 : decode cX6_init 422 = .ok (.newarray .char, 2) := dk_188_5 (dk_at dksX6_init_17 19 rfl rfl)
theorem dX6_init_424 : decode cX6_init 424 = .ok (.dup, 1) := dk_89 (dk_at dksX6_init_17 21 rfl rfl)
theorem dX6_init_425 : decode cX6_init 425 = .ok (.iconst 0, 1) := dk_3 (dk_at dksX6_init_17 22 rfl rfl)
theorem dX6_init_426 : decode cX6_init 426 = .ok (.bipush 105, 2) := dk_16 105 (dk_at dksX6_init_18 0 rfl rfl)
theorem dX6_init_428 : decode cX6_init 428 = .ok (.castore, 1) := dk_85 (dk_at dksX6_init_18 2 rfl rfl)
theorem dX6_init_429 : decode cX6_init 429 = .ok (.dup, 1) := dk_89 (dk_at dksX6_init_18 3 rfl rfl)
theorem dX6_init_430 : decode cX6_init 430 = .ok (.iconst 1, 1) := dk_4 (dk_at dksX6_init_18 4 rfl rfl)
theorem dX6_init_431 : decode cX6_init 431 = .ok (.bipush 108, 2) := dk_16 108 (dk_at dksX6_init_18 5 rfl rfl)
theorem dX6_init_433 : decode cX6_init 433 = .ok (.castore, 1) := dk_85 (dk_at dksX6_init_18 7 rfl rfl)
theorem dX6_init_434 : decode cX6_init 434 = .ok (.dup, 1) := dk_89 (dk_at dksX6_init_18 8 rfl rfl)
theorem dX6_init_435 : decode cX6_init 435 = .ok (.iconst 2, 1) := dk_5 (dk_at dksX6_init_18 9 rfl rfl)
theorem dX6_init_436 : decode cX6_init 436 = .ok (.bipush 108, 2) := dk_16 108 (dk_at dksX6_init_18 10 rfl rfl)
theorem dX6_init_438 : decode cX6_init 438 = .ok (.castore, 1) := dk_85 (dk_at dksX6_init_18 12 rfl rfl)
theorem dX6_init_439 : decode cX6_init 439 = .ok (.putfield 60, 3) := dk_181 0 60 (dk_at dksX6_init_18 13 rfl rfl)
theorem dX6_init_442 : decode cX6_init 442 = .ok (.aload_n 0, 1) := dk_42 (dk_at dksX6_init_18 16 rfl rfl)
theorem dX6_init_443 : decode cX6_init 443 = .ok (.iconst 5, 1) := dk_8 (dk_at dksX6_init_18 17 rfl rfl)
theorem dX6_init_444 : decode cX6_init 444 = .ok (.newarray .char, 2) := dk_188_5 (dk_at dksX6_init_18 18 rfl rfl)
theorem dX6_init_446 : decode cX6_init 446 = .ok (.dup, 1) := dk_89 (dk_at dksX6_init_18 20 rfl rfl)
theorem dX6_init_447 : decode cX6_init 447 = .ok (.iconst 0, 1) := dk_3 (dk_at dksX6_init_18 21 rfl rfl)
theorem dX6_init_448 : decode cX6_init 448 = .ok (.bipush 114, 2) := dk_16 114 (dk_at dksX6_init_18 22 rfl rfl)
theorem dX6_init_450 : decode cX6_init 450 = .ok (.castore, 1) := dk_85 (dk_at dksX6_init_19 0 rfl rfl)
theorem dX6_init_451 : decode cX6_init 451 = .ok (.dup, 1) := dk_89 (dk_at dksX6_init_19 1 rfl rfl)
theorem dX6_init_452 : decode cX6_init 452 = .ok (.iconst 1, 1) := dk_4 (dk_at dksX6_init_19 2 rfl rfl)
theorem dX6_init_453 : decode cX6_init 453 = .ok (.bipush 105, 2) := dk_16 105 (dk_at dksX6_init_19 3 rfl rfl)
theorem dX6_init_455 : decode cX6_init 455 = .ok (.castore, 1) := dk_85 (dk_at dksX6_init_19 5 rfl rfl)
theorem dX6_init_456 : decode cX6_init 456 = .ok (.dup, 1) := dk_89 (dk_at dksX6_init_19 6 rfl rfl)
theorem dX6_init_457 : decode cX6_init 457 = .ok (.iconst 2, 1) := dk_5 (dk_at dksX6_init_19 7 rfl rfl)
theorem dX6_init_458 : decode cX6_init 458 = .ok (.bipush 103, 2) := dk_16 103 (dk_at dksX6_init_19 8 rfl rfl)
theorem dX6_init_460 : decode cX6_init 460 = .ok (.castore, 1) := dk_85 (dk_at dksX6_init_19 10 rfl rfl)
theorem dX6_init_461 : decode cX6_init 461 = .ok (.dup, 1) := dk_89 (dk_at dksX6_init_19 11 rfl rfl)
theorem dX6_init_462 : decode cX6_init 462 = .ok (.iconst 3, 1) := dk_6 (dk_at dksX6_init_19 12 rfl rfl)
theorem dX6_init_463 : decode cX6_init 463 = .ok (.bipush 104, 2) := dk_16 104 (dk_at dksX6_init_19 13 rfl rfl)
theorem dX6_init_465 : decode cX6_init 465 = .ok (.castore, 1) := dk_85 (dk_at dksX6_init_19 15 rfl rfl)
theorem dX6_init_466 : decode cX6_init 466 = .ok (.dup, 1) := dk_89 (dk_at dksX6_init_19 16 rfl rfl)
theorem dX6_init_467 : decode cX6_init 467 = .ok (.iconst 4, 1) := dk_7 (dk_at dksX6_init_19 17 rfl rfl)
theorem dX6_init_468 : decode cX6_init 468 = .ok (.bipush 116, 2) := dk_16 116 (dk_at dksX6_init_19 18 rfl rfl)
theorem dX6_init_470 : decode cX6_init 470 = .ok (.castore, 1) := dk_85 (dk_at dksX6_init_19 20 rfl rfl)
theorem dX6_init_471 : decode cX6_init 471 = .ok (.putfield 63, 3) := dk_181 0 63 (dk_at dksX6_init_19 21 rfl rfl)
theorem dX6_init_474 : decode cX6_init 474 = .ok (.aload_n 0, 1) := dk_42 (dk_at dksX6_init_20 0 rfl rfl)
theorem dX6_init_475 : decode cX6_init 475 = .ok (.iconst 5, 1) := dk_8 (dk_at dksX6_init_20 1 rfl rfl)
theorem dX6_init_476 : decode cX6_init 476 = .ok (.newarray .char, 2) := dk_188_5 (dk_at dksX6_init_20 2 rfl rfl)
theorem dX6_init_478 : decode cX6_init 478 = .ok (.dup, 1) := dk_89 (dk_at dksX6_init_20 4 rfl rfl)
theorem dX6_init_479 : decode cX6_init 479 = .ok (.iconst 0, 1) := dk_3 (dk_at dksX6_init_20 5 rfl rfl)
theorem dX6_init_480 : decode cX6_init 480 = .ok (.bipush 119, 2) := dk_16 119 (dk_at dksX6_init_20 6 rfl rfl)
theorem dX6_init_482 : decode cX6_init 482 = .ok (.castore, 1) := dk_85 (dk_at dksX6_init_20 8 rfl rfl)
theorem dX6_init_483 : decode cX6_init 483 = .ok (.dup, 1) := dk_89 (dk_at dksX6_init_20 9 rfl rfl)
theorem dX6_init_484 : decode cX6_init 484 = .ok (.iconst 1, 1) := dk_4 (dk_at dksX6_init_20 10 rfl rfl)
theorem dX6_init_485 : decode cX6_init 485 = .ok (.bipush 114, 2) := dk_16 114 (dk_at dksX6_init_20 11 rfl rfl)
theorem dX6_init_487 : decode cX6_init 487 = .ok (.castore, 1) := dk_85 (dk_at dksX6_init_20 13 rfl rfl)
theorem dX6_init_488 : decode cX6_init 488 = .ok (.dup, 1) := dk_89 (dk_at dksX6_init_20 14 rfl rfl)
theorem dX6_init_489 : decode cX6_init 489 = .ok (.iconst 2, 1) := dk_5 (dk_at dksX6_init_20 15 rfl rfl)
theorem dX6_init_490 : decode cX6_init 490 = .ok (.bipush 111, 2) := dk_16 111 (dk_at dksX6_init_20 16 rfl rfl)
theorem dX6_init_492 : decode cX6_init 492 = .ok (.castore, 1) := dk_85 (dk_at dksX6_init_20 18 rfl rfl)
theorem dX6_init_493 : decode cX6_init 493 = .ok (.dup, 1) := dk_89 (dk_at dksX6_init_20 19 rfl rfl)
theorem dX6_init_494 : decode cX6_init 494 = .ok (.iconst 3, 1) := dk_6 (dk_at dksX6_init_20 20 rfl rfl)
theorem dX6_init_495 : decode cX6_init 495 = .ok (.bipush 110, 2) := dk_16 110 (dk_at dksX6_init_20 21 rfl rfl)
theorem dX6_init_497 : decode cX6_init 497 = .ok (.castore, 1) := dk_85 (dk_at dksX6_init_20 23 rfl rfl)
theorem dX6_init_498 : decode cX6_init 498 = .ok (.dup, 1) := dk_89 (dk_at dksX6_init_21 0 rfl rfl)
theorem dX6_init_499 : decode cX6_init 499 = .ok (.iconst 4, 1) := dk_7 (dk_at dksX6_init_21 1 rfl rfl)
theorem dX6_init_500 : decode cX6_init 500 = .ok (.bipush 103, 2) := dk_16 103 (dk_at dksX6_init_21 2 rfl rfl)
theorem dX6_init_502 : decode cX6_init 502 = .ok (.castore, 1) := dk_85 (dk_at dksX6_init_21 4 rfl rfl)
theorem dX6_init_503 : decode cX6_init 503 = .ok (.putfield 66, 3) := dk_181 0 66 (dk_at dksX6_init_21 5 rfl rfl)
theorem dX6_init_506 : decode cX6_init 506 = .ok (.aload_n 0, 1) := dk_42 (dk_at dksX6_init_21 8 rfl rfl)
theorem dX6_init_507 : decode cX6_init 507 = .ok (.iconst 4, 1) := dk_7 (dk_at dksX6_init_21 9 rfl rfl)
theorem dX6_init_508 : decode cX6_init 508 = .ok (.newarray .char, 2) := dk_188_5 (dk_at dksX6_init_21 10 rfl rfl)
theorem dX6_init_510 : decode cX6_init 510 = .ok (.dup, 1) := dk_89 (dk_at dksX6_init_21 12 rfl rfl)
theorem dX6_init_511 : decode cX6_init 511 = .ok (.iconst 0, 1) := dk_3 (dk_at dksX6_init_21 13 rfl rfl)
theorem dX6_init_512 : decode cX6_init 512 = .ok (.bipush 121, 2) := dk_16 121 (dk_at dksX6_init_21 14 rfl rfl)
theorem dX6_init_514 : decode cX6_init 514 = .ok (.castore, 1) := dk_85 (dk_at dksX6_init_21 16 rfl rfl)
theorem dX6_init_515 : decode cX6_init 515 = .ok (.dup, 1) := dk_89 (dk_at dksX6_init_21 17 rfl rfl)
theorem dX6_init_516 : decode cX6_init 516 = .ok (.iconst 1, 1) := dk_4 (dk_at dksX6_init_21 18 rfl rfl)
theorem dX6_init_517 : decode cX6_init 517 = .ok (.bipush 101, 2) := dk_16 101 (dk_at dksX6_init_21 19 rfl rfl)
theorem dX6_init_519 : decode cX6_init 519 = .ok (.castore, 1) := dk_85 (dk_at dksX6_init_21 21 rfl rfl)
theorem dX6_init_520 : decode cX6_init 520 = .ok (.dup, 1) := dk_89 (dk_at dksX6_init_21 22 rfl rfl)
theorem dX6_init_521 : decode cX6_init 521 = .ok (.iconst 2, 1) := dk_5 (dk_at dksX6_init_21 23 rfl rfl)
theorem dX6_init_522 : decode cX6_init 522 = .ok (.bipush 97, 2) := dk_16 97 (dk_at dksX6_init_22 0 rfl rfl)
theorem dX6_init_524 : decode cX6_init 524 = .ok (.castore, 1) := dk_85 (dk_at dksX6_init_22 2 rfl rfl)
theorem dX6_init_525 : decode cX6_init 525 = .ok (.dup, 1) := dk_89 (dk_at dksX6_init_22 3 rfl rfl)
theorem dX6_init_526 : decode cX6_init 526 = .ok (.iconst 3, 1) := dk_6 (dk_at dksX6_init_22 4 rfl rfl)
theorem dX6_init_527 : decode cX6_init 527 = .ok (.bipush 114, 2) := dk_16 114 (dk_at dksX6_init_22 5 rfl rfl)
theorem dX6_init_529 : decode cX6_init 529 = .ok (.castore, 1) := dk_85 (dk_at dksX6_init_22 7 rfl rfl)
theorem dX6_init_530 : decode cX6_init 530 = .ok (.putfield 69, 3) := dk_181 0 69 (dk_at dksX6_init_22 8 rfl rfl)
theorem dX6_init_533 : decode cX6_init 533 = .ok (.aload_n 0, 1) := dk_42 (dk_at dksX6_init_22 11 rfl rfl)
theorem dX6_init_534 : decode cX6_init 534 = .ok (.iconst 5, 1) := dk_8 (dk_at dksX6_init_22 12 rfl rfl)
theorem dX6_init_535 : decode cX6_init 535 = .ok (.newarray .char, 2) := dk_188_5 (dk_at dksX6_init_22 13 rfl rfl)
theorem dX6_init_537 : decode cX6_init 537 = .ok (.dup, 1) := dk_89 (dk_at dksX6_init_22 15 rfl rfl)
theorem dX6_init_538 : decode cX6_init 538 = .ok (.iconst 0, 1) := dk_3 (dk_at dksX6_init_22 16 rfl rfl)
theorem dX6_init_539 : decode cX6_init 539 = .ok (.bipush 99, 2) := dk_16 99 (dk_at dksX6_init_22 17 rfl rfl)
theorem dX6_init_541 : decode cX6_init 541 = .ok (.castore, 1) := dk_85 (dk_at dksX6_init_22 19 rfl rfl)
theorem dX6_init_542 : decode cX6_init 542 = .ok (.dup, 1) := dk_89 (dk_at dksX6_init_22 20 rfl rfl)
theorem dX6_init_543 : decode cX6_init 543 = .ok (.iconst 1, 1) := dk_4 (dk_at dksX6_init_22 21 rfl rfl)
theorem dX6_init_544 : decode cX6_init 544 = .ok (.bipush 108, 2) := dk_16 108 (dk_at dksX6_init_22 22 rfl rfl)
theorem dX6_init_546 : decode cX6_init 546 = .ok (.castore, 1) := dk_85 (dk_at dksX6_init_23 0 rfl rfl)
theorem dX6_init_547 : decode cX6_init 547 = .ok (.dup, 1) := dk_89 (dk_at dksX6_init_23 1 rfl rfl)
theorem dX6_init_548 : decode cX6_init 548 = .ok (.iconst 2, 1) := dk_5 (dk_at dksX6_init_23 2 rfl rfl)
theorem dX6_init_549 : decode cX6_init 549 = .ok (.bipush 97, 2) := dk_16 97 (dk_at dksX6_init_23 3 rfl rfl)
theorem dX6_init_551 : decode cX6_init 551 = .ok (.castore, 1) := dk_85 (dk_at dksX6_init_23 5 rfl rfl)
theorem dX6_init_552 : decode cX6_init 552 = .ok (.dup, 1) := dk_89 (dk_at dksX6_init_23 6 rfl rfl)
theorem dX6_init_553 : decode cX6_init 553 = .ok (.iconst 3, 1) := dk_6 (dk_at dksX6_init_23 7 rfl rfl)
theorem dX6_init_554 : decode cX6_init 554 = .ok (.bipush 115, 2) := dk_16 115 (dk_at dksX6_init_23 8 rfl rfl)
theorem dX6_init_556 : decode cX6_init 556 = .ok (.castore, 1) := dk_85 (dk_at dksX6_init_23 10 rfl rfl)
theorem dX6_init_557 : decode cX6_init 557 = .ok (.dup, 1) := dk_89 (dk_at dksX6_init_23 11 rfl rfl)
theorem dX6_init_558 : decode cX6_init 558 = .ok (.iconst 4, 1) := dk_7 (dk_at dksX6_init_23 12 rfl rfl)
theorem dX6_init_559 : decode cX6_init 559 = .ok (.bipush 115, 2) := dk_16 115 (dk_at dksX6_init_23 13 rfl rfl)
theorem dX6_init_561 : decode cX6_init 561 = .ok (.castore, 1) := dk_85 (dk_at dksX6_init_23 15 rfl rfl)
theorem dX6_init_562 : decode cX6_init 562 = .ok (.putfield 72, 3) := dk_181 0 72 (dk_at dksX6_init_23 16 rfl rfl)
theorem dX6_init_565 : decode cX6_init 565 = .ok (.aload_n 0, 1) := dk_42 (dk_at dksX6_init_23 19 rfl rfl)
theorem dX6_init_566 : decode cX6_init 566 = .ok (.iconst 5, 1) := dk_8 (dk_at dksX6_init_23 20 rfl rfl)
theorem dX6_init_567 : decode cX6_init 567 = .ok (.newarray .char, 2) := dk_188_5 (dk_at dksX6_init_23 21 rfl rfl)
theorem dX6_init_569 : decode cX6_init 569 = .ok (.dup, 1) := dk_89 (dk_at dksX6_init_23 23 rfl rfl)
theorem dX6_init_570 : decode cX6_init 570 = .ok (.iconst 0, 1) := dk_3 (dk_at dksX6_init_24 0 rfl rfl)
theorem dX6_init_571 : decode cX6_init 571 = .ok (.bipush 109, 2) := dk_16 109 (dk_at dksX6_init_24 1 rfl rfl)
theorem dX6_init_573 : decode cX6_init 573 = .ok (.castore, 1) := dk_85 (dk_at dksX6_init_24 3 rfl rfl)
theorem dX6_init_574 : decode cX6_init 574 = .ok (.dup, 1) := dk_89 (dk_at dksX6_init_24 4 rfl rfl)
theorem dX6_init_575 : decode cX6_init 575 = .ok (.iconst 1, 1) := dk_4 (dk_at dksX6_init_24 5 rfl rfl)
theorem dX6_init_576 : decode cX6_init 576 = .ok (.bipush 99, 2) := dk_16 99 (dk_at dksX6_init_24 6 rfl rfl)
theorem dX6_init_578 : decode cX6_init 578 = .ok (.castore, 1) := dk_85 (dk_at dksX6_init_24 8 rfl rfl)
theorem dX6_init_579 : decode cX6_init 579 = .ok (.dup, 1) := dk_89 (dk_at dksX6_init_24 9 rfl rfl)
theorem dX6_init_580 : decode cX6_init 580 = .ok (.iconst 2, 1) := dk_5 (dk_at dksX6_init_24 10 rfl rfl)
theorem dX6_init_581 : decode cX6_init 581 = .ok (.bipush 97, 2) := dk_16 97 (dk_at dksX6_init_24 11 rfl rfl)
theorem dX6_init_583 : decode cX6_init 583 = .ok (.castore, 1) := dk_85 (dk_at dksX6_init_24 13 rfl rfl)
theorem dX6_init_584 : decode cX6_init 584 = .ok (.dup, 1) := dk_89 (dk_at dksX6_init_24 14 rfl rfl)
theorem dX6_init_585 : decode cX6_init 585 = .ok (.iconst 3, 1) := dk_6 (dk_at dksX6_init_24 15 rfl rfl)
theorem dX6_init_586 : decode cX6_init 586 = .ok (.bipush 108, 2) := dk_16 108 (dk_at dksX6_init_24 16 rfl rfl)
theorem dX6_init_588 : decode cX6_init 588 = .ok (.castore, 1) := dk_85 (dk_at dksX6_init_24 18 rfl rfl)
theorem dX6_init_589 : decode cX6_init 589 = .ok (.dup, 1) := dk_89 (dk_at dksX6_init_24 19 rfl rfl)
theorem dX6_init_590 : decode cX6_init 590 = .ok (.iconst 4, 1) := dk_7 (dk_at dksX6_init_24 20 rfl rfl)
theorem dX6_init_591 : decode cX6_init 591 = .ok (.bipush 109, 2) := dk_16 109 (dk_at dksX6_init_24 21 rfl rfl)
theorem dX6_init_593 : decode cX6_init 593 = .ok (.castore, 1) := dk_85 (dk_at dksX6_init_24 23 rfl rfl)
theorem dX6_init_594 : decode cX6_init 594 = .ok (.putfield 75, 3) := dk_181 0 75 (dk_at dksX6_init_25 0 rfl rfl)
theorem dX6_init_597 : decode cX6_init 597 = .ok (.aload_n 0, 1) := dk_42 (dk_at dksX6_init_25 3 rfl rfl)
theorem dX6_init_598 : decode cX6_init 598 = .ok (.iconst 4, 1) := dk_7 (dk_at dksX6_init_25 4 rfl rfl)
theorem dX6_init_599 : decode cX6_init 599 = .ok (.newarray .char, 2) := dk_188_5 (dk_at dksX6_init_25 5 rfl rfl)
theorem dX6_init_601 : decode cX6_init 601 = .ok (.dup, 1) := dk_89 (dk_at dksX6_init_25 7 rfl rfl)
theorem dX6_init_602 : decode cX6_init 602 = .ok (.iconst 0, 1) := dk_3 (dk_at dksX6_init_25 8 rfl rfl)
theorem dX6_init_603 : decode cX6_init 603 = .ok (.bipush 108, 2) := dk_16 108 (dk_at dksX6_init_25 9 rfl rfl)
theorem dX6_init_605 : decode cX6_init 605 = .ok (.castore, 1) := dk_85 (dk_at dksX6_init_25 11 rfl rfl)
theorem dX6_init_606 : decode cX6_init 606 = .ok (.dup, 1) := dk_89 (dk_at dksX6_init_25 12 rfl rfl)
theorem dX6_init_607 : decode cX6_init 607 = .ok (.iconst 1, 1) := dk_4 (dk_at dksX6_init_25 13 rfl rfl)
theorem dX6_init_608 : decode cX6_init 608 = .ok (.bipush 101, 2) := dk_16 101 (dk_at dksX6_init_25 14 rfl rfl)
theorem dX6_init_610 : decode cX6_init 610 = .ok (.castore, 1) := dk_85 (dk_at dksX6_init_25 16 rfl rfl)
theorem dX6_init_611 : decode cX6_init 611 = .ok (.dup, 1) := dk_89 (dk_at dksX6_init_25 17 rfl rfl)
theorem dX6_init_612 : decode cX6_init 612 = .ok (.iconst 2, 1) := dk_5 (dk_at dksX6_init_25 18 rfl rfl)
theorem dX6_init_613 : decode cX6_init 613 = .ok (.bipush 102, 2) := dk_16 102 (dk_at dksX6_init_25 19 rfl rfl)
theorem dX6_init_615 : decode cX6_init 615 = .ok (.castore, 1) := dk_85 (dk_at dksX6_init_25 21 rfl rfl)
theorem dX6_init_616 : decode cX6_init 616 = .ok (.dup, 1) := dk_89 (dk_at dksX6_init_25 22 rfl rfl)
theorem dX6_init_617 : decode cX6_init 617 = .ok (.iconst 3, 1) := dk_6 (dk_at dksX6_init_25 23 rfl rfl)
theorem dX6_init_618 : decode cX6_init 618 = .ok (.bipush 116, 2) := dk_16 116 (dk_at dksX6_init_26 0 rfl rfl)
theorem dX6_init_620 : decode cX6_init 620 = .ok (.castore, 1) := dk_85 (dk_at dksX6_init_26 2 rfl rfl)
theorem dX6_init_621 : decode cX6_init 621 = .ok (.putfield 78, 3) := dk_181 0 78 (dk_at dksX6_init_26 3 rfl rfl)
theorem dX6_init_624 : decode cX6_init 624 = .ok (.aload_n 0, 1) := dk_42 (dk_at dksX6_init_26 6 rfl rfl)
theorem dX6_init_625 : decode cX6_init 625 = .ok (.iconst 5, 1) := dk_8 (dk_at dksX6_init_26 7 rfl rfl)
theorem dX6_init_626 : decode cX6_init 626 = .ok (.newarray .char, 2) := dk_188_5 (dk_at dksX6_init_26 8 rfl rfl)
theorem dX6_init_628 : decode cX6_init 628 = .ok (.dup, 1) := dk_89 (dk_at dksX6_init_26 10 rfl rfl)
theorem dX6_init_629 : decode cX6_init 629 = .ok (.iconst 0, 1) := dk_3 (dk_at dksX6_init_26 11 rfl rfl)
theorem dX6_init_630 : decode cX6_init 630 = .ok (.bipush 109, 2) := dk_16 109 (dk_at dksX6_init_26 12 rfl rfl)
theorem dX6_init_632 : decode cX6_init 632 = .ok (.castore, 1) := dk_85 (dk_at dksX6_init_26 14 rfl rfl)
theorem dX6_init_633 : decode cX6_init 633 = .ok (.dup, 1) := dk_89 (dk_at dksX6_init_26 15 rfl rfl)
theorem dX6_init_634 : decode cX6_init 634 = .ok (.iconst 1, 1) := dk_4 (dk_at dksX6_init_26 16 rfl rfl)
theorem dX6_init_635 : decode cX6_init 635 = .ok (.bipush 97, 2) := dk_16 97 (dk_at dksX6_init_26 17 rfl rfl)
theorem dX6_init_637 : decode cX6_init 637 = .ok (.castore, 1) := dk_85 (dk_at dksX6_init_26 19 rfl rfl)
theorem dX6_init_638 : decode cX6_init 638 = .ok (.dup, 1) := dk_89 (dk_at dksX6_init_26 20 rfl rfl)
theorem dX6_init_639 : decode cX6_init 639 = .ok (.iconst 2, 1) := dk_5 (dk_at dksX6_init_26 21 rfl rfl)
theorem dX6_init_640 : decode cX6_init 640 = .ok (.bipush 114, 2) := dk_16 114 (dk_at dksX6_init_26 22 rfl rfl)
theorem dX6_init_642 : decode cX6_init 642 = .ok (.castore, 1) := dk_85 (dk_at dksX6_init_27 0 rfl rfl)
theorem dX6_init_643 : decode cX6_init 643 = .ok (.dup, 1) := dk_89 (dk_at dksX6_init_27 1 rfl rfl)
theorem dX6_init_644 : decode cX6_init 644 = .ok (.iconst 3, 1) := dk_6 (dk_at dksX6_init_27 2 rfl rfl)
theorem dX6_init_645 : decode cX6_init 645 = .ok (.bipush 107, 2) := dk_16 107 (dk_at dksX6_init_27 3 rfl rfl)
theorem dX6_init_647 : decode cX6_init 647 = .ok (.castore, 1) := dk_85 (dk_at dksX6_init_27 5 rfl rfl)
theorem dX6_init_648 : decode cX6_init 648 = .ok (.dup, 1) := dk_89 (dk_at dksX6_init_27 6 rfl rfl)
theorem dX6_init_649 : decode cX6_init 649 = .ok (.iconst 4, 1) := dk_7 (dk_at dksX6_init_27 7 rfl rfl)
theorem dX6_init_650 : decode cX6_init 650 = .ok (.bipush 115, 2) := dk_16 115 (dk_at dksX6_init_27 8 rfl rfl)
theorem dX6_init_652 : decode cX6_init 652 = .ok (.castore, 1) := dk_85 (dk_at dksX6_init_27 10 rfl rfl)
theorem dX6_init_653 : decode cX6_init 653 = .ok (.putfield 81, 3) := dk_181 0 81 (dk_at dksX6_init_27 11 rfl rfl)
theorem dX6_init_656 : decode cX6_init 656 = .ok (.aload_n 0, 1) := dk_42 (dk_at dksX6_init_27 14 rfl rfl)
theorem dX6_init_657 : decode cX6_init 657 = .ok (.bipush 6, 2) := dk_16 6 (dk_at dksX6_init_27 15 rfl rfl)
theorem dX6_init_659 : decode cX6_init 659 = .ok (.newarray .char, 2) := dk_188_5 (dk_at dksX6_init_27 17 rfl rfl)
theorem dX6_init_661 : decode cX6_init 661 = .ok (.dup, 1) := dk_89 (dk_at dksX6_init_27 19 rfl rfl)
theorem dX6_init_662 : decode cX6_init 662 = .ok (.iconst 0, 1) := dk_3 (dk_at dksX6_init_27 20 rfl rfl)
theorem dX6_init_663 : decode cX6_init 663 = .ok (.bipush 110, 2) := dk_16 110 (dk_at dksX6_init_27 21 rfl rfl)
theorem dX6_init_665 : decode cX6_init 665 = .ok (.castore, 1) := dk_85 (dk_at dksX6_init_27 23 rfl rfl)
theorem dX6_init_666 : decode cX6_init 666 = .ok (.dup, 1) := dk_89 (dk_at dksX6_init_28 0 rfl rfl)
theorem dX6_init_667 : decode cX6_init 667 = .ok (.iconst 1, 1) := dk_4 (dk_at dksX6_init_28 1 rfl rfl)
theorem dX6_init_668 : decode cX6_init 668 = .ok (.bipush 117, 2) := dk_16 117 (dk_at dksX6_init_28 2 rfl rfl)
theorem dX6_init_670 : decode cX6_init 670 = .ok (.castore, 1) := dk_85 (dk_at dksX6_init_28 4 rfl rfl)
theorem dX6_init_671 : decode cX6_init 671 = .ok (.dup, 1) := dk_89 (dk_at dksX6_init_28 5 rfl rfl)
theorem dX6_init_672 : decode cX6_init 672 = .ok (.iconst 2, 1) := dk_5 (dk_at dksX6_init_28 6 rfl rfl)
theorem dX6_init_673 : decode cX6_init 673 = .ok (.bipush 109, 2) := dk_16 109 (dk_at dksX6_init_28 7 rfl rfl)
theorem dX6_init_675 : decode cX6_init 675 = .ok (.castore, 1) := dk_85 (dk_at dksX6_init_28 9 rfl rfl)
theorem dX6_init_676 : decode cX6_init 676 = .ok (.dup, 1) := dk_89 (dk_at dksX6_init_28 10 rfl rfl)
theorem dX6_init_677 : decode cX6_init 677 = .ok (.iconst 3, 1) := dk_6 (dk_at dksX6_init_28 11 rfl rfl)
theorem dX6_init_678 : decode cX6_init 678 = .ok (.bipush 98, 2) := dk_16 98 (dk_at dksX6_init_28 12 rfl rfl)
theorem dX6_init_680 : decode cX6_init 680 = .ok (.castore, 1) := dk_85 (dk_at dksX6_init_28 14 rfl rfl)
theorem dX6_init_681 : decode cX6_init 681 = .ok (.dup, 1) := dk_89 (dk_at dksX6_init_28 15 rfl rfl)
theorem dX6_init_682 : decode cX6_init 682 = .ok (.iconst 4, 1) := dk_7 (dk_at dksX6_init_28 16 rfl rfl)
theorem dX6_init_683 : decode cX6_init 683 = .ok (.bipush 101, 2) := dk_16 101 (dk_at dksX6_init_28 17 rfl rfl)
theorem dX6_init_685 : decode cX6_init 685 = .ok (.castore, 1) := dk_85 (dk_at dksX6_init_28 19 rfl rfl)
theorem dX6_init_686 : decode cX6_init 686 = .ok (.dup, 1) := dk_89 (dk_at dksX6_init_28 20 rfl rfl)
theorem dX6_init_687 : decode cX6_init 687 = .ok (.iconst 5, 1) := dk_8 (dk_at dksX6_init_28 21 rfl rfl)
theorem dX6_init_688 : decode cX6_init 688 = .ok (.bipush 114, 2) := dk_16 114 (dk_at dksX6_init_28 22 rfl rfl)
theorem dX6_init_690 : decode cX6_init 690 = .ok (.castore, 1) := dk_85 (dk_at dksX6_init_29 0 rfl rfl)
theorem dX6_init_691 : decode cX6_init 691 = .ok (.putfield 84, 3) := dk_181 0 84 (dk_at dksX6_init_29 1 rfl rfl)
theorem dX6_init_694 : decode cX6_init 694 = .ok (.aload_n 0, 1) := dk_42 (dk_at dksX6_init_29 4 rfl rfl)
theorem dX6_init_695 : decode cX6_init 695 = .ok (.iconst 2, 1) := dk_5 (dk_at dksX6_init_29 5 rfl rfl)
theorem dX6_init_696 : decode cX6_init 696 = .ok (.newarray .char, 2) := dk_188_5 (dk_at dksX6_init_29 6 rfl rfl)
theorem dX6_init_698 : decode cX6_init 698 = .ok (.dup, 1) := dk_89 (dk_at dksX6_init_29 8 rfl rfl)
theorem dX6_init_699 : decode cX6_init 699 = .ok (.iconst 0, 1) := dk_3 (dk_at dksX6_init_29 9 rfl rfl)
theorem dX6_init_700 : decode cX6_init 700 = .ok (.bipush 111, 2) := dk_16 111 (dk_at dksX6_init_29 10 rfl rfl)
theorem dX6_init_702 : decode cX6_init 702 = .ok (.castore, 1) := dk_85 (dk_at dksX6_init_29 12 rfl rfl)
theorem dX6_init_703 : decode cX6_init 703 = .ok (.dup, 1) := dk_89 (dk_at dksX6_init_29 13 rfl rfl)
theorem dX6_init_704 : decode cX6_init 704 = .ok (.iconst 1, 1) := dk_4 (dk_at dksX6_init_29 14 rfl rfl)
theorem dX6_init_705 : decode cX6_init 705 = .ok (.bipush 114, 2) := dk_16 114 (dk_at dksX6_init_29 15 rfl rfl)
theorem dX6_init_707 : decode cX6_init 707 = .ok (.castore, 1) := dk_85 (dk_at dksX6_init_29 17 rfl rfl)
theorem dX6_init_708 : decode cX6_init 708 = .ok (.putfield 87, 3) := dk_181 0 87 (dk_at dksX6_init_29 18 rfl rfl)
theorem dX6_init_711 : decode cX6_init 711 = .ok (.aload_n 0, 1) := dk_42 (dk_at dksX6_init_29 21 rfl rfl)
theorem dX6_init_712 : decode cX6_init 712 = .ok (.iconst 3, 1) := dk_6 (dk_at dksX6_init_29 22 rfl rfl)
theorem dX6_init_713 : decode cX6_init 713 = .ok (.newarray .char, 2) := dk_188_5 (dk_at dksX6_init_30 0 rfl rfl)
theorem dX6_init_715 : decode cX6_init 715 = .ok (.dup, 1) := dk_89 (dk_at dksX6_init_30 2 rfl rfl)
theorem dX6_init_716 : decode cX6_init 716 = .ok (.iconst 0, 1) := dk_3 (dk_at dksX6_init_30 3 rfl rfl)
theorem dX6_init_717 : decode cX6_init 717 = .ok (.bipush 97, 2) := dk_16 97 (dk_at dksX6_init_30 4 rfl rfl)
theorem dX6_init_719 : decode cX6_init 719 = .ok (.castore, 1) := dk_85 (dk_at dksX6_init_30 6 rfl rfl)
theorem dX6_init_720 : decode cX6_init 720 = .ok (.dup, 1) := dk_89 (dk_at dksX6_init_30 7 rfl rfl)
theorem dX6_init_721 : decode cX6_init 721 = .ok (.iconst 1, 1) := dk_4 (dk_at dksX6_init_30 8 rfl rfl)
theorem dX6_init_722 : decode cX6_init 722 = .ok (.bipush 110, 2) := dk_16 110 (dk_at dksX6_init_30 9 rfl rfl)
theorem dX6_init_724 : decode cX6_init 724 = .ok (.castore, 1) := dk_85 (dk_at dksX6_init_30 11 rfl rfl)
theorem dX6_init_725 : decode cX6_init 725 = .ok (.dup, 1) := dk_89 (dk_at dksX6_init_30 12 rfl rfl)
theorem dX6_init_726 : decode cX6_init 726 = .ok (.iconst 2, 1) := dk_5 (dk_at dksX6_init_30 13 rfl rfl)
theorem dX6_init_727 : decode cX6_init 727 = .ok (.bipush 100, 2) := dk_16 100 (dk_at dksX6_init_30 14 rfl rfl)
theorem dX6_init_729 : decode cX6_init 729 = .ok (.castore, 1) := dk_85 (dk_at dksX6_init_30 16 rfl rfl)
theorem dX6_init_730 : decode cX6_init 730 = .ok (.putfield 90, 3) := dk_181 0 90 (dk_at dksX6_init_30 17 rfl rfl)
theorem dX6_init_733 : decode cX6_init 733 = .ok (.aload_n 0, 1) := dk_42 (dk_at dksX6_init_30 20 rfl rfl)
theorem dX6_init_734 : decode cX6_init 734 = .ok (.iconst 3, 1) := dk_6 (dk_at dksX6_init_30 21 rfl rfl)
theorem dX6_init_735 : decode cX6_init 735 = .ok (.newarray .char, 2) := dk_188_5 (dk_at dksX6_init_30 22 rfl rfl)
theorem dX6_init_737 : decode cX6_init 737 = .ok (.dup, 1) := dk_89 (dk_at dksX6_init_31 0 rfl rfl)
theorem dX6_init_738 : decode cX6_init 738 = .ok (.iconst 0, 1) := dk_3 (dk_at dksX6_init_31 1 rfl rfl)
theorem dX6_init_739 : decode cX6_init 739 = .ok (.bipush 110, 2) := dk_16 110 (dk_at dksX6_init_31 2 rfl rfl)
theorem dX6_init_741 : decode cX6_init 741 = .ok (.castore, 1) := dk_85 (dk_at dksX6_init_31 4 rfl rfl)
theorem dX6_init_742 : decode cX6_init 742 = .ok (.dup, 1) := dk_89 (dk_at dksX6_init_31 5 rfl rfl)
theorem dX6_init_743 : decode cX6_init 743 = .ok (.iconst 1, 1) := dk_4 (dk_at dksX6_init_31 6 rfl rfl)
theorem dX6_init_744 : decode cX6_init 744 = .ok (.bipush 111, 2) := dk_16 111 (dk_at dksX6_init_31 7 rfl rfl)
theorem dX6_init_746 : decode cX6_init 746 = .ok (.castore, 1) := dk_85 (dk_at dksX6_init_31 9 rfl rfl)
theorem dX6_init_747 : decode cX6_init 747 = .ok (.dup, 1) := dk_89 (dk_at dksX6_init_31 10 rfl rfl)
theorem dX6_init_748 : decode cX6_init 748 = .ok (.iconst 2, 1) := dk_5 (dk_at dksX6_init_31 11 rfl rfl)
theorem dX6_init_749 : decode cX6_init 749 = .ok (.bipush 116, 2) := dk_16 116 (dk_at dksX6_init_31 12 rfl rfl)
theorem dX6_init_751 : decode cX6_init 751 = .ok (.castore, 1) := dk_85 (dk_at dksX6_init_31 14 rfl rfl)
theorem dX6_init_752 : decode cX6_init 752 = .ok (.putfield 93, 3) := dk_181 0 93 (dk_at dksX6_init_31 15 rfl rfl)
theorem dX6_init_755 : decode cX6_init 755 = .ok (.aload_n 0, 1) := dk_42 (dk_at dksX6_init_31 18 rfl rfl)
theorem dX6_init_756 : decode cX6_init 756 = .ok (.iconst 3, 1) := dk_6 (dk_at dksX6_init_31 19 rfl rfl)
theorem dX6_init_757 : decode cX6_init 757 = .ok (.newarray .char, 2) := dk_188_5 (dk_at dksX6_init_31 20 rfl rfl)
theorem dX6_init_759 : decode cX6_init 759 = .ok (.dup, 1) := dk_89 (dk_at dksX6_init_31 22 rfl rfl)
theorem dX6_init_760 : decode cX6_init 760 = .ok (.iconst 0, 1) := dk_3 (dk_at dksX6_init_31 23 rfl rfl)
theorem dX6_init_761 : decode cX6_init 761 = .ok (.bipush 97, 2) := dk_16 97 (dk_at dksX6_init_32 0 rfl rfl)
theorem dX6_init_763 : decode cX6_init 763 = .ok (.castore, 1) := dk_85 (dk_at dksX6_init_32 2 rfl rfl)
theorem dX6_init_764 : decode cX6_init 764 = .ok (.dup, 1) := dk_89 (dk_at dksX6_init_32 3 rfl rfl)
theorem dX6_init_765 : decode cX6_init 765 = .ok (.iconst 1, 1) := dk_4 (dk_at dksX6_init_32 4 rfl rfl)
theorem dX6_init_766 : decode cX6_init 766 = .ok (.bipush 108, 2) := dk_16 108 (dk_at dksX6_init_32 5 rfl rfl)
theorem dX6_init_768 : decode cX6_init 768 = .ok (.castore, 1) := dk_85 (dk_at dksX6_init_32 7 rfl rfl)
theorem dX6_init_769 : decode cX6_init 769 = .ok (.dup, 1) := dk_89 (dk_at dksX6_init_32 8 rfl rfl)
theorem dX6_init_770 : decode cX6_init 770 = .ok (.iconst 2, 1) := dk_5 (dk_at dksX6_init_32 9 rfl rfl)
theorem dX6_init_771 : decode cX6_init 771 = .ok (.bipush 108, 2) := dk_16 108 (dk_at dksX6_init_32 10 rfl rfl)
theorem dX6_init_773 : decode cX6_init 773 = .ok (.castore, 1) := dk_85 (dk_at dksX6_init_32 12 rfl rfl)
theorem dX6_init_774 : decode cX6_init 774 = .ok (.putfield 96, 3) := dk_181 0 96 (dk_at dksX6_init_32 13 rfl rfl)
theorem dX6_init_777 : decode cX6_init 777 = .ok (.aload_n 0, 1) := dk_42 (dk_at dksX6_init_32 16 rfl rfl)
theorem dX6_init_778 : decode cX6_init 778 = .ok (.iconst 3, 1) := dk_6 (dk_at dksX6_init_32 17 rfl rfl)
theorem dX6_init_779 : decode cX6_init 779 = .ok (.newarray .char, 2) := dk_188_5 (dk_at dksX6_init_32 18 rfl rfl)
theorem dX6_init_781 : decode cX6_init 781 = .ok (.dup, 1) := dk_89 (dk_at dksX6_init_32 20 rfl rfl)
theorem dX6_init_782 : decode cX6_init 782 = .ok (.iconst 0, 1) := dk_3 (dk_at dksX6_init_32 21 rfl rfl)
theorem dX6_init_783 : decode cX6_init 783 = .ok (.bipush 109, 2) := dk_16 109 (dk_at dksX6_init_32 22 rfl rfl)
theorem dX6_init_785 : decode cX6_init 785 = .ok (.castore, 1) := dk_85 (dk_at dksX6_init_33 0 rfl rfl)
theorem dX6_init_786 : decode cX6_init 786 = .ok (.dup, 1) := dk_89 (dk_at dksX6_init_33 1 rfl rfl)
theorem dX6_init_787 : decode cX6_init 787 = .ok (.iconst 1, 1) := dk_4 (dk_at dksX6_init_33 2 rfl rfl)
theorem dX6_init_788 : decode cX6_init 788 = .ok (.bipush 105, 2) := dk_16 105 (dk_at dksX6_init_33 3 rfl rfl)
theorem dX6_init_790 : decode cX6_init 790 = .ok (.castore, 1) := dk_85 (dk_at dksX6_init_33 5 rfl rfl)
theorem dX6_init_791 : decode cX6_init 791 = .ok (.dup, 1) := dk_89 (dk_at dksX6_init_33 6 rfl rfl)
theorem dX6_init_792 : decode cX6_init 792 = .ok (.iconst 2, 1) := dk_5 (dk_at dksX6_init_33 7 rfl rfl)
theorem dX6_init_793 : decode cX6_init 793 = .ok (.bipush 110, 2) := dk_16 110 (dk_at dksX6_init_33 8 rfl rfl)
theorem dX6_init_795 : decode cX6_init 795 = .ok (.castore, 1) := dk_85 (dk_at dksX6_init_33 10 rfl rfl)
theorem dX6_init_796 : decode cX6_init 796 = .ok (.putfield 99, 3) := dk_181 0 99 (dk_at dksX6_init_33 11 rfl rfl)
theorem dX6_init_799 : decode cX6_init 799 = .ok (.aload_n 0, 1) := dk_42 (dk_at dksX6_init_33 14 rfl rfl)
theorem dX6_init_800 : decode cX6_init 800 = .ok (.iconst 3, 1) := dk_6 (dk_at dksX6_init_33 15 rfl rfl)
theorem dX6_init_801 : decode cX6_init 801 = .ok (.newarray .char, 2) := dk_188_5 (dk_at dksX6_init_33 16 rfl rfl)
theorem dX6_init_803 : decode cX6_init 803 = .ok (.dup, 1) := dk_89 (dk_at dksX6_init_33 18 rfl rfl)
theorem dX6_init_804 : decode cX6_init 804 = .ok (.iconst 0, 1) := dk_3 (dk_at dksX6_init_33 19 rfl rfl)
theorem dX6_init_805 : decode cX6_init 805 = .ok (.bipush 109, 2) := dk_16 109 (dk_at dksX6_init_33 20 rfl rfl)
theorem dX6_init_807 : decode cX6_init 807 = .ok (.castore, 1) := dk_85 (dk_at dksX6_init_33 22 rfl rfl)
theorem dX6_init_808 : decode cX6_init 808 = .ok (.dup, 1) := dk_89 (dk_at dksX6_init_33 23 rfl rfl)
theorem dX6_init_809 : decode cX6_init 809 = .ok (.iconst 1, 1) := dk_4 (dk_at dksX6_init_34 0 rfl rfl)
theorem dX6_init_810 : decode cX6_init 810 = .ok (.bipush 97, 2) := dk_16 97 (dk_at dksX6_init_34 1 rfl rfl)
theorem dX6_init_812 : decode cX6_init 812 = .ok (.castore, 1) := dk_85 (dk_at dksX6_init_34 3 rfl rfl)
theorem dX6_init_813 : decode cX6_init 813 = .ok (.dup, 1) := dk_89 (dk_at dksX6_init_34 4 rfl rfl)
theorem dX6_init_814 : decode cX6_init 814 = .ok (.iconst 2, 1) := dk_5 (dk_at dksX6_init_34 5 rfl rfl)
theorem dX6_init_815 : decode cX6_init 815 = .ok (.bipush 120, 2) := dk_16 120 (dk_at dksX6_init_34 6 rfl rfl)
theorem dX6_init_817 : decode cX6_init 817 = .ok (.castore, 1) := dk_85 (dk_at dksX6_init_34 8 rfl rfl)
theorem dX6_init_818 : decode cX6_init 818 = .ok (.putfield 102, 3) := dk_181 0 102 (dk_at dksX6_init_34 9 rfl rfl)
theorem dX6_init_821 : decode cX6_init 821 = .ok (.aload_n 0, 1) := dk_42 (dk_at dksX6_init_34 12 rfl rfl)
theorem dX6_init_822 : decode cX6_init 822 = .ok (.iconst 4, 1) := dk_7 (dk_at dksX6_init_34 13 rfl rfl)
theorem dX6_init_823 : decode cX6_init 823 = .ok (.newarray .int, 2) := dk_188_10 (dk_at dksX6_init_34 14 rfl rfl)
theorem dX6_init_825 : decode cX6_init 825 = .ok (.putfield 105, 3) := dk_181 0 105 (dk_at dksX6_init_34 16 rfl rfl)
theorem dX6_init_828 : decode cX6_init 828 = .ok (.aload_n 0, 1) := dk_42 (dk_at dksX6_init_34 19 rfl rfl)
theorem dX6_init_829 : decode cX6_init 829 = .ok (.bipush 32, 2) := dk_16 32 (dk_at dksX6_init_34 20 rfl rfl)
theorem dX6_init_831 : decode cX6_init 831 = .ok (.newarray .long, 2) := dk_188_11 (dk_at dksX6_init_34 22 rfl rfl)
theorem dX6_init_833 : decode cX6_init 833 = .ok (.putfield 108, 3) := dk_181 0 108 (dk_at dksX6_init_35 0 rfl rfl)
theorem dX6_init_836 : decode cX6_init 836 = .ok (.aload_n 0, 1) := dk_42 (dk_at dksX6_init_35 3 rfl rfl)
theorem dX6_init_837 : decode cX6_init 837 = .ok (.bipush 16, 2) := dk_16 16 (dk_at dksX6_init_35 4 rfl rfl)
theorem dX6_init_839 : decode cX6_init 839 = .ok (.newarray .int, 2) := dk_188_10 (dk_at dksX6_init_35 6 rfl rfl)
theorem dX6_init_841 : decode cX6_init 841 = .ok (.putfield 112, 3) := dk_181 0 112 (dk_at dksX6_init_35 8 rfl rfl)
theorem dX6_init_844 : decode cX6_init 844 = .ok (.aload_n 0, 1) := dk_42 (dk_at dksX6_init_35 11 rfl rfl)
theorem dX6_init_845 : decode cX6_init 845 = .ok (.bipush 16, 2) := dk_16 16 (dk_at dksX6_init_35 12 rfl rfl)
theorem dX6_init_847 : decode cX6_init 847 = .ok (.newarray .int, 2) := dk_188_10 (dk_at dksX6_init_35 14 rfl rfl)
theorem dX6_init_849 : decode cX6_init 849 = .ok (.putfield 115, 3) := dk_181 0 115 (dk_at dksX6_init_35 16 rfl rfl)
theorem dX6_init_852 : decode cX6_init 852 = .ok (.aload_n 0, 1) := dk_42 (dk_at dksX6_init_35 19 rfl rfl)
theorem dX6_init_853 : decode cX6_init 853 = .ok (.bipush 8, 2) := dk_16 8 (dk_at dksX6_init_35 20 rfl rfl)
theorem dX6_init_855 : decode cX6_init 855 = .ok (.newarray .int, 2) := dk_188_10 (dk_at dksX6_init_35 22 rfl rfl)
theorem dX6_init_857 : decode cX6_init 857 = .ok (.putfield 118, 3) := dk_181 0 118 (dk_at dksX6_init_36 0 rfl rfl)
theorem dX6_init_860 : decode cX6_init 860 = .ok (.aload_n 0, 1) := dk_42 (dk_at dksX6_init_36 3 rfl rfl)
theorem dX6_init_861 : decode cX6_init 861 = .ok (.bipush 8, 2) := dk_16 8 (dk_at dksX6_init_36 4 rfl rfl)
theorem dX6_init_863 : decode cX6_init 863 = .ok (.newarray .int, 2) := dk_188_10 (dk_at dksX6_init_36 6 rfl rfl)
theorem dX6_init_865 : decode cX6_init 865 = .ok (.putfield 121, 3) := dk_181 0 121 (dk_at dksX6_init_36 8 rfl rfl)
theorem dX6_init_868 : decode cX6_init 868 = .ok (.aload_n 0, 1) := dk_42 (dk_at dksX6_init_36 11 rfl rfl)
theorem dX6_init_869 : decode cX6_init 869 = .ok (.bipush 8, 2) := dk_16 8 (dk_at dksX6_init_36 12 rfl rfl)
theorem dX6_init_871 : decode cX6_init 871 = .ok (.newarray .int, 2) := dk_188_10 (dk_at dksX6_init_36 14 rfl rfl)
theorem dX6_init_873 : decode cX6_init 873 = .ok (.putfield 124, 3) := dk_181 0 124 (dk_at dksX6_init_36 16 rfl rfl)
theorem dX6_init_876 : decode cX6_init 876 = .ok (.aload_n 0, 1) := dk_42 (dk_at dksX6_init_36 19 rfl rfl)
theorem dX6_init_877 : decode cX6_init 877 = .ok (.bipush 6, 2) := dk_16 6 (dk_at dksX6_init_36 20 rfl rfl)
theorem dX6_init_879 : decode cX6_init 879 = .ok (.newarray .int, 2) := dk_188_10 (dk_at dksX6_init_36 22 rfl rfl)
theorem dX6_init_881 : decode cX6_init 881 = .ok (.dup, 1) := dk_89 (dk_at dksX6_init_37 0 rfl rfl)
theorem dX6_init_882 : decode cX6_init 882 = .ok (.iconst 0, 1) := dk_3 (dk_at dksX6_init_37 1 rfl rfl)
theorem dX6_init_883 : decode cX6_init 883 = .ok (.bipush 10, 2) := dk_16 10 (dk_at dksX6_init_37 2 rfl rfl)
theorem dX6_init_885 : decode cX6_init 885 = .ok (.iastore, 1) := dk_79 (dk_at dksX6_init_37 4 rfl rfl)
theorem dX6_init_886 : decode cX6_init 886 = .ok (.dup, 1) := dk_89 (dk_at dksX6_init_37 5 rfl rfl)
theorem dX6_init_887 : decode cX6_init 887 = .ok (.iconst 1, 1) := dk_4 (dk_at dksX6_init_37 6 rfl rfl)
theorem dX6_init_888 : decode cX6_init 888 = .ok (.iconst 3, 1) := dk_6 (dk_at dksX6_init_37 7 rfl rfl)
theorem dX6_init_889 : decode cX6_init 889 = .ok (.iastore, 1) := dk_79 (dk_at dksX6_init_37 8 rfl rfl)
theorem dX6_init_890 : decode cX6_init 890 = .ok (.dup, 1) := dk_89 (dk_at dksX6_init_37 9 rfl rfl)
theorem dX6_init_891 : decode cX6_init 891 = .ok (.iconst 2, 1) := dk_5 (dk_at dksX6_init_37 10 rfl rfl)
theorem dX6_init_892 : decode cX6_init 892 = .ok (.iconst 0, 1) := dk_3 (dk_at dksX6_init_37 11 rfl rfl)
theorem dX6_init_893 : decode cX6_init 893 = .ok (.iastore, 1) := dk_79 (dk_at dksX6_init_37 12 rfl rfl)
theorem dX6_init_894 : decode cX6_init 894 = .ok (.dup, 1) := dk_89 (dk_at dksX6_init_37 13 rfl rfl)
theorem dX6_init_895 : decode cX6_init 895 = .ok (.iconst 3, 1) := dk_6 (dk_at dksX6_init_37 14 rfl rfl)
theorem dX6_init_896 : decode cX6_init 896 = .ok (.bipush 10, 2) := dk_16 10 (dk_at dksX6_init_37 15 rfl rfl)
theorem dX6_init_898 : decode cX6_init 898 = .ok (.iastore, 1) := dk_79 (dk_at dksX6_init_37 17 rfl rfl)
theorem dX6_init_899 : decode cX6_init 899 = .ok (.dup, 1) := dk_89 (dk_at dksX6_init_37 18 rfl rfl)
theorem dX6_init_900 : decode cX6_init 900 = .ok (.iconst 4, 1) := dk_7 (dk_at dksX6_init_37 19 rfl rfl)
theorem dX6_init_901 : decode cX6_init 901 = .ok (.iconst 3, 1) := dk_6 (dk_at dksX6_init_37 20 rfl rfl)
theorem dX6_init_902 : decode cX6_init 902 = .ok (.iastore, 1) := dk_79 (dk_at dksX6_init_37 21 rfl rfl)
theorem dX6_init_903 : decode cX6_init 903 = .ok (.dup, 1) := dk_89 (dk_at dksX6_init_37 22 rfl rfl)
theorem dX6_init_904 : decode cX6_init 904 = .ok (.iconst 5, 1) := dk_8 (dk_at dksX6_init_37 23 rfl rfl)
theorem dX6_init_905 : decode cX6_init 905 = .ok (.iconst 0, 1) := dk_3 (dk_at dksX6_init_38 0 rfl rfl)
theorem dX6_init_906 : decode cX6_init 906 = .ok (.iastore, 1) := dk_79 (dk_at dksX6_init_38 1 rfl rfl)
theorem dX6_init_907 : decode cX6_init 907 = .ok (.putfield 127, 3) := dk_181 0 127 (dk_at dksX6_init_38 2 rfl rfl)
theorem dX6_init_910 : decode cX6_init 910 = .ok (.aload_n 0, 1) := dk_42 (dk_at dksX6_init_38 5 rfl rfl)
theorem dX6_init_911 : decode cX6_init 911 = .ok (.bipush 6, 2) := dk_16 6 (dk_at dksX6_init_38 6 rfl rfl)
theorem dX6_init_913 : decode cX6_init 913 = .ok (.newarray .int, 2) := dk_188_10 (dk_at dksX6_init_38 8 rfl rfl)
theorem dX6_init_915 : decode cX6_init 915 = .ok (.dup, 1) := dk_89 (dk_at dksX6_init_38 10 rfl rfl)
theorem dX6_init_916 : decode cX6_init 916 = .ok (.iconst 0, 1) := dk_3 (dk_at dksX6_init_38 11 rfl rfl)
theorem dX6_init_917 : decode cX6_init 917 = .ok (.iconst (-1), 1) := dk_2 (dk_at dksX6_init_38 12 rfl rfl)
theorem dX6_init_918 : decode cX6_init 918 = .ok (.iastore, 1) := dk_79 (dk_at dksX6_init_38 13 rfl rfl)
theorem dX6_init_919 : decode cX6_init 919 = .ok (.dup, 1) := dk_89 (dk_at dksX6_init_38 14 rfl rfl)
theorem dX6_init_920 : decode cX6_init 920 = .ok (.iconst 1, 1) := dk_4 (dk_at dksX6_init_38 15 rfl rfl)
theorem dX6_init_921 : decode cX6_init 921 = .ok (.iconst (-1), 1) := dk_2 (dk_at dksX6_init_38 16 rfl rfl)
theorem dX6_init_922 : decode cX6_init 922 = .ok (.iastore, 1) := dk_79 (dk_at dksX6_init_38 17 rfl rfl)
theorem dX6_init_923 : decode cX6_init 923 = .ok (.dup, 1) := dk_89 (dk_at dksX6_init_38 18 rfl rfl)
theorem dX6_init_924 : decode cX6_init 924 = .ok (.iconst 2, 1) := dk_5 (dk_at dksX6_init_38 19 rfl rfl)
theorem dX6_init_925 : decode cX6_init 925 = .ok (.iconst (-1), 1) := dk_2 (dk_at dksX6_init_38 20 rfl rfl)
theorem dX6_init_926 : decode cX6_init 926 = .ok (.iastore, 1) := dk_79 (dk_at dksX6_init_38 21 rfl rfl)
theorem dX6_init_927 : decode cX6_init 927 = .ok (.dup, 1) := dk_89 (dk_at dksX6_init_38 22 rfl rfl)
theorem dX6_init_928 : decode cX6_init 928 = .ok (.iconst 3, 1) := dk_6 (dk_at dksX6_init_38 23 rfl rfl)
theorem dX6_init_929 : decode cX6_init 929 = .ok (.iconst (-1), 1) := dk_2 (dk_at dksX6_init_39 0 rfl rfl)
theorem dX6_init_930 : decode cX6_init 930 = .ok (.iastore, 1) := dk_79 (dk_at dksX6_init_39 1 rfl rfl)
theorem dX6_init_931 : decode cX6_init 931 = .ok (.dup, 1) := dk_89 (dk_at dksX6_init_39 2 rfl rfl)
theorem dX6_init_932 : decode cX6_init 932 = .ok (.iconst 4, 1) := dk_7 (dk_at dksX6_init_39 3 rfl rfl)
theorem dX6_init_933 : decode cX6_init 933 = .ok (.iconst (-1), 1) := dk_2 (dk_at dksX6_init_39 4 rfl rfl)
theorem dX6_init_934 : decode cX6_init 934 = .ok (.iastore, 1) := dk_79 (dk_at dksX6_init_39 5 rfl rfl)
theorem dX6_init_935 : decode cX6_init 935 = .ok (.dup, 1) := dk_89 (dk_at dksX6_init_39 6 rfl rfl)
theorem dX6_init_936 : decode cX6_init 936 = .ok (.iconst 5, 1) := dk_8 (dk_at dksX6_init_39 7 rfl rfl)
theorem dX6_init_937 : decode cX6_init 937 = .ok (.iconst (-1), 1) := dk_2 (dk_at dksX6_init_39 8 rfl rfl)
theorem dX6_init_938 : decode cX6_init 938 = .ok (.iastore, 1) := dk_79 (dk_at dksX6_init_39 9 rfl rfl)
theorem dX6_init_939 : decode cX6_init 939 = .ok (.putfield 130, 3) := dk_181 0 130 (dk_at dksX6_init_39 10 rfl rfl)
theorem dX6_init_942 : decode cX6_init 942 = .ok (.aload_n 0, 1) := dk_42 (dk_at dksX6_init_39 13 rfl rfl)
theorem dX6_init_943 : decode cX6_init 943 = .ok (.bipush 6, 2) := dk_16 6 (dk_at dksX6_init_39 14 rfl rfl)
theorem dX6_init_945 : decode cX6_init 945 = .ok (.newarray .int, 2) := dk_188_10 (dk_at dksX6_init_39 16 rfl rfl)
theorem dX6_init_947 : decode cX6_init 947 = .ok (.putfield 133, 3) := dk_181 0 133 (dk_at dksX6_init_39 18 rfl rfl)
theorem dX6_init_950 : decode cX6_init 950 = .ok (.aload_n 0, 1) := dk_42 (dk_at dksX6_init_39 21 rfl rfl)
theorem dX6_init_951 : decode cX6_init 951 = .ok (.sipush 3200, 3) := dk_17 12 128 (dk_at dksX6_init_40 0 rfl rfl)
theorem dX6_init_954 : decode cX6_init 954 = .ok (.newarray .int, 2) := dk_188_10 (dk_at dksX6_init_40 3 rfl rfl)
theorem dX6_init_956 : decode cX6_init 956 = .ok (.putfield 136, 3) := dk_181 0 136 (dk_at dksX6_init_40 5 rfl rfl)
theorem dX6_init_959 : decode cX6_init 959 = .ok (.aload_n 0, 1) := dk_42 (dk_at dksX6_init_40 8 rfl rfl)
theorem dX6_init_960 : decode cX6_init 960 = .ok (.sipush 132, 3) := dk_17 0 132 (dk_at dksX6_init_40 9 rfl rfl)
theorem dX6_init_963 : decode cX6_init 963 = .ok (.newarray .int, 2) := dk_188_10 (dk_at dksX6_init_40 12 rfl rfl)
theorem dX6_init_965 : decode cX6_init 965 = .ok (.putfield 139, 3) := dk_181 0 139 (dk_at dksX6_init_40 14 rfl rfl)
theorem dX6_init_968 : decode cX6_init 968 = .ok (.aload_n 0, 1) := dk_42 (dk_at dksX6_init_40 17 rfl rfl)
theorem dX6_init_969 : decode cX6_init 969 = .ok (.bipush 41, 2) := dk_16 41 (dk_at dksX6_init_40 18 rfl rfl)
theorem dX6_init_971 : decode cX6_init 971 = .ok (.newarray .int, 2) := dk_188_10 (dk_at dksX6_init_40 20 rfl rfl)
theorem dX6_init_973 : decode cX6_init 973 = .ok (.putfield 142, 3) := dk_181 0 142 (dk_at dksX6_init_41 0 rfl rfl)
theorem dX6_init_976 : decode cX6_init 976 = .ok (.aload_n 0, 1) := dk_42 (dk_at dksX6_init_41 3 rfl rfl)
theorem dX6_init_977 : decode cX6_init 977 = .ok (.bipush 8, 2) := dk_16 8 (dk_at dksX6_init_41 4 rfl rfl)
theorem dX6_init_979 : decode cX6_init 979 = .ok (.newarray .int, 2) := dk_188_10 (dk_at dksX6_init_41 6 rfl rfl)
theorem dX6_init_981 : decode cX6_init 981 = .ok (.putfield 145, 3) := dk_181 0 145 (dk_at dksX6_init_41 8 rfl rfl)
theorem dX6_init_984 : decode cX6_init 984 = .ok (.aload_n 0, 1) := dk_42 (dk_at dksX6_init_41 11 rfl rfl)
theorem dX6_init_985 : decode cX6_init 985 = .ok (.bipush 8, 2) := dk_16 8 (dk_at dksX6_init_41 12 rfl rfl)
theorem dX6_init_987 : decode cX6_init 987 = .ok (.newarray .int, 2) := dk_188_10 (dk_at dksX6_init_41 14 rfl rfl)
theorem dX6_init_989 : decode cX6_init 989 = .ok (.putfield 148, 3) := dk_181 0 148 (dk_at dksX6_init_41 16 rfl rfl)
theorem dX6_init_992 : decode cX6_init 992 = .ok (.aload_n 0, 1) := dk_42 (dk_at dksX6_init_41 19 rfl rfl)
theorem dX6_init_993 : decode cX6_init 993 = .ok (.bipush 32, 2) := dk_16 32 (dk_at dksX6_init_41 20 rfl rfl)
theorem dX6_init_995 : decode cX6_init 995 = .ok (.newarray .int, 2) := dk_188_10 (dk_at dksX6_init_41 22 rfl rfl)
theorem dX6_init_997 : decode cX6_init 997 = .ok (.putfield 151, 3) := dk_181 0 151 (dk_at dksX6_init_42 0 rfl rfl)
theorem dX6_init_1000 : decode cX6_init 1000 = .ok (.aload_n 0, 1) := dk_42 (dk_at dksX6_init_42 3 rfl rfl)
theorem dX6_init_1001 : decode cX6_init 1001 = .ok (.bipush 8, 2) := dk_16 8 (dk_at dksX6_init_42 4 rfl rfl)
theorem dX6_init_1003 : decode cX6_init 1003 = .ok (.newarray .int, 2) := dk_188_10 (dk_at dksX6_init_42 6 rfl rfl)
theorem dX6_init_1005 : decode cX6_init 1005 = .ok (.putfield 154, 3) := dk_181 0 154 (dk_at dksX6_init_42 8 rfl rfl)
theorem dX6_init_1008 : decode cX6_init 1008 = .ok (.aload_n 0, 1) := dk_42 (dk_at dksX6_init_42 11 rfl rfl)
theorem dX6_init_1009 : decode cX6_init 1009 = .ok (.bipush 24, 2) := dk_16 24 (dk_at dksX6_init_42 12 rfl rfl)
theorem dX6_init_1011 : decode cX6_init 1011 = .ok (.newarray .int, 2) := dk_188_10 (dk_at dksX6_init_42 14 rfl rfl)
theorem dX6_init_1013 : decode cX6_init 1013 = .ok (.putfield 157, 3) := dk_181 0 157 (dk_at dksX6_init_42 16 rfl rfl)
theorem dX6_init_1016 : decode cX6_init 1016 = .ok (.aload_n 0, 1) := dk_42 (dk_at dksX6_init_42 19 rfl rfl)
theorem dX6_init_1017 : decode cX6_init 1017 = .ok (.sipush 2640, 3) := dk_17 10 80 (dk_at dksX6_init_42 20 rfl rfl)
theorem dX6_init_1020 : decode cX6_init 1020 = .ok (.newarray .int, 2) := dk_188_10 (dk_at dksX6_init_43 0 rfl rfl)
theorem dX6_init_1022 : decode cX6_init 1022 = .ok (.putfield 160, 3) := dk_181 0 160 (dk_at dksX6_init_43 2 rfl rfl)
theorem dX6_init_1025 : decode cX6_init 1025 = .ok (.aload_n 0, 1) := dk_42 (dk_at dksX6_init_43 5 rfl rfl)
theorem dX6_init_1026 : decode cX6_init 1026 = .ok (.lconst 1, 1) := dk_10 (dk_at dksX6_init_43 6 rfl rfl)
theorem dX6_init_1027 : decode cX6_init 1027 = .ok (.putfield 163, 3) := dk_181 0 163 (dk_at dksX6_init_43 7 rfl rfl)
theorem dX6_init_1030 : decode cX6_init 1030 = .ok (.aload_n 0, 1) := dk_42 (dk_at dksX6_init_43 10 rfl rfl)
theorem dX6_init_1031 : decode cX6_init 1031 = .ok (.iconst 5, 1) := dk_8 (dk_at dksX6_init_43 11 rfl rfl)
theorem dX6_init_1032 : decode cX6_init 1032 = .ok (.newarray .char, 2) := dk_188_5 (dk_at dksX6_init_43 12 rfl rfl)
theorem dX6_init_1034 : decode cX6_init 1034 = .ok (.dup, 1) := dk_89 (dk_at dksX6_init_43 14 rfl rfl)
theorem dX6_init_1035 : decode cX6_init 1035 = .ok (.iconst 0, 1) := dk_3 (dk_at dksX6_init_43 15 rfl rfl)
theorem dX6_init_1036 : decode cX6_init 1036 = .ok (.bipush 102, 2) := dk_16 102 (dk_at dksX6_init_43 16 rfl rfl)
theorem dX6_init_1038 : decode cX6_init 1038 = .ok (.castore, 1) := dk_85 (dk_at dksX6_init_43 18 rfl rfl)
theorem dX6_init_1039 : decode cX6_init 1039 = .ok (.dup, 1) := dk_89 (dk_at dksX6_init_43 19 rfl rfl)
theorem dX6_init_1040 : decode cX6_init 1040 = .ok (.iconst 1, 1) := dk_4 (dk_at dksX6_init_43 20 rfl rfl)
theorem dX6_init_1041 : decode cX6_init 1041 = .ok (.bipush 105, 2) := dk_16 105 (dk_at dksX6_init_43 21 rfl rfl)
theorem dX6_init_1043 : decode cX6_init 1043 = .ok (.castore, 1) := dk_85 (dk_at dksX6_init_43 23 rfl rfl)
theorem dX6_init_1044 : decode cX6_init 1044 = .ok (.dup, 1) := dk_89 (dk_at dksX6_init_44 0 rfl rfl)
theorem dX6_init_1045 : decode cX6_init 1045 = .ok (.iconst 2, 1) := dk_5 (dk_at dksX6_init_44 1 rfl rfl)
theorem dX6_init_1046 : decode cX6_init 1046 = .ok (.bipush 114, 2) := dk_16 114 (dk_at dksX6_init_44 2 rfl rfl)
theorem dX6_init_1048 : decode cX6_init 1048 = .ok (.castore, 1) := dk_85 (dk_at dksX6_init_44 4 rfl rfl)
theorem dX6_init_1049 : decode cX6_init 1049 = .ok (.dup, 1) := dk_89 (dk_at dksX6_init_44 5 rfl rfl)
theorem dX6_init_1050 : decode cX6_init 1050 = .ok (.iconst 3, 1) := dk_6 (dk_at dksX6_init_44 6 rfl rfl)
theorem dX6_init_1051 : decode cX6_init 1051 = .ok (.bipush 115, 2) := dk_16 115 (dk_at dksX6_init_44 7 rfl rfl)
theorem dX6_init_1053 : decode cX6_init 1053 = .ok (.castore, 1) := dk_85 (dk_at dksX6_init_44 9 rfl rfl)
theorem dX6_init_1054 : decode cX6_init 1054 = .ok (.dup, 1) := dk_89 (dk_at dksX6_init_44 10 rfl rfl)
theorem dX6_init_1055 : decode cX6_init 1055 = .ok (.iconst 4, 1) := dk_7 (dk_at dksX6_init_44 11 rfl rfl)
theorem dX6_init_1056 : decode cX6_init 1056 = .ok (.bipush 116, 2) := dk_16 116 (dk_at dksX6_init_44 12 rfl rfl)
theorem dX6_init_1058 : decode cX6_init 1058 = .ok (.castore, 1) := dk_85 (dk_at dksX6_init_44 14 rfl rfl)
theorem dX6_init_1059 : decode cX6_init 1059 = .ok (.putfield 167, 3) := dk_181 0 167 (dk_at dksX6_init_44 15 rfl rfl)
theorem dX6_init_1062 : decode cX6_init 1062 = .ok (.aload_n 0, 1) := dk_42 (dk_at dksX6_init_44 18 rfl rfl)
theorem dX6_init_1063 : decode cX6_init 1063 = .ok (.iconst 4, 1) := dk_7 (dk_at dksX6_init_44 19 rfl rfl)
theorem dX6_init_1064 : decode cX6_init 1064 = .ok (.newarray .char, 2) := dk_188_5 (dk_at dksX6_init_44 20 rfl rfl)
theorem dX6_init_1066 : decode cX6_init 1066 = .ok (.dup, 1) := dk_89 (dk_at dksX6_init_44 22 rfl rfl)
theorem dX6_init_1067 : decode cX6_init 1067 = .ok (.iconst 0, 1) := dk_3 (dk_at dksX6_init_44 23 rfl rfl)
theorem dX6_init_1068 : decode cX6_init 1068 = .ok (.bipush 108, 2) := dk_16 108 (dk_at dksX6_init_45 0 rfl rfl)
theorem dX6_init_1070 : decode cX6_init 1070 = .ok (.castore, 1) := dk_85 (dk_at dksX6_init_45 2 rfl rfl)
theorem dX6_init_1071 : decode cX6_init 1071 = .ok (.dup, 1) := dk_89 (dk_at dksX6_init_45 3 rfl rfl)
theorem dX6_init_1072 : decode cX6_init 1072 = .ok (.iconst 1, 1) := dk_4 (dk_at dksX6_init_45 4 rfl rfl)
theorem dX6_init_1073 : decode cX6_init 1073 = .ok (.bipush 97, 2) := dk_16 97 (dk_at dksX6_init_45 5 rfl rfl)
theorem dX6_init_1075 : decode cX6_init 1075 = .ok (.castore, 1) := dk_85 (dk_at dksX6_init_45 7 rfl rfl)
theorem dX6_init_1076 : decode cX6_init 1076 = .ok (.dup, 1) := dk_89 (dk_at dksX6_init_45 8 rfl rfl)
theorem dX6_init_1077 : decode cX6_init 1077 = .ok (.iconst 2, 1) := dk_5 (dk_at dksX6_init_45 9 rfl rfl)
theorem dX6_init_1078 : decode cX6_init 1078 = .ok (.bipush 115, 2) := dk_16 115 (dk_at dksX6_init_45 10 rfl rfl)
theorem dX6_init_1080 : decode cX6_init 1080 = .ok (.castore, 1) := dk_85 (dk_at dksX6_init_45 12 rfl rfl)
theorem dX6_init_1081 : decode cX6_init 1081 = .ok (.dup, 1) := dk_89 (dk_at dksX6_init_45 13 rfl rfl)
theorem dX6_init_1082 : decode cX6_init 1082 = .ok (.iconst 3, 1) := dk_6 (dk_at dksX6_init_45 14 rfl rfl)
theorem dX6_init_1083 : decode cX6_init 1083 = .ok (.bipush 116, 2) := dk_16 116 (dk_at dksX6_init_45 15 rfl rfl)
theorem dX6_init_1085 : decode cX6_init 1085 = .ok (.castore, 1) := dk_85 (dk_at dksX6_init_45 17 rfl rfl)
theorem dX6_init_1086 : decode cX6_init 1086 = .ok (.putfield 170, 3) := dk_181 0 170 (dk_at dksX6_init_45 18 rfl rfl)
theorem dX6_init_1089 : decode cX6_init 1089 = .ok (.aload_n 0, 1) := dk_42 (dk_at dksX6_init_45 21 rfl rfl)
theorem dX6_init_1090 : decode cX6_init 1090 = .ok (.iconst 5, 1) := dk_8 (dk_at dksX6_init_45 22 rfl rfl)
theorem dX6_init_1091 : decode cX6_init 1091 = .ok (.newarray .char, 2) := dk_188_5 (dk_at dksX6_init_46 0 rfl rfl)
theorem dX6_init_1093 : decode cX6_init 1093 = .ok (.dup, 1) := dk_89 (dk_at dksX6_init_46 2 rfl rfl)
theorem dX6_init_1094 : decode cX6_init 1094 = .ok (.iconst 0, 1) := dk_3 (dk_at dksX6_init_46 3 rfl rfl)
theorem dX6_init_1095 : decode cX6_init 1095 = .ok (.bipush 111, 2) := dk_16 111 (dk_at dksX6_init_46 4 rfl rfl)
theorem dX6_init_1097 : decode cX6_init 1097 = .ok (.castore, 1) := dk_85 (dk_at dksX6_init_46 6 rfl rfl)
theorem dX6_init_1098 : decode cX6_init 1098 = .ok (.dup, 1) := dk_89 (dk_at dksX6_init_46 7 rfl rfl)
theorem dX6_init_1099 : decode cX6_init 1099 = .ok (.iconst 1, 1) := dk_4 (dk_at dksX6_init_46 8 rfl rfl)
theorem dX6_init_1100 : decode cX6_init 1100 = .ok (.bipush 102, 2) := dk_16 102 (dk_at dksX6_init_46 9 rfl rfl)
theorem dX6_init_1102 : decode cX6_init 1102 = .ok (.castore, 1) := dk_85 (dk_at dksX6_init_46 11 rfl rfl)
theorem dX6_init_1103 : decode cX6_init 1103 = .ok (.dup, 1) := dk_89 (dk_at dksX6_init_46 12 rfl rfl)
theorem dX6_init_1104 : decode cX6_init 1104 = .ok (.iconst 2, 1) := dk_5 (dk_at dksX6_init_46 13 rfl rfl)
theorem dX6_init_1105 : decode cX6_init 1105 = .ok (.bipush 116, 2) := dk_16 116 (dk_at dksX6_init_46 14 rfl rfl)
theorem dX6_init_1107 : decode cX6_init 1107 = .ok (.castore, 1) := dk_85 (dk_at dksX6_init_46 16 rfl rfl)
theorem dX6_init_1108 : decode cX6_init 1108 = .ok (.dup, 1) := dk_89 (dk_at dksX6_init_46 17 rfl rfl)
theorem dX6_init_1109 : decode cX6_init 1109 = .ok (.iconst 3, 1) := dk_6 (dk_at dksX6_init_46 18 rfl rfl)
theorem dX6_init_1110 : decode cX6_init 1110 = .ok (.bipush 101, 2) := dk_16 101 (dk_at dksX6_init_46 19 rfl rfl)
theorem dX6_init_1112 : decode cX6_init 1112 = .ok (.castore, 1) := dk_85 (dk_at dksX6_init_46 21 rfl rfl)
theorem dX6_init_1113 : decode cX6_init 1113 = .ok (.dup, 1) := dk_89 (dk_at dksX6_init_46 22 rfl rfl)
theorem dX6_init_1114 : decode cX6_init 1114 = .ok (.iconst 4, 1) := dk_7 (dk_at dksX6_init_46 23 rfl rfl)
theorem dX6_init_1115 : decode cX6_init 1115 = .ok (.bipush 110, 2) := dk_16 110 (dk_at dksX6_init_47 0 rfl rfl)
theorem dX6_init_1117 : decode cX6_init 1117 = .ok (.castore, 1) := dk_85 (dk_at dksX6_init_47 2 rfl rfl)
theorem dX6_init_1118 : decode cX6_init 1118 = .ok (.putfield 173, 3) := dk_181 0 173 (dk_at dksX6_init_47 3 rfl rfl)
theorem dX6_init_1121 : decode cX6_init 1121 = .ok (.aload_n 0, 1) := dk_42 (dk_at dksX6_init_47 6 rfl rfl)
theorem dX6_init_1122 : decode cX6_init 1122 = .ok (.iconst 5, 1) := dk_8 (dk_at dksX6_init_47 7 rfl rfl)
theorem dX6_init_1123 : decode cX6_init 1123 = .ok (.newarray .char, 2) := dk_188_5 (dk_at dksX6_init_47 8 rfl rfl)
theorem dX6_init_1125 : decode cX6_init 1125 = .ok (.dup, 1) := dk_89 (dk_at dksX6_init_47 10 rfl rfl)
theorem dX6_init_1126 : decode cX6_init 1126 = .ok (.iconst 0, 1) := dk_3 (dk_at dksX6_init_47 11 rfl rfl)
theorem dX6_init_1127 : decode cX6_init 1127 = .ok (.bipush 116, 2) := dk_16 116 (dk_at dksX6_init_47 12 rfl rfl)
theorem dX6_init_1129 : decode cX6_init 1129 = .ok (.castore, 1) := dk_85 (dk_at dksX6_init_47 14 rfl rfl)
theorem dX6_init_1130 : decode cX6_init 1130 = .ok (.dup, 1) := dk_89 (dk_at dksX6_init_47 15 rfl rfl)
theorem dX6_init_1131 : decode cX6_init 1131 = .ok (.iconst 1, 1) := dk_4 (dk_at dksX6_init_47 16 rfl rfl)
theorem dX6_init_1132 : decode cX6_init 1132 = .ok (.bipush 111, 2) := dk_16 111 (dk_at dksX6_init_47 17 rfl rfl)
theorem dX6_init_1134 : decode cX6_init 1134 = .ok (.castore, 1) := dk_85 (dk_at dksX6_init_47 19 rfl rfl)
theorem dX6_init_1135 : decode cX6_init 1135 = .ok (.dup, 1) := dk_89 (dk_at dksX6_init_47 20 rfl rfl)
theorem dX6_init_1136 : decode cX6_init 1136 = .ok (.iconst 2, 1) := dk_5 (dk_at dksX6_init_47 21 rfl rfl)
theorem dX6_init_1137 : decode cX6_init 1137 = .ok (.bipush 116, 2) := dk_16 116 (dk_at dksX6_init_47 22 rfl rfl)
theorem dX6_init_1139 : decode cX6_init 1139 = .ok (.castore, 1) := dk_85 (dk_at dksX6_init_48 0 rfl rfl)
theorem dX6_init_1140 : decode cX6_init 1140 = .ok (.dup, 1) := dk_89 (dk_at dksX6_init_48 1 rfl rfl)
theorem dX6_init_1141 : decode cX6_init 1141 = .ok (.iconst 3, 1) := dk_6 (dk_at dksX6_init_48 2 rfl rfl)
theorem dX6_init_1142 : decode cX6_init 1142 = .ok (.bipush 97, 2) := dk_16 97 (dk_at dksX6_init_48 3 rfl rfl)
theorem dX6_init_1144 : decode cX6_init 1144 = .ok (.castore, 1) := dk_85 (dk_at dksX6_init_48 5 rfl rfl)
theorem dX6_init_1145 : decode cX6_init 1145 = .ok (.dup, 1) := dk_89 (dk_at dksX6_init_48 6 rfl rfl)
theorem dX6_init_1146 : decode cX6_init 1146 = .ok (.iconst 4, 1) := dk_7 (dk_at dksX6_init_48 7 rfl rfl)
theorem dX6_init_1147 : decode cX6_init 1147 = .ok (.bipush 108, 2) := dk_16 108 (dk_at dksX6_init_48 8 rfl rfl)
theorem dX6_init_1149 : decode cX6_init 1149 = .ok (.castore, 1) := dk_85 (dk_at dksX6_init_48 10 rfl rfl)
theorem dX6_init_1150 : decode cX6_init 1150 = .ok (.putfield 176, 3) := dk_181 0 176 (dk_at dksX6_init_48 11 rfl rfl)
theorem dX6_init_1153 : decode cX6_init 1153 = .ok (.aload_n 0, 1) := dk_42 (dk_at dksX6_init_48 14 rfl rfl)
theorem dX6_init_1154 : decode cX6_init 1154 = .ok (.iconst 4, 1) := dk_7 (dk_at dksX6_init_48 15 rfl rfl)
theorem dX6_init_1155 : decode cX6_init 1155 = .ok (.newarray .char, 2) := dk_188_5 (dk_at dksX6_init_48 16 rfl rfl)
theorem dX6_init_1157 : decode cX6_init 1157 = .ok (.dup, 1) := dk_89 (dk_at dksX6_init_48 18 rfl rfl)
theorem dX6_init_1158 : decode cX6_init 1158 = .ok (.iconst 0, 1) := dk_3 (dk_at dksX6_init_48 19 rfl rfl)
theorem dX6_init_1159 : decode cX6_init 1159 = .ok (.bipush 109, 2) := dk_16 109 (dk_at dksX6_init_48 20 rfl rfl)
theorem dX6_init_1161 : decode cX6_init 1161 = .ok (.castore, 1) := dk_85 (dk_at dksX6_init_48 22 rfl rfl)
theorem dX6_init_1162 : decode cX6_init 1162 = .ok (.dup, 1) := dk_89 (dk_at dksX6_init_48 23 rfl rfl)
theorem dX6_init_1163 : decode cX6_init 1163 = .ok (.iconst 1, 1) := dk_4 (dk_at dksX6_init_49 0 rfl rfl)
theorem dX6_init_1164 : decode cX6_init 1164 = .ok (.bipush 111, 2) := dk_16 111 (dk_at dksX6_init_49 1 rfl rfl)
theorem dX6_init_1166 : decode cX6_init 1166 = .ok (.castore, 1) := dk_85 (dk_at dksX6_init_49 3 rfl rfl)
theorem dX6_init_1167 : decode cX6_init 1167 = .ok (.dup, 1) := dk_89 (dk_at dksX6_init_49 4 rfl rfl)
theorem dX6_init_1168 : decode cX6_init 1168 = .ok (.iconst 2, 1) := dk_5 (dk_at dksX6_init_49 5 rfl rfl)
theorem dX6_init_1169 : decode cX6_init 1169 = .ok (.bipush 115, 2) := dk_16 115 (dk_at dksX6_init_49 6 rfl rfl)
theorem dX6_init_1171 : decode cX6_init 1171 = .ok (.castore, 1) := dk_85 (dk_at dksX6_init_49 8 rfl rfl)
theorem dX6_init_1172 : decode cX6_init 1172 = .ok (.dup, 1) := dk_89 (dk_at dksX6_init_49 9 rfl rfl)
theorem dX6_init_1173 : decode cX6_init 1173 = .ok (.iconst 3, 1) := dk_6 (dk_at dksX6_init_49 10 rfl rfl)
theorem dX6_init_1174 : decode cX6_init 1174 = .ok (.bipush 116, 2) := dk_16 116 (dk_at dksX6_init_49 11 rfl rfl)
theorem dX6_init_1176 : decode cX6_init 1176 = .ok (.castore, 1) := dk_85 (dk_at dksX6_init_49 13 rfl rfl)
theorem dX6_init_1177 : decode cX6_init 1177 = .ok (.putfield 179, 3) := dk_181 0 179 (dk_at dksX6_init_49 14 rfl rfl)
theorem dX6_init_1180 : decode cX6_init 1180 = .ok (.aload_n 0, 1) := dk_42 (dk_at dksX6_init_49 17 rfl rfl)
theorem dX6_init_1181 : decode cX6_init 1181 = .ok (.iconst 5, 1) := dk_8 (dk_at dksX6_init_49 18 rfl rfl)
theorem dX6_init_1182 : decode cX6_init 1182 = .ok (.newarray .char, 2) := dk_188_5 (dk_at dksX6_init_49 19 rfl rfl)
theorem dX6_init_1184 : decode cX6_init 1184 = .ok (.dup, 1) := dk_89 (dk_at dksX6_init_49 21 rfl rfl)
theorem dX6_init_1185 : decode cX6_init 1185 = .ok (.iconst 0, 1) := dk_3 (dk_at dksX6_init_49 22 rfl rfl)
theorem dX6_init_1186 : decode cX6_init 1186 = .ok (.bipush 108, 2) := dk_16 108 (dk_at dksX6_init_50 0 rfl rfl)
theorem dX6_init_1188 : decode cX6_init 1188 = .ok (.castore, 1) := dk_85 (dk_at dksX6_init_50 2 rfl rfl)
theorem dX6_init_1189 : decode cX6_init 1189 = .ok (.dup, 1) := dk_89 (dk_at dksX6_init_50 3 rfl rfl)
theorem dX6_init_1190 : decode cX6_init 1190 = .ok (.iconst 1, 1) := dk_4 (dk_at dksX6_init_50 4 rfl rfl)
theorem dX6_init_1191 : decode cX6_init 1191 = .ok (.bipush 101, 2) := dk_16 101 (dk_at dksX6_init_50 5 rfl rfl)
theorem dX6_init_1193 : decode cX6_init 1193 = .ok (.castore, 1) := dk_85 (dk_at dksX6_init_50 7 rfl rfl)
theorem dX6_init_1194 : decode cX6_init 1194 = .ok (.dup, 1) := dk_89 (dk_at dksX6_init_50 8 rfl rfl)
theorem dX6_init_1195 : decode cX6_init 1195 = .ok (.iconst 2, 1) := dk_5 (dk_at dksX6_init_50 9 rfl rfl)
theorem dX6_init_1196 : decode cX6_init 1196 = .ok (.bipush 97, 2) := dk_16 97 (dk_at dksX6_init_50 10 rfl rfl)
theorem dX6_init_1198 : decode cX6_init 1198 = .ok (.castore, 1) := dk_85 (dk_at dksX6_init_50 12 rfl rfl)
theorem dX6_init_1199 : decode cX6_init 1199 = .ok (.dup, 1) := dk_89 (dk_at dksX6_init_50 13 rfl rfl)
theorem dX6_init_1200 : decode cX6_init 1200 = .ok (.iconst 3, 1) := dk_6 (dk_at dksX6_init_50 14 rfl rfl)
theorem dX6_init_1201 : decode cX6_init 1201 = .ok (.bipush 115, 2) := dk_16 115 (dk_at dksX6_init_50 15 rfl rfl)
theorem dX6_init_1203 : decode cX6_init 1203 = .ok (.castore, 1) := dk_85 (dk_at dksX6_init_50 17 rfl rfl)
theorem dX6_init_1204 : decode cX6_init 1204 = .ok (.dup, 1) := dk_89 (dk_at dksX6_init_50 18 rfl rfl)
theorem dX6_init_1205 : decode cX6_init 1205 = .ok (.iconst 4, 1) := dk_7 (dk_at dksX6_init_50 19 rfl rfl)
theorem dX6_init_1206 : decode cX6_init 1206 = .ok (.bipush 116, 2) := dk_16 116 (dk_at dksX6_init_50 20 rfl rfl)
theorem dX6_init_1208 : decode cX6_init 1208 = .ok (.castore, 1) := dk_85 (dk_at dksX6_init_50 22 rfl rfl)
theorem dX6_init_1209 : decode cX6_init 1209 = .ok (.putfield 182, 3) := dk_181 0 182 (dk_at dksX6_init_51 0 rfl rfl)
theorem dX6_init_1212 : decode cX6_init 1212 = .ok (.aload_n 0, 1) := dk_42 (dk_at dksX6_init_51 3 rfl rfl)
theorem dX6_init_1213 : decode cX6_init 1213 = .ok (.iconst 3, 1) := dk_6 (dk_at dksX6_init_51 4 rfl rfl)
theorem dX6_init_1214 : decode cX6_init 1214 = .ok (.newarray .char, 2) := dk_188_5 (dk_at dksX6_init_51 5 rfl rfl)
theorem dX6_init_1216 : decode cX6_init 1216 = .ok (.dup, 1) := dk_89 (dk_at dksX6_init_51 7 rfl rfl)
theorem dX6_init_1217 : decode cX6_init 1217 = .ok (.iconst 0, 1) := dk_3 (dk_at dksX6_init_51 8 rfl rfl)
theorem dX6_init_1218 : decode cX6_init 1218 = .ok (.bipush 110, 2) := dk_16 110 (dk_at dksX6_init_51 9 rfl rfl)
theorem dX6_init_1220 : decode cX6_init 1220 = .ok (.castore, 1) := dk_85 (dk_at dksX6_init_51 11 rfl rfl)
theorem dX6_init_1221 : decode cX6_init 1221 = .ok (.dup, 1) := dk_89 (dk_at dksX6_init_51 12 rfl rfl)
theorem dX6_init_1222 : decode cX6_init 1222 = .ok (.iconst 1, 1) := dk_4 (dk_at dksX6_init_51 13 rfl rfl)
theorem dX6_init_1223 : decode cX6_init 1223 = .ok (.bipush 111, 2) := dk_16 111 (dk_at dksX6_init_51 14 rfl rfl)
theorem dX6_init_1225 : decode cX6_init 1225 = .ok (.castore, 1) := dk_85 (dk_at dksX6_init_51 16 rfl rfl)
theorem dX6_init_1226 : decode cX6_init 1226 = .ok (.dup, 1) := dk_89 (dk_at dksX6_init_51 17 rfl rfl)
theorem dX6_init_1227 : decode cX6_init 1227 = .ok (.iconst 2, 1) := dk_5 (dk_at dksX6_init_51 18 rfl rfl)
theorem dX6_init_1228 : decode cX6_init 1228 = .ok (.bipush 116, 2) := dk_16 116 (dk_at dksX6_init_51 19 rfl rfl)
theorem dX6_init_1230 : decode cX6_init 1230 = .ok (.castore, 1) := dk_85 (dk_at dksX6_init_51 21 rfl rfl)
theorem dX6_init_1231 : decode cX6_init 1231 = .ok (.putfield 185, 3) := dk_181 0 185 (dk_at dksX6_init_52 0 rfl rfl)
theorem dX6_init_1234 : decode cX6_init 1234 = .ok (.aload_n 0, 1) := dk_42 (dk_at dksX6_init_52 3 rfl rfl)
theorem dX6_init_1235 : decode cX6_init 1235 = .ok (.iconst 3, 1) := dk_6 (dk_at dksX6_init_52 4 rfl rfl)
theorem dX6_init_1236 : decode cX6_init 1236 = .ok (.newarray .char, 2) := dk_188_5 (dk_at dksX6_init_52 5 rfl rfl)
theorem dX6_init_1238 : decode cX6_init 1238 = .ok (.dup, 1) := dk_89 (dk_at dksX6_init_52 7 rfl rfl)
theorem dX6_init_1239 : decode cX6_init 1239 = .ok (.iconst 0, 1) := dk_3 (dk_at dksX6_init_52 8 rfl rfl)
theorem dX6_init_1240 : decode cX6_init 1240 = .ok (.bipush 97, 2) := dk_16 97 (dk_at dksX6_init_52 9 rfl rfl)
theorem dX6_init_1242 : decode cX6_init 1242 = .ok (.castore, 1) := dk_85 (dk_at dksX6_init_52 11 rfl rfl)
theorem dX6_init_1243 : decode cX6_init 1243 = .ok (.dup, 1) := dk_89 (dk_at dksX6_init_52 12 rfl rfl)
theorem dX6_init_1244 : decode cX6_init 1244 = .ok (.iconst 1, 1) := dk_4 (dk_at dksX6_init_52 13 rfl rfl)
theorem dX6_init_1245 : decode cX6_init 1245 = .ok (.bipush 110, 2) := dk_16 110 (dk_at dksX6_init_52 14 rfl rfl)
theorem dX6_init_1247 : decode cX6_init 1247 = .ok (.castore, 1) := dk_85 (dk_at dksX6_init_52 16 rfl rfl)
theorem dX6_init_1248 : decode cX6_init 1248 = .ok (.dup, 1) := dk_89 (dk_at dksX6_init_52 17 rfl rfl)
theorem dX6_init_1249 : decode cX6_init 1249 = .ok (.iconst 2, 1) := dk_5 (dk_at dksX6_init_52 18 rfl rfl)
theorem dX6_init_1250 : decode cX6_init 1250 = .ok (.bipush 100, 2) := dk_16 100 (dk_at dksX6_init_52 19 rfl rfl)
theorem dX6_init_1252 : decode cX6_init 1252 = .ok (.castore, 1) := dk_85 (dk_at dksX6_init_52 21 rfl rfl)
theorem dX6_init_1253 : decode cX6_init 1253 = .ok (.putfield 188, 3) := dk_181 0 188 (dk_at dksX6_init_53 0 rfl rfl)
theorem dX6_init_1256 : decode cX6_init 1256 = .ok (.aload_n 0, 1) := dk_42 (dk_at dksX6_init_53 3 rfl rfl)
theorem dX6_init_1257 : decode cX6_init 1257 = .ok (.iconst 2, 1) := dk_5 (dk_at dksX6_init_53 4 rfl rfl)
theorem dX6_init_1258 : decode cX6_init 1258 = .ok (.newarray .char, 2) := dk_188_5 (dk_at dksX6_init_53 5 rfl rfl)
theorem dX6_init_1260 : decode cX6_init 1260 = .ok (.dup, 1) := dk_89 (dk_at dksX6_init_53 7 rfl rfl)
theorem dX6_init_1261 : decode cX6_init 1261 = .ok (.iconst 0, 1) := dk_3 (dk_at dksX6_init_53 8 rfl rfl)
theorem dX6_init_1262 : decode cX6_init 1262 = .ok (.bipush 111, 2) := dk_16 111 (dk_at dksX6_init_53 9 rfl rfl)
theorem dX6_init_1264 : decode cX6_init 1264 = .ok (.castore, 1) := dk_85 (dk_at dksX6_init_53 11 rfl rfl)
theorem dX6_init_1265 : decode cX6_init 1265 = .ok (.dup, 1) := dk_89 (dk_at dksX6_init_53 12 rfl rfl)
theorem dX6_init_1266 : decode cX6_init 1266 = .ok (.iconst 1, 1) := dk_4 (dk_at dksX6_init_53 13 rfl rfl)
theorem dX6_init_1267 : decode cX6_init 1267 = .ok (.bipush 114, 2) := dk_16 114 (dk_at dksX6_init_53 14 rfl rfl)
theorem dX6_init_1269 : decode cX6_init 1269 = .ok (.castore, 1) := dk_85 (dk_at dksX6_init_53 16 rfl rfl)
theorem dX6_init_1270 : decode cX6_init 1270 = .ok (.putfield 191, 3) := dk_181 0 191 (dk_at dksX6_init_53 17 rfl rfl)
theorem dX6_init_1273 : decode cX6_init 1273 = .ok (.aload_n 0, 1) := dk_42 (dk_at dksX6_init_53 20 rfl rfl)
theorem dX6_init_1274 : decode cX6_init 1274 = .ok (.iconst 3, 1) := dk_6 (dk_at dksX6_init_53 21 rfl rfl)
theorem dX6_init_1275 : decode cX6_init 1275 = .ok (.newarray .char, 2) := dk_188_5 (dk_at dksX6_init_53 22 rfl rfl)
theorem dX6_init_1277 : decode cX6_init 1277 = .ok (.dup, 1) := dk_89 (dk_at dksX6_init_54 0 rfl rfl)
theorem dX6_init_1278 : decode cX6_init 1278 = .ok (.iconst 0, 1) := dk_3 (dk_at dksX6_init_54 1 rfl rfl)
theorem dX6_init_1279 : decode cX6_init 1279 = .ok (.bipush 97, 2) := dk_16 97 (dk_at dksX6_init_54 2 rfl rfl)
theorem dX6_init_1281 : decode cX6_init 1281 = .ok (.castore, 1) := dk_85 (dk_at dksX6_init_54 4 rfl rfl)
theorem dX6_init_1282 : decode cX6_init 1282 = .ok (.dup, 1) := dk_89 (dk_at dksX6_init_54 5 rfl rfl)
theorem dX6_init_1283 : decode cX6_init 1283 = .ok (.iconst 1, 1) := dk_4 (dk_at dksX6_init_54 6 rfl rfl)
theorem dX6_init_1284 : decode cX6_init 1284 = .ok (.bipush 108, 2) := dk_16 108 (dk_at dksX6_init_54 7 rfl rfl)
theorem dX6_init_1286 : decode cX6_init 1286 = .ok (.castore, 1) := dk_85 (dk_at dksX6_init_54 9 rfl rfl)
theorem dX6_init_1287 : decode cX6_init 1287 = .ok (.dup, 1) := dk_89 (dk_at dksX6_init_54 10 rfl rfl)
theorem dX6_init_1288 : decode cX6_init 1288 = .ok (.iconst 2, 1) := dk_5 (dk_at dksX6_init_54 11 rfl rfl)
theorem dX6_init_1289 : decode cX6_init 1289 = .ok (.bipush 108, 2) := dk_16 108 (dk_at dksX6_init_54 12 rfl rfl)
theorem dX6_init_1291 : decode cX6_init 1291 = .ok (.castore, 1) := dk_85 (dk_at dksX6_init_54 14 rfl rfl)
theorem dX6_init_1292 : decode cX6_init 1292 = .ok (.putfield 194, 3) := dk_181 0 194 (dk_at dksX6_init_54 15 rfl rfl)
theorem dX6_init_1295 : decode cX6_init 1295 = .ok (.aload_n 0, 1) := dk_42 (dk_at dksX6_init_54 18 rfl rfl)
theorem dX6_init_1296 : decode cX6_init 1296 = .ok (.iconst 3, 1) := dk_6 (dk_at dksX6_init_54 19 rfl rfl)
theorem dX6_init_1297 : decode cX6_init 1297 = .ok (.newarray .char, 2) := dk_188_5 (dk_at dksX6_init_54 20 rfl rfl)
theorem dX6_init_1299 : decode cX6_init 1299 = .ok (.dup, 1) := dk_89 (dk_at dksX6_init_54 22 rfl rfl)
theorem dX6_init_1300 : decode cX6_init 1300 = .ok (.iconst 0, 1) := dk_3 (dk_at dksX6_init_54 23 rfl rfl)
theorem dX6_init_1301 : decode cX6_init 1301 = .ok (.bipush 109, 2) := dk_16 109 (dk_at dksX6_init_55 0 rfl rfl)
theorem dX6_init_1303 : decode cX6_init 1303 = .ok (.castore, 1) := dk_85 (dk_at dksX6_init_55 2 rfl rfl)
theorem dX6_init_1304 : decode cX6_init 1304 = .ok (.dup, 1) := dk_89 (dk_at dksX6_init_55 3 rfl rfl)
theorem dX6_init_1305 : decode cX6_init 1305 = .ok (.iconst 1, 1) := dk_4 (dk_at dksX6_init_55 4 rfl rfl)
theorem dX6_init_1306 : decode cX6_init 1306 = .ok (.bipush 105, 2) := dk_16 105 (dk_at dksX6_init_55 5 rfl rfl)
theorem dX6_init_1308 : decode cX6_init 1308 = .ok (.castore, 1) := dk_85 (dk_at dksX6_init_55 7 rfl rfl)
theorem dX6_init_1309 : decode cX6_init 1309 = .ok (.dup, 1) := dk_89 (dk_at dksX6_init_55 8 rfl rfl)
theorem dX6_init_1310 : decode cX6_init 1310 = .ok (.iconst 2, 1) := dk_5 (dk_at dksX6_init_55 9 rfl rfl)
theorem dX6_init_1311 : decode cX6_init 1311 = .ok (.bipush 110, 2) := dk_16 110 (dk_at dksX6_init_55 10 rfl rfl)
theorem dX6_init_1313 : decode cX6_init 1313 = .ok (.castore, 1) := dk_85 (dk_at dksX6_init_55 12 rfl rfl)
theorem dX6_init_1314 : decode cX6_init 1314 = .ok (.putfield 197, 3) := dk_181 0 197 (dk_at dksX6_init_55 13 rfl rfl)
theorem dX6_init_1317 : decode cX6_init 1317 = .ok (.aload_n 0, 1) := dk_42 (dk_at dksX6_init_55 16 rfl rfl)
theorem dX6_init_1318 : decode cX6_init 1318 = .ok (.iconst 3, 1) := dk_6 (dk_at dksX6_init_55 17 rfl rfl)
theorem dX6_init_1319 : decode cX6_init 1319 = .ok (.newarray .char, 2) := dk_188_5 (dk_at dksX6_init_55 18 rfl rfl)
theorem dX6_init_1321 : decode cX6_init 1321 = .ok (.dup, 1) := dk_89 (dk_at dksX6_init_55 20 rfl rfl)
theorem dX6_init_1322 : decode cX6_init 1322 = .ok (.iconst 0, 1) := dk_3 (dk_at dksX6_init_55 21 rfl rfl)
theorem dX6_init_1323 : decode cX6_init 1323 = .ok (.bipush 109, 2) := dk_16 109 (dk_at dksX6_init_55 22 rfl rfl)
theorem dX6_init_1325 : decode cX6_init 1325 = .ok (.castore, 1) := dk_85 (dk_at dksX6_init_56 0 rfl rfl)
theorem dX6_init_1326 : decode cX6_init 1326 = .ok (.dup, 1) := dk_89 (dk_at dksX6_init_56 1 rfl rfl)
theorem dX6_init_1327 : decode cX6_init 1327 = .ok (.iconst 1, 1) := dk_4 (dk_at dksX6_init_56 2 rfl rfl)
theorem dX6_init_1328 : decode cX6_init 1328 = .ok (.bipush 97, 2) := dk_16 97 (dk_at dksX6_init_56 3 rfl rfl)
theorem dX6_init_1330 : decode cX6_init 1330 = .ok (.castore, 1) := dk_85 (dk_at dksX6_init_56 5 rfl rfl)
theorem dX6_init_1331 : decode cX6_init 1331 = .ok (.dup, 1) := dk_89 (dk_at dksX6_init_56 6 rfl rfl)
theorem dX6_init_1332 : decode cX6_init 1332 = .ok (.iconst 2, 1) := dk_5 (dk_at dksX6_init_56 7 rfl rfl)
theorem dX6_init_1333 : decode cX6_init 1333 = .ok (.bipush 120, 2) := dk_16 120 (dk_at dksX6_init_56 8 rfl rfl)
theorem dX6_init_1335 : decode cX6_init 1335 = .ok (.castore, 1) := dk_85 (dk_at dksX6_init_56 10 rfl rfl)
theorem dX6_init_1336 : decode cX6_init 1336 = .ok (.putfield 200, 3) := dk_181 0 200 (dk_at dksX6_init_56 11 rfl rfl)
theorem dX6_init_1339 : decode cX6_init 1339 = .ok (.aload_n 0, 1) := dk_42 (dk_at dksX6_init_56 14 rfl rfl)
theorem dX6_init_1340 : decode cX6_init 1340 = .ok (.iconst 4, 1) := dk_7 (dk_at dksX6_init_56 15 rfl rfl)
theorem dX6_init_1341 : decode cX6_init 1341 = .ok (.newarray .char, 2) := dk_188_5 (dk_at dksX6_init_56 16 rfl rfl)
theorem dX6_init_1343 : decode cX6_init 1343 = .ok (.dup, 1) := dk_89 (dk_at dksX6_init_56 18 rfl rfl)
theorem dX6_init_1344 : decode cX6_init 1344 = .ok (.iconst 0, 1) := dk_3 (dk_at dksX6_init_56 19 rfl rfl)
theorem dX6_init_1345 : decode cX6_init 1345 = .ok (.bipush 99, 2) := dk_16 99 (dk_at dksX6_init_56 20 rfl rfl)
theorem dX6_init_1347 : decode cX6_init 1347 = .ok (.castore, 1) := dk_85 (dk_at dksX6_init_56 22 rfl rfl)
theorem dX6_init_1348 : decode cX6_init 1348 = .ok (.dup, 1) := dk_89 (dk_at dksX6_init_56 23 rfl rfl)
theorem dX6_init_1349 : decode cX6_init 1349 = .ok (.iconst 1, 1) := dk_4 (dk_at dksX6_init_57 0 rfl rfl)
theorem dX6_init_1350 : decode cX6_init 1350 = .ok (.bipush 97, 2) := dk_16 97 (dk_at dksX6_init_57 1 rfl rfl)
theorem dX6_init_1352 : decode cX6_init 1352 = .ok (.castore, 1) := dk_85 (dk_at dksX6_init_57 3 rfl rfl)
theorem dX6_init_1353 : decode cX6_init 1353 = .ok (.dup, 1) := dk_89 (dk_at dksX6_init_57 4 rfl rfl)
theorem dX6_init_1354 : decode cX6_init 1354 = .ok (.iconst 2, 1) := dk_5 (dk_at dksX6_init_57 5 rfl rfl)
theorem dX6_init_1355 : decode cX6_init 1355 = .ok (.bipush 108, 2) := dk_16 108 (dk_at dksX6_init_57 6 rfl rfl)
theorem dX6_init_1357 : decode cX6_init 1357 = .ok (.castore, 1) := dk_85 (dk_at dksX6_init_57 8 rfl rfl)
theorem dX6_init_1358 : decode cX6_init 1358 = .ok (.dup, 1) := dk_89 (dk_at dksX6_init_57 9 rfl rfl)
theorem dX6_init_1359 : decode cX6_init 1359 = .ok (.iconst 3, 1) := dk_6 (dk_at dksX6_init_57 10 rfl rfl)
theorem dX6_init_1360 : decode cX6_init 1360 = .ok (.bipush 109, 2) := dk_16 109 (dk_at dksX6_init_57 11 rfl rfl)
theorem dX6_init_1362 : decode cX6_init 1362 = .ok (.castore, 1) := dk_85 (dk_at dksX6_init_57 13 rfl rfl)
theorem dX6_init_1363 : decode cX6_init 1363 = .ok (.putfield 203, 3) := dk_181 0 203 (dk_at dksX6_init_57 14 rfl rfl)
theorem dX6_init_1366 : decode cX6_init 1366 = .ok (.aload_n 0, 1) := dk_42 (dk_at dksX6_init_57 17 rfl rfl)
theorem dX6_init_1367 : decode cX6_init 1367 = .ok (.iconst 5, 1) := dk_8 (dk_at dksX6_init_57 18 rfl rfl)
theorem dX6_init_1368 : decode cX6_init 1368 = .ok (.newarray .char, 2) := dk_188_5 (dk_at dksX6_init_57 19 rfl rfl)
theorem dX6_init_1370 : decode cX6_init 1370 = .ok (.dup, 1) := dk_89 (dk_at dksX6_init_57 21 rfl rfl)
theorem dX6_init_1371 : decode cX6_init 1371 = .ok (.iconst 0, 1) := dk_3 (dk_at dksX6_init_57 22 rfl rfl)
theorem dX6_init_1372 : decode cX6_init 1372 = .ok (.bipush 114, 2) := dk_16 114 (dk_at dksX6_init_58 0 rfl rfl)
theorem dX6_init_1374 : decode cX6_init 1374 = .ok (.castore, 1) := dk_85 (dk_at dksX6_init_58 2 rfl rfl)
theorem dX6_init_1375 : decode cX6_init 1375 = .ok (.dup, 1) := dk_89 (dk_at dksX6_init_58 3 rfl rfl)
theorem dX6_init_1376 : decode cX6_init 1376 = .ok (.iconst 1, 1) := dk_4 (dk_at dksX6_init_58 4 rfl rfl)
theorem dX6_init_1377 : decode cX6_init 1377 = .ok (.bipush 105, 2) := dk_16 105 (dk_at dksX6_init_58 5 rfl rfl)
theorem dX6_init_1379 : decode cX6_init 1379 = .ok (.castore, 1) := dk_85 (dk_at dksX6_init_58 7 rfl rfl)
theorem dX6_init_1380 : decode cX6_init 1380 = .ok (.dup, 1) := dk_89 (dk_at dksX6_init_58 8 rfl rfl)
theorem dX6_init_1381 : decode cX6_init 1381 = .ok (.iconst 2, 1) := dk_5 (dk_at dksX6_init_58 9 rfl rfl)
theorem dX6_init_1382 : decode cX6_init 1382 = .ok (.bipush 103, 2) := dk_16 103 (dk_at dksX6_init_58 10 rfl rfl)
theorem dX6_init_1384 : decode cX6_init 1384 = .ok (.castore, 1) := dk_85 (dk_at dksX6_init_58 12 rfl rfl)
theorem dX6_init_1385 : decode cX6_init 1385 = .ok (.dup, 1) := dk_89 (dk_at dksX6_init_58 13 rfl rfl)
theorem dX6_init_1386 : decode cX6_init 1386 = .ok (.iconst 3, 1) := dk_6 (dk_at dksX6_init_58 14 rfl rfl)
theorem dX6_init_1387 : decode cX6_init 1387 = .ok (.bipush 104, 2) := dk_16 104 (dk_at dksX6_init_58 15 rfl rfl)
theorem dX6_init_1389 : decode cX6_init 1389 = .ok (.castore, 1) := dk_85 (dk_at dksX6_init_58 17 rfl rfl)
theorem dX6_init_1390 : decode cX6_init 1390 = .ok (.dup, 1) := dk_89 (dk_at dksX6_init_58 18 rfl rfl)
theorem dX6_init_1391 : decode cX6_init 1391 = .ok (.iconst 4, 1) := dk_7 (dk_at dksX6_init_58 19 rfl rfl)
theorem dX6_init_1392 : decode cX6_init 1392 = .ok (.bipush 116, 2) := dk_16 116 (dk_at dksX6_init_58 20 rfl rfl)
theorem dX6_init_1394 : decode cX6_init 1394 = .ok (.castore, 1) := dk_85 (dk_at dksX6_init_58 22 rfl rfl)
theorem dX6_init_1395 : decode cX6_init 1395 = .ok (.putfield 206, 3) := dk_181 0 206 (dk_at dksX6_init_59 0 rfl rfl)
theorem dX6_init_1398 : decode cX6_init 1398 = .ok (.aload_n 0, 1) := dk_42 (dk_at dksX6_init_59 3 rfl rfl)
theorem dX6_init_1399 : decode cX6_init 1399 = .ok (.iconst 5, 1) := dk_8 (dk_at dksX6_init_59 4 rfl rfl)
theorem dX6_init_1400 : decode cX6_init 1400 = .ok (.newarray .char, 2) := dk_188_5 (dk_at dksX6_init_59 5 rfl rfl)
theorem dX6_init_1402 : decode cX6_init 1402 = .ok (.dup, 1) := dk_89 (dk_at dksX6_init_59 7 rfl rfl)
theorem dX6_init_1403 : decode cX6_init 1403 = .ok (.iconst 0, 1) := dk_3 (dk_at dksX6_init_59 8 rfl rfl)
theorem dX6_init_1404 : decode cX6_init 1404 = .ok (.bipush 119, 2) := dk_16 119 (dk_at dksX6_init_59 9 rfl rfl)
theorem dX6_init_1406 : decode cX6_init 1406 = .ok (.castore, 1) := dk_85 (dk_at dksX6_init_59 11 rfl rfl)
theorem dX6_init_1407 : decode cX6_init 1407 = .ok (.dup, 1) := dk_89 (dk_at dksX6_init_59 12 rfl rfl)
theorem dX6_init_1408 : decode cX6_init 1408 = .ok (.iconst 1, 1) := dk_4 (dk_at dksX6_init_59 13 rfl rfl)
theorem dX6_init_1409 : decode cX6_init 1409 = .ok (.bipush 114, 2) := dk_16 114 (dk_at dksX6_init_59 14 rfl rfl)
theorem dX6_init_1411 : decode cX6_init 1411 = .ok (.castore, 1) := dk_85 (dk_at dksX6_init_59 16 rfl rfl)
theorem dX6_init_1412 : decode cX6_init 1412 = .ok (.dup, 1) := dk_89 (dk_at dksX6_init_59 17 rfl rfl)
theorem dX6_init_1413 : decode cX6_init 1413 = .ok (.iconst 2, 1) := dk_5 (dk_at dksX6_init_59 18 rfl rfl)
theorem dX6_init_1414 : decode cX6_init 1414 = .ok (.bipush 111, 2) := dk_16 111 (dk_at dksX6_init_59 19 rfl rfl)
theorem dX6_init_1416 : decode cX6_init 1416 = .ok (.castore, 1) := dk_85 (dk_at dksX6_init_59 21 rfl rfl)
theorem dX6_init_1417 : decode cX6_init 1417 = .ok (.dup, 1) := dk_89 (dk_at dksX6_init_59 22 rfl rfl)
theorem dX6_init_1418 : decode cX6_init 1418 = .ok (.iconst 3, 1) := dk_6 (dk_at dksX6_init_59 23 rfl rfl)
theorem dX6_init_1419 : decode cX6_init 1419 = .ok (.bipush 110, 2) := dk_16 110 (dk_at dksX6_init_60 0 rfl rfl)
theorem dX6_init_1421 : decode cX6_init 1421 = .ok (.castore, 1) := dk_85 (dk_at dksX6_init_60 2 rfl rfl)
theorem dX6_init_1422 : decode cX6_init 1422 = .ok (.dup, 1) := dk_89 (dk_at dksX6_init_60 3 rfl rfl)
theorem dX6_init_1423 : decode cX6_init 1423 = .ok (.iconst 4, 1) := dk_7 (dk_at dksX6_init_60 4 rfl rfl)
theorem dX6_init_1424 : decode cX6_init 1424 = .ok (.bipush 103, 2) := dk_16 103 (dk_at dksX6_init_60 5 rfl rfl)
theorem dX6_init_1426 : decode cX6_init 1426 = .ok (.castore, 1) := dk_85 (dk_at dksX6_init_60 7 rfl rfl)
theorem dX6_init_1427 : decode cX6_init 1427 = .ok (.putfield 209, 3) := dk_181 0 209 (dk_at dksX6_init_60 8 rfl rfl)
theorem dX6_init_1430 : decode cX6_init 1430 = .ok (.aload_n 0, 1) := dk_42 (dk_at dksX6_init_60 11 rfl rfl)
theorem dX6_init_1431 : decode cX6_init 1431 = .ok (.iconst 4, 1) := dk_7 (dk_at dksX6_init_60 12 rfl rfl)
theorem dX6_init_1432 : decode cX6_init 1432 = .ok (.newarray .char, 2) := dk_188_5 (dk_at dksX6_init_60 13 rfl rfl)
theorem dX6_init_1434 : decode cX6_init 1434 = .ok (.dup, 1) := dk_89 (dk_at dksX6_init_60 15 rfl rfl)
theorem dX6_init_1435 : decode cX6_init 1435 = .ok (.iconst 0, 1) := dk_3 (dk_at dksX6_init_60 16 rfl rfl)
theorem dX6_init_1436 : decode cX6_init 1436 = .ok (.bipush 121, 2) := dk_16 121 (dk_at dksX6_init_60 17 rfl rfl)
theorem dX6_init_1438 : decode cX6_init 1438 = .ok (.castore, 1) := dk_85 (dk_at dksX6_init_60 19 rfl rfl)
theorem dX6_init_1439 : decode cX6_init 1439 = .ok (.dup, 1) := dk_89 (dk_at dksX6_init_60 20 rfl rfl)
theorem dX6_init_1440 : decode cX6_init 1440 = .ok (.iconst 1, 1) := dk_4 (dk_at dksX6_init_60 21 rfl rfl)
theorem dX6_init_1441 : decode cX6_init 1441 = .ok (.bipush 101, 2) := dk_16 101 (dk_at dksX6_init_60 22 rfl rfl)
theorem dX6_init_1443 : decode cX6_init 1443 = .ok (.castore, 1) := dk_85 (dk_at dksX6_init_61 0 rfl rfl)
theorem dX6_init_1444 : decode cX6_init 1444 = .ok (.dup, 1) := dk_89 (dk_at dksX6_init_61 1 rfl rfl)
theorem dX6_init_1445 : decode cX6_init 1445 = .ok (.iconst 2, 1) := dk_5 (dk_at dksX6_init_61 2 rfl rfl)
theorem dX6_init_1446 : decode cX6_init 1446 = .ok (.bipush 97, 2) := dk_16 97 (dk_at dksX6_init_61 3 rfl rfl)
theorem dX6_init_1448 : decode cX6_init 1448 = .ok (.castore, 1) := dk_85 (dk_at dksX6_init_61 5 rfl rfl)
theorem dX6_init_1449 : decode cX6_init 1449 = .ok (.dup, 1) := dk_89 (dk_at dksX6_init_61 6 rfl rfl)
theorem dX6_init_1450 : decode cX6_init 1450 = .ok (.iconst 3, 1) := dk_6 (dk_at dksX6_init_61 7 rfl rfl)
theorem dX6_init_1451 : decode cX6_init 1451 = .ok (.bipush 114, 2) := dk_16 114 (dk_at dksX6_init_61 8 rfl rfl)
theorem dX6_init_1453 : decode cX6_init 1453 = .ok (.castore, 1) := dk_85 (dk_at dksX6_init_61 10 rfl rfl)
theorem dX6_init_1454 : decode cX6_init 1454 = .ok (.putfield 212, 3) := dk_181 0 212 (dk_at dksX6_init_61 11 rfl rfl)
theorem dX6_init_1457 : decode cX6_init 1457 = .ok (.aload_n 0, 1) := dk_42 (dk_at dksX6_init_61 14 rfl rfl)
theorem dX6_init_1458 : decode cX6_init 1458 = .ok (.iconst 5, 1) := dk_8 (dk_at dksX6_init_61 15 rfl rfl)
theorem dX6_init_1459 : decode cX6_init 1459 = .ok (.newarray .char, 2) := dk_188_5 (dk_at dksX6_init_61 16 rfl rfl)
theorem dX6_init_1461 : decode cX6_init 1461 = .ok (.dup, 1) := dk_89 (dk_at dksX6_init_61 18 rfl rfl)
theorem dX6_init_1462 : decode cX6_init 1462 = .ok (.iconst 0, 1) := dk_3 (dk_at dksX6_init_61 19 rfl rfl)
theorem dX6_init_1463 : decode cX6_init 1463 = .ok (.bipush 119, 2) := dk_16 119 (dk_at dksX6_init_61 20 rfl rfl)
theorem dX6_init_1465 : decode cX6_init 1465 = .ok (.castore, 1) := dk_85 (dk_at dksX6_init_61 22 rfl rfl)
theorem dX6_init_1466 : decode cX6_init 1466 = .ok (.dup, 1) := dk_89 (dk_at dksX6_init_61 23 rfl rfl)
theorem dX6_init_1467 : decode cX6_init 1467 = .ok (.iconst 1, 1) := dk_4 (dk_at dksX6_init_62 0 rfl rfl)
theorem dX6_init_1468 : decode cX6_init 1468 = .ok (.bipush 111, 2) := dk_16 111 (dk_at dksX6_init_62 1 rfl rfl)
theorem dX6_init_1470 : decode cX6_init 1470 = .ok (.castore, 1) := dk_85 (dk_at dksX6_init_62 3 rfl rfl)
theorem dX6_init_1471 : decode cX6_init 1471 = .ok (.dup, 1) := dk_89 (dk_at dksX6_init_62 4 rfl rfl)
theorem dX6_init_1472 : decode cX6_init 1472 = .ok (.iconst 2, 1) := dk_5 (dk_at dksX6_init_62 5 rfl rfl)
theorem dX6_init_1473 : decode cX6_init 1473 = .ok (.bipush 114, 2) := dk_16 114 (dk_at dksX6_init_62 6 rfl rfl)
theorem dX6_init_1475 : decode cX6_init 1475 = .ok (.castore, 1) := dk_85 (dk_at dksX6_init_62 8 rfl rfl)
theorem dX6_init_1476 : decode cX6_init 1476 = .ok (.dup, 1) := dk_89 (dk_at dksX6_init_62 9 rfl rfl)
theorem dX6_init_1477 : decode cX6_init 1477 = .ok (.iconst 3, 1) := dk_6 (dk_at dksX6_init_62 10 rfl rfl)
theorem dX6_init_1478 : decode cX6_init 1478 = .ok (.bipush 116, 2) := dk_16 116 (dk_at dksX6_init_62 11 rfl rfl)
theorem dX6_init_1480 : decode cX6_init 1480 = .ok (.castore, 1) := dk_85 (dk_at dksX6_init_62 13 rfl rfl)
theorem dX6_init_1481 : decode cX6_init 1481 = .ok (.dup, 1) := dk_89 (dk_at dksX6_init_62 14 rfl rfl)
theorem dX6_init_1482 : decode cX6_init 1482 = .ok (.iconst 4, 1) := dk_7 (dk_at dksX6_init_62 15 rfl rfl)
theorem dX6_init_1483 : decode cX6_init 1483 = .ok (.bipush 104, 2) := dk_16 104 (dk_at dksX6_init_62 16 rfl rfl)
theorem dX6_init_1485 : decode cX6_init 1485 = .ok (.castore, 1) := dk_85 (dk_at dksX6_init_62 18 rfl rfl)
theorem dX6_init_1486 : decode cX6_init 1486 = .ok (.putfield 215, 3) := dk_181 0 215 (dk_at dksX6_init_62 19 rfl rfl)
theorem dX6_init_1489 : decode cX6_init 1489 = .ok (.aload_n 0, 1) := dk_42 (dk_at dksX6_init_62 22 rfl rfl)
theorem dX6_init_1490 : decode cX6_init 1490 = .ok (.iconst 5, 1) := dk_8 (dk_at dksX6_init_62 23 rfl rfl)
theorem dX6_init_1491 : decode cX6_init 1491 = .ok (.newarray .char, 2) := dk_188_5 (dk_at dksX6_init_63 0 rfl rfl)
theorem dX6_init_1493 : decode cX6_init 1493 = .ok (.dup, 1) := dk_89 (dk_at dksX6_init_63 2 rfl rfl)
theorem dX6_init_1494 : decode cX6_init 1494 = .ok (.iconst 0, 1) := dk_3 (dk_at dksX6_init_63 3 rfl rfl)
theorem dX6_init_1495 : decode cX6_init 1495 = .ok (.bipush 99, 2) := dk_16 99 (dk_at dksX6_init_63 4 rfl rfl)
theorem dX6_init_1497 : decode cX6_init 1497 = .ok (.castore, 1) := dk_85 (dk_at dksX6_init_63 6 rfl rfl)
theorem dX6_init_1498 : decode cX6_init 1498 = .ok (.dup, 1) := dk_89 (dk_at dksX6_init_63 7 rfl rfl)
theorem dX6_init_1499 : decode cX6_init 1499 = .ok (.iconst 1, 1) := dk_4 (dk_at dksX6_init_63 8 rfl rfl)
theorem dX6_init_1500 : decode cX6_init 1500 = .ok (.bipush 108, 2) := dk_16 108 (dk_at dksX6_init_63 9 rfl rfl)
theorem dX6_init_1502 : decode cX6_init 1502 = .ok (.castore, 1) := dk_85 (dk_at dksX6_init_63 11 rfl rfl)
theorem dX6_init_1503 : decode cX6_init 1503 = .ok (.dup, 1) := dk_89 (dk_at dksX6_init_63 12 rfl rfl)
theorem dX6_init_1504 : decode cX6_init 1504 = .ok (.iconst 2, 1) := dk_5 (dk_at dksX6_init_63 13 rfl rfl)
theorem dX6_init_1505 : decode cX6_init 1505 = .ok (.bipush 97, 2) := dk_16 97 (dk_at dksX6_init_63 14 rfl rfl)
theorem dX6_init_1507 : decode cX6_init 1507 = .ok (.castore, 1) := dk_85 (dk_at dksX6_init_63 16 rfl rfl)
theorem dX6_init_1508 : decode cX6_init 1508 = .ok (.dup, 1) := dk_89 (dk_at dksX6_init_63 17 rfl rfl)
theorem dX6_init_1509 : decode cX6_init 1509 = .ok (.iconst 3, 1) := dk_6 (dk_at dksX6_init_63 18 rfl rfl)
theorem dX6_init_1510 : decode cX6_init 1510 = .ok (.bipush 115, 2) := dk_16 115 (dk_at dksX6_init_63 19 rfl rfl)
theorem dX6_init_1512 : decode cX6_init 1512 = .ok (.castore, 1) := dk_85 (dk_at dksX6_init_63 21 rfl rfl)
theorem dX6_init_1513 : decode cX6_init 1513 = .ok (.dup, 1) := dk_89 (dk_at dksX6_init_63 22 rfl rfl)
theorem dX6_init_1514 : decode cX6_init 1514 = .ok (.iconst 4, 1) := dk_7 (dk_at dksX6_init_63 23 rfl rfl)
theorem dX6_init_1515 : decode cX6_init 1515 = .ok (.bipush 115, 2) := dk_16 115 (dk_at dksX6_init_64 0 rfl rfl)
theorem dX6_init_1517 : decode cX6_init 1517 = .ok (.castore, 1) := dk_85 (dk_at dksX6_init_64 2 rfl rfl)
theorem dX6_init_1518 : decode cX6_init 1518 = .ok (.putfield 218, 3) := dk_181 0 218 (dk_at dksX6_init_64 3 rfl rfl)
theorem dX6_init_1521 : decode cX6_init 1521 = .ok (.aload_n 0, 1) := dk_42 (dk_at dksX6_init_64 6 rfl rfl)
theorem dX6_init_1522 : decode cX6_init 1522 = .ok (.iconst 5, 1) := dk_8 (dk_at dksX6_init_64 7 rfl rfl)
theorem dX6_init_1523 : decode cX6_init 1523 = .ok (.newarray .char, 2) := dk_188_5 (dk_at dksX6_init_64 8 rfl rfl)
theorem dX6_init_1525 : decode cX6_init 1525 = .ok (.dup, 1) := dk_89 (dk_at dksX6_init_64 10 rfl rfl)
theorem dX6_init_1526 : decode cX6_init 1526 = .ok (.iconst 0, 1) := dk_3 (dk_at dksX6_init_64 11 rfl rfl)
theorem dX6_init_1527 : decode cX6_init 1527 = .ok (.bipush 109, 2) := dk_16 109 (dk_at dksX6_init_64 12 rfl rfl)
theorem dX6_init_1529 : decode cX6_init 1529 = .ok (.castore, 1) := dk_85 (dk_at dksX6_init_64 14 rfl rfl)
theorem dX6_init_1530 : decode cX6_init 1530 = .ok (.dup, 1) := dk_89 (dk_at dksX6_init_64 15 rfl rfl)
theorem dX6_init_1531 : decode cX6_init 1531 = .ok (.iconst 1, 1) := dk_4 (dk_at dksX6_init_64 16 rfl rfl)
theorem dX6_init_1532 : decode cX6_init 1532 = .ok (.bipush 99, 2) := dk_16 99 (dk_at dksX6_init_64 17 rfl rfl)
theorem dX6_init_1534 : decode cX6_init 1534 = .ok (.castore, 1) := dk_85 (dk_at dksX6_init_64 19 rfl rfl)
theorem dX6_init_1535 : decode cX6_init 1535 = .ok (.dup, 1) := dk_89 (dk_at dksX6_init_64 20 rfl rfl)
theorem dX6_init_1536 : decode cX6_init 1536 = .ok (.iconst 2, 1) := dk_5 (dk_at dksX6_init_64 21 rfl rfl)
theorem dX6_init_1537 : decode cX6_init 1537 = .ok (.bipush 97, 2) := dk_16 97 (dk_at dksX6_init_64 22 rfl rfl)
theorem dX6_init_1539 : decode cX6_init 1539 = .ok (.castore, 1) := dk_85 (dk_at dksX6_init_65 0 rfl rfl)
theorem dX6_init_1540 : decode cX6_init 1540 = .ok (.dup, 1) := dk_89 (dk_at dksX6_init_65 1 rfl rfl)
theorem dX6_init_1541 : decode cX6_init 1541 = .ok (.iconst 3, 1) := dk_6 (dk_at dksX6_init_65 2 rfl rfl)
theorem dX6_init_1542 : decode cX6_init 1542 = .ok (.bipush 108, 2) := dk_16 108 (dk_at dksX6_init_65 3 rfl rfl)
theorem dX6_init_1544 : decode cX6_init 1544 = .ok (.castore, 1) := dk_85 (dk_at dksX6_init_65 5 rfl rfl)
theorem dX6_init_1545 : decode cX6_init 1545 = .ok (.dup, 1) := dk_89 (dk_at dksX6_init_65 6 rfl rfl)
theorem dX6_init_1546 : decode cX6_init 1546 = .ok (.iconst 4, 1) := dk_7 (dk_at dksX6_init_65 7 rfl rfl)
theorem dX6_init_1547 : decode cX6_init 1547 = .ok (.bipush 109, 2) := dk_16 109 (dk_at dksX6_init_65 8 rfl rfl)
theorem dX6_init_1549 : decode cX6_init 1549 = .ok (.castore, 1) := dk_85 (dk_at dksX6_init_65 10 rfl rfl)
theorem dX6_init_1550 : decode cX6_init 1550 = .ok (.putfield 221, 3) := dk_181 0 221 (dk_at dksX6_init_65 11 rfl rfl)
theorem dX6_init_1553 : decode cX6_init 1553 = .ok (.aload_n 0, 1) := dk_42 (dk_at dksX6_init_65 14 rfl rfl)
theorem dX6_init_1554 : decode cX6_init 1554 = .ok (.iconst 4, 1) := dk_7 (dk_at dksX6_init_65 15 rfl rfl)
theorem dX6_init_1555 : decode cX6_init 1555 = .ok (.newarray .char, 2) := dk_188_5 (dk_at dksX6_init_65 16 rfl rfl)
theorem dX6_init_1557 : decode cX6_init 1557 = .ok (.dup, 1) := dk_89 (dk_at dksX6_init_65 18 rfl rfl)
theorem dX6_init_1558 : decode cX6_init 1558 = .ok (.iconst 0, 1) := dk_3 (dk_at dksX6_init_65 19 rfl rfl)
theorem dX6_init_1559 : decode cX6_init 1559 = .ok (.bipush 108, 2) := dk_16 108 (dk_at dksX6_init_65 20 rfl rfl)
theorem dX6_init_1561 : decode cX6_init 1561 = .ok (.castore, 1) := dk_85 (dk_at dksX6_init_65 22 rfl rfl)
theorem dX6_init_1562 : decode cX6_init 1562 = .ok (.dup, 1) := dk_89 (dk_at dksX6_init_65 23 rfl rfl)
theorem dX6_init_1563 : decode cX6_init 1563 = .ok (.iconst 1, 1) := dk_4 (dk_at dksX6_init_66 0 rfl rfl)
theorem dX6_init_1564 : decode cX6_init 1564 = .ok (.bipush 101, 2) := dk_16 101 (dk_at dksX6_init_66 1 rfl rfl)
theorem dX6_init_1566 : decode cX6_init 1566 = .ok (.castore, 1) := dk_85 (dk_at dksX6_init_66 3 rfl rfl)
theorem dX6_init_1567 : decode cX6_init 1567 = .ok (.dup, 1) := dk_89 (dk_at dksX6_init_66 4 rfl rfl)
theorem dX6_init_1568 : decode cX6_init 1568 = .ok (.iconst 2, 1) := dk_5 (dk_at dksX6_init_66 5 rfl rfl)
theorem dX6_init_1569 : decode cX6_init 1569 = .ok (.bipush 102, 2) := dk_16 102 (dk_at dksX6_init_66 6 rfl rfl)
theorem dX6_init_1571 : decode cX6_init 1571 = .ok (.castore, 1) := dk_85 (dk_at dksX6_init_66 8 rfl rfl)
theorem dX6_init_1572 : decode cX6_init 1572 = .ok (.dup, 1) := dk_89 (dk_at dksX6_init_66 9 rfl rfl)
theorem dX6_init_1573 : decode cX6_init 1573 = .ok (.iconst 3, 1) := dk_6 (dk_at dksX6_init_66 10 rfl rfl)
theorem dX6_init_1574 : decode cX6_init 1574 = .ok (.bipush 116, 2) := dk_16 116 (dk_at dksX6_init_66 11 rfl rfl)
theorem dX6_init_1576 : decode cX6_init 1576 = .ok (.castore, 1) := dk_85 (dk_at dksX6_init_66 13 rfl rfl)
theorem dX6_init_1577 : decode cX6_init 1577 = .ok (.putfield 224, 3) := dk_181 0 224 (dk_at dksX6_init_66 14 rfl rfl)
theorem dX6_init_1580 : decode cX6_init 1580 = .ok (.aload_n 0, 1) := dk_42 (dk_at dksX6_init_66 17 rfl rfl)
theorem dX6_init_1581 : decode cX6_init 1581 = .ok (.iconst 5, 1) := dk_8 (dk_at dksX6_init_66 18 rfl rfl)
theorem dX6_init_1582 : decode cX6_init 1582 = .ok (.newarray .char, 2) := dk_188_5 (dk_at dksX6_init_66 19 rfl rfl)
theorem dX6_init_1584 : decode cX6_init 1584 = .ok (.dup, 1) := dk_89 (dk_at dksX6_init_66 21 rfl rfl)
theorem dX6_init_1585 : decode cX6_init 1585 = .ok (.iconst 0, 1) := dk_3 (dk_at dksX6_init_66 22 rfl rfl)
theorem dX6_init_1586 : decode cX6_init 1586 = .ok (.bipush 109, 2) := dk_16 109 (dk_at dksX6_init_67 0 rfl rfl)
theorem dX6_init_1588 : decode cX6_init 1588 = .ok (.castore, 1) := dk_85 (dk_at dksX6_init_67 2 rfl rfl)
theorem dX6_init_1589 : decode cX6_init 1589 = .ok (.dup, 1) := dk_89 (dk_at dksX6_init_67 3 rfl rfl)
theorem dX6_init_1590 : decode cX6_init 1590 = .ok (.iconst 1, 1) := dk_4 (dk_at dksX6_init_67 4 rfl rfl)
theorem dX6_init_1591 : decode cX6_init 1591 = .ok (.bipush 97, 2) := dk_16 97 (dk_at dksX6_init_67 5 rfl rfl)
theorem dX6_init_1593 : decode cX6_init 1593 = .ok (.castore, 1) := dk_85 (dk_at dksX6_init_67 7 rfl rfl)
theorem dX6_init_1594 : decode cX6_init 1594 = .ok (.dup, 1) := dk_89 (dk_at dksX6_init_67 8 rfl rfl)
theorem dX6_init_1595 : decode cX6_init 1595 = .ok (.iconst 2, 1) := dk_5 (dk_at dksX6_init_67 9 rfl rfl)
theorem dX6_init_1596 : decode cX6_init 1596 = .ok (.bipush 114, 2) := dk_16 114 (dk_at dksX6_init_67 10 rfl rfl)
theorem dX6_init_1598 : decode cX6_init 1598 = .ok (.castore, 1) := dk_85 (dk_at dksX6_init_67 12 rfl rfl)
theorem dX6_init_1599 : decode cX6_init 1599 = .ok (.dup, 1) := dk_89 (dk_at dksX6_init_67 13 rfl rfl)
theorem dX6_init_1600 : decode cX6_init 1600 = .ok (.iconst 3, 1) := dk_6 (dk_at dksX6_init_67 14 rfl rfl)
theorem dX6_init_1601 : decode cX6_init 1601 = .ok (.bipush 107, 2) := dk_16 107 (dk_at dksX6_init_67 15 rfl rfl)
theorem dX6_init_1603 : decode cX6_init 1603 = .ok (.castore, 1) := dk_85 (dk_at dksX6_init_67 17 rfl rfl)
theorem dX6_init_1604 : decode cX6_init 1604 = .ok (.dup, 1) := dk_89 (dk_at dksX6_init_67 18 rfl rfl)
theorem dX6_init_1605 : decode cX6_init 1605 = .ok (.iconst 4, 1) := dk_7 (dk_at dksX6_init_67 19 rfl rfl)
theorem dX6_init_1606 : decode cX6_init 1606 = .ok (.bipush 115, 2) := dk_16 115 (dk_at dksX6_init_67 20 rfl rfl)
theorem dX6_init_1608 : decode cX6_init 1608 = .ok (.castore, 1) := dk_85 (dk_at dksX6_init_67 22 rfl rfl)
theorem dX6_init_1609 : decode cX6_init 1609 = .ok (.putfield 227, 3) := dk_181 0 227 (dk_at dksX6_init_68 0 rfl rfl)
theorem dX6_init_1612 : decode cX6_init 1612 = .ok (.aload_n 0, 1) := dk_42 (dk_at dksX6_init_68 3 rfl rfl)
theorem dX6_init_1613 : decode cX6_init 1613 = .ok (.bipush 6, 2) := dk_16 6 (dk_at dksX6_init_68 4 rfl rfl)
theorem dX6_init_1615 : decode cX6_init 1615 = .ok (.newarray .char, 2) := dk_188_5 (dk_at dksX6_init_68 6 rfl rfl)
theorem dX6_init_1617 : decode cX6_init 1617 = .ok (.dup, 1) := dk_89 (dk_at dksX6_init_68 8 rfl rfl)
theorem dX6_init_1618 : decode cX6_init 1618 = .ok (.iconst 0, 1) := dk_3 (dk_at dksX6_init_68 9 rfl rfl)
theorem dX6_init_1619 : decode cX6_init 1619 = .ok (.bipush 110, 2) := dk_16 110 (dk_at dksX6_init_68 10 rfl rfl)
theorem dX6_init_1621 : decode cX6_init 1621 = .ok (.castore, 1) := dk_85 (dk_at dksX6_init_68 12 rfl rfl)
theorem dX6_init_1622 : decode cX6_init 1622 = .ok (.dup, 1) := dk_89 (dk_at dksX6_init_68 13 rfl rfl)
theorem dX6_init_1623 : decode cX6_init 1623 = .ok (.iconst 1, 1) := dk_4 (dk_at dksX6_init_68 14 rfl rfl)
theorem dX6_init_1624 : decode cX6_init 1624 = .ok (.bipush 117, 2) := dk_16 117 (dk_at dksX6_init_68 15 rfl rfl)
theorem dX6_init_1626 : decode cX6_init 1626 = .ok (.castore, 1) := dk_85 (dk_at dksX6_init_68 17 rfl rfl)
theorem dX6_init_1627 : decode cX6_init 1627 = .ok (.dup, 1) := dk_89 (dk_at dksX6_init_68 18 rfl rfl)
theorem dX6_init_1628 : decode cX6_init 1628 = .ok (.iconst 2, 1) := dk_5 (dk_at dksX6_init_68 19 rfl rfl)
theorem dX6_init_1629 : decode cX6_init 1629 = .ok (.bipush 109, 2) := dk_16 109 (dk_at dksX6_init_68 20 rfl rfl)
theorem dX6_init_1631 : decode cX6_init 1631 = .ok (.castore, 1) := dk_85 (dk_at dksX6_init_68 22 rfl rfl)
theorem dX6_init_1632 : decode cX6_init 1632 = .ok (.dup, 1) := dk_89 (dk_at dksX6_init_68 23 rfl rfl)
theorem dX6_init_1633 : decode cX6_init 1633 = .ok (.iconst 3, 1) := dk_6 (dk_at dksX6_init_69 0 rfl rfl)
theorem dX6_init_1634 : decode cX6_init 1634 = .ok (.bipush 98, 2) := dk_16 98 (dk_at dksX6_init_69 1 rfl rfl)
theorem dX6_init_1636 : decode cX6_init 1636 = .ok (.castore, 1) := dk_85 (dk_at dksX6_init_69 3 rfl rfl)
theorem dX6_init_1637 : decode cX6_init 1637 = .ok (.dup, 1) := dk_89 (dk_at dksX6_init_69 4 rfl rfl)
theorem dX6_init_1638 : decode cX6_init 1638 = .ok (.iconst 4, 1) := dk_7 (dk_at dksX6_init_69 5 rfl rfl)
theorem dX6_init_1639 : decode cX6_init 1639 = .ok (.bipush 101, 2) := dk_16 101 (dk_at dksX6_init_69 6 rfl rfl)
theorem dX6_init_1641 : decode cX6_init 1641 = .ok (.castore, 1) := dk_85 (dk_at dksX6_init_69 8 rfl rfl)
theorem dX6_init_1642 : decode cX6_init 1642 = .ok (.dup, 1) := dk_89 (dk_at dksX6_init_69 9 rfl rfl)
theorem dX6_init_1643 : decode cX6_init 1643 = .ok (.iconst 5, 1) := dk_8 (dk_at dksX6_init_69 10 rfl rfl)
theorem dX6_init_1644 : decode cX6_init 1644 = .ok (.bipush 114, 2) := dk_16 114 (dk_at dksX6_init_69 11 rfl rfl)
theorem dX6_init_1646 : decode cX6_init 1646 = .ok (.castore, 1) := dk_85 (dk_at dksX6_init_69 13 rfl rfl)
theorem dX6_init_1647 : decode cX6_init 1647 = .ok (.putfield 230, 3) := dk_181 0 230 (dk_at dksX6_init_69 14 rfl rfl)
theorem dX6_init_1650 : decode cX6_init 1650 = .ok (.aload_n 0, 1) := dk_42 (dk_at dksX6_init_69 17 rfl rfl)
theorem dX6_init_1651 : decode cX6_init 1651 = .ok (.iconst 5, 1) := dk_8 (dk_at dksX6_init_69 18 rfl rfl)
theorem dX6_init_1652 : decode cX6_init 1652 = .ok (.newarray .char, 2) := dk_188_5 (dk_at dksX6_init_69 19 rfl rfl)
theorem dX6_init_1654 : decode cX6_init 1654 = .ok (.dup, 1) := dk_89 (dk_at dksX6_init_69 21 rfl rfl)
theorem dX6_init_1655 : decode cX6_init 1655 = .ok (.iconst 0, 1) := dk_3 (dk_at dksX6_init_69 22 rfl rfl)
theorem dX6_init_1656 : decode cX6_init 1656 = .ok (.bipush 107, 2) := dk_16 107 (dk_at dksX6_init_70 0 rfl rfl)
theorem dX6_init_1658 : decode cX6_init 1658 = .ok (.castore, 1) := dk_85 (dk_at dksX6_init_70 2 rfl rfl)
theorem dX6_init_1659 : decode cX6_init 1659 = .ok (.dup, 1) := dk_89 (dk_at dksX6_init_70 3 rfl rfl)
theorem dX6_init_1660 : decode cX6_init 1660 = .ok (.iconst 1, 1) := dk_4 (dk_at dksX6_init_70 4 rfl rfl)
theorem dX6_init_1661 : decode cX6_init 1661 = .ok (.bipush 110, 2) := dk_16 110 (dk_at dksX6_init_70 5 rfl rfl)
theorem dX6_init_1663 : decode cX6_init 1663 = .ok (.castore, 1) := dk_85 (dk_at dksX6_init_70 7 rfl rfl)
theorem dX6_init_1664 : decode cX6_init 1664 = .ok (.dup, 1) := dk_89 (dk_at dksX6_init_70 8 rfl rfl)
theorem dX6_init_1665 : decode cX6_init 1665 = .ok (.iconst 2, 1) := dk_5 (dk_at dksX6_init_70 9 rfl rfl)
theorem dX6_init_1666 : decode cX6_init 1666 = .ok (.bipush 111, 2) := dk_16 111 (dk_at dksX6_init_70 10 rfl rfl)
theorem dX6_init_1668 : decode cX6_init 1668 = .ok (.castore, 1) := dk_85 (dk_at dksX6_init_70 12 rfl rfl)
theorem dX6_init_1669 : decode cX6_init 1669 = .ok (.dup, 1) := dk_89 (dk_at dksX6_init_70 13 rfl rfl)
theorem dX6_init_1670 : decode cX6_init 1670 = .ok (.iconst 3, 1) := dk_6 (dk_at dksX6_init_70 14 rfl rfl)
theorem dX6_init_1671 : decode cX6_init 1671 = .ok (.bipush 119, 2) := dk_16 119 (dk_at dksX6_init_70 15 rfl rfl)
theorem dX6_init_1673 : decode cX6_init 1673 = .ok (.castore, 1) := dk_85 (dk_at dksX6_init_70 17 rfl rfl)
theorem dX6_init_1674 : decode cX6_init 1674 = .ok (.dup, 1) := dk_89 (dk_at dksX6_init_70 18 rfl rfl)
theorem dX6_init_1675 : decode cX6_init 1675 = .ok (.iconst 4, 1) := dk_7 (dk_at dksX6_init_70 19 rfl rfl)
theorem dX6_init_1676 : decode cX6_init 1676 = .ok (.bipush 115, 2) := dk_16 115 (dk_at dksX6_init_70 20 rfl rfl)
theorem dX6_init_1678 : decode cX6_init 1678 = .ok (.castore, 1) := dk_85 (dk_at dksX6_init_70 22 rfl rfl)
theorem dX6_init_1679 : decode cX6_init 1679 = .ok (.putfield 233, 3) := dk_181 0 233 (dk_at dksX6_init_71 0 rfl rfl)
theorem dX6_init_1682 : decode cX6_init 1682 = .ok (.aload_n 0, 1) := dk_42 (dk_at dksX6_init_71 3 rfl rfl)
theorem dX6_init_1683 : decode cX6_init 1683 = .ok (.iconst 4, 1) := dk_7 (dk_at dksX6_init_71 4 rfl rfl)
theorem dX6_init_1684 : decode cX6_init 1684 = .ok (.newarray .char, 2) := dk_188_5 (dk_at dksX6_init_71 5 rfl rfl)
theorem dX6_init_1686 : decode cX6_init 1686 = .ok (.dup, 1) := dk_89 (dk_at dksX6_init_71 7 rfl rfl)
theorem dX6_init_1687 : decode cX6_init 1687 = .ok (.iconst 0, 1) := dk_3 (dk_at dksX6_init_71 8 rfl rfl)
theorem dX6_init_1688 : decode cX6_init 1688 = .ok (.bipush 101, 2) := dk_16 101 (dk_at dksX6_init_71 9 rfl rfl)
theorem dX6_init_1690 : decode cX6_init 1690 = .ok (.castore, 1) := dk_85 (dk_at dksX6_init_71 11 rfl rfl)
theorem dX6_init_1691 : decode cX6_init 1691 = .ok (.dup, 1) := dk_89 (dk_at dksX6_init_71 12 rfl rfl)
theorem dX6_init_1692 : decode cX6_init 1692 = .ok (.iconst 1, 1) := dk_4 (dk_at dksX6_init_71 13 rfl rfl)
theorem dX6_init_1693 : decode cX6_init 1693 = .ok (.bipush 114, 2) := dk_16 114 (dk_at dksX6_init_71 14 rfl rfl)
theorem dX6_init_1695 : decode cX6_init 1695 = .ok (.castore, 1) := dk_85 (dk_at dksX6_init_71 16 rfl rfl)
theorem dX6_init_1696 : decode cX6_init 1696 = .ok (.dup, 1) := dk_89 (dk_at dksX6_init_71 17 rfl rfl)
theorem dX6_init_1697 : decode cX6_init 1697 = .ok (.iconst 2, 1) := dk_5 (dk_at dksX6_init_71 18 rfl rfl)
theorem dX6_init_1698 : decode cX6_init 1698 = .ok (.bipush 114, 2) := dk_16 114 (dk_at dksX6_init_71 19 rfl rfl)
theorem dX6_init_1700 : decode cX6_init 1700 = .ok (.castore, 1) := dk_85 (dk_at dksX6_init_71 21 rfl rfl)
theorem dX6_init_1701 : decode cX6_init 1701 = .ok (.dup, 1) := dk_89 (dk_at dksX6_init_71 22 rfl rfl)
theorem dX6_init_1702 : decode cX6_init 1702 = .ok (.iconst 3, 1) := dk_6 (dk_at dksX6_init_71 23 rfl rfl)
theorem dX6_init_1703 : decode cX6_init 1703 = .ok (.bipush 115, 2) := dk_16 115 (dk_at dksX6_init_72 0 rfl rfl)
theorem dX6_init_1705 : decode cX6_init 1705 = .ok (.castore, 1) := dk_85 (dk_at dksX6_init_72 2 rfl rfl)
theorem dX6_init_1706 : decode cX6_init 1706 = .ok (.putfield 236, 3) := dk_181 0 236 (dk_at dksX6_init_72 3 rfl rfl)
theorem dX6_init_1709 : decode cX6_init 1709 = .ok (.aload_n 0, 1) := dk_42 (dk_at dksX6_init_72 6 rfl rfl)
theorem dX6_init_1710 : decode cX6_init 1710 = .ok (.iconst 2, 1) := dk_5 (dk_at dksX6_init_72 7 rfl rfl)
theorem dX6_init_1711 : decode cX6_init 1711 = .ok (.newarray .char, 2) := dk_188_5 (dk_at dksX6_init_72 8 rfl rfl)
theorem dX6_init_1713 : decode cX6_init 1713 = .ok (.dup, 1) := dk_89 (dk_at dksX6_init_72 10 rfl rfl)
theorem dX6_init_1714 : decode cX6_init 1714 = .ok (.iconst 0, 1) := dk_3 (dk_at dksX6_init_72 11 rfl rfl)
theorem dX6_init_1715 : decode cX6_init 1715 = .ok (.bipush 98, 2) := dk_16 98 (dk_at dksX6_init_72 12 rfl rfl)
theorem dX6_init_1717 : decode cX6_init 1717 = .ok (.castore, 1) := dk_85 (dk_at dksX6_init_72 14 rfl rfl)
theorem dX6_init_1718 : decode cX6_init 1718 = .ok (.dup, 1) := dk_89 (dk_at dksX6_init_72 15 rfl rfl)
theorem dX6_init_1719 : decode cX6_init 1719 = .ok (.iconst 1, 1) := dk_4 (dk_at dksX6_init_72 16 rfl rfl)
theorem dX6_init_1720 : decode cX6_init 1720 = .ok (.bipush 121, 2) := dk_16 121 (dk_at dksX6_init_72 17 rfl rfl)
theorem dX6_init_1722 : decode cX6_init 1722 = .ok (.castore, 1) := dk_85 (dk_at dksX6_init_72 19 rfl rfl)
theorem dX6_init_1723 : decode cX6_init 1723 = .ok (.putfield 239, 3) := dk_181 0 239 (dk_at dksX6_init_72 20 rfl rfl)
theorem dX6_init_1726 : decode cX6_init 1726 = .ok (.aload_n 0, 1) := dk_42 (dk_at dksX6_init_72 23 rfl rfl)
theorem dX6_init_1727 : decode cX6_init 1727 = .ok (.sipush 1700, 3) := dk_17 6 164 (dk_at dksX6_init_73 0 rfl rfl)
theorem dX6_init_1730 : decode cX6_init 1730 = .ok (.newarray .int, 2) := dk_188_10 (dk_at dksX6_init_73 3 rfl rfl)
theorem dX6_init_1732 : decode cX6_init 1732 = .ok (.putfield 242, 3) := dk_181 0 242 (dk_at dksX6_init_73 5 rfl rfl)
theorem dX6_init_1735 : decode cX6_init 1735 = .ok (.aload_n 0, 1) := dk_42 (dk_at dksX6_init_73 8 rfl rfl)
theorem dX6_init_1736 : decode cX6_init 1736 = .ok (.sipush 1700, 3) := dk_17 6 164 (dk_at dksX6_init_73 9 rfl rfl)
theorem dX6_init_1739 : decode cX6_init 1739 = .ok (.newarray .int, 2) := dk_188_10 (dk_at dksX6_init_73 12 rfl rfl)
theorem dX6_init_1741 : decode cX6_init 1741 = .ok (.putfield 245, 3) := dk_181 0 245 (dk_at dksX6_init_73 14 rfl rfl)
theorem dX6_init_1744 : decode cX6_init 1744 = .ok (.aload_n 0, 1) := dk_42 (dk_at dksX6_init_73 17 rfl rfl)
theorem dX6_init_1745 : decode cX6_init 1745 = .ok (.sipush 1700, 3) := dk_17 6 164 (dk_at dksX6_init_73 18 rfl rfl)
theorem dX6_init_1748 : decode cX6_init 1748 = .ok (.newarray .long, 2) := dk_188_11 (dk_at dksX6_init_73 21 rfl rfl)
theorem dX6_init_1750 : decode cX6_init 1750 = .ok (.putfield 248, 3) := dk_181 0 248 (dk_at dksX6_init_74 0 rfl rfl)
theorem dX6_init_1753 : decode cX6_init 1753 = .ok (.aload_n 0, 1) := dk_42 (dk_at dksX6_init_74 3 rfl rfl)
theorem dX6_init_1754 : decode cX6_init 1754 = .ok (.bipush 43, 2) := dk_16 43 (dk_at dksX6_init_74 4 rfl rfl)
theorem dX6_init_1756 : decode cX6_init 1756 = .ok (.newarray .int, 2) := dk_188_10 (dk_at dksX6_init_74 6 rfl rfl)
theorem dX6_init_1758 : decode cX6_init 1758 = .ok (.putfield 251, 3) := dk_181 0 251 (dk_at dksX6_init_74 8 rfl rfl)
theorem dX6_init_1761 : decode cX6_init 1761 = .ok (.return_, 1) := dk_177 (dk_at dksX6_init_74 11 rfl rfl)
abbrev cX6_feed : ByteArray := prog_22_method_3_code
def yX6_feed : MethodName := ⟨RX6, "feed", "(IIIII)I"⟩
def dkwX6_feed_5 : List UInt8 := [132, 6, 1, 167, 255, 163, 42, 180, 0, 254, 172]
abbrev dktX6_feed_5 : List UInt8 := dkwX6_feed_5 ++ []
def dkwX6_feed_4 : List UInt8 := [6, 21, 6, 7, 112, 100, 104, 122, 17, 0, 255, 126, 79, 42, 89, 180, 0, 254, 4, 96, 181, 0, 254]
abbrev dktX6_feed_4 : List UInt8 := dkwX6_feed_4 ++ dktX6_feed_5
def dkwX6_feed_3 : List UInt8 := [162, 0, 8, 21, 4, 167, 0, 5, 21, 5, 54, 7, 42, 180, 0, 7, 42, 180, 0, 254, 21, 7, 16, 8]
abbrev dktX6_feed_3 : List UInt8 := dkwX6_feed_3 ++ dktX6_feed_4
def dkwX6_feed_2 : List UInt8 := [16, 8, 162, 0, 7, 28, 167, 0, 28, 21, 6, 16, 12, 162, 0, 7, 29, 167, 0, 17, 21, 6, 16, 16]
abbrev dktX6_feed_2 : List UInt8 := dkwX6_feed_2 ++ dktX6_feed_3
def dkwX6_feed_1 : List UInt8 := [172, 3, 54, 6, 21, 6, 16, 20, 162, 0, 92, 21, 6, 7, 162, 0, 7, 27, 167, 0, 39, 21, 6]
abbrev dktX6_feed_1 : List UInt8 := dkwX6_feed_1 ++ dktX6_feed_2
def dkwX6_feed_0 : List UInt8 := [42, 180, 0, 254, 16, 20, 96, 17, 6, 64, 164, 0, 15, 42, 180, 0, 17, 3, 92, 46, 4, 96, 79, 2]
abbrev dktX6_feed_0 : List UInt8 := dkwX6_feed_0 ++ dktX6_feed_1
theorem dksX6_feed_0 : cX6_feed.data.toList.drop 0 = dktX6_feed_0 := by decide +kernel
theorem dksX6_feed_1 : cX6_feed.data.toList.drop 24 = dktX6_feed_1 := dk_seg dksX6_feed_0 24 rfl rfl
theorem dksX6_feed_2 : cX6_feed.data.toList.drop 47 = dktX6_feed_2 := dk_seg dksX6_feed_1 23 rfl rfl
theorem dksX6_feed_3 : cX6_feed.data.toList.drop 71 = dktX6_feed_3 := dk_seg dksX6_feed_2 24 rfl rfl
theorem dksX6_feed_4 : cX6_feed.data.toList.drop 95 = dktX6_feed_4 := dk_seg dksX6_feed_3 24 rfl rfl
theorem dksX6_feed_5 : cX6_feed.data.toList.drop 118 = dktX6_feed_5 := dk_seg dksX6_feed_4 23 rfl rfl
theorem dX6_feed_0 : decode cX6_feed 0 = .ok (.aload_n 0, 1) := dk_42 (dk_at dksX6_feed_0 0 rfl rfl)
theorem dX6_feed_1 : decode cX6_feed 1 = .ok (.getfield 254, 3) := dk_180 0 254 (dk_at dksX6_feed_0 1 rfl rfl)
theorem dX6_feed_4 : decode cX6_feed 4 = .ok (.bipush 20, 2) := dk_16 20 (dk_at dksX6_feed_0 4 rfl rfl)
theorem dX6_feed_6 : decode cX6_feed 6 = .ok (.iadd, 1) := dk_96 (dk_at dksX6_feed_0 6 rfl rfl)
theorem dX6_feed_7 : decode cX6_feed 7 = .ok (.sipush 1600, 3) := dk_17 6 64 (dk_at dksX6_feed_0 7 rfl rfl)
theorem dX6_feed_10 : decode cX6_feed 10 = .ok (.if_icmp .le 15, 3) := dk_164 0 15 (dk_at dksX6_feed_0 10 rfl rfl)
theorem dX6_feed_13 : decode cX6_feed 13 = .ok (.aload_n 0, 1) := dk_42 (dk_at dksX6_feed_0 13 rfl rfl)
theorem dX6_feed_14 : decode cX6_feed 14 = .ok (.getfield 17, 3) := dk_180 0 17 (dk_at dksX6_feed_0 14 rfl rfl)
theorem dX6_feed_17 : decode cX6_feed 17 = .ok (.iconst 0, 1) := dk_3 (dk_at dksX6_feed_0 17 rfl rfl)
theorem dX6_feed_18 : decode cX6_feed 18 = .ok (.dup2, 1) := dk_92 (dk_at dksX6_feed_0 18 rfl rfl)
theorem dX6_feed_19 : decode cX6_feed 19 = .ok (.iaload, 1) := dk_46 (dk_at dksX6_feed_0 19 rfl rfl)
theorem dX6_feed_20 : decode cX6_feed 20 = .ok (.iconst 1, 1) := dk_4 (dk_at dksX6_feed_0 20 rfl rfl)
theorem dX6_feed_21 : decode cX6_feed 21 = .ok (.iadd, 1) := dk_96 (dk_at dksX6_feed_0 21 rfl rfl)
theorem dX6_feed_22 : decode cX6_feed 22 = .ok (.iastore, 1) := dk_79 (dk_at dksX6_feed_0 22 rfl rfl)
theorem dX6_feed_23 : decode cX6_feed 23 = .ok (.iconst (-1), 1) := dk_2 (dk_at dksX6_feed_0 23 rfl rfl)
theorem dX6_feed_24 : decode cX6_feed 24 = .ok (.ireturn, 1) := dk_172 (dk_at dksX6_feed_1 0 rfl rfl)
theorem dX6_feed_25 : decode cX6_feed 25 = .ok (.iconst 0, 1) := dk_3 (dk_at dksX6_feed_1 1 rfl rfl)
theorem dX6_feed_26 : decode cX6_feed 26 = .ok (.istore 6, 2) := dk_54 6 (dk_at dksX6_feed_1 2 rfl rfl)
theorem dX6_feed_28 : decode cX6_feed 28 = .ok (.iload 6, 2) := dk_21 6 (dk_at dksX6_feed_1 4 rfl rfl)
theorem dX6_feed_30 : decode cX6_feed 30 = .ok (.bipush 20, 2) := dk_16 20 (dk_at dksX6_feed_1 6 rfl rfl)
theorem dX6_feed_32 : decode cX6_feed 32 = .ok (.if_icmp .ge 92, 3) := dk_162 0 92 (dk_at dksX6_feed_1 8 rfl rfl)
theorem dX6_feed_35 : decode cX6_feed 35 = .ok (.iload 6, 2) := dk_21 6 (dk_at dksX6_feed_1 11 rfl rfl)
theorem dX6_feed_37 : decode cX6_feed 37 = .ok (.iconst 4, 1) := dk_7 (dk_at dksX6_feed_1 13 rfl rfl)
theorem dX6_feed_38 : decode cX6_feed 38 = .ok (.if_icmp .ge 7, 3) := dk_162 0 7 (dk_at dksX6_feed_1 14 rfl rfl)
theorem dX6_feed_41 : decode cX6_feed 41 = .ok (.iload_n 1, 1) := dk_27 (dk_at dksX6_feed_1 17 rfl rfl)
theorem dX6_feed_42 : decode cX6_feed 42 = .ok (.goto 39, 3) := dk_167 0 39 (dk_at dksX6_feed_1 18 rfl rfl)
theorem dX6_feed_45 : decode cX6_feed 45 = .ok (.iload 6, 2) := dk_21 6 (dk_at dksX6_feed_1 21 rfl rfl)
theorem dX6_feed_47 : decode cX6_feed 47 = .ok (.bipush 8, 2) := dk_16 8 (dk_at dksX6_feed_2 0 rfl rfl)
theorem dX6_feed_49 : decode cX6_feed 49 = .ok (.if_icmp .ge 7, 3) := dk_162 0 7 (dk_at dksX6_feed_2 2 rfl rfl)
theorem dX6_feed_52 : decode cX6_feed 52 = .ok (.iload_n 2, 1) := dk_28 (dk_at dksX6_feed_2 5 rfl rfl)
theorem dX6_feed_53 : decode cX6_feed 53 = .ok (.goto 28, 3) := dk_167 0 28 (dk_at dksX6_feed_2 6 rfl rfl)
theorem dX6_feed_56 : decode cX6_feed 56 = .ok (.iload 6, 2) := dk_21 6 (dk_at dksX6_feed_2 9 rfl rfl)
theorem dX6_feed_58 : decode cX6_feed 58 = .ok (.bipush 12, 2) := dk_16 12 (dk_at dksX6_feed_2 11 rfl rfl)
theorem dX6_feed_60 : decode cX6_feed 60 = .ok (.if_icmp .ge 7, 3) := dk_162 0 7 (dk_at dksX6_feed_2 13 rfl rfl)
theorem dX6_feed_63 : decode cX6_feed 63 = .ok (.iload_n 3, 1) := dk_29 (dk_at dksX6_feed_2 16 rfl rfl)
theorem dX6_feed_64 : decode cX6_feed 64 = .ok (.goto 17, 3) := dk_167 0 17 (dk_at dksX6_feed_2 17 rfl rfl)
theorem dX6_feed_67 : decode cX6_feed 67 = .ok (.iload 6, 2) := dk_21 6 (dk_at dksX6_feed_2 20 rfl rfl)
theorem dX6_feed_69 : decode cX6_feed 69 = .ok (.bipush 16, 2) := dk_16 16 (dk_at dksX6_feed_2 22 rfl rfl)
theorem dX6_feed_71 : decode cX6_feed 71 = .ok (.if_icmp .ge 8, 3) := dk_162 0 8 (dk_at dksX6_feed_3 0 rfl rfl)
theorem dX6_feed_74 : decode cX6_feed 74 = .ok (.iload 4, 2) := dk_21 4 (dk_at dksX6_feed_3 3 rfl rfl)
theorem dX6_feed_76 : decode cX6_feed 76 = .ok (.goto 5, 3) := dk_167 0 5 (dk_at dksX6_feed_3 5 rfl rfl)
theorem dX6_feed_79 : decode cX6_feed 79 = .ok (.iload 5, 2) := dk_21 5 (dk_at dksX6_feed_3 8 rfl rfl)
theorem dX6_feed_81 : decode cX6_feed 81 = .ok (.istore 7, 2) := dk_54 7 (dk_at dksX6_feed_3 10 rfl rfl)
theorem dX6_feed_83 : decode cX6_feed 83 = .ok (.aload_n 0, 1) := dk_42 (dk_at dksX6_feed_3 12 rfl rfl)
theorem dX6_feed_84 : decode cX6_feed 84 = .ok (.getfield 7, 3) := dk_180 0 7 (dk_at dksX6_feed_3 13 rfl rfl)
theorem dX6_feed_87 : decode cX6_feed 87 = .ok (.aload_n 0, 1) := dk_42 (dk_at dksX6_feed_3 16 rfl rfl)
theorem dX6_feed_88 : decode cX6_feed 88 = .ok (.getfield 254, 3) := dk_180 0 254 (dk_at dksX6_feed_3 17 rfl rfl)
theorem dX6_feed_91 : decode cX6_feed 91 = .ok (.iload 7, 2) := dk_21 7 (dk_at dksX6_feed_3 20 rfl rfl)
theorem dX6_feed_93 : decode cX6_feed 93 = .ok (.bipush 8, 2) := dk_16 8 (dk_at dksX6_feed_3 22 rfl rfl)
theorem dX6_feed_95 : decode cX6_feed 95 = .ok (.iconst 3, 1) := dk_6 (dk_at dksX6_feed_4 0 rfl rfl)
theorem dX6_feed_96 : decode cX6_feed 96 = .ok (.iload 6, 2) := dk_21 6 (dk_at dksX6_feed_4 1 rfl rfl)
theorem dX6_feed_98 : decode cX6_feed 98 = .ok (.iconst 4, 1) := dk_7 (dk_at dksX6_feed_4 3 rfl rfl)
theorem dX6_feed_99 : decode cX6_feed 99 = .ok (.irem, 1) := dk_112 (dk_at dksX6_feed_4 4 rfl rfl)
theorem dX6_feed_100 : decode cX6_feed 100 = .ok (.isub, 1) := dk_100 (dk_at dksX6_feed_4 5 rfl rfl)
theorem dX6_feed_101 : decode cX6_feed 101 = .ok (.imul, 1) := dk_104 (dk_at dksX6_feed_4 6 rfl rfl)
theorem dX6_feed_102 : decode cX6_feed 102 = .ok (.ishr, 1) := dk_122 (dk_at dksX6_feed_4 7 rfl rfl)
theorem dX6_feed_103 : decode cX6_feed 103 = .ok (.sipush 255, 3) := dk_17 0 255 (dk_at dksX6_feed_4 8 rfl rfl)
theorem dX6_feed_106 : decode cX6_feed 106 = .ok (.iand, 1) := dk_126 (dk_at dksX6_feed_4 11 rfl rfl)
theorem dX6_feed_107 : decode cX6_feed 107 = .ok (.iastore, 1) := dk_79 (dk_at dksX6_feed_4 12 rfl rfl)
theorem dX6_feed_108 : decode cX6_feed 108 = .ok (.aload_n 0, 1) := dk_42 (dk_at dksX6_feed_4 13 rfl rfl)
theorem dX6_feed_109 : decode cX6_feed 109 = .ok (.dup, 1) := dk_89 (dk_at dksX6_feed_4 14 rfl rfl)
theorem dX6_feed_110 : decode cX6_feed 110 = .ok (.getfield 254, 3) := dk_180 0 254 (dk_at dksX6_feed_4 15 rfl rfl)
theorem dX6_feed_113 : decode cX6_feed 113 = .ok (.iconst 1, 1) := dk_4 (dk_at dksX6_feed_4 18 rfl rfl)
theorem dX6_feed_114 : decode cX6_feed 114 = .ok (.iadd, 1) := dk_96 (dk_at dksX6_feed_4 19 rfl rfl)
theorem dX6_feed_115 : decode cX6_feed 115 = .ok (.putfield 254, 3) := dk_181 0 254 (dk_at dksX6_feed_4 20 rfl rfl)
theorem dX6_feed_118 : decode cX6_feed 118 = .ok (.iinc 6 1, 3) := dk_132 6 1 (dk_at dksX6_feed_5 0 rfl rfl)
theorem dX6_feed_121 : decode cX6_feed 121 = .ok (.goto (-93), 3) := dk_167 255 163 (dk_at dksX6_feed_5 3 rfl rfl)
theorem dX6_feed_124 : decode cX6_feed 124 = .ok (.aload_n 0, 1) := dk_42 (dk_at dksX6_feed_5 6 rfl rfl)
theorem dX6_feed_125 : decode cX6_feed 125 = .ok (.getfield 254, 3) := dk_180 0 254 (dk_at dksX6_feed_5 7 rfl rfl)
theorem dX6_feed_128 : decode cX6_feed 128 = .ok (.ireturn, 1) := dk_172 (dk_at dksX6_feed_5 10 rfl rfl)
abbrev cX6_end : ByteArray := prog_22_method_4_code
def yX6_end : MethodName := ⟨RX6, "end", "(I)Z"⟩
def dkwX6_end_1 : List UInt8 := [42, 27, 181, 0, 254, 4, 172]
abbrev dktX6_end_1 : List UInt8 := dkwX6_end_1 ++ []
def dkwX6_end_0 : List UInt8 := [27, 155, 0, 11, 27, 42, 180, 0, 254, 164, 0, 15, 42, 180, 0, 17, 3, 92, 46, 4, 96, 79, 3, 172]
abbrev dktX6_end_0 : List UInt8 := dkwX6_end_0 ++ dktX6_end_1
theorem dksX6_end_0 : cX6_end.data.toList.drop 0 = dktX6_end_0 := by decide +kernel
theorem dksX6_end_1 : cX6_end.data.toList.drop 24 = dktX6_end_1 := dk_seg dksX6_end_0 24 rfl rfl
theorem dX6_end_0 : decode cX6_end 0 = .ok (.iload_n 1, 1) := dk_27 (dk_at dksX6_end_0 0 rfl rfl)
theorem dX6_end_1 : decode cX6_end 1 = .ok (.ifCond .lt 11, 3) := dk_155 0 11 (dk_at dksX6_end_0 1 rfl rfl)
theorem dX6_end_4 : decode cX6_end 4 = .ok (.iload_n 1, 1) := dk_27 (dk_at dksX6_end_0 4 rfl rfl)
theorem dX6_end_5 : decode cX6_end 5 = .ok (.aload_n 0, 1) := dk_42 (dk_at dksX6_end_0 5 rfl rfl)
theorem dX6_end_6 : decode cX6_end 6 = .ok (.getfield 254, 3) := dk_180 0 254 (dk_at dksX6_end_0 6 rfl rfl)
theorem dX6_end_9 : decode cX6_end 9 = .ok (.if_icmp .le 15, 3) := dk_164 0 15 (dk_at dksX6_end_0 9 rfl rfl)
theorem dX6_end_12 : decode cX6_end 12 = .ok (.aload_n 0, 1) := dk_42 (dk_at dksX6_end_0 12 rfl rfl)
theorem dX6_end_13 : decode cX6_end 13 = .ok (.getfield 17, 3) := dk_180 0 17 (dk_at dksX6_end_0 13 rfl rfl)
theorem dX6_end_16 : decode cX6_end 16 = .ok (.iconst 0, 1) := dk_3 (dk_at dksX6_end_0 16 rfl rfl)
theorem dX6_end_17 : decode cX6_end 17 = .ok (.dup2, 1) := dk_92 (dk_at dksX6_end_0 17 rfl rfl)
theorem dX6_end_18 : decode cX6_end 18 = .ok (.iaload, 1) := dk_46 (dk_at dksX6_end_0 18 rfl rfl)
theorem dX6_end_19 : decode cX6_end 19 = .ok (.iconst 1, 1) := dk_4 (dk_at dksX6_end_0 19 rfl rfl)
theorem dX6_end_20 : decode cX6_end 20 = .ok (.iadd, 1) := dk_96 (dk_at dksX6_end_0 20 rfl rfl)
theorem dX6_end_21 : decode cX6_end 21 = .ok (.iastore, 1) := dk_79 (dk_at dksX6_end_0 21 rfl rfl)
theorem dX6_end_22 : decode cX6_end 22 = .ok (.iconst 0, 1) := dk_3 (dk_at dksX6_end_0 22 rfl rfl)
theorem dX6_end_23 : decode cX6_end 23 = .ok (.ireturn, 1) := dk_172 (dk_at dksX6_end_0 23 rfl rfl)
theorem dX6_end_24 : decode cX6_end 24 = .ok (.aload_n 0, 1) := dk_42 (dk_at dksX6_end_1 0 rfl rfl)
theorem dX6_end_25 : decode cX6_end 25 = .ok (.iload_n 1, 1) := dk_27 (dk_at dksX6_end_1 1 rfl rfl)
theorem dX6_end_26 : decode cX6_end 26 = .ok (.putfield 254, 3) := dk_181 0 254 (dk_at dksX6_end_1 2 rfl rfl)
theorem dX6_end_29 : decode cX6_end 29 = .ok (.iconst 1, 1) := dk_4 (dk_at dksX6_end_1 5 rfl rfl)
theorem dX6_end_30 : decode cX6_end 30 = .ok (.ireturn, 1) := dk_172 (dk_at dksX6_end_1 6 rfl rfl)
abbrev cX6_school : ByteArray := prog_22_method_28_code
def yX6_school : MethodName := ⟨RX6, "school", "()I"⟩
def dkwX6_school_8 : List UInt8 := [172, 42, 182, 1, 133, 42, 180, 1, 104, 172]
abbrev dktX6_school_8 : List UInt8 := dkwX6_school_8 ++ []
def dkwX6_school_7 : List UInt8 := [180, 1, 4, 181, 0, 13, 42, 180, 1, 1, 153, 0, 15, 42, 180, 0, 17, 4, 92, 46, 4, 96, 79, 2]
abbrev dktX6_school_7 : List UInt8 := dkwX6_school_7 ++ dktX6_school_8
def dkwX6_school_6 : List UInt8 := [182, 1, 13, 2, 159, 0, 10, 42, 182, 1, 127, 167, 255, 237, 42, 42, 180, 1, 1, 181, 1, 130, 42, 42]
abbrev dktX6_school_6 : List UInt8 := dkwX6_school_6 ++ dktX6_school_7
def dkwX6_school_5 : List UInt8 := [42, 180, 0, 127, 4, 6, 79, 42, 180, 0, 127, 5, 3, 79, 42, 180, 1, 1, 154, 0, 18, 42]
abbrev dktX6_school_5 : List UInt8 := dkwX6_school_5 ++ dktX6_school_6
def dkwX6_school_4 : List UInt8 := [162, 0, 16, 42, 180, 0, 130, 27, 2, 79, 132, 1, 1, 167, 255, 241, 42, 180, 0, 127, 3, 16, 10, 79]
abbrev dktX6_school_4 : List UInt8 := dkwX6_school_4 ++ dktX6_school_5
def dkwX6_school_3 : List UInt8 := [42, 180, 0, 121, 27, 3, 79, 42, 180, 0, 124, 27, 2, 79, 132, 1, 1, 167, 255, 226, 3, 60, 27, 6]
abbrev dktX6_school_3 : List UInt8 := dkwX6_school_3 ++ dktX6_school_4
def dkwX6_school_2 : List UInt8 := [3, 79, 42, 180, 0, 105, 4, 3, 79, 3, 60, 27, 16, 8, 162, 0, 30, 42, 180, 0, 118, 27, 3, 79]
abbrev dktX6_school_2 : List UInt8 := dkwX6_school_2 ++ dktX6_school_3
def dkwX6_school_1 : List UInt8 := [3, 181, 1, 1, 42, 2, 181, 1, 4, 42, 3, 181, 1, 104, 42, 3, 181, 1, 101, 42, 180, 0, 105, 3]
abbrev dktX6_school_1 : List UInt8 := dkwX6_school_1 ++ dktX6_school_2
def dkwX6_school_0 : List UInt8 := [42, 42, 180, 0, 254, 181, 1, 10, 42, 3, 181, 0, 254, 42, 3, 181, 1, 7, 42, 2, 181, 1, 21, 42]
abbrev dktX6_school_0 : List UInt8 := dkwX6_school_0 ++ dktX6_school_1
theorem dksX6_school_0 : cX6_school.data.toList.drop 0 = dktX6_school_0 := by decide +kernel
theorem dksX6_school_1 : cX6_school.data.toList.drop 24 = dktX6_school_1 := dk_seg dksX6_school_0 24 rfl rfl
theorem dksX6_school_2 : cX6_school.data.toList.drop 48 = dktX6_school_2 := dk_seg dksX6_school_1 24 rfl rfl
theorem dksX6_school_3 : cX6_school.data.toList.drop 72 = dktX6_school_3 := dk_seg dksX6_school_2 24 rfl rfl
theorem dksX6_school_4 : cX6_school.data.toList.drop 96 = dktX6_school_4 := dk_seg dksX6_school_3 24 rfl rfl
theorem dksX6_school_5 : cX6_school.data.toList.drop 120 = dktX6_school_5 := dk_seg dksX6_school_4 24 rfl rfl
theorem dksX6_school_6 : cX6_school.data.toList.drop 142 = dktX6_school_6 := dk_seg dksX6_school_5 22 rfl rfl
theorem dksX6_school_7 : cX6_school.data.toList.drop 166 = dktX6_school_7 := dk_seg dksX6_school_6 24 rfl rfl
theorem dksX6_school_8 : cX6_school.data.toList.drop 190 = dktX6_school_8 := dk_seg dksX6_school_7 24 rfl rfl
theorem dX6_school_0 : decode cX6_school 0 = .ok (.aload_n 0, 1) := dk_42 (dk_at dksX6_school_0 0 rfl rfl)
theorem dX6_school_1 : decode cX6_school 1 = .ok (.aload_n 0, 1) := dk_42 (dk_at dksX6_school_0 1 rfl rfl)
theorem dX6_school_2 : decode cX6_school 2 = .ok (.getfield 254, 3) := dk_180 0 254 (dk_at dksX6_school_0 2 rfl rfl)
theorem dX6_school_5 : decode cX6_school 5 = .ok (.putfield 266, 3) := dk_181 1 10 (dk_at dksX6_school_0 5 rfl rfl)
theorem dX6_school_8 : decode cX6_school 8 = .ok (.aload_n 0, 1) := dk_42 (dk_at dksX6_school_0 8 rfl rfl)
theorem dX6_school_9 : decode cX6_school 9 = .ok (.iconst 0, 1) := dk_3 (dk_at dksX6_school_0 9 rfl rfl)
theorem dX6_school_10 : decode cX6_school 10 = .ok (.putfield 254, 3) := dk_181 0 254 (dk_at dksX6_school_0 10 rfl rfl)
theorem dX6_school_13 : decode cX6_school 13 = .ok (.aload_n 0, 1) := dk_42 (dk_at dksX6_school_0 13 rfl rfl)
theorem dX6_school_14 : decode cX6_school 14 = .ok (.iconst 0, 1) := dk_3 (dk_at dksX6_school_0 14 rfl rfl)
theorem dX6_school_15 : decode cX6_school 15 = .ok (.putfield 263, 3) := dk_181 1 7 (dk_at dksX6_school_0 15 rfl rfl)
theorem dX6_school_18 : decode cX6_school 18 = .ok (.aload_n 0, 1) := dk_42 (dk_at dksX6_school_0 18 rfl rfl)
theorem dX6_school_19 : decode cX6_school 19 = .ok (.iconst (-1), 1) := dk_2 (dk_at dksX6_school_0 19 rfl rfl)
theorem dX6_school_20 : decode cX6_school 20 = .ok (.putfield 277, 3) := dk_181 1 21 (dk_at dksX6_school_0 20 rfl rfl)
theorem dX6_school_23 : decode cX6_school 23 = .ok (.aload_n 0, 1) := dk_42 (dk_at dksX6_school_0 23 rfl rfl)
theorem dX6_school_24 : decode cX6_school 24 = .ok (.iconst 0, 1) := dk_3 (dk_at dksX6_school_1 0 rfl rfl)
theorem dX6_school_25 : decode cX6_school 25 = .ok (.putfield 257, 3) := dk_181 1 1 (dk_at dksX6_school_1 1 rfl rfl)
theorem dX6_school_28 : decode cX6_school 28 = .ok (.aload_n 0, 1) := dk_42 (dk_at dksX6_school_1 4 rfl rfl)
theorem dX6_school_29 : decode cX6_school 29 = .ok (.iconst (-1), 1) := dk_2 (dk_at dksX6_school_1 5 rfl rfl)
theorem dX6_school_30 : decode cX6_school 30 = .ok (.putfield 260, 3) := dk_181 1 4 (dk_at dksX6_school_1 6 rfl rfl)
theorem dX6_school_33 : decode cX6_school 33 = .ok (.aload_n 0, 1) := dk_42 (dk_at dksX6_school_1 9 rfl rfl)
theorem dX6_school_34 : decode cX6_school 34 = .ok (.iconst 0, 1) := dk_3 (dk_at dksX6_school_1 10 rfl rfl)
theorem dX6_school_35 : decode cX6_school 35 = .ok (.putfield 360, 3) := dk_181 1 104 (dk_at dksX6_school_1 11 rfl rfl)
theorem dX6_school_38 : decode cX6_school 38 = .ok (.aload_n 0, 1) := dk_42 (dk_at dksX6_school_1 14 rfl rfl)
theorem dX6_school_39 : decode cX6_school 39 = .ok (.iconst 0, 1) := dk_3 (dk_at dksX6_school_1 15 rfl rfl)
theorem dX6_school_40 : decode cX6_school 40 = .ok (.putfield 357, 3) := dk_181 1 101 (dk_at dksX6_school_1 16 rfl rfl)
theorem dX6_school_43 : decode cX6_school 43 = .ok (.aload_n 0, 1) := dk_42 (dk_at dksX6_school_1 19 rfl rfl)
theorem dX6_school_44 : decode cX6_school 44 = .ok (.getfield 105, 3) := dk_180 0 105 (dk_at dksX6_school_1 20 rfl rfl)
theorem dX6_school_47 : decode cX6_school 47 = .ok (.iconst 0, 1) := dk_3 (dk_at dksX6_school_1 23 rfl rfl)
theorem dX6_school_48 : decode cX6_school 48 = .ok (.iconst 0, 1) := dk_3 (dk_at dksX6_school_2 0 rfl rfl)
theorem dX6_school_49 : decode cX6_school 49 = .ok (.iastore, 1) := dk_79 (dk_at dksX6_school_2 1 rfl rfl)
theorem dX6_school_50 : decode cX6_school 50 = .ok (.aload_n 0, 1) := dk_42 (dk_at dksX6_school_2 2 rfl rfl)
theorem dX6_school_51 : decode cX6_school 51 = .ok (.getfield 105, 3) := dk_180 0 105 (dk_at dksX6_school_2 3 rfl rfl)
theorem dX6_school_54 : decode cX6_school 54 = .ok (.iconst 1, 1) := dk_4 (dk_at dksX6_school_2 6 rfl rfl)
theorem dX6_school_55 : decode cX6_school 55 = .ok (.iconst 0, 1) := dk_3 (dk_at dksX6_school_2 7 rfl rfl)
theorem dX6_school_56 : decode cX6_school 56 = .ok (.iastore, 1) := dk_79 (dk_at dksX6_school_2 8 rfl rfl)
theorem dX6_school_57 : decode cX6_school 57 = .ok (.iconst 0, 1) := dk_3 (dk_at dksX6_school_2 9 rfl rfl)
theorem dX6_school_58 : decode cX6_school 58 = .ok (.istore_n 1, 1) := dk_60 (dk_at dksX6_school_2 10 rfl rfl)
theorem dX6_school_59 : decode cX6_school 59 = .ok (.iload_n 1, 1) := dk_27 (dk_at dksX6_school_2 11 rfl rfl)
theorem dX6_school_60 : decode cX6_school 60 = .ok (.bipush 8, 2) := dk_16 8 (dk_at dksX6_school_2 12 rfl rfl)
theorem dX6_school_62 : decode cX6_school 62 = .ok (.if_icmp .ge 30, 3) := dk_162 0 30 (dk_at dksX6_school_2 14 rfl rfl)
theorem dX6_school_65 : decode cX6_school 65 = .ok (.aload_n 0, 1) := dk_42 (dk_at dksX6_school_2 17 rfl rfl)
theorem dX6_school_66 : decode cX6_school 66 = .ok (.getfield 118, 3) := dk_180 0 118 (dk_at dksX6_school_2 18 rfl rfl)
theorem dX6_school_69 : decode cX6_school 69 = .ok (.iload_n 1, 1) := dk_27 (dk_at dksX6_school_2 21 rfl rfl)
theorem dX6_school_70 : decode cX6_school 70 = .ok (.iconst 0, 1) := dk_3 (dk_at dksX6_school_2 22 rfl rfl)
theorem dX6_school_71 : decode cX6_school 71 = .ok (.iastore, 1) := dk_79 (dk_at dksX6_school_2 23 rfl rfl)
theorem dX6_school_72 : decode cX6_school 72 = .ok (.aload_n 0, 1) := dk_42 (dk_at dksX6_school_3 0 rfl rfl)
theorem dX6_school_73 : decode cX6_school 73 = .ok (.getfield 121, 3) := dk_180 0 121 (dk_at dksX6_school_3 1 rfl rfl)
theorem dX6_school_76 : decode cX6_school 76 = .ok (.iload_n 1, 1) := dk_27 (dk_at dksX6_school_3 4 rfl rfl)
theorem dX6_school_77 : decode cX6_school 77 = .ok (.iconst 0, 1) := dk_3 (dk_at dksX6_school_3 5 rfl rfl)
theorem dX6_school_78 : decode cX6_school 78 = .ok (.iastore, 1) := dk_79 (dk_at dksX6_school_3 6 rfl rfl)
theorem dX6_school_79 : decode cX6_school 79 = .ok (.aload_n 0, 1) := dk_42 (dk_at dksX6_school_3 7 rfl rfl)
theorem dX6_school_80 : decode cX6_school 80 = .ok (.getfield 124, 3) := dk_180 0 124 (dk_at dksX6_school_3 8 rfl rfl)
theorem dX6_school_83 : decode cX6_school 83 = .ok (.iload_n 1, 1) := dk_27 (dk_at dksX6_school_3 11 rfl rfl)
theorem dX6_school_84 : decode cX6_school 84 = .ok (.iconst (-1), 1) := dk_2 (dk_at dksX6_school_3 12 rfl rfl)
theorem dX6_school_85 : decode cX6_school 85 = .ok (.iastore, 1) := dk_79 (dk_at dksX6_school_3 13 rfl rfl)
theorem dX6_school_86 : decode cX6_school 86 = .ok (.iinc 1 1, 3) := dk_132 1 1 (dk_at dksX6_school_3 14 rfl rfl)
theorem dX6_school_89 : decode cX6_school 89 = .ok (.goto (-30), 3) := dk_167 255 226 (dk_at dksX6_school_3 17 rfl rfl)
theorem dX6_school_92 : decode cX6_school 92 = .ok (.iconst 0, 1) := dk_3 (dk_at dksX6_school_3 20 rfl rfl)
theorem dX6_school_93 : decode cX6_school 93 = .ok (.istore_n 1, 1) := dk_60 (dk_at dksX6_school_3 21 rfl rfl)
theorem dX6_school_94 : decode cX6_school 94 = .ok (.iload_n 1, 1) := dk_27 (dk_at dksX6_school_3 22 rfl rfl)
theorem dX6_school_95 : decode cX6_school 95 = .ok (.iconst 3, 1) := dk_6 (dk_at dksX6_school_3 23 rfl rfl)
theorem dX6_school_96 : decode cX6_school 96 = .ok (.if_icmp .ge 16, 3) := dk_162 0 16 (dk_at dksX6_school_4 0 rfl rfl)
theorem dX6_school_99 : decode cX6_school 99 = .ok (.aload_n 0, 1) := dk_42 (dk_at dksX6_school_4 3 rfl rfl)
theorem dX6_school_100 : decode cX6_school 100 = .ok (.getfield 130, 3) := dk_180 0 130 (dk_at dksX6_school_4 4 rfl rfl)
theorem dX6_school_103 : decode cX6_school 103 = .ok (.iload_n 1, 1) := dk_27 (dk_at dksX6_school_4 7 rfl rfl)
theorem dX6_school_104 : decode cX6_school 104 = .ok (.iconst (-1), 1) := dk_2 (dk_at dksX6_school_4 8 rfl rfl)
theorem dX6_school_105 : decode cX6_school 105 = .ok (.iastore, 1) := dk_79 (dk_at dksX6_school_4 9 rfl rfl)
theorem dX6_school_106 : decode cX6_school 106 = .ok (.iinc 1 1, 3) := dk_132 1 1 (dk_at dksX6_school_4 10 rfl rfl)
theorem dX6_school_109 : decode cX6_school 109 = .ok (.goto (-15), 3) := dk_167 255 241 (dk_at dksX6_school_4 13 rfl rfl)
theorem dX6_school_112 : decode cX6_school 112 = .ok (.aload_n 0, 1) := dk_42 (dk_at dksX6_school_4 16 rfl rfl)
theorem dX6_school_113 : decode cX6_school 113 = .ok (.getfield 127, 3) := dk_180 0 127 (dk_at dksX6_school_4 17 rfl rfl)
theorem dX6_school_116 : decode cX6_school 116 = .ok (.iconst 0, 1) := dk_3 (dk_at dksX6_school_4 20 rfl rfl)
theorem dX6_school_117 : decode cX6_school 117 = .ok (.bipush 10, 2) := dk_16 10 (dk_at dksX6_school_4 21 rfl rfl)
theorem dX6_school_119 : decode cX6_school 119 = .ok (.iastore, 1) := dk_79 (dk_at dksX6_school_4 23 rfl rfl)
theorem dX6_school_120 : decode cX6_school 120 = .ok (.aload_n 0, 1) := dk_42 (dk_at dksX6_school_5 0 rfl rfl)
theorem dX6_school_121 : decode cX6_school 121 = .ok (.getfield 127, 3) := dk_180 0 127 (dk_at dksX6_school_5 1 rfl rfl)
theorem dX6_school_124 : decode cX6_school 124 = .ok (.iconst 1, 1) := dk_4 (dk_at dksX6_school_5 4 rfl rfl)
theorem dX6_school_125 : decode cX6_school 125 = .ok (.iconst 3, 1) := dk_6 (dk_at dksX6_school_5 5 rfl rfl)
theorem dX6_school_126 : decode cX6_school 126 = .ok (.iastore, 1) := dk_79 (dk_at dksX6_school_5 6 rfl rfl)
theorem dX6_school_127 : decode cX6_school 127 = .ok (.aload_n 0, 1) := dk_42 (dk_at dksX6_school_5 7 rfl rfl)
theorem dX6_school_128 : decode cX6_school 128 = .ok (.getfield 127, 3) := dk_180 0 127 (dk_at dksX6_school_5 8 rfl rfl)
theorem dX6_school_131 : decode cX6_school 131 = .ok (.iconst 2, 1) := dk_5 (dk_at dksX6_school_5 11 rfl rfl)
theorem dX6_school_132 : decode cX6_school 132 = .ok (.iconst 0, 1) := dk_3 (dk_at dksX6_school_5 12 rfl rfl)
theorem dX6_school_133 : decode cX6_school 133 = .ok (.iastore, 1) := dk_79 (dk_at dksX6_school_5 13 rfl rfl)
theorem dX6_school_134 : decode cX6_school 134 = .ok (.aload_n 0, 1) := dk_42 (dk_at dksX6_school_5 14 rfl rfl)
theorem dX6_school_135 : decode cX6_school 135 = .ok (.getfield 257, 3) := dk_180 1 1 (dk_at dksX6_school_5 15 rfl rfl)
theorem dX6_school_138 : decode cX6_school 138 = .ok (.ifCond .ne 18, 3) := dk_154 0 18 (dk_at dksX6_school_5 18 rfl rfl)
theorem dX6_school_141 : decode cX6_school 141 = .ok (.aload_n 0, 1) := dk_42 (dk_at dksX6_school_5 21 rfl rfl)
theorem dX6_school_142 : decode cX6_school 142 = .ok (.invokevirtual 269, 3) := dk_182 1 13 (dk_at dksX6_school_6 0 rfl rfl)
theorem dX6_school_145 : decode cX6_school 145 = .ok (.iconst (-1), 1) := dk_2 (dk_at dksX6_school_6 3 rfl rfl)
theorem dX6_school_146 : decode cX6_school 146 = .ok (.if_icmp .eq 10, 3) := dk_159 0 10 (dk_at dksX6_school_6 4 rfl rfl)
theorem dX6_school_149 : decode cX6_school 149 = .ok (.aload_n 0, 1) := dk_42 (dk_at dksX6_school_6 7 rfl rfl)
theorem dX6_school_150 : decode cX6_school 150 = .ok (.invokevirtual 383, 3) := dk_182 1 127 (dk_at dksX6_school_6 8 rfl rfl)
theorem dX6_school_153 : decode cX6_school 153 = .ok (.goto (-19), 3) := dk_167 255 237 (dk_at dksX6_school_6 11 rfl rfl)
theorem dX6_school_156 : decode cX6_school 156 = .ok (.aload_n 0, 1) := dk_42 (dk_at dksX6_school_6 14 rfl rfl)
theorem dX6_school_157 : decode cX6_school 157 = .ok (.aload_n 0, 1) := dk_42 (dk_at dksX6_school_6 15 rfl rfl)
theorem dX6_school_158 : decode cX6_school 158 = .ok (.getfield 257, 3) := dk_180 1 1 (dk_at dksX6_school_6 16 rfl rfl)
theorem dX6_school_161 : decode cX6_school 161 = .ok (.putfield 386, 3) := dk_181 1 130 (dk_at dksX6_school_6 19 rfl rfl)
theorem dX6_school_164 : decode cX6_school 164 = .ok (.aload_n 0, 1) := dk_42 (dk_at dksX6_school_6 22 rfl rfl)
theorem dX6_school_165 : decode cX6_school 165 = .ok (.aload_n 0, 1) := dk_42 (dk_at dksX6_school_6 23 rfl rfl)
theorem dX6_school_166 : decode cX6_school 166 = .ok (.getfield 260, 3) := dk_180 1 4 (dk_at dksX6_school_7 0 rfl rfl)
theorem dX6_school_169 : decode cX6_school 169 = .ok (.putfield 13, 3) := dk_181 0 13 (dk_at dksX6_school_7 3 rfl rfl)
theorem dX6_school_172 : decode cX6_school 172 = .ok (.aload_n 0, 1) := dk_42 (dk_at dksX6_school_7 6 rfl rfl)
theorem dX6_school_173 : decode cX6_school 173 = .ok (.getfield 257, 3) := dk_180 1 1 (dk_at dksX6_school_7 7 rfl rfl)
theorem dX6_school_176 : decode cX6_school 176 = .ok (.ifCond .eq 15, 3) := dk_153 0 15 (dk_at dksX6_school_7 10 rfl rfl)
theorem dX6_school_179 : decode cX6_school 179 = .ok (.aload_n 0, 1) := dk_42 (dk_at dksX6_school_7 13 rfl rfl)
theorem dX6_school_180 : decode cX6_school 180 = .ok (.getfield 17, 3) := dk_180 0 17 (dk_at dksX6_school_7 14 rfl rfl)
theorem dX6_school_183 : decode cX6_school 183 = .ok (.iconst 1, 1) := dk_4 (dk_at dksX6_school_7 17 rfl rfl)
theorem dX6_school_184 : decode cX6_school 184 = .ok (.dup2, 1) := dk_92 (dk_at dksX6_school_7 18 rfl rfl)
theorem dX6_school_185 : decode cX6_school 185 = .ok (.iaload, 1) := dk_46 (dk_at dksX6_school_7 19 rfl rfl)
theorem dX6_school_186 : decode cX6_school 186 = .ok (.iconst 1, 1) := dk_4 (dk_at dksX6_school_7 20 rfl rfl)
theorem dX6_school_187 : decode cX6_school 187 = .ok (.iadd, 1) := dk_96 (dk_at dksX6_school_7 21 rfl rfl)
theorem dX6_school_188 : decode cX6_school 188 = .ok (.iastore, 1) := dk_79 (dk_at dksX6_school_7 22 rfl rfl)
theorem dX6_school_189 : decode cX6_school 189 = .ok (.iconst (-1), 1) := dk_2 (dk_at dksX6_school_7 23 rfl rfl)
theorem dX6_school_190 : decode cX6_school 190 = .ok (.ireturn, 1) := dk_172 (dk_at dksX6_school_8 0 rfl rfl)
theorem dX6_school_191 : decode cX6_school 191 = .ok (.aload_n 0, 1) := dk_42 (dk_at dksX6_school_8 1 rfl rfl)
theorem dX6_school_192 : decode cX6_school 192 = .ok (.invokevirtual 389, 3) := dk_182 1 133 (dk_at dksX6_school_8 2 rfl rfl)
theorem dX6_school_195 : decode cX6_school 195 = .ok (.aload_n 0, 1) := dk_42 (dk_at dksX6_school_8 5 rfl rfl)
theorem dX6_school_196 : decode cX6_school 196 = .ok (.getfield 360, 3) := dk_180 1 104 (dk_at dksX6_school_8 6 rfl rfl)
theorem dX6_school_199 : decode cX6_school 199 = .ok (.ireturn, 1) := dk_172 (dk_at dksX6_school_8 9 rfl rfl)
abbrev cX6_look : ByteArray := prog_22_method_8_code
def yX6_look : MethodName := ⟨RX6, "look", "()I"⟩
def dkwX6_look_3 : List UInt8 := [180, 1, 7, 46, 167, 0, 4, 2, 172]
abbrev dktX6_look_3 : List UInt8 := dkwX6_look_3 ++ []
def dkwX6_look_2 : List UInt8 := [181, 1, 7, 167, 255, 207, 42, 180, 1, 7, 42, 180, 1, 10, 162, 0, 15, 42, 180, 0, 7, 42]
abbrev dktX6_look_2 : List UInt8 := dkwX6_look_2 ++ dktX6_look_3
def dkwX6_look_1 : List UInt8 := [159, 0, 17, 42, 180, 0, 7, 42, 180, 1, 7, 46, 16, 32, 160, 0, 16, 42, 89, 180, 1, 7, 4, 96]
abbrev dktX6_look_1 : List UInt8 := dkwX6_look_1 ++ dktX6_look_2
def dkwX6_look_0 : List UInt8 := [42, 180, 1, 7, 42, 180, 1, 10, 162, 0, 44, 42, 180, 0, 7, 42, 180, 1, 7, 46, 16, 10]
abbrev dktX6_look_0 : List UInt8 := dkwX6_look_0 ++ dktX6_look_1
theorem dksX6_look_0 : cX6_look.data.toList.drop 0 = dktX6_look_0 := by decide +kernel
theorem dksX6_look_1 : cX6_look.data.toList.drop 22 = dktX6_look_1 := dk_seg dksX6_look_0 22 rfl rfl
theorem dksX6_look_2 : cX6_look.data.toList.drop 46 = dktX6_look_2 := dk_seg dksX6_look_1 24 rfl rfl
theorem dksX6_look_3 : cX6_look.data.toList.drop 68 = dktX6_look_3 := dk_seg dksX6_look_2 22 rfl rfl
theorem dX6_look_0 : decode cX6_look 0 = .ok (.aload_n 0, 1) := dk_42 (dk_at dksX6_look_0 0 rfl rfl)
theorem dX6_look_1 : decode cX6_look 1 = .ok (.getfield 263, 3) := dk_180 1 7 (dk_at dksX6_look_0 1 rfl rfl)
theorem dX6_look_4 : decode cX6_look 4 = .ok (.aload_n 0, 1) := dk_42 (dk_at dksX6_look_0 4 rfl rfl)
theorem dX6_look_5 : decode cX6_look 5 = .ok (.getfield 266, 3) := dk_180 1 10 (dk_at dksX6_look_0 5 rfl rfl)
theorem dX6_look_8 : decode cX6_look 8 = .ok (.if_icmp .ge 44, 3) := dk_162 0 44 (dk_at dksX6_look_0 8 rfl rfl)
theorem dX6_look_11 : decode cX6_look 11 = .ok (.aload_n 0, 1) := dk_42 (dk_at dksX6_look_0 11 rfl rfl)
theorem dX6_look_12 : decode cX6_look 12 = .ok (.getfield 7, 3) := dk_180 0 7 (dk_at dksX6_look_0 12 rfl rfl)
theorem dX6_look_15 : decode cX6_look 15 = .ok (.aload_n 0, 1) := dk_42 (dk_at dksX6_look_0 15 rfl rfl)
theorem dX6_look_16 : decode cX6_look 16 = .ok (.getfield 263, 3) := dk_180 1 7 (dk_at dksX6_look_0 16 rfl rfl)
theorem dX6_look_19 : decode cX6_look 19 = .ok (.iaload, 1) := dk_46 (dk_at dksX6_look_0 19 rfl rfl)
theorem dX6_look_20 : decode cX6_look 20 = .ok (.bipush 10, 2) := dk_16 10 (dk_at dksX6_look_0 20 rfl rfl)
theorem dX6_look_22 : decode cX6_look 22 = .ok (.if_icmp .eq 17, 3) := dk_159 0 17 (dk_at dksX6_look_1 0 rfl rfl)
theorem dX6_look_25 : decode cX6_look 25 = .ok (.aload_n 0, 1) := dk_42 (dk_at dksX6_look_1 3 rfl rfl)
theorem dX6_look_26 : decode cX6_look 26 = .ok (.getfield 7, 3) := dk_180 0 7 (dk_at dksX6_look_1 4 rfl rfl)
theorem dX6_look_29 : decode cX6_look 29 = .ok (.aload_n 0, 1) := dk_42 (dk_at dksX6_look_1 7 rfl rfl)
theorem dX6_look_30 : decode cX6_look 30 = .ok (.getfield 263, 3) := dk_180 1 7 (dk_at dksX6_look_1 8 rfl rfl)
theorem dX6_look_33 : decode cX6_look 33 = .ok (.iaload, 1) := dk_46 (dk_at dksX6_look_1 11 rfl rfl)
theorem dX6_look_34 : decode cX6_look 34 = .ok (.bipush 32, 2) := dk_16 32 (dk_at dksX6_look_1 12 rfl rfl)
theorem dX6_look_36 : decode cX6_look 36 = .ok (.if_icmp .ne 16, 3) := dk_160 0 16 (dk_at dksX6_look_1 14 rfl rfl)
theorem dX6_look_39 : decode cX6_look 39 = .ok (.aload_n 0, 1) := dk_42 (dk_at dksX6_look_1 17 rfl rfl)
theorem dX6_look_40 : decode cX6_look 40 = .ok (.dup, 1) := dk_89 (dk_at dksX6_look_1 18 rfl rfl)
theorem dX6_look_41 : decode cX6_look 41 = .ok (.getfield 263, 3) := dk_180 1 7 (dk_at dksX6_look_1 19 rfl rfl)
theorem dX6_look_44 : decode cX6_look 44 = .ok (.iconst 1, 1) := dk_4 (dk_at dksX6_look_1 22 rfl rfl)
theorem dX6_look_45 : decode cX6_look 45 = .ok (.iadd, 1) := dk_96 (dk_at dksX6_look_1 23 rfl rfl)
theorem dX6_look_46 : decode cX6_look 46 = .ok (.putfield 263, 3) := dk_181 1 7 (dk_at dksX6_look_2 0 rfl rfl)
theorem dX6_look_49 : decode cX6_look 49 = .ok (.goto (-49), 3) := dk_167 255 207 (dk_at dksX6_look_2 3 rfl rfl)
theorem dX6_look_52 : decode cX6_look 52 = .ok (.aload_n 0, 1) := dk_42 (dk_at dksX6_look_2 6 rfl rfl)
theorem dX6_look_53 : decode cX6_look 53 = .ok (.getfield 263, 3) := dk_180 1 7 (dk_at dksX6_look_2 7 rfl rfl)
theorem dX6_look_56 : decode cX6_look 56 = .ok (.aload_n 0, 1) := dk_42 (dk_at dksX6_look_2 10 rfl rfl)
theorem dX6_look_57 : decode cX6_look 57 = .ok (.getfield 266, 3) := dk_180 1 10 (dk_at dksX6_look_2 11 rfl rfl)
theorem dX6_look_60 : decode cX6_look 60 = .ok (.if_icmp .ge 15, 3) := dk_162 0 15 (dk_at dksX6_look_2 14 rfl rfl)
theorem dX6_look_63 : decode cX6_look 63 = .ok (.aload_n 0, 1) := dk_42 (dk_at dksX6_look_2 17 rfl rfl)
theorem dX6_look_64 : decode cX6_look 64 = .ok (.getfield 7, 3) := dk_180 0 7 (dk_at dksX6_look_2 18 rfl rfl)
theorem dX6_look_67 : decode cX6_look 67 = .ok (.aload_n 0, 1) := dk_42 (dk_at dksX6_look_2 21 rfl rfl)
theorem dX6_look_68 : decode cX6_look 68 = .ok (.getfield 263, 3) := dk_180 1 7 (dk_at dksX6_look_3 0 rfl rfl)
theorem dX6_look_71 : decode cX6_look 71 = .ok (.iaload, 1) := dk_46 (dk_at dksX6_look_3 3 rfl rfl)
theorem dX6_look_72 : decode cX6_look 72 = .ok (.goto 4, 3) := dk_167 0 4 (dk_at dksX6_look_3 4 rfl rfl)
theorem dX6_look_75 : decode cX6_look 75 = .ok (.iconst (-1), 1) := dk_2 (dk_at dksX6_look_3 7 rfl rfl)
theorem dX6_look_76 : decode cX6_look 76 = .ok (.ireturn, 1) := dk_172 (dk_at dksX6_look_3 8 rfl rfl)
abbrev cX6_statementTold : ByteArray := prog_22_method_27_code
def yX6_statementTold : MethodName := ⟨RX6, "statementTold", "()V"⟩
def dkwX6_statementTold_11 : List UInt8 := [182, 1, 124, 42, 89, 180, 1, 104, 4, 96, 181, 1, 104, 177]
abbrev dktX6_statementTold_11 : List UInt8 := dkwX6_statementTold_11 ++ []
def dkwX6_statementTold_10 : List UInt8 := [180, 0, 60, 182, 1, 74, 42, 180, 0, 127, 5, 42, 3, 16, 100, 182, 1, 78, 79, 42, 16, 59]
abbrev dktX6_statementTold_10 : List UInt8 := dkwX6_statementTold_10 ++ dktX6_statementTold_11
def dkwX6_statementTold_9 : List UInt8 := [182, 1, 28, 153, 0, 19, 42, 180, 0, 127, 4, 42, 3, 16, 9, 182, 1, 78, 79, 167, 0, 24, 42, 42]
abbrev dktX6_statementTold_9 : List UInt8 := dkwX6_statementTold_9 ++ dktX6_statementTold_10
def dkwX6_statementTold_8 : List UInt8 := [153, 0, 19, 42, 180, 0, 127, 3, 42, 3, 16, 99, 182, 1, 78, 79, 167, 0, 51, 42, 42, 180, 0, 57]
abbrev dktX6_statementTold_8 : List UInt8 := dkwX6_statementTold_8 ++ dktX6_statementTold_9
def dkwX6_statementTold_7 : List UInt8 := [182, 1, 28, 153, 0, 12, 42, 5, 27, 182, 1, 121, 167, 0, 78, 42, 42, 180, 0, 54, 182, 1, 28]
abbrev dktX6_statementTold_7 : List UInt8 := dkwX6_statementTold_7 ++ dktX6_statementTold_8
def dkwX6_statementTold_6 : List UInt8 := [180, 0, 48, 182, 1, 28, 153, 0, 12, 42, 4, 27, 182, 1, 121, 167, 0, 98, 42, 42, 180, 0, 51]
abbrev dktX6_statementTold_6 : List UInt8 := dkwX6_statementTold_6 ++ dktX6_statementTold_7
def dkwX6_statementTold_5 : List UInt8 := [42, 42, 180, 0, 45, 182, 1, 28, 153, 0, 12, 42, 3, 27, 182, 1, 121, 167, 0, 118, 42, 42]
abbrev dktX6_statementTold_5 : List UInt8 := dkwX6_statementTold_5 ++ dktX6_statementTold_6
def dkwX6_statementTold_4 : List UInt8 := [182, 1, 114, 167, 0, 156, 42, 42, 180, 0, 39, 182, 1, 28, 153, 0, 10, 42, 182, 1, 118, 167, 0, 138]
abbrev dktX6_statementTold_4 : List UInt8 := dkwX6_statementTold_4 ++ dktX6_statementTold_5
def dkwX6_statementTold_3 : List UInt8 := [153, 0, 11, 42, 4, 182, 1, 114, 167, 0, 175, 42, 42, 180, 0, 36, 182, 1, 28, 153, 0, 11, 42, 3]
abbrev dktX6_statementTold_3 : List UInt8 := dkwX6_statementTold_3 ++ dktX6_statementTold_4
def dkwX6_statementTold_2 : List UInt8 := [182, 1, 28, 153, 0, 11, 42, 27, 182, 1, 111, 167, 0, 194, 42, 42, 180, 0, 33, 182, 1, 28]
abbrev dktX6_statementTold_2 : List UInt8 := dkwX6_statementTold_2 ++ dktX6_statementTold_3
def dkwX6_statementTold_1 : List UInt8 := [180, 0, 20, 182, 1, 28, 153, 0, 11, 42, 27, 182, 1, 107, 167, 0, 213, 42, 42, 180, 0, 27]
abbrev dktX6_statementTold_1 : List UInt8 := dkwX6_statementTold_1 ++ dktX6_statementTold_2
def dkwX6_statementTold_0 : List UInt8 := [42, 180, 1, 7, 60, 42, 180, 1, 104, 16, 80, 160, 0, 10, 42, 8, 27, 182, 1, 31, 177, 42, 42]
abbrev dktX6_statementTold_0 : List UInt8 := dkwX6_statementTold_0 ++ dktX6_statementTold_1
theorem dksX6_statementTold_0 : cX6_statementTold.data.toList.drop 0 = dktX6_statementTold_0 := by decide +kernel
theorem dksX6_statementTold_1 : cX6_statementTold.data.toList.drop 23 = dktX6_statementTold_1 := dk_seg dksX6_statementTold_0 23 rfl rfl
theorem dksX6_statementTold_2 : cX6_statementTold.data.toList.drop 45 = dktX6_statementTold_2 := dk_seg dksX6_statementTold_1 22 rfl rfl
theorem dksX6_statementTold_3 : cX6_statementTold.data.toList.drop 67 = dktX6_statementTold_3 := dk_seg dksX6_statementTold_2 22 rfl rfl
theorem dksX6_statementTold_4 : cX6_statementTold.data.toList.drop 91 = dktX6_statementTold_4 := dk_seg dksX6_statementTold_3 24 rfl rfl
theorem dksX6_statementTold_5 : cX6_statementTold.data.toList.drop 115 = dktX6_statementTold_5 := dk_seg dksX6_statementTold_4 24 rfl rfl
theorem dksX6_statementTold_6 : cX6_statementTold.data.toList.drop 137 = dktX6_statementTold_6 := dk_seg dksX6_statementTold_5 22 rfl rfl
theorem dksX6_statementTold_7 : cX6_statementTold.data.toList.drop 160 = dktX6_statementTold_7 := dk_seg dksX6_statementTold_6 23 rfl rfl
theorem dksX6_statementTold_8 : cX6_statementTold.data.toList.drop 183 = dktX6_statementTold_8 := dk_seg dksX6_statementTold_7 23 rfl rfl
theorem dksX6_statementTold_9 : cX6_statementTold.data.toList.drop 207 = dktX6_statementTold_9 := dk_seg dksX6_statementTold_8 24 rfl rfl
theorem dksX6_statementTold_10 : cX6_statementTold.data.toList.drop 231 = dktX6_statementTold_10 := dk_seg dksX6_statementTold_9 24 rfl rfl
theorem dksX6_statementTold_11 : cX6_statementTold.data.toList.drop 253 = dktX6_statementTold_11 := dk_seg dksX6_statementTold_10 22 rfl rfl
theorem dX6_statementTold_0 : decode cX6_statementTold 0 = .ok (.aload_n 0, 1) := dk_42 (dk_at dksX6_statementTold_0 0 rfl rfl)
theorem dX6_statementTold_1 : decode cX6_statementTold 1 = .ok (.getfield 263, 3) := dk_180 1 7 (dk_at dksX6_statementTold_0 1 rfl rfl)
theorem dX6_statementTold_4 : decode cX6_statementTold 4 = .ok (.istore_n 1, 1) := dk_60 (dk_at dksX6_statementTold_0 4 rfl rfl)
theorem dX6_statementTold_5 : decode cX6_statementTold 5 = .ok (.aload_n 0, 1) := dk_42 (dk_at dksX6_statementTold_0 5 rfl rfl)
theorem dX6_statementTold_6 : decode cX6_statementTold 6 = .ok (.getfield 360, 3) := dk_180 1 104 (dk_at dksX6_statementTold_0 6 rfl rfl)
theorem dX6_statementTold_9 : decode cX6_statementTold 9 = .ok (.bipush 80, 2) := dk_16 80 (dk_at dksX6_statementTold_0 9 rfl rfl)
theorem dX6_statementTold_11 : decode cX6_statementTold 11 = .ok (.if_icmp .ne 10, 3) := dk_160 0 10 (dk_at dksX6_statementTold_0 11 rfl rfl)
theorem dX6_statementTold_14 : decode cX6_statementTold 14 = .ok (.aload_n 0, 1) := dk_42 (dk_at dksX6_statementTold_0 14 rfl rfl)
theorem dX6_statementTold_15 : decode cX6_statementTold 15 = .ok (.iconst 5, 1) := dk_8 (dk_at dksX6_statementTold_0 15 rfl rfl)
theorem dX6_statementTold_16 : decode cX6_statementTold 16 = .ok (.iload_n 1, 1) := dk_27 (dk_at dksX6_statementTold_0 16 rfl rfl)
theorem dX6_statementTold_17 : decode cX6_statementTold 17 = .ok (.invokevirtual 287, 3) := dk_182 1 31 (dk_at dksX6_statementTold_0 17 rfl rfl)
theorem dX6_statementTold_20 : decode cX6_statementTold 20 = .ok (.return_, 1) := dk_177 (dk_at dksX6_statementTold_0 20 rfl rfl)
theorem dX6_statementTold_21 : decode cX6_statementTold 21 = .ok (.aload_n 0, 1) := dk_42 (dk_at dksX6_statementTold_0 21 rfl rfl)
theorem dX6_statementTold_22 : decode cX6_statementTold 22 = .ok (.aload_n 0, 1) := dk_42 (dk_at dksX6_statementTold_0 22 rfl rfl)
theorem dX6_statementTold_23 : decode cX6_statementTold 23 = .ok (.getfield 20, 3) := dk_180 0 20 (dk_at dksX6_statementTold_1 0 rfl rfl)
theorem dX6_statementTold_26 : decode cX6_statementTold 26 = .ok (.invokevirtual 284, 3) := dk_182 1 28 (dk_at dksX6_statementTold_1 3 rfl rfl)
theorem dX6_statementTold_29 : decode cX6_statementTold 29 = .ok (.ifCond .eq 11, 3) := dk_153 0 11 (dk_at dksX6_statementTold_1 6 rfl rfl)
theorem dX6_statementTold_32 : decode cX6_statementTold 32 = .ok (.aload_n 0, 1) := dk_42 (dk_at dksX6_statementTold_1 9 rfl rfl)
theorem dX6_statementTold_33 : decode cX6_statementTold 33 = .ok (.iload_n 1, 1) := dk_27 (dk_at dksX6_statementTold_1 10 rfl rfl)
theorem dX6_statementTold_34 : decode cX6_statementTold 34 = .ok (.invokevirtual 363, 3) := dk_182 1 107 (dk_at dksX6_statementTold_1 11 rfl rfl)
theorem dX6_statementTold_37 : decode cX6_statementTold 37 = .ok (.goto 213, 3) := dk_167 0 213 (dk_at dksX6_statementTold_1 14 rfl rfl)
theorem dX6_statementTold_40 : decode cX6_statementTold 40 = .ok (.aload_n 0, 1) := dk_42 (dk_at dksX6_statementTold_1 17 rfl rfl)
theorem dX6_statementTold_41 : decode cX6_statementTold 41 = .ok (.aload_n 0, 1) := dk_42 (dk_at dksX6_statementTold_1 18 rfl rfl)
theorem dX6_statementTold_42 : decode cX6_statementTold 42 = .ok (.getfield 27, 3) := dk_180 0 27 (dk_at dksX6_statementTold_1 19 rfl rfl)
theorem dX6_statementTold_45 : decode cX6_statementTold 45 = .ok (.invokevirtual 284, 3) := dk_182 1 28 (dk_at dksX6_statementTold_2 0 rfl rfl)
theorem dX6_statementTold_48 : decode cX6_statementTold 48 = .ok (.ifCond .eq 11, 3) := dk_153 0 11 (dk_at dksX6_statementTold_2 3 rfl rfl)
theorem dX6_statementTold_51 : decode cX6_statementTold 51 = .ok (.aload_n 0, 1) := dk_42 (dk_at dksX6_statementTold_2 6 rfl rfl)
theorem dX6_statementTold_52 : decode cX6_statementTold 52 = .ok (.iload_n 1, 1) := dk_27 (dk_at dksX6_statementTold_2 7 rfl rfl)
theorem dX6_statementTold_53 : decode cX6_statementTold 53 = .ok (.invokevirtual 367, 3) := dk_182 1 111 (dk_at dksX6_statementTold_2 8 rfl rfl)
theorem dX6_statementTold_56 : decode cX6_statementTold 56 = .ok (.goto 194, 3) := dk_167 0 194 (dk_at dksX6_statementTold_2 11 rfl rfl)
theorem dX6_statementTold_59 : decode cX6_statementTold 59 = .ok (.aload_n 0, 1) := dk_42 (dk_at dksX6_statementTold_2 14 rfl rfl)
theorem dX6_statementTold_60 : decode cX6_statementTold 60 = .ok (.aload_n 0, 1) := dk_42 (dk_at dksX6_statementTold_2 15 rfl rfl)
theorem dX6_statementTold_61 : decode cX6_statementTold 61 = .ok (.getfield 33, 3) := dk_180 0 33 (dk_at dksX6_statementTold_2 16 rfl rfl)
theorem dX6_statementTold_64 : decode cX6_statementTold 64 = .ok (.invokevirtual 284, 3) := dk_182 1 28 (dk_at dksX6_statementTold_2 19 rfl rfl)
theorem dX6_statementTold_67 : decode cX6_statementTold 67 = .ok (.ifCond .eq 11, 3) := dk_153 0 11 (dk_at dksX6_statementTold_3 0 rfl rfl)
theorem dX6_statementTold_70 : decode cX6_statementTold 70 = .ok (.aload_n 0, 1) := dk_42 (dk_at dksX6_statementTold_3 3 rfl rfl)
theorem dX6_statementTold_71 : decode cX6_statementTold 71 = .ok (.iconst 1, 1) := dk_4 (dk_at dksX6_statementTold_3 4 rfl rfl)
theorem dX6_statementTold_72 : decode cX6_statementTold 72 = .ok (.invokevirtual 370, 3) := dk_182 1 114 (dk_at dksX6_statementTold_3 5 rfl rfl)
theorem dX6_statementTold_75 : decode cX6_statementTold 75 = .ok (.goto 175, 3) := dk_167 0 175 (dk_at dksX6_statementTold_3 8 rfl rfl)
theorem dX6_statementTold_78 : decode cX6_statementTold 78 = .ok (.aload_n 0, 1) := dk_42 (dk_at dksX6_statementTold_3 11 rfl rfl)
theorem dX6_statementTold_79 : decode cX6_statementTold 79 = .ok (.aload_n 0, 1) := dk_42 (dk_at dksX6_statementTold_3 12 rfl rfl)
theorem dX6_statementTold_80 : decode cX6_statementTold 80 = .ok (.getfield 36, 3) := dk_180 0 36 (dk_at dksX6_statementTold_3 13 rfl rfl)
theorem dX6_statementTold_83 : decode cX6_statementTold 83 = .ok (.invokevirtual 284, 3) := dk_182 1 28 (dk_at dksX6_statementTold_3 16 rfl rfl)
theorem dX6_statementTold_86 : decode cX6_statementTold 86 = .ok (.ifCond .eq 11, 3) := dk_153 0 11 (dk_at dksX6_statementTold_3 19 rfl rfl)
theorem dX6_statementTold_89 : decode cX6_statementTold 89 = .ok (.aload_n 0, 1) := dk_42 (dk_at dksX6_statementTold_3 22 rfl rfl)
theorem dX6_statementTold_90 : decode cX6_statementTold 90 = .ok (.iconst 0, 1) := dk_3 (dk_at dksX6_statementTold_3 23 rfl rfl)
theorem dX6_statementTold_91 : decode cX6_statementTold 91 = .ok (.invokevirtual 370, 3) := dk_182 1 114 (dk_at dksX6_statementTold_4 0 rfl rfl)
theorem dX6_statementTold_94 : decode cX6_statementTold 94 = .ok (.goto 156, 3) := dk_167 0 156 (dk_at dksX6_statementTold_4 3 rfl rfl)
theorem dX6_statementTold_97 : decode cX6_statementTold 97 = .ok (.aload_n 0, 1) := dk_42 (dk_at dksX6_statementTold_4 6 rfl rfl)
theorem dX6_statementTold_98 : decode cX6_statementTold 98 = .ok (.aload_n 0, 1) := dk_42 (dk_at dksX6_statementTold_4 7 rfl rfl)
theorem dX6_statementTold_99 : decode cX6_statementTold 99 = .ok (.getfield 39, 3) := dk_180 0 39 (dk_at dksX6_statementTold_4 8 rfl rfl)
theorem dX6_statementTold_102 : decode cX6_statementTold 102 = .ok (.invokevirtual 284, 3) := dk_182 1 28 (dk_at dksX6_statementTold_4 11 rfl rfl)
theorem dX6_statementTold_105 : decode cX6_statementTold 105 = .ok (.ifCond .eq 10, 3) := dk_153 0 10 (dk_at dksX6_statementTold_4 14 rfl rfl)
theorem dX6_statementTold_108 : decode cX6_statementTold 108 = .ok (.aload_n 0, 1) := dk_42 (dk_at dksX6_statementTold_4 17 rfl rfl)
theorem dX6_statementTold_109 : decode cX6_statementTold 109 = .ok (.invokevirtual 374, 3) := dk_182 1 118 (dk_at dksX6_statementTold_4 18 rfl rfl)
theorem dX6_statementTold_112 : decode cX6_statementTold 112 = .ok (.goto 138, 3) := dk_167 0 138 (dk_at dksX6_statementTold_4 21 rfl rfl)
theorem dX6_statementTold_115 : decode cX6_statementTold 115 = .ok (.aload_n 0, 1) := dk_42 (dk_at dksX6_statementTold_5 0 rfl rfl)
theorem dX6_statementTold_116 : decode cX6_statementTold 116 = .ok (.aload_n 0, 1) := dk_42 (dk_at dksX6_statementTold_5 1 rfl rfl)
theorem dX6_statementTold_117 : decode cX6_statementTold 117 = .ok (.getfield 45, 3) := dk_180 0 45 (dk_at dksX6_statementTold_5 2 rfl rfl)
theorem dX6_statementTold_120 : decode cX6_statementTold 120 = .ok (.invokevirtual 284, 3) := dk_182 1 28 (dk_at dksX6_statementTold_5 5 rfl rfl)
theorem dX6_statementTold_123 : decode cX6_statementTold 123 = .ok (.ifCond .eq 12, 3) := dk_153 0 12 (dk_at dksX6_statementTold_5 8 rfl rfl)
theorem dX6_statementTold_126 : decode cX6_statementTold 126 = .ok (.aload_n 0, 1) := dk_42 (dk_at dksX6_statementTold_5 11 rfl rfl)
theorem dX6_statementTold_127 : decode cX6_statementTold 127 = .ok (.iconst 0, 1) := dk_3 (dk_at dksX6_statementTold_5 12 rfl rfl)
theorem dX6_statementTold_128 : decode cX6_statementTold 128 = .ok (.iload_n 1, 1) := dk_27 (dk_at dksX6_statementTold_5 13 rfl rfl)
theorem dX6_statementTold_129 : decode cX6_statementTold 129 = .ok (.invokevirtual 377, 3) := dk_182 1 121 (dk_at dksX6_statementTold_5 14 rfl rfl)
theorem dX6_statementTold_132 : decode cX6_statementTold 132 = .ok (.goto 118, 3) := dk_167 0 118 (dk_at dksX6_statementTold_5 17 rfl rfl)
theorem dX6_statementTold_135 : decode cX6_statementTold 135 = .ok (.aload_n 0, 1) := dk_42 (dk_at dksX6_statementTold_5 20 rfl rfl)
theorem dX6_statementTold_136 : decode cX6_statementTold 136 = .ok (.aload_n 0, 1) := dk_42 (dk_at dksX6_statementTold_5 21 rfl rfl)
theorem dX6_statementTold_137 : decode cX6_statementTold 137 = .ok (.getfield 48, 3) := dk_180 0 48 (dk_at dksX6_statementTold_6 0 rfl rfl)
theorem dX6_statementTold_140 : decode cX6_statementTold 140 = .ok (.invokevirtual 284, 3) := dk_182 1 28 (dk_at dksX6_statementTold_6 3 rfl rfl)
theorem dX6_statementTold_143 : decode cX6_statementTold 143 = .ok (.ifCond .eq 12, 3) := dk_153 0 12 (dk_at dksX6_statementTold_6 6 rfl rfl)
theorem dX6_statementTold_146 : decode cX6_statementTold 146 = .ok (.aload_n 0, 1) := dk_42 (dk_at dksX6_statementTold_6 9 rfl rfl)
theorem dX6_statementTold_147 : decode cX6_statementTold 147 = .ok (.iconst 1, 1) := dk_4 (dk_at dksX6_statementTold_6 10 rfl rfl)
theorem dX6_statementTold_148 : decode cX6_statementTold 148 = .ok (.iload_n 1, 1) := dk_27 (dk_at dksX6_statementTold_6 11 rfl rfl)
theorem dX6_statementTold_149 : decode cX6_statementTold 149 = .ok (.invokevirtual 377, 3) := dk_182 1 121 (dk_at dksX6_statementTold_6 12 rfl rfl)
theorem dX6_statementTold_152 : decode cX6_statementTold 152 = .ok (.goto 98, 3) := dk_167 0 98 (dk_at dksX6_statementTold_6 15 rfl rfl)
theorem dX6_statementTold_155 : decode cX6_statementTold 155 = .ok (.aload_n 0, 1) := dk_42 (dk_at dksX6_statementTold_6 18 rfl rfl)
theorem dX6_statementTold_156 : decode cX6_statementTold 156 = .ok (.aload_n 0, 1) := dk_42 (dk_at dksX6_statementTold_6 19 rfl rfl)
theorem dX6_statementTold_157 : decode cX6_statementTold 157 = .ok (.getfield 51, 3) := dk_180 0 51 (dk_at dksX6_statementTold_6 20 rfl rfl)
theorem dX6_statementTold_160 : decode cX6_statementTold 160 = .ok (.invokevirtual 284, 3) := dk_182 1 28 (dk_at dksX6_statementTold_7 0 rfl rfl)
theorem dX6_statementTold_163 : decode cX6_statementTold 163 = .ok (.ifCond .eq 12, 3) := dk_153 0 12 (dk_at dksX6_statementTold_7 3 rfl rfl)
theorem dX6_statementTold_166 : decode cX6_statementTold 166 = .ok (.aload_n 0, 1) := dk_42 (dk_at dksX6_statementTold_7 6 rfl rfl)
theorem dX6_statementTold_167 : decode cX6_statementTold 167 = .ok (.iconst 2, 1) := dk_5 (dk_at dksX6_statementTold_7 7 rfl rfl)
theorem dX6_statementTold_168 : decode cX6_statementTold 168 = .ok (.iload_n 1, 1) := dk_27 (dk_at dksX6_statementTold_7 8 rfl rfl)
theorem dX6_statementTold_169 : decode cX6_statementTold 169 = .ok (.invokevirtual 377, 3) := dk_182 1 121 (dk_at dksX6_statementTold_7 9 rfl rfl)
theorem dX6_statementTold_172 : decode cX6_statementTold 172 = .ok (.goto 78, 3) := dk_167 0 78 (dk_at dksX6_statementTold_7 12 rfl rfl)
theorem dX6_statementTold_175 : decode cX6_statementTold 175 = .ok (.aload_n 0, 1) := dk_42 (dk_at dksX6_statementTold_7 15 rfl rfl)
theorem dX6_statementTold_176 : decode cX6_statementTold 176 = .ok (.aload_n 0, 1) := dk_42 (dk_at dksX6_statementTold_7 16 rfl rfl)
theorem dX6_statementTold_177 : decode cX6_statementTold 177 = .ok (.getfield 54, 3) := dk_180 0 54 (dk_at dksX6_statementTold_7 17 rfl rfl)
theorem dX6_statementTold_180 : decode cX6_statementTold 180 = .ok (.invokevirtual 284, 3) := dk_182 1 28 (dk_at dksX6_statementTold_7 20 rfl rfl)
theorem dX6_statementTold_183 : decode cX6_statementTold 183 = .ok (.ifCond .eq 19, 3) := dk_153 0 19 (dk_at dksX6_statementTold_8 0 rfl rfl)
theorem dX6_statementTold_186 : decode cX6_statementTold 186 = .ok (.aload_n 0, 1) := dk_42 (dk_at dksX6_statementTold_8 3 rfl rfl)
theorem dX6_statementTold_187 : decode cX6_statementTold 187 = .ok (.getfield 127, 3) := dk_180 0 127 (dk_at dksX6_statementTold_8 4 rfl rfl)
theorem dX6_statementTold_190 : decode cX6_statementTold 190 = .ok (.iconst 0, 1) := dk_3 (dk_at dksX6_statementTold_8 7 rfl rfl)
theorem dX6_statementTold_191 : decode cX6_statementTold 191 = .ok (.aload_n 0, 1) := dk_42 (dk_at dksX6_statementTold_8 8 rfl rfl)
theorem dX6_statementTold_192 : decode cX6_statementTold 192 = .ok (.iconst 0, 1) := dk_3 (dk_at dksX6_statementTold_8 9 rfl rfl)
theorem dX6_statementTold_193 : decode cX6_statementTold 193 = .ok (.bipush 99, 2) := dk_16 99 (dk_at dksX6_statementTold_8 10 rfl rfl)
theorem dX6_statementTold_195 : decode cX6_statementTold 195 = .ok (.invokevirtual 334, 3) := dk_182 1 78 (dk_at dksX6_statementTold_8 12 rfl rfl)
theorem dX6_statementTold_198 : decode cX6_statementTold 198 = .ok (.iastore, 1) := dk_79 (dk_at dksX6_statementTold_8 15 rfl rfl)
theorem dX6_statementTold_199 : decode cX6_statementTold 199 = .ok (.goto 51, 3) := dk_167 0 51 (dk_at dksX6_statementTold_8 16 rfl rfl)
theorem dX6_statementTold_202 : decode cX6_statementTold 202 = .ok (.aload_n 0, 1) := dk_42 (dk_at dksX6_statementTold_8 19 rfl rfl)
theorem dX6_statementTold_203 : decode cX6_statementTold 203 = .ok (.aload_n 0, 1) := dk_42 (dk_at dksX6_statementTold_8 20 rfl rfl)
theorem dX6_statementTold_204 : decode cX6_statementTold 204 = .ok (.getfield 57, 3) := dk_180 0 57 (dk_at dksX6_statementTold_8 21 rfl rfl)
theorem dX6_statementTold_207 : decode cX6_statementTold 207 = .ok (.invokevirtual 284, 3) := dk_182 1 28 (dk_at dksX6_statementTold_9 0 rfl rfl)
theorem dX6_statementTold_210 : decode cX6_statementTold 210 = .ok (.ifCond .eq 19, 3) := dk_153 0 19 (dk_at dksX6_statementTold_9 3 rfl rfl)
theorem dX6_statementTold_213 : decode cX6_statementTold 213 = .ok (.aload_n 0, 1) := dk_42 (dk_at dksX6_statementTold_9 6 rfl rfl)
theorem dX6_statementTold_214 : decode cX6_statementTold 214 = .ok (.getfield 127, 3) := dk_180 0 127 (dk_at dksX6_statementTold_9 7 rfl rfl)
theorem dX6_statementTold_217 : decode cX6_statementTold 217 = .ok (.iconst 1, 1) := dk_4 (dk_at dksX6_statementTold_9 10 rfl rfl)
theorem dX6_statementTold_218 : decode cX6_statementTold 218 = .ok (.aload_n 0, 1) := dk_42 (dk_at dksX6_statementTold_9 11 rfl rfl)
theorem dX6_statementTold_219 : decode cX6_statementTold 219 = .ok (.iconst 0, 1) := dk_3 (dk_at dksX6_statementTold_9 12 rfl rfl)
theorem dX6_statementTold_220 : decode cX6_statementTold 220 = .ok (.bipush 9, 2) := dk_16 9 (dk_at dksX6_statementTold_9 13 rfl rfl)
theorem dX6_statementTold_222 : decode cX6_statementTold 222 = .ok (.invokevirtual 334, 3) := dk_182 1 78 (dk_at dksX6_statementTold_9 15 rfl rfl)
theorem dX6_statementTold_225 : decode cX6_statementTold 225 = .ok (.iastore, 1) := dk_79 (dk_at dksX6_statementTold_9 18 rfl rfl)
theorem dX6_statementTold_226 : decode cX6_statementTold 226 = .ok (.goto 24, 3) := dk_167 0 24 (dk_at dksX6_statementTold_9 19 rfl rfl)
theorem dX6_statementTold_229 : decode cX6_statementTold 229 = .ok (.aload_n 0, 1) := dk_42 (dk_at dksX6_statementTold_9 22 rfl rfl)
theorem dX6_statementTold_230 : decode cX6_statementTold 230 = .ok (.aload_n 0, 1) := dk_42 (dk_at dksX6_statementTold_9 23 rfl rfl)
theorem dX6_statementTold_231 : decode cX6_statementTold 231 = .ok (.getfield 60, 3) := dk_180 0 60 (dk_at dksX6_statementTold_10 0 rfl rfl)
theorem dX6_statementTold_234 : decode cX6_statementTold 234 = .ok (.invokevirtual 330, 3) := dk_182 1 74 (dk_at dksX6_statementTold_10 3 rfl rfl)
theorem dX6_statementTold_237 : decode cX6_statementTold 237 = .ok (.aload_n 0, 1) := dk_42 (dk_at dksX6_statementTold_10 6 rfl rfl)
theorem dX6_statementTold_238 : decode cX6_statementTold 238 = .ok (.getfield 127, 3) := dk_180 0 127 (dk_at dksX6_statementTold_10 7 rfl rfl)
theorem dX6_statementTold_241 : decode cX6_statementTold 241 = .ok (.iconst 2, 1) := dk_5 (dk_at dksX6_statementTold_10 10 rfl rfl)
theorem dX6_statementTold_242 : decode cX6_statementTold 242 = .ok (.aload_n 0, 1) := dk_42 (dk_at dksX6_statementTold_10 11 rfl rfl)
theorem dX6_statementTold_243 : decode cX6_statementTold 243 = .ok (.iconst 0, 1) := dk_3 (dk_at dksX6_statementTold_10 12 rfl rfl)
theorem dX6_statementTold_244 : decode cX6_statementTold 244 = .ok (.bipush 100, 2) := dk_16 100 (dk_at dksX6_statementTold_10 13 rfl rfl)
theorem dX6_statementTold_246 : decode cX6_statementTold 246 = .ok (.invokevirtual 334, 3) := dk_182 1 78 (dk_at dksX6_statementTold_10 15 rfl rfl)
theorem dX6_statementTold_249 : decode cX6_statementTold 249 = .ok (.iastore, 1) := dk_79 (dk_at dksX6_statementTold_10 18 rfl rfl)
theorem dX6_statementTold_250 : decode cX6_statementTold 250 = .ok (.aload_n 0, 1) := dk_42 (dk_at dksX6_statementTold_10 19 rfl rfl)
theorem dX6_statementTold_251 : decode cX6_statementTold 251 = .ok (.bipush 59, 2) := dk_16 59 (dk_at dksX6_statementTold_10 20 rfl rfl)
theorem dX6_statementTold_253 : decode cX6_statementTold 253 = .ok (.invokevirtual 380, 3) := dk_182 1 124 (dk_at dksX6_statementTold_11 0 rfl rfl)
theorem dX6_statementTold_256 : decode cX6_statementTold 256 = .ok (.aload_n 0, 1) := dk_42 (dk_at dksX6_statementTold_11 3 rfl rfl)
theorem dX6_statementTold_257 : decode cX6_statementTold 257 = .ok (.dup, 1) := dk_89 (dk_at dksX6_statementTold_11 4 rfl rfl)
theorem dX6_statementTold_258 : decode cX6_statementTold 258 = .ok (.getfield 360, 3) := dk_180 1 104 (dk_at dksX6_statementTold_11 5 rfl rfl)
theorem dX6_statementTold_261 : decode cX6_statementTold 261 = .ok (.iconst 1, 1) := dk_4 (dk_at dksX6_statementTold_11 8 rfl rfl)
theorem dX6_statementTold_262 : decode cX6_statementTold 262 = .ok (.iadd, 1) := dk_96 (dk_at dksX6_statementTold_11 9 rfl rfl)
theorem dX6_statementTold_263 : decode cX6_statementTold 263 = .ok (.putfield 360, 3) := dk_181 1 104 (dk_at dksX6_statementTold_11 10 rfl rfl)
theorem dX6_statementTold_266 : decode cX6_statementTold 266 = .ok (.return_, 1) := dk_177 (dk_at dksX6_statementTold_11 13 rfl rfl)
abbrev cX6_fail : ByteArray := prog_22_method_5_code
def yX6_fail : MethodName := ⟨RX6, "fail", "(II)V"⟩
def dkwX6_fail_0 : List UInt8 := [42, 180, 1, 1, 153, 0, 4, 177, 42, 27, 181, 1, 1, 42, 28, 181, 1, 4, 177]
abbrev dktX6_fail_0 : List UInt8 := dkwX6_fail_0 ++ []
theorem dksX6_fail_0 : cX6_fail.data.toList.drop 0 = dktX6_fail_0 := by decide +kernel
theorem dX6_fail_0 : decode cX6_fail 0 = .ok (.aload_n 0, 1) := dk_42 (dk_at dksX6_fail_0 0 rfl rfl)
theorem dX6_fail_1 : decode cX6_fail 1 = .ok (.getfield 257, 3) := dk_180 1 1 (dk_at dksX6_fail_0 1 rfl rfl)
theorem dX6_fail_4 : decode cX6_fail 4 = .ok (.ifCond .eq 4, 3) := dk_153 0 4 (dk_at dksX6_fail_0 4 rfl rfl)
theorem dX6_fail_7 : decode cX6_fail 7 = .ok (.return_, 1) := dk_177 (dk_at dksX6_fail_0 7 rfl rfl)
theorem dX6_fail_8 : decode cX6_fail 8 = .ok (.aload_n 0, 1) := dk_42 (dk_at dksX6_fail_0 8 rfl rfl)
theorem dX6_fail_9 : decode cX6_fail 9 = .ok (.iload_n 1, 1) := dk_27 (dk_at dksX6_fail_0 9 rfl rfl)
theorem dX6_fail_10 : decode cX6_fail 10 = .ok (.putfield 257, 3) := dk_181 1 1 (dk_at dksX6_fail_0 10 rfl rfl)
theorem dX6_fail_13 : decode cX6_fail 13 = .ok (.aload_n 0, 1) := dk_42 (dk_at dksX6_fail_0 13 rfl rfl)
theorem dX6_fail_14 : decode cX6_fail 14 = .ok (.iload_n 2, 1) := dk_28 (dk_at dksX6_fail_0 14 rfl rfl)
theorem dX6_fail_15 : decode cX6_fail 15 = .ok (.putfield 260, 3) := dk_181 1 4 (dk_at dksX6_fail_0 15 rfl rfl)
theorem dX6_fail_18 : decode cX6_fail 18 = .ok (.return_, 1) := dk_177 (dk_at dksX6_fail_0 18 rfl rfl)
abbrev cX6_takes : ByteArray := prog_22_method_10_code
def yX6_takes : MethodName := ⟨RX6, "takes", "([C)Z"⟩
def dkwX6_takes_1 : List UInt8 := [180, 1, 7, 181, 1, 21, 4, 172]
abbrev dktX6_takes_1 : List UInt8 := dkwX6_takes_1 ++ []
def dkwX6_takes_0 : List UInt8 := [42, 43, 182, 1, 24, 154, 0, 5, 3, 172, 42, 89, 180, 1, 7, 43, 190, 96, 181, 1, 7, 42, 42]
abbrev dktX6_takes_0 : List UInt8 := dkwX6_takes_0 ++ dktX6_takes_1
theorem dksX6_takes_0 : cX6_takes.data.toList.drop 0 = dktX6_takes_0 := by decide +kernel
theorem dksX6_takes_1 : cX6_takes.data.toList.drop 23 = dktX6_takes_1 := dk_seg dksX6_takes_0 23 rfl rfl
theorem dX6_takes_0 : decode cX6_takes 0 = .ok (.aload_n 0, 1) := dk_42 (dk_at dksX6_takes_0 0 rfl rfl)
theorem dX6_takes_1 : decode cX6_takes 1 = .ok (.aload_n 1, 1) := dk_43 (dk_at dksX6_takes_0 1 rfl rfl)
theorem dX6_takes_2 : decode cX6_takes 2 = .ok (.invokevirtual 280, 3) := dk_182 1 24 (dk_at dksX6_takes_0 2 rfl rfl)
theorem dX6_takes_5 : decode cX6_takes 5 = .ok (.ifCond .ne 5, 3) := dk_154 0 5 (dk_at dksX6_takes_0 5 rfl rfl)
theorem dX6_takes_8 : decode cX6_takes 8 = .ok (.iconst 0, 1) := dk_3 (dk_at dksX6_takes_0 8 rfl rfl)
theorem dX6_takes_9 : decode cX6_takes 9 = .ok (.ireturn, 1) := dk_172 (dk_at dksX6_takes_0 9 rfl rfl)
theorem dX6_takes_10 : decode cX6_takes 10 = .ok (.aload_n 0, 1) := dk_42 (dk_at dksX6_takes_0 10 rfl rfl)
theorem dX6_takes_11 : decode cX6_takes 11 = .ok (.dup, 1) := dk_89 (dk_at dksX6_takes_0 11 rfl rfl)
theorem dX6_takes_12 : decode cX6_takes 12 = .ok (.getfield 263, 3) := dk_180 1 7 (dk_at dksX6_takes_0 12 rfl rfl)
theorem dX6_takes_15 : decode cX6_takes 15 = .ok (.aload_n 1, 1) := dk_43 (dk_at dksX6_takes_0 15 rfl rfl)
theorem dX6_takes_16 : decode cX6_takes 16 = .ok (.arraylength, 1) := dk_190 (dk_at dksX6_takes_0 16 rfl rfl)
theorem dX6_takes_17 : decode cX6_takes 17 = .ok (.iadd, 1) := dk_96 (dk_at dksX6_takes_0 17 rfl rfl)
theorem dX6_takes_18 : decode cX6_takes 18 = .ok (.putfield 263, 3) := dk_181 1 7 (dk_at dksX6_takes_0 18 rfl rfl)
theorem dX6_takes_21 : decode cX6_takes 21 = .ok (.aload_n 0, 1) := dk_42 (dk_at dksX6_takes_0 21 rfl rfl)
theorem dX6_takes_22 : decode cX6_takes 22 = .ok (.aload_n 0, 1) := dk_42 (dk_at dksX6_takes_0 22 rfl rfl)
theorem dX6_takes_23 : decode cX6_takes 23 = .ok (.getfield 263, 3) := dk_180 1 7 (dk_at dksX6_takes_1 0 rfl rfl)
theorem dX6_takes_26 : decode cX6_takes 26 = .ok (.putfield 277, 3) := dk_181 1 21 (dk_at dksX6_takes_1 3 rfl rfl)
theorem dX6_takes_29 : decode cX6_takes 29 = .ok (.iconst 1, 1) := dk_4 (dk_at dksX6_takes_1 6 rfl rfl)
theorem dX6_takes_30 : decode cX6_takes 30 = .ok (.ireturn, 1) := dk_172 (dk_at dksX6_takes_1 7 rfl rfl)
abbrev cX6_isHere : ByteArray := prog_22_method_9_code
def yX6_isHere : MethodName := ⟨RX6, "isHere", "([C)Z"⟩
def dkwX6_isHere_4 : List UInt8 := [46, 43, 29, 52, 159, 0, 5, 3, 172, 132, 3, 1, 167, 255, 228, 4, 172]
abbrev dktX6_isHere_4 : List UInt8 := dkwX6_isHere_4 ++ []
def dkwX6_isHere_3 : List UInt8 := [190, 159, 0, 5, 3, 172, 3, 62, 29, 43, 190, 162, 0, 28, 42, 180, 0, 7, 42, 180, 1, 7, 29, 96]
abbrev dktX6_isHere_3 : List UInt8 := dkwX6_isHere_3 ++ dktX6_isHere_4
def dkwX6_isHere_2 : List UInt8 := [180, 0, 7, 28, 46, 184, 1, 17, 153, 0, 9, 132, 2, 1, 167, 255, 233, 28, 42, 180, 1, 7, 100, 43]
abbrev dktX6_isHere_2 : List UInt8 := dkwX6_isHere_2 ++ dktX6_isHere_3
def dkwX6_isHere_1 : List UInt8 := [180, 1, 21, 160, 0, 5, 3, 172, 42, 180, 1, 7, 61, 28, 42, 180, 1, 10, 162, 0, 21, 42]
abbrev dktX6_isHere_1 : List UInt8 := dkwX6_isHere_1 ++ dktX6_isHere_2
def dkwX6_isHere_0 : List UInt8 := [42, 180, 1, 1, 154, 0, 24, 42, 182, 1, 13, 184, 1, 17, 153, 0, 14, 42, 180, 1, 7, 42]
abbrev dktX6_isHere_0 : List UInt8 := dkwX6_isHere_0 ++ dktX6_isHere_1
theorem dksX6_isHere_0 : cX6_isHere.data.toList.drop 0 = dktX6_isHere_0 := by decide +kernel
theorem dksX6_isHere_1 : cX6_isHere.data.toList.drop 22 = dktX6_isHere_1 := dk_seg dksX6_isHere_0 22 rfl rfl
theorem dksX6_isHere_2 : cX6_isHere.data.toList.drop 44 = dktX6_isHere_2 := dk_seg dksX6_isHere_1 22 rfl rfl
theorem dksX6_isHere_3 : cX6_isHere.data.toList.drop 68 = dktX6_isHere_3 := dk_seg dksX6_isHere_2 24 rfl rfl
theorem dksX6_isHere_4 : cX6_isHere.data.toList.drop 92 = dktX6_isHere_4 := dk_seg dksX6_isHere_3 24 rfl rfl
theorem dX6_isHere_0 : decode cX6_isHere 0 = .ok (.aload_n 0, 1) := dk_42 (dk_at dksX6_isHere_0 0 rfl rfl)
theorem dX6_isHere_1 : decode cX6_isHere 1 = .ok (.getfield 257, 3) := dk_180 1 1 (dk_at dksX6_isHere_0 1 rfl rfl)
theorem dX6_isHere_4 : decode cX6_isHere 4 = .ok (.ifCond .ne 24, 3) := dk_154 0 24 (dk_at dksX6_isHere_0 4 rfl rfl)
theorem dX6_isHere_7 : decode cX6_isHere 7 = .ok (.aload_n 0, 1) := dk_42 (dk_at dksX6_isHere_0 7 rfl rfl)
theorem dX6_isHere_8 : decode cX6_isHere 8 = .ok (.invokevirtual 269, 3) := dk_182 1 13 (dk_at dksX6_isHere_0 8 rfl rfl)
theorem dX6_isHere_11 : decode cX6_isHere 11 = .ok (.invokestatic 273, 3) := dk_184 1 17 (dk_at dksX6_isHere_0 11 rfl rfl)
theorem dX6_isHere_14 : decode cX6_isHere 14 = .ok (.ifCond .eq 14, 3) := dk_153 0 14 (dk_at dksX6_isHere_0 14 rfl rfl)
theorem dX6_isHere_17 : decode cX6_isHere 17 = .ok (.aload_n 0, 1) := dk_42 (dk_at dksX6_isHere_0 17 rfl rfl)
theorem dX6_isHere_18 : decode cX6_isHere 18 = .ok (.getfield 263, 3) := dk_180 1 7 (dk_at dksX6_isHere_0 18 rfl rfl)
theorem dX6_isHere_21 : decode cX6_isHere 21 = .ok (.aload_n 0, 1) := dk_42 (dk_at dksX6_isHere_0 21 rfl rfl)
theorem dX6_isHere_22 : decode cX6_isHere 22 = .ok (.getfield 277, 3) := dk_180 1 21 (dk_at dksX6_isHere_1 0 rfl rfl)
theorem dX6_isHere_25 : decode cX6_isHere 25 = .ok (.if_icmp .ne 5, 3) := dk_160 0 5 (dk_at dksX6_isHere_1 3 rfl rfl)
theorem dX6_isHere_28 : decode cX6_isHere 28 = .ok (.iconst 0, 1) := dk_3 (dk_at dksX6_isHere_1 6 rfl rfl)
theorem dX6_isHere_29 : decode cX6_isHere 29 = .ok (.ireturn, 1) := dk_172 (dk_at dksX6_isHere_1 7 rfl rfl)
theorem dX6_isHere_30 : decode cX6_isHere 30 = .ok (.aload_n 0, 1) := dk_42 (dk_at dksX6_isHere_1 8 rfl rfl)
theorem dX6_isHere_31 : decode cX6_isHere 31 = .ok (.getfield 263, 3) := dk_180 1 7 (dk_at dksX6_isHere_1 9 rfl rfl)
theorem dX6_isHere_34 : decode cX6_isHere 34 = .ok (.istore_n 2, 1) := dk_61 (dk_at dksX6_isHere_1 12 rfl rfl)
theorem dX6_isHere_35 : decode cX6_isHere 35 = .ok (.iload_n 2, 1) := dk_28 (dk_at dksX6_isHere_1 13 rfl rfl)
theorem dX6_isHere_36 : decode cX6_isHere 36 = .ok (.aload_n 0, 1) := dk_42 (dk_at dksX6_isHere_1 14 rfl rfl)
theorem dX6_isHere_37 : decode cX6_isHere 37 = .ok (.getfield 266, 3) := dk_180 1 10 (dk_at dksX6_isHere_1 15 rfl rfl)
theorem dX6_isHere_40 : decode cX6_isHere 40 = .ok (.if_icmp .ge 21, 3) := dk_162 0 21 (dk_at dksX6_isHere_1 18 rfl rfl)
theorem dX6_isHere_43 : decode cX6_isHere 43 = .ok (.aload_n 0, 1) := dk_42 (dk_at dksX6_isHere_1 21 rfl rfl)
theorem dX6_isHere_44 : decode cX6_isHere 44 = .ok (.getfield 7, 3) := dk_180 0 7 (dk_at dksX6_isHere_2 0 rfl rfl)
theorem dX6_isHere_47 : decode cX6_isHere 47 = .ok (.iload_n 2, 1) := dk_28 (dk_at dksX6_isHere_2 3 rfl rfl)
theorem dX6_isHere_48 : decode cX6_isHere 48 = .ok (.iaload, 1) := dk_46 (dk_at dksX6_isHere_2 4 rfl rfl)
theorem dX6_isHere_49 : decode cX6_isHere 49 = .ok (.invokestatic 273, 3) := dk_184 1 17 (dk_at dksX6_isHere_2 5 rfl rfl)
theorem dX6_isHere_52 : decode cX6_isHere 52 = .ok (.ifCond .eq 9, 3) := dk_153 0 9 (dk_at dksX6_isHere_2 8 rfl rfl)
theorem dX6_isHere_55 : decode cX6_isHere 55 = .ok (.iinc 2 1, 3) := dk_132 2 1 (dk_at dksX6_isHere_2 11 rfl rfl)
theorem dX6_isHere_58 : decode cX6_isHere 58 = .ok (.goto (-23), 3) := dk_167 255 233 (dk_at dksX6_isHere_2 14 rfl rfl)
theorem dX6_isHere_61 : decode cX6_isHere 61 = .ok (.iload_n 2, 1) := dk_28 (dk_at dksX6_isHere_2 17 rfl rfl)
theorem dX6_isHere_62 : decode cX6_isHere 62 = .ok (.aload_n 0, 1) := dk_42 (dk_at dksX6_isHere_2 18 rfl rfl)
theorem dX6_isHere_63 : decode cX6_isHere 63 = .ok (.getfield 263, 3) := dk_180 1 7 (dk_at dksX6_isHere_2 19 rfl rfl)
theorem dX6_isHere_66 : decode cX6_isHere 66 = .ok (.isub, 1) := dk_100 (dk_at dksX6_isHere_2 22 rfl rfl)
theorem dX6_isHere_67 : decode cX6_isHere 67 = .ok (.aload_n 1, 1) := dk_43 (dk_at dksX6_isHere_2 23 rfl rfl)
theorem dX6_isHere_68 : decode cX6_isHere 68 = .ok (.arraylength, 1) := dk_190 (dk_at dksX6_isHere_3 0 rfl rfl)
theorem dX6_isHere_69 : decode cX6_isHere 69 = .ok (.if_icmp .eq 5, 3) := dk_159 0 5 (dk_at dksX6_isHere_3 1 rfl rfl)
theorem dX6_isHere_72 : decode cX6_isHere 72 = .ok (.iconst 0, 1) := dk_3 (dk_at dksX6_isHere_3 4 rfl rfl)
theorem dX6_isHere_73 : decode cX6_isHere 73 = .ok (.ireturn, 1) := dk_172 (dk_at dksX6_isHere_3 5 rfl rfl)
theorem dX6_isHere_74 : decode cX6_isHere 74 = .ok (.iconst 0, 1) := dk_3 (dk_at dksX6_isHere_3 6 rfl rfl)
theorem dX6_isHere_75 : decode cX6_isHere 75 = .ok (.istore_n 3, 1) := dk_62 (dk_at dksX6_isHere_3 7 rfl rfl)
theorem dX6_isHere_76 : decode cX6_isHere 76 = .ok (.iload_n 3, 1) := dk_29 (dk_at dksX6_isHere_3 8 rfl rfl)
theorem dX6_isHere_77 : decode cX6_isHere 77 = .ok (.aload_n 1, 1) := dk_43 (dk_at dksX6_isHere_3 9 rfl rfl)
theorem dX6_isHere_78 : decode cX6_isHere 78 = .ok (.arraylength, 1) := dk_190 (dk_at dksX6_isHere_3 10 rfl rfl)
theorem dX6_isHere_79 : decode cX6_isHere 79 = .ok (.if_icmp .ge 28, 3) := dk_162 0 28 (dk_at dksX6_isHere_3 11 rfl rfl)
theorem dX6_isHere_82 : decode cX6_isHere 82 = .ok (.aload_n 0, 1) := dk_42 (dk_at dksX6_isHere_3 14 rfl rfl)
theorem dX6_isHere_83 : decode cX6_isHere 83 = .ok (.getfield 7, 3) := dk_180 0 7 (dk_at dksX6_isHere_3 15 rfl rfl)
theorem dX6_isHere_86 : decode cX6_isHere 86 = .ok (.aload_n 0, 1) := dk_42 (dk_at dksX6_isHere_3 18 rfl rfl)
theorem dX6_isHere_87 : decode cX6_isHere 87 = .ok (.getfield 263, 3) := dk_180 1 7 (dk_at dksX6_isHere_3 19 rfl rfl)
theorem dX6_isHere_90 : decode cX6_isHere 90 = .ok (.iload_n 3, 1) := dk_29 (dk_at dksX6_isHere_3 22 rfl rfl)
theorem dX6_isHere_91 : decode cX6_isHere 91 = .ok (.iadd, 1) := dk_96 (dk_at dksX6_isHere_3 23 rfl rfl)
theorem dX6_isHere_92 : decode cX6_isHere 92 = .ok (.iaload, 1) := dk_46 (dk_at dksX6_isHere_4 0 rfl rfl)
theorem dX6_isHere_93 : decode cX6_isHere 93 = .ok (.aload_n 1, 1) := dk_43 (dk_at dksX6_isHere_4 1 rfl rfl)
theorem dX6_isHere_94 : decode cX6_isHere 94 = .ok (.iload_n 3, 1) := dk_29 (dk_at dksX6_isHere_4 2 rfl rfl)
theorem dX6_isHere_95 : decode cX6_isHere 95 = .ok (.caload, 1) := dk_52 (dk_at dksX6_isHere_4 3 rfl rfl)
theorem dX6_isHere_96 : decode cX6_isHere 96 = .ok (.if_icmp .eq 5, 3) := dk_159 0 5 (dk_at dksX6_isHere_4 4 rfl rfl)
theorem dX6_isHere_99 : decode cX6_isHere 99 = .ok (.iconst 0, 1) := dk_3 (dk_at dksX6_isHere_4 7 rfl rfl)
theorem dX6_isHere_100 : decode cX6_isHere 100 = .ok (.ireturn, 1) := dk_172 (dk_at dksX6_isHere_4 8 rfl rfl)
theorem dX6_isHere_101 : decode cX6_isHere 101 = .ok (.iinc 3 1, 3) := dk_132 3 1 (dk_at dksX6_isHere_4 9 rfl rfl)
theorem dX6_isHere_104 : decode cX6_isHere 104 = .ok (.goto (-28), 3) := dk_167 255 228 (dk_at dksX6_isHere_4 12 rfl rfl)
theorem dX6_isHere_107 : decode cX6_isHere 107 = .ok (.iconst 1, 1) := dk_4 (dk_at dksX6_isHere_4 15 rfl rfl)
theorem dX6_isHere_108 : decode cX6_isHere 108 = .ok (.ireturn, 1) := dk_172 (dk_at dksX6_isHere_4 16 rfl rfl)
