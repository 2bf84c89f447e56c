/-! TroupeSumsModel -/
set_option maxRecDepth 100000
def RX6 : String := "TroupeSumsModel"
def TX6 : u_T := fun k => match k with
  | 0 => ("TroupeSumsModel", "tape", "[I", true)
  | 1 => ("TroupeSumsModel", "taped", "I", false)
  | 2 => ("TroupeSumsModel", "bytes", "I", false)
  | 3 => ("TroupeSumsModel", "at", "I", false)
  | 4 => ("TroupeSumsModel", "place", "I", false)
  | 5 => ("TroupeSumsModel", "sort", "I", false)
  | 6 => ("TroupeSumsModel", "value", "I", false)
  | 7 => ("TroupeSumsModel", "fault", "I", false)
  | 8 => ("TroupeSumsModel", "faultPlace", "I", false)
  | 9 => ("TroupeSumsModel", "toldFault", "I", false)
  | 10 => ("TroupeSumsModel", "toldPlace", "I", false)
  | 11 => ("TroupeSumsModel", "word", "J", false)
  | 12 => ("TroupeSumsModel", "rPlaces", "I", false)
  | 13 => ("TroupeSumsModel", "rMoves", "I", false)
  | 14 => ("TroupeSumsModel", "rNames", "I", false)
  | 15 => ("TroupeSumsModel", "rMove", "[I", true)
  | 16 => ("TroupeSumsModel", "places", "I", false)
  | 17 => ("TroupeSumsModel", "moves", "I", false)
  | 18 => ("TroupeSumsModel", "names", "I", false)
  | 19 => ("TroupeSumsModel", "move", "[I", true)
  | 20 => ("TroupeSumsModel", "order", "I", false)
  | 21 => ("TroupeSumsModel", "member", "[I", true)
  | 22 => ("TroupeSumsModel", "coming", "[I", true)
  | 23 => ("TroupeSumsModel", "product", "[I", true)
  | 24 => ("TroupeSumsModel", "undoes", "[I", true)
  | 25 => ("TroupeSumsModel", "subMany", "I", false)
  | 26 => ("TroupeSumsModel", "sortMany", "I", false)
  | 27 => ("TroupeSumsModel", "sub", "[I", true)
  | 28 => ("TroupeSumsModel", "subSort", "[I", true)
  | 29 => ("TroupeSumsModel", "first", "[I", true)
  | 30 => ("TroupeSumsModel", "subsOf", "[I", true)
  | 31 => ("TroupeSumsModel", "mark", "[I", true)
  | 32 => ("TroupeSumsModel", "cosetOf", "[I", true)
  | 33 => ("TroupeSumsModel", "pile", "[J", true)
  | 34 => ("TroupeSumsModel", "mulA", "[J", true)
  | 35 => ("TroupeSumsModel", "mulB", "[J", true)
  | 36 => ("TroupeSumsModel", "its", "[J", true)
  | 37 => ("TroupeSumsModel", "itsMarks", "[J", true)
  | 38 => ("TroupeSumsModel", "high", "I", false)
  | 39 => ("TroupeSumsModel", "isBig", "Z", false)
  | 40 => ("TroupeSumsModel", "waits", "[I", true)
  | 41 => ("TroupeSumsModel", "waiting", "I", false)
  | 42 => ("TroupeSumsModel", "deep", "I", false)
  | 43 => ("TroupeSumsModel", "units", "I", false)
  | 44 => ("TroupeSumsModel", "rName", "[J", true)
  | 45 => ("TroupeSumsModel", "rSum", "[J", true)
  | 46 => ("TroupeSumsModel", "name", "[J", true)
  | 47 => ("TroupeSumsModel", "sum", "[J", true)
  | 48 => ("TroupeSumsModel", "worked", "[J", true)
  | 49 => ("TroupeSumsModel", "moebius", "[I", true)
  | 50 => ("TroupeSumsModel", "above", "[J", true)
  | 51 => ("TroupeSumsModel", "below", "[J", true)
  | 52 => ("TroupeSumsModel", "sumAbove", "J", false)
  | 53 => ("TroupeSumsModel", "sumBelow", "J", false)
  | 54 => ("TroupeSumsModel", "madeOf", "[I", true)
  | 55 => ("TroupeSumsModel", "madeMany", "I", false)
  | 56 => ("TroupeSumsModel", "unitSet", "[I", true)
  | 57 => ("TroupeSumsModel", "unitMany", "I", false)
  | 58 => ("TroupeSumsModel", "areUnits", "Z", false)
  | 59 => ("TroupeSumsModel", "past", "[J", true)
  | 60 => ("TroupeSumsModel", "acts", "I", false)
  | 61 => ("TroupeSumsModel", "partOf", "[I", true)
  | 62 => ("TroupeSumsModel", "many", "[I", true)
  | 63 => ("TroupeSumsModel", "partMany", "I", false)
  | 64 => ("TroupeSumsModel", "numberAt", "I", false)
  | _ => ("TroupeSumsModel", "numberMany", "I", false)
def tyX6 : Nat → FieldType := fun k => match k with
  | 0 => .array .int
  | 1 => .int
  | 2 => .int
  | 3 => .int
  | 4 => .int
  | 5 => .int
  | 6 => .int
  | 7 => .int
  | 8 => .int
  | 9 => .int
  | 10 => .int
  | 11 => .long
  | 12 => .int
  | 13 => .int
  | 14 => .int
  | 15 => .array .int
  | 16 => .int
  | 17 => .int
  | 18 => .int
  | 19 => .array .int
  | 20 => .int
  | 21 => .array .int
  | 22 => .array .int
  | 23 => .array .int
  | 24 => .array .int
  | 25 => .int
  | 26 => .int
  | 27 => .array .int
  | 28 => .array .int
  | 29 => .array .int
  | 30 => .array .int
  | 31 => .array .int
  | 32 => .array .int
  | 33 => .array .long
  | 34 => .array .long
  | 35 => .array .long
  | 36 => .array .long
  | 37 => .array .long
  | 38 => .int
  | 39 => .boolean
  | 40 => .array .int
  | 41 => .int
  | 42 => .int
  | 43 => .int
  | 44 => .array .long
  | 45 => .array .long
  | 46 => .array .long
  | 47 => .array .long
  | 48 => .array .long
  | 49 => .array .int
  | 50 => .array .long
  | 51 => .array .long
  | 52 => .long
  | 53 => .long
  | 54 => .array .int
  | 55 => .int
  | 56 => .array .int
  | 57 => .int
  | 58 => .boolean
  | 59 => .array .long
  | 60 => .int
  | 61 => .array .int
  | 62 => .array .int
  | 63 => .int
  | 64 => .int
  | _ => .int
abbrev wsX60 : List Cond := u_ws RX6 TX6 66
set_option maxRecDepth 100000 in
theorem nmX6 : ∀ a, a < 66 → ∀ b, b < 66 → a ≠ b → (TX6 a).2.1 ≠ (TX6 b).2.1 := by decide +kernel
set_option maxRecDepth 100000 in
theorem tyX6_ok : ∀ k, k < 66 → parseFieldDescriptor (TX6 k).2.2.1 = some (tyX6 k) := by decide +kernel
abbrev cX6_init : ByteArray := prog_16_method_1_code
def yX6_init : MethodName := ⟨RX6, "<init>", "()V"⟩
def dkwX6_init_12 : List UInt8 := [181, 0, 112, 42, 4, 181, 0, 115, 42, 182, 0, 118, 42, 182, 0, 121, 177]
abbrev dktX6_init_12 : List UInt8 := dkwX6_init_12 ++ []
def dkwX6_init_11 : List UInt8 := [42, 17, 3, 0, 188, 11, 181, 0, 106, 42, 16, 6, 188, 10, 181, 0, 109, 42, 16, 7, 188, 10]
abbrev dktX6_init_11 : List UInt8 := dkwX6_init_11 ++ dktX6_init_12
def dkwX6_init_10 : List UInt8 := [42, 16, 64, 188, 11, 181, 0, 96, 42, 16, 24, 188, 10, 181, 0, 99, 42, 18, 102, 188, 10, 181, 0, 103]
abbrev dktX6_init_10 : List UInt8 := dkwX6_init_10 ++ dktX6_init_11
def dkwX6_init_9 : List UInt8 := [16, 64, 188, 11, 181, 0, 87, 42, 17, 0, 128, 188, 10, 181, 0, 90, 42, 16, 64, 188, 11, 181, 0, 93]
abbrev dktX6_init_9 : List UInt8 := dkwX6_init_9 ++ dktX6_init_10
def dkwX6_init_8 : List UInt8 := [188, 11, 181, 0, 78, 42, 16, 8, 188, 11, 181, 0, 81, 42, 17, 2, 0, 188, 11, 181, 0, 84, 42]
abbrev dktX6_init_8 : List UInt8 := dkwX6_init_8 ++ dktX6_init_9
def dkwX6_init_7 : List UInt8 := [181, 0, 69, 42, 16, 80, 188, 10, 181, 0, 72, 42, 16, 8, 188, 11, 181, 0, 75, 42, 17, 2, 0]
abbrev dktX6_init_7 : List UInt8 := dkwX6_init_7 ++ dktX6_init_8
def dkwX6_init_6 : List UInt8 := [181, 0, 60, 42, 16, 64, 188, 11, 181, 0, 63, 42, 16, 64, 188, 11, 181, 0, 66, 42, 16, 64, 188, 11]
abbrev dktX6_init_6 : List UInt8 := dkwX6_init_6 ++ dktX6_init_7
def dkwX6_init_5 : List UInt8 := [17, 6, 0, 188, 10, 181, 0, 53, 42, 17, 10, 0, 188, 11, 181, 0, 56, 42, 16, 64, 188, 11]
abbrev dktX6_init_5 : List UInt8 := dkwX6_init_5 ++ dktX6_init_6
def dkwX6_init_4 : List UInt8 := [188, 10, 181, 0, 44, 42, 16, 64, 188, 10, 181, 0, 47, 42, 17, 16, 0, 188, 10, 181, 0, 50, 42]
abbrev dktX6_init_4 : List UInt8 := dkwX6_init_4 ++ dktX6_init_5
def dkwX6_init_3 : List UInt8 := [181, 0, 35, 42, 17, 0, 128, 188, 10, 181, 0, 38, 42, 17, 0, 128, 188, 10, 181, 0, 41, 42, 16, 64]
abbrev dktX6_init_3 : List UInt8 := dkwX6_init_3 ++ dktX6_init_4
def dkwX6_init_2 : List UInt8 := [42, 16, 6, 188, 10, 181, 0, 29, 42, 17, 2, 64, 188, 10, 181, 0, 32, 42, 16, 24, 188, 10]
abbrev dktX6_init_2 : List UInt8 := dkwX6_init_2 ++ dktX6_init_3
def dkwX6_init_1 : List UInt8 := [16, 24, 188, 10, 181, 0, 20, 42, 16, 24, 188, 10, 181, 0, 23, 42, 17, 0, 144, 188, 10, 181, 0, 26]
abbrev dktX6_init_1 : List UInt8 := dkwX6_init_1 ++ dktX6_init_2
def dkwX6_init_0 : List UInt8 := [42, 183, 0, 1, 42, 17, 2, 188, 188, 10, 181, 0, 7, 42, 2, 181, 0, 13, 42, 2, 181, 0, 17, 42]
abbrev dktX6_init_0 : List UInt8 := dkwX6_init_0 ++ dktX6_init_1
theorem dksX6_init_0 : cX6_init.data.toList.drop 0 = dktX6_init_0 := by decide +kernel
theorem dksX6_init_1 : cX6_init.data.toList.drop 24 = dktX6_init_1 := dk_seg dksX6_init_0 24 rfl rfl
theorem dksX6_init_2 : cX6_init.data.toList.drop 48 = dktX6_init_2 := dk_seg dksX6_init_1 24 rfl rfl
theorem dksX6_init_3 : cX6_init.data.toList.drop 70 = dktX6_init_3 := dk_seg dksX6_init_2 22 rfl rfl
theorem dksX6_init_4 : cX6_init.data.toList.drop 94 = dktX6_init_4 := dk_seg dksX6_init_3 24 rfl rfl
theorem dksX6_init_5 : cX6_init.data.toList.drop 117 = dktX6_init_5 := dk_seg dksX6_init_4 23 rfl rfl
theorem dksX6_init_6 : cX6_init.data.toList.drop 139 = dktX6_init_6 := dk_seg dksX6_init_5 22 rfl rfl
theorem dksX6_init_7 : cX6_init.data.toList.drop 163 = dktX6_init_7 := dk_seg dksX6_init_6 24 rfl rfl
theorem dksX6_init_8 : cX6_init.data.toList.drop 186 = dktX6_init_8 := dk_seg dksX6_init_7 23 rfl rfl
theorem dksX6_init_9 : cX6_init.data.toList.drop 209 = dktX6_init_9 := dk_seg dksX6_init_8 23 rfl rfl
theorem dksX6_init_10 : cX6_init.data.toList.drop 233 = dktX6_init_10 := dk_seg dksX6_init_9 24 rfl rfl
theorem dksX6_init_11 : cX6_init.data.toList.drop 257 = dktX6_init_11 := dk_seg dksX6_init_10 24 rfl rfl
theorem dksX6_init_12 : cX6_init.data.toList.drop 279 = dktX6_init_12 := dk_seg dksX6_init_11 22 rfl rfl
theorem dX6_init_0 : decode cX6_init 0 = .ok (.aload_n 0, 1) := dk_42 (dk_at dksX6_init_0 0 rfl rfl)
theorem dX6_init_1 : decode cX6_init 1 = .ok (.invokespecial 1, 3) := dk_183 0 1 (dk_at dksX6_init_0 1 rfl rfl)
theorem dX6_init_4 : decode cX6_init 4 = .ok (.aload_n 0, 1) := dk_42 (dk_at dksX6_init_0 4 rfl rfl)
theorem dX6_init_5 : decode cX6_init 5 = .ok (.sipush 700, 3) := dk_17 2 188 (dk_at dksX6_init_0 5 rfl rfl)
theorem dX6_init_8 : decode cX6_init 8 = .ok (.newarray .int, 2) := dk_188_10 (dk_at dksX6_init_0 8 rfl rfl)
theorem dX6_init_10 : decode cX6_init 10 = .ok (.putfield 7, 3) := dk_181 0 7 (dk_at dksX6_init_0 10 rfl rfl)
theorem dX6_init_13 : decode cX6_init 13 = .ok (.aload_n 0, 1) := dk_42 (dk_at dksX6_init_0 13 rfl rfl)
theorem dX6_init_14 : decode cX6_init 14 = .ok (.iconst (-1), 1) := dk_2 (dk_at dksX6_init_0 14 rfl rfl)
theorem dX6_init_15 : decode cX6_init 15 = .ok (.putfield 13, 3) := dk_181 0 13 (dk_at dksX6_init_0 15 rfl rfl)
theorem dX6_init_18 : decode cX6_init 18 = .ok (.aload_n 0, 1) := dk_42 (dk_at dksX6_init_0 18 rfl rfl)
theorem dX6_init_19 : decode cX6_init 19 = .ok (.iconst (-1), 1) := dk_2 (dk_at dksX6_init_0 19 rfl rfl)
theorem dX6_init_20 : decode cX6_init 20 = .ok (.putfield 17, 3) := dk_181 0 17 (dk_at dksX6_init_0 20 rfl rfl)
theorem dX6_init_23 : decode cX6_init 23 = .ok (.aload_n 0, 1) := dk_42 (dk_at dksX6_init_0 23 rfl rfl)
theorem dX6_init_24 : decode cX6_init 24 = .ok (.bipush 24, 2) := dk_16 24 (dk_at dksX6_init_1 0 rfl rfl)
theorem dX6_init_26 : decode cX6_init 26 = .ok (.newarray .int, 2) := dk_188_10 (dk_at dksX6_init_1 2 rfl rfl)
theorem dX6_init_28 : decode cX6_init 28 = .ok (.putfield 20, 3) := dk_181 0 20 (dk_at dksX6_init_1 4 rfl rfl)
theorem dX6_init_31 : decode cX6_init 31 = .ok (.aload_n 0, 1) := dk_42 (dk_at dksX6_init_1 7 rfl rfl)
theorem dX6_init_32 : decode cX6_init 32 = .ok (.bipush 24, 2) := dk_16 24 (dk_at dksX6_init_1 8 rfl rfl)
theorem dX6_init_34 : decode cX6_init 34 = .ok (.newarray .int, 2) := dk_188_10 (dk_at dksX6_init_1 10 rfl rfl)
theorem dX6_init_36 : decode cX6_init 36 = .ok (.putfield 23, 3) := dk_181 0 23 (dk_at dksX6_init_1 12 rfl rfl)
theorem dX6_init_39 : decode cX6_init 39 = .ok (.aload_n 0, 1) := dk_42 (dk_at dksX6_init_1 15 rfl rfl)
theorem dX6_init_40 : decode cX6_init 40 = .ok (.sipush 144, 3) := dk_17 0 144 (dk_at dksX6_init_1 16 rfl rfl)
theorem dX6_init_43 : decode cX6_init 43 = .ok (.newarray .int, 2) := dk_188_10 (dk_at dksX6_init_1 19 rfl rfl)
theorem dX6_init_45 : decode cX6_init 45 = .ok (.putfield 26, 3) := dk_181 0 26 (dk_at dksX6_init_1 21 rfl rfl)
theorem dX6_init_48 : decode cX6_init 48 = .ok (.aload_n 0, 1) := dk_42 (dk_at dksX6_init_2 0 rfl rfl)
theorem dX6_init_49 : decode cX6_init 49 = .ok (.bipush 6, 2) := dk_16 6 (dk_at dksX6_init_2 1 rfl rfl)
theorem dX6_init_51 : decode cX6_init 51 = .ok (.newarray .int, 2) := dk_188_10 (dk_at dksX6_init_2 3 rfl rfl)
theorem dX6_init_53 : decode cX6_init 53 = .ok (.putfield 29, 3) := dk_181 0 29 (dk_at dksX6_init_2 5 rfl rfl)
theorem dX6_init_56 : decode cX6_init 56 = .ok (.aload_n 0, 1) := dk_42 (dk_at dksX6_init_2 8 rfl rfl)
theorem dX6_init_57 : decode cX6_init 57 = .ok (.sipush 576, 3) := dk_17 2 64 (dk_at dksX6_init_2 9 rfl rfl)
theorem dX6_init_60 : decode cX6_init 60 = .ok (.newarray .int, 2) := dk_188_10 (dk_at dksX6_init_2 12 rfl rfl)
theorem dX6_init_62 : decode cX6_init 62 = .ok (.putfield 32, 3) := dk_181 0 32 (dk_at dksX6_init_2 14 rfl rfl)
theorem dX6_init_65 : decode cX6_init 65 = .ok (.aload_n 0, 1) := dk_42 (dk_at dksX6_init_2 17 rfl rfl)
theorem dX6_init_66 : decode cX6_init 66 = .ok (.bipush 24, 2) := dk_16 24 (dk_at dksX6_init_2 18 rfl rfl)
theorem dX6_init_68 : decode cX6_init 68 = .ok (.newarray .int, 2) := dk_188_10 (dk_at dksX6_init_2 20 rfl rfl)
theorem dX6_init_70 : decode cX6_init 70 = .ok (.putfield 35, 3) := dk_181 0 35 (dk_at dksX6_init_3 0 rfl rfl)
theorem dX6_init_73 : decode cX6_init 73 = .ok (.aload_n 0, 1) := dk_42 (dk_at dksX6_init_3 3 rfl rfl)
theorem dX6_init_74 : decode cX6_init 74 = .ok (.sipush 128, 3) := dk_17 0 128 (dk_at dksX6_init_3 4 rfl rfl)
theorem dX6_init_77 : decode cX6_init 77 = .ok (.newarray .int, 2) := dk_188_10 (dk_at dksX6_init_3 7 rfl rfl)
theorem dX6_init_79 : decode cX6_init 79 = .ok (.putfield 38, 3) := dk_181 0 38 (dk_at dksX6_init_3 9 rfl rfl)
theorem dX6_init_82 : decode cX6_init 82 = .ok (.aload_n 0, 1) := dk_42 (dk_at dksX6_init_3 12 rfl rfl)
theorem dX6_init_83 : decode cX6_init 83 = .ok (.sipush 128, 3) := dk_17 0 128 (dk_at dksX6_init_3 13 rfl rfl)
theorem dX6_init_86 : decode cX6_init 86 = .ok (.newarray .int, 2) := dk_188_10 (dk_at dksX6_init_3 16 rfl rfl)
theorem dX6_init_88 : decode cX6_init 88 = .ok (.putfield 41, 3) := dk_181 0 41 (dk_at dksX6_init_3 18 rfl rfl)
theorem dX6_init_91 : decode cX6_init 91 = .ok (.aload_n 0, 1) := dk_42 (dk_at dksX6_init_3 21 rfl rfl)
theorem dX6_init_92 : decode cX6_init 92 = .ok (.bipush 64, 2) := dk_16 64 (dk_at dksX6_init_3 22 rfl rfl)
theorem dX6_init_94 : decode cX6_init 94 = .ok (.newarray .int, 2) := dk_188_10 (dk_at dksX6_init_4 0 rfl rfl)
theorem dX6_init_96 : decode cX6_init 96 = .ok (.putfield 44, 3) := dk_181 0 44 (dk_at dksX6_init_4 2 rfl rfl)
theorem dX6_init_99 : decode cX6_init 99 = .ok (.aload_n 0, 1) := dk_42 (dk_at dksX6_init_4 5 rfl rfl)
theorem dX6_init_100 : decode cX6_init 100 = .ok (.bipush 64, 2) := dk_16 64 (dk_at dksX6_init_4 6 rfl rfl)
theorem dX6_init_102 : decode cX6_init 102 = .ok (.newarray .int, 2) := dk_188_10 (dk_at dksX6_init_4 8 rfl rfl)
theorem dX6_init_104 : decode cX6_init 104 = .ok (.putfield 47, 3) := dk_181 0 47 (dk_at dksX6_init_4 10 rfl rfl)
theorem dX6_init_107 : decode cX6_init 107 = .ok (.aload_n 0, 1) := dk_42 (dk_at dksX6_init_4 13 rfl rfl)
theorem dX6_init_108 : decode cX6_init 108 = .ok (.sipush 4096, 3) := dk_17 16 0 (dk_at dksX6_init_4 14 rfl rfl)
theorem dX6_init_111 : decode cX6_init 111 = .ok (.newarray .int, 2) := dk_188_10 (dk_at dksX6_init_4 17 rfl rfl)
theorem dX6_init_113 : decode cX6_init 113 = .ok (.putfield 50, 3) := dk_181 0 50 (dk_at dksX6_init_4 19 rfl rfl)
theorem dX6_init_116 : decode cX6_init 116 = .ok (.aload_n 0, 1) := dk_42 (dk_at dksX6_init_4 22 rfl rfl)
theorem dX6_init_117 : decode cX6_init 117 = .ok (.sipush 1536, 3) := dk_17 6 0 (dk_at dksX6_init_5 0 rfl rfl)
theorem dX6_init_120 : decode cX6_init 120 = .ok (.newarray .int, 2) := dk_188_10 (dk_at dksX6_init_5 3 rfl rfl)
theorem dX6_init_122 : decode cX6_init 122 = .ok (.putfield 53, 3) := dk_181 0 53 (dk_at dksX6_init_5 5 rfl rfl)
theorem dX6_init_125 : decode cX6_init 125 = .ok (.aload_n 0, 1) := dk_42 (dk_at dksX6_init_5 8 rfl rfl)
theorem dX6_init_126 : decode cX6_init 126 = .ok (.sipush 2560, 3) := dk_17 10 0 (dk_at dksX6_init_5 9 rfl rfl)
theorem dX6_init_129 : decode cX6_init 129 = .ok (.newarray .long, 2) := dk_188_11 (dk_at dksX6_init_5 12 rfl rfl)
theorem dX6_init_131 : decode cX6_init 131 = .ok (.putfield 56, 3) := dk_181 0 56 (dk_at dksX6_init_5 14 rfl rfl)
theorem dX6_init_134 : decode cX6_init 134 = .ok (.aload_n 0, 1) := dk_42 (dk_at dksX6_init_5 17 rfl rfl)
theorem dX6_init_135 : decode cX6_init 135 = .ok (.bipush 64, 2) := dk_16 64 (dk_at dksX6_init_5 18 rfl rfl)
theorem dX6_init_137 : decode cX6_init 137 = .ok (.newarray .long, 2) := dk_188_11 (dk_at dksX6_init_5 20 rfl rfl)
theorem dX6_init_139 : decode cX6_init 139 = .ok (.putfield 60, 3) := dk_181 0 60 (dk_at dksX6_init_6 0 rfl rfl)
theorem dX6_init_142 : decode cX6_init 142 = .ok (.aload_n 0, 1) := dk_42 (dk_at dksX6_init_6 3 rfl rfl)
theorem dX6_init_143 : decode cX6_init 143 = .ok (.bipush 64, 2) := dk_16 64 (dk_at dksX6_init_6 4 rfl rfl)
theorem dX6_init_145 : decode cX6_init 145 = .ok (.newarray .long, 2) := dk_188_11 (dk_at dksX6_init_6 6 rfl rfl)
theorem dX6_init_147 : decode cX6_init 147 = .ok (.putfield 63, 3) := dk_181 0 63 (dk_at dksX6_init_6 8 rfl rfl)
theorem dX6_init_150 : decode cX6_init 150 = .ok (.aload_n 0, 1) := dk_42 (dk_at dksX6_init_6 11 rfl rfl)
theorem dX6_init_151 : decode cX6_init 151 = .ok (.bipush 64, 2) := dk_16 64 (dk_at dksX6_init_6 12 rfl rfl)
theorem dX6_init_153 : decode cX6_init 153 = .ok (.newarray .long, 2) := dk_188_11 (dk_at dksX6_init_6 14 rfl rfl)
theorem dX6_init_155 : decode cX6_init 155 = .ok (.putfield 66, 3) := dk_181 0 66 (dk_at dksX6_init_6 16 rfl rfl)
theorem dX6_init_158 : decode cX6_init 158 = .ok (.aload_n 0, 1) := dk_42 (dk_at dksX6_init_6 19 rfl rfl)
theorem dX6_init_159 : decode cX6_init 159 = .ok (.bipush 64, 2) := dk_16 64 (dk_at dksX6_init_6 20 rfl rfl)
theorem dX6_init_161 : decode cX6_init 161 = .ok (.newarray .long, 2) := dk_188_11 (dk_at dksX6_init_6 22 rfl rfl)
theorem dX6_init_163 : decode cX6_init 163 = .ok (.putfield 69, 3) := dk_181 0 69 (dk_at dksX6_init_7 0 rfl rfl)
theorem dX6_init_166 : decode cX6_init 166 = .ok (.aload_n 0, 1) := dk_42 (dk_at dksX6_init_7 3 rfl rfl)
theorem dX6_init_167 : decode cX6_init 167 = .ok (.bipush 80, 2) := dk_16 80 (dk_at dksX6_init_7 4 rfl rfl)
theorem dX6_init_169 : decode cX6_init 169 = .ok (.newarray .int, 2) := dk_188_10 (dk_at dksX6_init_7 6 rfl rfl)
theorem dX6_init_171 : decode cX6_init 171 = .ok (.putfield 72, 3) := dk_181 0 72 (dk_at dksX6_init_7 8 rfl rfl)
theorem dX6_init_174 : decode cX6_init 174 = .ok (.aload_n 0, 1) := dk_42 (dk_at dksX6_init_7 11 rfl rfl)
theorem dX6_init_175 : decode cX6_init 175 = .ok (.bipush 8, 2) := dk_16 8 (dk_at dksX6_init_7 12 rfl rfl)
theorem dX6_init_177 : decode cX6_init 177 = .ok (.newarray .long, 2) := dk_188_11 (dk_at dksX6_init_7 14 rfl rfl)
theorem dX6_init_179 : decode cX6_init 179 = .ok (.putfield 75, 3) := dk_181 0 75 (dk_at dksX6_init_7 16 rfl rfl)
theorem dX6_init_182 : decode cX6_init 182 = .ok (.aload_n 0, 1) := dk_42 (dk_at dksX6_init_7 19 rfl rfl)
theorem dX6_init_183 : decode cX6_init 183 = .ok (.sipush 512, 3) := dk_17 2 0 (dk_at dksX6_init_7 20 rfl rfl)
theorem dX6_init_186 : decode cX6_init 186 = .ok (.newarray .long, 2) := dk_188_11 (dk_at dksX6_init_8 0 rfl rfl)
theorem dX6_init_188 : decode cX6_init 188 = .ok (.putfield 78, 3) := dk_181 0 78 (dk_at dksX6_init_8 2 rfl rfl)
theorem dX6_init_191 : decode cX6_init 191 = .ok (.aload_n 0, 1) := dk_42 (dk_at dksX6_init_8 5 rfl rfl)
theorem dX6_init_192 : decode cX6_init 192 = .ok (.bipush 8, 2) := dk_16 8 (dk_at dksX6_init_8 6 rfl rfl)
theorem dX6_init_194 : decode cX6_init 194 = .ok (.newarray .long, 2) := dk_188_11 (dk_at dksX6_init_8 8 rfl rfl)
theorem dX6_init_196 : decode cX6_init 196 = .ok (.putfield 81, 3) := dk_181 0 81 (dk_at dksX6_init_8 10 rfl rfl)
theorem dX6_init_199 : decode cX6_init 199 = .ok (.aload_n 0, 1) := dk_42 (dk_at dksX6_init_8 13 rfl rfl)
theorem dX6_init_200 : decode cX6_init 200 = .ok (.sipush 512, 3) := dk_17 2 0 (dk_at dksX6_init_8 14 rfl rfl)
theorem dX6_init_203 : decode cX6_init 203 = .ok (.newarray .long, 2) := dk_188_11 (dk_at dksX6_init_8 17 rfl rfl)
theorem dX6_init_205 : decode cX6_init 205 = .ok (.putfield 84, 3) := dk_181 0 84 (dk_at dksX6_init_8 19 rfl rfl)
theorem dX6_init_208 : decode cX6_init 208 = .ok (.aload_n 0, 1) := dk_42 (dk_at dksX6_init_8 22 rfl rfl)
theorem dX6_init_209 : decode cX6_init 209 = .ok (.bipush 64, 2) := dk_16 64 (dk_at dksX6_init_9 0 rfl rfl)
theorem dX6_init_211 : decode cX6_init 211 = .ok (.newarray .long, 2) := dk_188_11 (dk_at dksX6_init_9 2 rfl rfl)
theorem dX6_init_213 : decode cX6_init 213 = .ok (.putfield 87, 3) := dk_181 0 87 (dk_at dksX6_init_9 4 rfl rfl)
theorem dX6_init_216 : decode cX6_init 216 = .ok (.aload_n 0, 1) := dk_42 (dk_at dksX6_init_9 7 rfl rfl)
theorem dX6_init_217 : decode cX6_init 217 = .ok (.sipush 128, 3) := dk_17 0 128 (dk_at dksX6_init_9 8 rfl rfl)
theorem dX6_init_220 : decode cX6_init 220 = .ok (.newarray .int, 2) := dk_188_10 (dk_at dksX6_init_9 11 rfl rfl)
theorem dX6_init_222 : decode cX6_init 222 = .ok (.putfield 90, 3) := dk_181 0 90 (dk_at dksX6_init_9 13 rfl rfl)
theorem dX6_init_225 : decode cX6_init 225 = .ok (.aload_n 0, 1) := dk_42 (dk_at dksX6_init_9 16 rfl rfl)
theorem dX6_init_226 : decode cX6_init 226 = .ok (.bipush 64, 2) := dk_16 64 (dk_at dksX6_init_9 17 rfl rfl)
theorem dX6_init_228 : decode cX6_init 228 = .ok (.newarray .long, 2) := dk_188_11 (dk_at dksX6_init_9 19 rfl rfl)
theorem dX6_init_230 : decode cX6_init 230 = .ok (.putfield 93, 3) := dk_181 0 93 (dk_at dksX6_init_9 21 rfl rfl)
theorem dX6_init_233 : decode cX6_init 233 = .ok (.aload_n 0, 1) := dk_42 (dk_at dksX6_init_10 0 rfl rfl)
theorem dX6_init_234 : decode cX6_init 234 = .ok (.bipush 64, 2) := dk_16 64 (dk_at dksX6_init_10 1 rfl rfl)
theorem dX6_init_236 : decode cX6_init 236 = .ok (.newarray .long, 2) := dk_188_11 (dk_at dksX6_init_10 3 rfl rfl)
theorem dX6_init_238 : decode cX6_init 238 = .ok (.putfield 96, 3) := dk_181 0 96 (dk_at dksX6_init_10 5 rfl rfl)
theorem dX6_init_241 : decode cX6_init 241 = .ok (.aload_n 0, 1) := dk_42 (dk_at dksX6_init_10 8 rfl rfl)
theorem dX6_init_242 : decode cX6_init 242 = .ok (.bipush 24, 2) := dk_16 24 (dk_at dksX6_init_10 9 rfl rfl)
theorem dX6_init_244 : decode cX6_init 244 = .ok (.newarray .int, 2) := dk_188_10 (dk_at dksX6_init_10 11 rfl rfl)
theorem dX6_init_246 : decode cX6_init 246 = .ok (.putfield 99, 3) := dk_181 0 99 (dk_at dksX6_init_10 13 rfl rfl)
theorem dX6_init_249 : decode cX6_init 249 = .ok (.aload_n 0, 1) := dk_42 (dk_at dksX6_init_10 16 rfl rfl)
theorem dX6_init_250 : decode cX6_init 250 = .ok (.ldc 102, 2) := dk_18 102 (dk_at dksX6_init_10 17 rfl rfl)
theorem dX6_init_252 : decode cX6_init 252 = .ok (.newarray .int, 2) := dk_188_10 (dk_at dksX6_init_10 19 rfl rfl)
theorem dX6_init_254 : decode cX6_init 254 = .ok (.putfield 103, 3) := dk_181 0 103 (dk_at dksX6_init_10 21 rfl rfl)
theorem dX6_init_257 : decode cX6_init 257 = .ok (.aload_n 0, 1) := dk_42 (dk_at dksX6_init_11 0 rfl rfl)
theorem dX6_init_258 : decode cX6_init 258 = .ok (.sipush 768, 3) := dk_17 3 0 (dk_at dksX6_init_11 1 rfl rfl)
theorem dX6_init_261 : decode cX6_init 261 = .ok (.newarray .long, 2) := dk_188_11 (dk_at dksX6_init_11 4 rfl rfl)
theorem dX6_init_263 : decode cX6_init 263 = .ok (.putfield 106, 3) := dk_181 0 106 (dk_at dksX6_init_11 6 rfl rfl)
theorem dX6_init_266 : decode cX6_init 266 = .ok (.aload_n 0, 1) := dk_42 (dk_at dksX6_init_11 9 rfl rfl)
theorem dX6_init_267 : decode cX6_init 267 = .ok (.bipush 6, 2) := dk_16 6 (dk_at dksX6_init_11 10 rfl rfl)
theorem dX6_init_269 : decode cX6_init 269 = .ok (.newarray .int, 2) := dk_188_10 (dk_at dksX6_init_11 12 rfl rfl)
theorem dX6_init_271 : decode cX6_init 271 = .ok (.putfield 109, 3) := dk_181 0 109 (dk_at dksX6_init_11 14 rfl rfl)
theorem dX6_init_274 : decode cX6_init 274 = .ok (.aload_n 0, 1) := dk_42 (dk_at dksX6_init_11 17 rfl rfl)
theorem dX6_init_275 : decode cX6_init 275 = .ok (.bipush 7, 2) := dk_16 7 (dk_at dksX6_init_11 18 rfl rfl)
theorem dX6_init_277 : decode cX6_init 277 = .ok (.newarray .int, 2) := dk_188_10 (dk_at dksX6_init_11 20 rfl rfl)
theorem dX6_init_279 : decode cX6_init 279 = .ok (.putfield 112, 3) := dk_181 0 112 (dk_at dksX6_init_12 0 rfl rfl)
theorem dX6_init_282 : decode cX6_init 282 = .ok (.aload_n 0, 1) := dk_42 (dk_at dksX6_init_12 3 rfl rfl)
theorem dX6_init_283 : decode cX6_init 283 = .ok (.iconst 1, 1) := dk_4 (dk_at dksX6_init_12 4 rfl rfl)
theorem dX6_init_284 : decode cX6_init 284 = .ok (.putfield 115, 3) := dk_181 0 115 (dk_at dksX6_init_12 5 rfl rfl)
theorem dX6_init_287 : decode cX6_init 287 = .ok (.aload_n 0, 1) := dk_42 (dk_at dksX6_init_12 8 rfl rfl)
theorem dX6_init_288 : decode cX6_init 288 = .ok (.invokevirtual 118, 3) := dk_182 0 118 (dk_at dksX6_init_12 9 rfl rfl)
theorem dX6_init_291 : decode cX6_init 291 = .ok (.aload_n 0, 1) := dk_42 (dk_at dksX6_init_12 12 rfl rfl)
theorem dX6_init_292 : decode cX6_init 292 = .ok (.invokevirtual 121, 3) := dk_182 0 121 (dk_at dksX6_init_12 13 rfl rfl)
theorem dX6_init_295 : decode cX6_init 295 = .ok (.return_, 1) := dk_177 (dk_at dksX6_init_12 16 rfl rfl)
abbrev cX6_builds : ByteArray := prog_16_method_31_code
def yX6_builds : MethodName := ⟨RX6, "builds", "()V"⟩
def dkwX6_builds_14 : List UInt8 := [180, 0, 44, 28, 46, 182, 0, 250, 79, 132, 2, 1, 167, 255, 223, 132, 1, 1, 167, 255, 207, 177]
abbrev dktX6_builds_14 : List UInt8 := dkwX6_builds_14 ++ []
def dkwX6_builds_13 : List UInt8 := [61, 28, 42, 180, 0, 235, 162, 0, 31, 42, 180, 0, 50, 16, 64, 27, 104, 28, 96, 42, 27, 42]
abbrev dktX6_builds_13 : List UInt8 := dkwX6_builds_13 ++ dktX6_builds_14
def dkwX6_builds_12 : List UInt8 := [79, 132, 2, 1, 167, 255, 223, 132, 1, 1, 167, 255, 207, 3, 60, 27, 42, 180, 0, 235, 162, 0, 47, 3]
abbrev dktX6_builds_12 : List UInt8 := dkwX6_builds_12 ++ dktX6_builds_13
def dkwX6_builds_11 : List UInt8 := [162, 0, 31, 42, 180, 0, 53, 16, 24, 27, 104, 28, 96, 42, 42, 180, 0, 44, 27, 46, 28, 182, 0, 247]
abbrev dktX6_builds_11 : List UInt8 := dkwX6_builds_11 ++ dktX6_builds_12
def dkwX6_builds_10 : List UInt8 := [132, 1, 1, 167, 255, 210, 3, 60, 27, 42, 180, 0, 235, 162, 0, 47, 3, 61, 28, 42, 180, 0, 196]
abbrev dktX6_builds_10 : List UInt8 := dkwX6_builds_10 ++ dktX6_builds_11
def dkwX6_builds_9 : List UInt8 := [182, 0, 238, 182, 0, 244, 79, 42, 180, 0, 47, 42, 180, 0, 41, 27, 46, 92, 46, 4, 96, 79]
abbrev dktX6_builds_9 : List UInt8 := dkwX6_builds_9 ++ dktX6_builds_10
def dkwX6_builds_8 : List UInt8 := [60, 27, 42, 180, 0, 220, 162, 0, 44, 42, 180, 0, 41, 27, 42, 42, 42, 180, 0, 38, 27, 46]
abbrev dktX6_builds_8 : List UInt8 := dkwX6_builds_8 ++ dktX6_builds_9
def dkwX6_builds_7 : List UInt8 := [3, 60, 27, 42, 180, 0, 235, 162, 0, 16, 42, 180, 0, 47, 27, 3, 79, 132, 1, 1, 167, 255, 238, 3]
abbrev dktX6_builds_7 : List UInt8 := dkwX6_builds_7 ++ dktX6_builds_8
def dkwX6_builds_6 : List UInt8 := [180, 0, 38, 27, 46, 160, 0, 13, 42, 42, 180, 0, 38, 27, 46, 182, 0, 241, 132, 1, 1, 167, 255, 216]
abbrev dktX6_builds_6 : List UInt8 := dkwX6_builds_6 ++ dktX6_builds_7
def dkwX6_builds_5 : List UInt8 := [181, 0, 235, 3, 60, 27, 42, 180, 0, 220, 162, 0, 38, 42, 42, 180, 0, 38, 27, 46, 182, 0, 238, 42]
abbrev dktX6_builds_5 : List UInt8 := dkwX6_builds_5 ++ dktX6_builds_6
def dkwX6_builds_4 : List UInt8 := [180, 0, 220, 4, 96, 181, 0, 220, 132, 2, 1, 167, 255, 182, 132, 1, 1, 167, 255, 166, 42, 3]
abbrev dktX6_builds_4 : List UInt8 := dkwX6_builds_4 ++ dktX6_builds_5
def dkwX6_builds_3 : List UInt8 := [182, 0, 232, 2, 159, 0, 6, 167, 0, 23, 42, 180, 0, 38, 42, 180, 0, 220, 29, 79, 42, 89]
abbrev dktX6_builds_3 : List UInt8 := dkwX6_builds_3 ++ dktX6_builds_4
def dkwX6_builds_2 : List UInt8 := [153, 0, 6, 167, 0, 50, 42, 42, 180, 0, 38, 27, 46, 4, 28, 120, 128, 182, 0, 229, 62, 42, 29]
abbrev dktX6_builds_2 : List UInt8 := dkwX6_builds_2 ++ dktX6_builds_3
def dkwX6_builds_1 : List UInt8 := [162, 0, 88, 4, 61, 28, 42, 180, 0, 196, 162, 0, 72, 42, 180, 0, 38, 27, 46, 28, 184, 0, 213]
abbrev dktX6_builds_1 : List UInt8 := dkwX6_builds_1 ++ dktX6_builds_2
def dkwX6_builds_0 : List UInt8 := [42, 182, 0, 226, 87, 42, 4, 181, 0, 220, 42, 180, 0, 38, 3, 4, 79, 3, 60, 27, 42, 180, 0, 220]
abbrev dktX6_builds_0 : List UInt8 := dkwX6_builds_0 ++ dktX6_builds_1
theorem dksX6_builds_0 : cX6_builds.data.toList.drop 0 = dktX6_builds_0 := by decide +kernel
theorem dksX6_builds_1 : cX6_builds.data.toList.drop 24 = dktX6_builds_1 := dk_seg dksX6_builds_0 24 rfl rfl
theorem dksX6_builds_2 : cX6_builds.data.toList.drop 47 = dktX6_builds_2 := dk_seg dksX6_builds_1 23 rfl rfl
theorem dksX6_builds_3 : cX6_builds.data.toList.drop 70 = dktX6_builds_3 := dk_seg dksX6_builds_2 23 rfl rfl
theorem dksX6_builds_4 : cX6_builds.data.toList.drop 92 = dktX6_builds_4 := dk_seg dksX6_builds_3 22 rfl rfl
theorem dksX6_builds_5 : cX6_builds.data.toList.drop 114 = dktX6_builds_5 := dk_seg dksX6_builds_4 22 rfl rfl
theorem dksX6_builds_6 : cX6_builds.data.toList.drop 138 = dktX6_builds_6 := dk_seg dksX6_builds_5 24 rfl rfl
theorem dksX6_builds_7 : cX6_builds.data.toList.drop 162 = dktX6_builds_7 := dk_seg dksX6_builds_6 24 rfl rfl
theorem dksX6_builds_8 : cX6_builds.data.toList.drop 186 = dktX6_builds_8 := dk_seg dksX6_builds_7 24 rfl rfl
theorem dksX6_builds_9 : cX6_builds.data.toList.drop 208 = dktX6_builds_9 := dk_seg dksX6_builds_8 22 rfl rfl
theorem dksX6_builds_10 : cX6_builds.data.toList.drop 230 = dktX6_builds_10 := dk_seg dksX6_builds_9 22 rfl rfl
theorem dksX6_builds_11 : cX6_builds.data.toList.drop 253 = dktX6_builds_11 := dk_seg dksX6_builds_10 23 rfl rfl
theorem dksX6_builds_12 : cX6_builds.data.toList.drop 277 = dktX6_builds_12 := dk_seg dksX6_builds_11 24 rfl rfl
theorem dksX6_builds_13 : cX6_builds.data.toList.drop 301 = dktX6_builds_13 := dk_seg dksX6_builds_12 24 rfl rfl
theorem dksX6_builds_14 : cX6_builds.data.toList.drop 323 = dktX6_builds_14 := dk_seg dksX6_builds_13 22 rfl rfl
theorem dX6_builds_0 : decode cX6_builds 0 = .ok (.aload_n 0, 1) := dk_42 (dk_at dksX6_builds_0 0 rfl rfl)
theorem dX6_builds_1 : decode cX6_builds 1 = .ok (.invokevirtual 226, 3) := dk_182 0 226 (dk_at dksX6_builds_0 1 rfl rfl)
theorem dX6_builds_4 : decode cX6_builds 4 = .ok (.pop, 1) := dk_87 (dk_at dksX6_builds_0 4 rfl rfl)
theorem dX6_builds_5 : decode cX6_builds 5 = .ok (.aload_n 0, 1) := dk_42 (dk_at dksX6_builds_0 5 rfl rfl)
theorem dX6_builds_6 : decode cX6_builds 6 = .ok (.iconst 1, 1) := dk_4 (dk_at dksX6_builds_0 6 rfl rfl)
theorem dX6_builds_7 : decode cX6_builds 7 = .ok (.putfield 220, 3) := dk_181 0 220 (dk_at dksX6_builds_0 7 rfl rfl)
theorem dX6_builds_10 : decode cX6_builds 10 = .ok (.aload_n 0, 1) := dk_42 (dk_at dksX6_builds_0 10 rfl rfl)
theorem dX6_builds_11 : decode cX6_builds 11 = .ok (.getfield 38, 3) := dk_180 0 38 (dk_at dksX6_builds_0 11 rfl rfl)
theorem dX6_builds_14 : decode cX6_builds 14 = .ok (.iconst 0, 1) := dk_3 (dk_at dksX6_builds_0 14 rfl rfl)
theorem dX6_builds_15 : decode cX6_builds 15 = .ok (.iconst 1, 1) := dk_4 (dk_at dksX6_builds_0 15 rfl rfl)
theorem dX6_builds_16 : decode cX6_builds 16 = .ok (.iastore, 1) := dk_79 (dk_at dksX6_builds_0 16 rfl rfl)
theorem dX6_builds_17 : decode cX6_builds 17 = .ok (.iconst 0, 1) := dk_3 (dk_at dksX6_builds_0 17 rfl rfl)
theorem dX6_builds_18 : decode cX6_builds 18 = .ok (.istore_n 1, 1) := dk_60 (dk_at dksX6_builds_0 18 rfl rfl)
theorem dX6_builds_19 : decode cX6_builds 19 = .ok (.iload_n 1, 1) := dk_27 (dk_at dksX6_builds_0 19 rfl rfl)
theorem dX6_builds_20 : decode cX6_builds 20 = .ok (.aload_n 0, 1) := dk_42 (dk_at dksX6_builds_0 20 rfl rfl)
theorem dX6_builds_21 : decode cX6_builds 21 = .ok (.getfield 220, 3) := dk_180 0 220 (dk_at dksX6_builds_0 21 rfl rfl)
theorem dX6_builds_24 : decode cX6_builds 24 = .ok (.if_icmp .ge 88, 3) := dk_162 0 88 (dk_at dksX6_builds_1 0 rfl rfl)
theorem dX6_builds_27 : decode cX6_builds 27 = .ok (.iconst 1, 1) := dk_4 (dk_at dksX6_builds_1 3 rfl rfl)
theorem dX6_builds_28 : decode cX6_builds 28 = .ok (.istore_n 2, 1) := dk_61 (dk_at dksX6_builds_1 4 rfl rfl)
theorem dX6_builds_29 : decode cX6_builds 29 = .ok (.iload_n 2, 1) := dk_28 (dk_at dksX6_builds_1 5 rfl rfl)
theorem dX6_builds_30 : decode cX6_builds 30 = .ok (.aload_n 0, 1) := dk_42 (dk_at dksX6_builds_1 6 rfl rfl)
theorem dX6_builds_31 : decode cX6_builds 31 = .ok (.getfield 196, 3) := dk_180 0 196 (dk_at dksX6_builds_1 7 rfl rfl)
theorem dX6_builds_34 : decode cX6_builds 34 = .ok (.if_icmp .ge 72, 3) := dk_162 0 72 (dk_at dksX6_builds_1 10 rfl rfl)
theorem dX6_builds_37 : decode cX6_builds 37 = .ok (.aload_n 0, 1) := dk_42 (dk_at dksX6_builds_1 13 rfl rfl)
theorem dX6_builds_38 : decode cX6_builds 38 = .ok (.getfield 38, 3) := dk_180 0 38 (dk_at dksX6_builds_1 14 rfl rfl)
theorem dX6_builds_41 : decode cX6_builds 41 = .ok (.iload_n 1, 1) := dk_27 (dk_at dksX6_builds_1 17 rfl rfl)
theorem dX6_builds_42 : decode cX6_builds 42 = .ok (.iaload, 1) := dk_46 (dk_at dksX6_builds_1 18 rfl rfl)
theorem dX6_builds_43 : decode cX6_builds 43 = .ok (.iload_n 2, 1) := dk_28 (dk_at dksX6_builds_1 19 rfl rfl)
theorem dX6_builds_44 : decode cX6_builds 44 = .ok (.invokestatic 213, 3) := dk_184 0 213 (dk_at dksX6_builds_1 20 rfl rfl)
theorem dX6_builds_47 : decode cX6_builds 47 = .ok (.ifCond .eq 6, 3) := dk_153 0 6 (dk_at dksX6_builds_2 0 rfl rfl)
theorem dX6_builds_50 : decode cX6_builds 50 = .ok (.goto 50, 3) := dk_167 0 50 (dk_at dksX6_builds_2 3 rfl rfl)
theorem dX6_builds_53 : decode cX6_builds 53 = .ok (.aload_n 0, 1) := dk_42 (dk_at dksX6_builds_2 6 rfl rfl)
theorem dX6_builds_54 : decode cX6_builds 54 = .ok (.aload_n 0, 1) := dk_42 (dk_at dksX6_builds_2 7 rfl rfl)
theorem dX6_builds_55 : decode cX6_builds 55 = .ok (.getfield 38, 3) := dk_180 0 38 (dk_at dksX6_builds_2 8 rfl rfl)
theorem dX6_builds_58 : decode cX6_builds 58 = .ok (.iload_n 1, 1) := dk_27 (dk_at dksX6_builds_2 11 rfl rfl)
theorem dX6_builds_59 : decode cX6_builds 59 = .ok (.iaload, 1) := dk_46 (dk_at dksX6_builds_2 12 rfl rfl)
theorem dX6_builds_60 : decode cX6_builds 60 = .ok (.iconst 1, 1) := dk_4 (dk_at dksX6_builds_2 13 rfl rfl)
theorem dX6_builds_61 : decode cX6_builds 61 = .ok (.iload_n 2, 1) := dk_28 (dk_at dksX6_builds_2 14 rfl rfl)
theorem dX6_builds_62 : decode cX6_builds 62 = .ok (.ishl, 1) := dk_120 (dk_at dksX6_builds_2 15 rfl rfl)
theorem dX6_builds_63 : decode cX6_builds 63 = .ok (.ior, 1) := dk_128 (dk_at dksX6_builds_2 16 rfl rfl)
theorem dX6_builds_64 : decode cX6_builds 64 = .ok (.invokevirtual 229, 3) := dk_182 0 229 (dk_at dksX6_builds_2 17 rfl rfl)
theorem dX6_builds_67 : decode cX6_builds 67 = .ok (.istore_n 3, 1) := dk_62 (dk_at dksX6_builds_2 20 rfl rfl)
theorem dX6_builds_68 : decode cX6_builds 68 = .ok (.aload_n 0, 1) := dk_42 (dk_at dksX6_builds_2 21 rfl rfl)
theorem dX6_builds_69 : decode cX6_builds 69 = .ok (.iload_n 3, 1) := dk_29 (dk_at dksX6_builds_2 22 rfl rfl)
theorem dX6_builds_70 : decode cX6_builds 70 = .ok (.invokevirtual 232, 3) := dk_182 0 232 (dk_at dksX6_builds_3 0 rfl rfl)
theorem dX6_builds_73 : decode cX6_builds 73 = .ok (.iconst (-1), 1) := dk_2 (dk_at dksX6_builds_3 3 rfl rfl)
theorem dX6_builds_74 : decode cX6_builds 74 = .ok (.if_icmp .eq 6, 3) := dk_159 0 6 (dk_at dksX6_builds_3 4 rfl rfl)
theorem dX6_builds_77 : decode cX6_builds 77 = .ok (.goto 23, 3) := dk_167 0 23 (dk_at dksX6_builds_3 7 rfl rfl)
theorem dX6_builds_80 : decode cX6_builds 80 = .ok (.aload_n 0, 1) := dk_42 (dk_at dksX6_builds_3 10 rfl rfl)
theorem dX6_builds_81 : decode cX6_builds 81 = .ok (.getfield 38, 3) := dk_180 0 38 (dk_at dksX6_builds_3 11 rfl rfl)
theorem dX6_builds_84 : decode cX6_builds 84 = .ok (.aload_n 0, 1) := dk_42 (dk_at dksX6_builds_3 14 rfl rfl)
theorem dX6_builds_85 : decode cX6_builds 85 = .ok (.getfield 220, 3) := dk_180 0 220 (dk_at dksX6_builds_3 15 rfl rfl)
theorem dX6_builds_88 : decode cX6_builds 88 = .ok (.iload_n 3, 1) := dk_29 (dk_at dksX6_builds_3 18 rfl rfl)
theorem dX6_builds_89 : decode cX6_builds 89 = .ok (.iastore, 1) := dk_79 (dk_at dksX6_builds_3 19 rfl rfl)
theorem dX6_builds_90 : decode cX6_builds 90 = .ok (.aload_n 0, 1) := dk_42 (dk_at dksX6_builds_3 20 rfl rfl)
theorem dX6_builds_91 : decode cX6_builds 91 = .ok (.dup, 1) := dk_89 (dk_at dksX6_builds_3 21 rfl rfl)
theorem dX6_builds_92 : decode cX6_builds 92 = .ok (.getfield 220, 3) := dk_180 0 220 (dk_at dksX6_builds_4 0 rfl rfl)
theorem dX6_builds_95 : decode cX6_builds 95 = .ok (.iconst 1, 1) := dk_4 (dk_at dksX6_builds_4 3 rfl rfl)
theorem dX6_builds_96 : decode cX6_builds 96 = .ok (.iadd, 1) := dk_96 (dk_at dksX6_builds_4 4 rfl rfl)
theorem dX6_builds_97 : decode cX6_builds 97 = .ok (.putfield 220, 3) := dk_181 0 220 (dk_at dksX6_builds_4 5 rfl rfl)
theorem dX6_builds_100 : decode cX6_builds 100 = .ok (.iinc 2 1, 3) := dk_132 2 1 (dk_at dksX6_builds_4 8 rfl rfl)
theorem dX6_builds_103 : decode cX6_builds 103 = .ok (.goto (-74), 3) := dk_167 255 182 (dk_at dksX6_builds_4 11 rfl rfl)
theorem dX6_builds_106 : decode cX6_builds 106 = .ok (.iinc 1 1, 3) := dk_132 1 1 (dk_at dksX6_builds_4 14 rfl rfl)
theorem dX6_builds_109 : decode cX6_builds 109 = .ok (.goto (-90), 3) := dk_167 255 166 (dk_at dksX6_builds_4 17 rfl rfl)
theorem dX6_builds_112 : decode cX6_builds 112 = .ok (.aload_n 0, 1) := dk_42 (dk_at dksX6_builds_4 20 rfl rfl)
theorem dX6_builds_113 : decode cX6_builds 113 = .ok (.iconst 0, 1) := dk_3 (dk_at dksX6_builds_4 21 rfl rfl)
theorem dX6_builds_114 : decode cX6_builds 114 = .ok (.putfield 235, 3) := dk_181 0 235 (dk_at dksX6_builds_5 0 rfl rfl)
theorem dX6_builds_117 : decode cX6_builds 117 = .ok (.iconst 0, 1) := dk_3 (dk_at dksX6_builds_5 3 rfl rfl)
theorem dX6_builds_118 : decode cX6_builds 118 = .ok (.istore_n 1, 1) := dk_60 (dk_at dksX6_builds_5 4 rfl rfl)
theorem dX6_builds_119 : decode cX6_builds 119 = .ok (.iload_n 1, 1) := dk_27 (dk_at dksX6_builds_5 5 rfl rfl)
theorem dX6_builds_120 : decode cX6_builds 120 = .ok (.aload_n 0, 1) := dk_42 (dk_at dksX6_builds_5 6 rfl rfl)
theorem dX6_builds_121 : decode cX6_builds 121 = .ok (.getfield 220, 3) := dk_180 0 220 (dk_at dksX6_builds_5 7 rfl rfl)
theorem dX6_builds_124 : decode cX6_builds 124 = .ok (.if_icmp .ge 38, 3) := dk_162 0 38 (dk_at dksX6_builds_5 10 rfl rfl)
theorem dX6_builds_127 : decode cX6_builds 127 = .ok (.aload_n 0, 1) := dk_42 (dk_at dksX6_builds_5 13 rfl rfl)
theorem dX6_builds_128 : decode cX6_builds 128 = .ok (.aload_n 0, 1) := dk_42 (dk_at dksX6_builds_5 14 rfl rfl)
theorem dX6_builds_129 : decode cX6_builds 129 = .ok (.getfield 38, 3) := dk_180 0 38 (dk_at dksX6_builds_5 15 rfl rfl)
theorem dX6_builds_132 : decode cX6_builds 132 = .ok (.iload_n 1, 1) := dk_27 (dk_at dksX6_builds_5 18 rfl rfl)
theorem dX6_builds_133 : decode cX6_builds 133 = .ok (.iaload, 1) := dk_46 (dk_at dksX6_builds_5 19 rfl rfl)
theorem dX6_builds_134 : decode cX6_builds 134 = .ok (.invokevirtual 238, 3) := dk_182 0 238 (dk_at dksX6_builds_5 20 rfl rfl)
theorem dX6_builds_137 : decode cX6_builds 137 = .ok (.aload_n 0, 1) := dk_42 (dk_at dksX6_builds_5 23 rfl rfl)
theorem dX6_builds_138 : decode cX6_builds 138 = .ok (.getfield 38, 3) := dk_180 0 38 (dk_at dksX6_builds_6 0 rfl rfl)
theorem dX6_builds_141 : decode cX6_builds 141 = .ok (.iload_n 1, 1) := dk_27 (dk_at dksX6_builds_6 3 rfl rfl)
theorem dX6_builds_142 : decode cX6_builds 142 = .ok (.iaload, 1) := dk_46 (dk_at dksX6_builds_6 4 rfl rfl)
theorem dX6_builds_143 : decode cX6_builds 143 = .ok (.if_icmp .ne 13, 3) := dk_160 0 13 (dk_at dksX6_builds_6 5 rfl rfl)
theorem dX6_builds_146 : decode cX6_builds 146 = .ok (.aload_n 0, 1) := dk_42 (dk_at dksX6_builds_6 8 rfl rfl)
theorem dX6_builds_147 : decode cX6_builds 147 = .ok (.aload_n 0, 1) := dk_42 (dk_at dksX6_builds_6 9 rfl rfl)
theorem dX6_builds_148 : decode cX6_builds 148 = .ok (.getfield 38, 3) := dk_180 0 38 (dk_at dksX6_builds_6 10 rfl rfl)
theorem dX6_builds_151 : decode cX6_builds 151 = .ok (.iload_n 1, 1) := dk_27 (dk_at dksX6_builds_6 13 rfl rfl)
theorem dX6_builds_152 : decode cX6_builds 152 = .ok (.iaload, 1) := dk_46 (dk_at dksX6_builds_6 14 rfl rfl)
theorem dX6_builds_153 : decode cX6_builds 153 = .ok (.invokevirtual 241, 3) := dk_182 0 241 (dk_at dksX6_builds_6 15 rfl rfl)
theorem dX6_builds_156 : decode cX6_builds 156 = .ok (.iinc 1 1, 3) := dk_132 1 1 (dk_at dksX6_builds_6 18 rfl rfl)
theorem dX6_builds_159 : decode cX6_builds 159 = .ok (.goto (-40), 3) := dk_167 255 216 (dk_at dksX6_builds_6 21 rfl rfl)
theorem dX6_builds_162 : decode cX6_builds 162 = .ok (.iconst 0, 1) := dk_3 (dk_at dksX6_builds_7 0 rfl rfl)
theorem dX6_builds_163 : decode cX6_builds 163 = .ok (.istore_n 1, 1) := dk_60 (dk_at dksX6_builds_7 1 rfl rfl)
theorem dX6_builds_164 : decode cX6_builds 164 = .ok (.iload_n 1, 1) := dk_27 (dk_at dksX6_builds_7 2 rfl rfl)
theorem dX6_builds_165 : decode cX6_builds 165 = .ok (.aload_n 0, 1) := dk_42 (dk_at dksX6_builds_7 3 rfl rfl)
theorem dX6_builds_166 : decode cX6_builds 166 = .ok (.getfield 235, 3) := dk_180 0 235 (dk_at dksX6_builds_7 4 rfl rfl)
theorem dX6_builds_169 : decode cX6_builds 169 = .ok (.if_icmp .ge 16, 3) := dk_162 0 16 (dk_at dksX6_builds_7 7 rfl rfl)
theorem dX6_builds_172 : decode cX6_builds 172 = .ok (.aload_n 0, 1) := dk_42 (dk_at dksX6_builds_7 10 rfl rfl)
theorem dX6_builds_173 : decode cX6_builds 173 = .ok (.getfield 47, 3) := dk_180 0 47 (dk_at dksX6_builds_7 11 rfl rfl)
theorem dX6_builds_176 : decode cX6_builds 176 = .ok (.iload_n 1, 1) := dk_27 (dk_at dksX6_builds_7 14 rfl rfl)
theorem dX6_builds_177 : decode cX6_builds 177 = .ok (.iconst 0, 1) := dk_3 (dk_at dksX6_builds_7 15 rfl rfl)
theorem dX6_builds_178 : decode cX6_builds 178 = .ok (.iastore, 1) := dk_79 (dk_at dksX6_builds_7 16 rfl rfl)
theorem dX6_builds_179 : decode cX6_builds 179 = .ok (.iinc 1 1, 3) := dk_132 1 1 (dk_at dksX6_builds_7 17 rfl rfl)
theorem dX6_builds_182 : decode cX6_builds 182 = .ok (.goto (-18), 3) := dk_167 255 238 (dk_at dksX6_builds_7 20 rfl rfl)
theorem dX6_builds_185 : decode cX6_builds 185 = .ok (.iconst 0, 1) := dk_3 (dk_at dksX6_builds_7 23 rfl rfl)
theorem dX6_builds_186 : decode cX6_builds 186 = .ok (.istore_n 1, 1) := dk_60 (dk_at dksX6_builds_8 0 rfl rfl)
theorem dX6_builds_187 : decode cX6_builds 187 = .ok (.iload_n 1, 1) := dk_27 (dk_at dksX6_builds_8 1 rfl rfl)
theorem dX6_builds_188 : decode cX6_builds 188 = .ok (.aload_n 0, 1) := dk_42 (dk_at dksX6_builds_8 2 rfl rfl)
theorem dX6_builds_189 : decode cX6_builds 189 = .ok (.getfield 220, 3) := dk_180 0 220 (dk_at dksX6_builds_8 3 rfl rfl)
theorem dX6_builds_192 : decode cX6_builds 192 = .ok (.if_icmp .ge 44, 3) := dk_162 0 44 (dk_at dksX6_builds_8 6 rfl rfl)
theorem dX6_builds_195 : decode cX6_builds 195 = .ok (.aload_n 0, 1) := dk_42 (dk_at dksX6_builds_8 9 rfl rfl)
theorem dX6_builds_196 : decode cX6_builds 196 = .ok (.getfield 41, 3) := dk_180 0 41 (dk_at dksX6_builds_8 10 rfl rfl)
theorem dX6_builds_199 : decode cX6_builds 199 = .ok (.iload_n 1, 1) := dk_27 (dk_at dksX6_builds_8 13 rfl rfl)
theorem dX6_builds_200 : decode cX6_builds 200 = .ok (.aload_n 0, 1) := dk_42 (dk_at dksX6_builds_8 14 rfl rfl)
theorem dX6_builds_201 : decode cX6_builds 201 = .ok (.aload_n 0, 1) := dk_42 (dk_at dksX6_builds_8 15 rfl rfl)
theorem dX6_builds_202 : decode cX6_builds 202 = .ok (.aload_n 0, 1) := dk_42 (dk_at dksX6_builds_8 16 rfl rfl)
theorem dX6_builds_203 : decode cX6_builds 203 = .ok (.getfield 38, 3) := dk_180 0 38 (dk_at dksX6_builds_8 17 rfl rfl)
theorem dX6_builds_206 : decode cX6_builds 206 = .ok (.iload_n 1, 1) := dk_27 (dk_at dksX6_builds_8 20 rfl rfl)
theorem dX6_builds_207 : decode cX6_builds 207 = .ok (.iaload, 1) := dk_46 (dk_at dksX6_builds_8 21 rfl rfl)
theorem dX6_builds_208 : decode cX6_builds 208 = .ok (.invokevirtual 238, 3) := dk_182 0 238 (dk_at dksX6_builds_9 0 rfl rfl)
theorem dX6_builds_211 : decode cX6_builds 211 = .ok (.invokevirtual 244, 3) := dk_182 0 244 (dk_at dksX6_builds_9 3 rfl rfl)
theorem dX6_builds_214 : decode cX6_builds 214 = .ok (.iastore, 1) := dk_79 (dk_at dksX6_builds_9 6 rfl rfl)
theorem dX6_builds_215 : decode cX6_builds 215 = .ok (.aload_n 0, 1) := dk_42 (dk_at dksX6_builds_9 7 rfl rfl)
theorem dX6_builds_216 : decode cX6_builds 216 = .ok (.getfield 47, 3) := dk_180 0 47 (dk_at dksX6_builds_9 8 rfl rfl)
theorem dX6_builds_219 : decode cX6_builds 219 = .ok (.aload_n 0, 1) := dk_42 (dk_at dksX6_builds_9 11 rfl rfl)
theorem dX6_builds_220 : decode cX6_builds 220 = .ok (.getfield 41, 3) := dk_180 0 41 (dk_at dksX6_builds_9 12 rfl rfl)
theorem dX6_builds_223 : decode cX6_builds 223 = .ok (.iload_n 1, 1) := dk_27 (dk_at dksX6_builds_9 15 rfl rfl)
theorem dX6_builds_224 : decode cX6_builds 224 = .ok (.iaload, 1) := dk_46 (dk_at dksX6_builds_9 16 rfl rfl)
theorem dX6_builds_225 : decode cX6_builds 225 = .ok (.dup2, 1) := dk_92 (dk_at dksX6_builds_9 17 rfl rfl)
theorem dX6_builds_226 : decode cX6_builds 226 = .ok (.iaload, 1) := dk_46 (dk_at dksX6_builds_9 18 rfl rfl)
theorem dX6_builds_227 : decode cX6_builds 227 = .ok (.iconst 1, 1) := dk_4 (dk_at dksX6_builds_9 19 rfl rfl)
theorem dX6_builds_228 : decode cX6_builds 228 = .ok (.iadd, 1) := dk_96 (dk_at dksX6_builds_9 20 rfl rfl)
theorem dX6_builds_229 : decode cX6_builds 229 = .ok (.iastore, 1) := dk_79 (dk_at dksX6_builds_9 21 rfl rfl)
theorem dX6_builds_230 : decode cX6_builds 230 = .ok (.iinc 1 1, 3) := dk_132 1 1 (dk_at dksX6_builds_10 0 rfl rfl)
theorem dX6_builds_233 : decode cX6_builds 233 = .ok (.goto (-46), 3) := dk_167 255 210 (dk_at dksX6_builds_10 3 rfl rfl)
theorem dX6_builds_236 : decode cX6_builds 236 = .ok (.iconst 0, 1) := dk_3 (dk_at dksX6_builds_10 6 rfl rfl)
theorem dX6_builds_237 : decode cX6_builds 237 = .ok (.istore_n 1, 1) := dk_60 (dk_at dksX6_builds_10 7 rfl rfl)
theorem dX6_builds_238 : decode cX6_builds 238 = .ok (.iload_n 1, 1) := dk_27 (dk_at dksX6_builds_10 8 rfl rfl)
theorem dX6_builds_239 : decode cX6_builds 239 = .ok (.aload_n 0, 1) := dk_42 (dk_at dksX6_builds_10 9 rfl rfl)
theorem dX6_builds_240 : decode cX6_builds 240 = .ok (.getfield 235, 3) := dk_180 0 235 (dk_at dksX6_builds_10 10 rfl rfl)
theorem dX6_builds_243 : decode cX6_builds 243 = .ok (.if_icmp .ge 47, 3) := dk_162 0 47 (dk_at dksX6_builds_10 13 rfl rfl)
theorem dX6_builds_246 : decode cX6_builds 246 = .ok (.iconst 0, 1) := dk_3 (dk_at dksX6_builds_10 16 rfl rfl)
theorem dX6_builds_247 : decode cX6_builds 247 = .ok (.istore_n 2, 1) := dk_61 (dk_at dksX6_builds_10 17 rfl rfl)
theorem dX6_builds_248 : decode cX6_builds 248 = .ok (.iload_n 2, 1) := dk_28 (dk_at dksX6_builds_10 18 rfl rfl)
theorem dX6_builds_249 : decode cX6_builds 249 = .ok (.aload_n 0, 1) := dk_42 (dk_at dksX6_builds_10 19 rfl rfl)
theorem dX6_builds_250 : decode cX6_builds 250 = .ok (.getfield 196, 3) := dk_180 0 196 (dk_at dksX6_builds_10 20 rfl rfl)
theorem dX6_builds_253 : decode cX6_builds 253 = .ok (.if_icmp .ge 31, 3) := dk_162 0 31 (dk_at dksX6_builds_11 0 rfl rfl)
theorem dX6_builds_256 : decode cX6_builds 256 = .ok (.aload_n 0, 1) := dk_42 (dk_at dksX6_builds_11 3 rfl rfl)
theorem dX6_builds_257 : decode cX6_builds 257 = .ok (.getfield 53, 3) := dk_180 0 53 (dk_at dksX6_builds_11 4 rfl rfl)
theorem dX6_builds_260 : decode cX6_builds 260 = .ok (.bipush 24, 2) := dk_16 24 (dk_at dksX6_builds_11 7 rfl rfl)
theorem dX6_builds_262 : decode cX6_builds 262 = .ok (.iload_n 1, 1) := dk_27 (dk_at dksX6_builds_11 9 rfl rfl)
theorem dX6_builds_263 : decode cX6_builds 263 = .ok (.imul, 1) := dk_104 (dk_at dksX6_builds_11 10 rfl rfl)
theorem dX6_builds_264 : decode cX6_builds 264 = .ok (.iload_n 2, 1) := dk_28 (dk_at dksX6_builds_11 11 rfl rfl)
theorem dX6_builds_265 : decode cX6_builds 265 = .ok (.iadd, 1) := dk_96 (dk_at dksX6_builds_11 12 rfl rfl)
theorem dX6_builds_266 : decode cX6_builds 266 = .ok (.aload_n 0, 1) := dk_42 (dk_at dksX6_builds_11 13 rfl rfl)
theorem dX6_builds_267 : decode cX6_builds 267 = .ok (.aload_n 0, 1) := dk_42 (dk_at dksX6_builds_11 14 rfl rfl)
theorem dX6_builds_268 : decode cX6_builds 268 = .ok (.getfield 44, 3) := dk_180 0 44 (dk_at dksX6_builds_11 15 rfl rfl)
theorem dX6_builds_271 : decode cX6_builds 271 = .ok (.iload_n 1, 1) := dk_27 (dk_at dksX6_builds_11 18 rfl rfl)
theorem dX6_builds_272 : decode cX6_builds 272 = .ok (.iaload, 1) := dk_46 (dk_at dksX6_builds_11 19 rfl rfl)
theorem dX6_builds_273 : decode cX6_builds 273 = .ok (.iload_n 2, 1) := dk_28 (dk_at dksX6_builds_11 20 rfl rfl)
theorem dX6_builds_274 : decode cX6_builds 274 = .ok (.invokevirtual 247, 3) := dk_182 0 247 (dk_at dksX6_builds_11 21 rfl rfl)
theorem dX6_builds_277 : decode cX6_builds 277 = .ok (.iastore, 1) := dk_79 (dk_at dksX6_builds_12 0 rfl rfl)
theorem dX6_builds_278 : decode cX6_builds 278 = .ok (.iinc 2 1, 3) := dk_132 2 1 (dk_at dksX6_builds_12 1 rfl rfl)
theorem dX6_builds_281 : decode cX6_builds 281 = .ok (.goto (-33), 3) := dk_167 255 223 (dk_at dksX6_builds_12 4 rfl rfl)
theorem dX6_builds_284 : decode cX6_builds 284 = .ok (.iinc 1 1, 3) := dk_132 1 1 (dk_at dksX6_builds_12 7 rfl rfl)
theorem dX6_builds_287 : decode cX6_builds 287 = .ok (.goto (-49), 3) := dk_167 255 207 (dk_at dksX6_builds_12 10 rfl rfl)
theorem dX6_builds_290 : decode cX6_builds 290 = .ok (.iconst 0, 1) := dk_3 (dk_at dksX6_builds_12 13 rfl rfl)
theorem dX6_builds_291 : decode cX6_builds 291 = .ok (.istore_n 1, 1) := dk_60 (dk_at dksX6_builds_12 14 rfl rfl)
theorem dX6_builds_292 : decode cX6_builds 292 = .ok (.iload_n 1, 1) := dk_27 (dk_at dksX6_builds_12 15 rfl rfl)
theorem dX6_builds_293 : decode cX6_builds 293 = .ok (.aload_n 0, 1) := dk_42 (dk_at dksX6_builds_12 16 rfl rfl)
theorem dX6_builds_294 : decode cX6_builds 294 = .ok (.getfield 235, 3) := dk_180 0 235 (dk_at dksX6_builds_12 17 rfl rfl)
theorem dX6_builds_297 : decode cX6_builds 297 = .ok (.if_icmp .ge 47, 3) := dk_162 0 47 (dk_at dksX6_builds_12 20 rfl rfl)
theorem dX6_builds_300 : decode cX6_builds 300 = .ok (.iconst 0, 1) := dk_3 (dk_at dksX6_builds_12 23 rfl rfl)
theorem dX6_builds_301 : decode cX6_builds 301 = .ok (.istore_n 2, 1) := dk_61 (dk_at dksX6_builds_13 0 rfl rfl)
theorem dX6_builds_302 : decode cX6_builds 302 = .ok (.iload_n 2, 1) := dk_28 (dk_at dksX6_builds_13 1 rfl rfl)
theorem dX6_builds_303 : decode cX6_builds 303 = .ok (.aload_n 0, 1) := dk_42 (dk_at dksX6_builds_13 2 rfl rfl)
theorem dX6_builds_304 : decode cX6_builds 304 = .ok (.getfield 235, 3) := dk_180 0 235 (dk_at dksX6_builds_13 3 rfl rfl)
theorem dX6_builds_307 : decode cX6_builds 307 = .ok (.if_icmp .ge 31, 3) := dk_162 0 31 (dk_at dksX6_builds_13 6 rfl rfl)
theorem dX6_builds_310 : decode cX6_builds 310 = .ok (.aload_n 0, 1) := dk_42 (dk_at dksX6_builds_13 9 rfl rfl)
theorem dX6_builds_311 : decode cX6_builds 311 = .ok (.getfield 50, 3) := dk_180 0 50 (dk_at dksX6_builds_13 10 rfl rfl)
theorem dX6_builds_314 : decode cX6_builds 314 = .ok (.bipush 64, 2) := dk_16 64 (dk_at dksX6_builds_13 13 rfl rfl)
theorem dX6_builds_316 : decode cX6_builds 316 = .ok (.iload_n 1, 1) := dk_27 (dk_at dksX6_builds_13 15 rfl rfl)
theorem dX6_builds_317 : decode cX6_builds 317 = .ok (.imul, 1) := dk_104 (dk_at dksX6_builds_13 16 rfl rfl)
theorem dX6_builds_318 : decode cX6_builds 318 = .ok (.iload_n 2, 1) := dk_28 (dk_at dksX6_builds_13 17 rfl rfl)
theorem dX6_builds_319 : decode cX6_builds 319 = .ok (.iadd, 1) := dk_96 (dk_at dksX6_builds_13 18 rfl rfl)
theorem dX6_builds_320 : decode cX6_builds 320 = .ok (.aload_n 0, 1) := dk_42 (dk_at dksX6_builds_13 19 rfl rfl)
theorem dX6_builds_321 : decode cX6_builds 321 = .ok (.iload_n 1, 1) := dk_27 (dk_at dksX6_builds_13 20 rfl rfl)
theorem dX6_builds_322 : decode cX6_builds 322 = .ok (.aload_n 0, 1) := dk_42 (dk_at dksX6_builds_13 21 rfl rfl)
theorem dX6_builds_323 : decode cX6_builds 323 = .ok (.getfield 44, 3) := dk_180 0 44 (dk_at dksX6_builds_14 0 rfl rfl)
theorem dX6_builds_326 : decode cX6_builds 326 = .ok (.iload_n 2, 1) := dk_28 (dk_at dksX6_builds_14 3 rfl rfl)
theorem dX6_builds_327 : decode cX6_builds 327 = .ok (.iaload, 1) := dk_46 (dk_at dksX6_builds_14 4 rfl rfl)
theorem dX6_builds_328 : decode cX6_builds 328 = .ok (.invokevirtual 250, 3) := dk_182 0 250 (dk_at dksX6_builds_14 5 rfl rfl)
theorem dX6_builds_331 : decode cX6_builds 331 = .ok (.iastore, 1) := dk_79 (dk_at dksX6_builds_14 8 rfl rfl)
theorem dX6_builds_332 : decode cX6_builds 332 = .ok (.iinc 2 1, 3) := dk_132 2 1 (dk_at dksX6_builds_14 9 rfl rfl)
theorem dX6_builds_335 : decode cX6_builds 335 = .ok (.goto (-33), 3) := dk_167 255 223 (dk_at dksX6_builds_14 12 rfl rfl)
theorem dX6_builds_338 : decode cX6_builds 338 = .ok (.iinc 1 1, 3) := dk_132 1 1 (dk_at dksX6_builds_14 15 rfl rfl)
theorem dX6_builds_341 : decode cX6_builds 341 = .ok (.goto (-49), 3) := dk_167 255 207 (dk_at dksX6_builds_14 18 rfl rfl)
theorem dX6_builds_344 : decode cX6_builds 344 = .ok (.return_, 1) := dk_177 (dk_at dksX6_builds_14 21 rfl rfl)
abbrev cX6_buildsMembers : ByteArray := prog_16_method_25_code
def yX6_buildsMembers : MethodName := ⟨RX6, "buildsMembers", "()Z"⟩
def dkwX6_buildsMembers_14 : List UInt8 := [167, 255, 150, 4, 172]
abbrev dktX6_buildsMembers_14 : List UInt8 := dkwX6_buildsMembers_14 ++ []
def dkwX6_buildsMembers_13 : List UInt8 := [27, 104, 28, 96, 46, 154, 0, 10, 42, 180, 0, 35, 27, 28, 79, 132, 2, 1, 167, 255, 166, 132, 1, 1]
abbrev dktX6_buildsMembers_13 : List UInt8 := dkwX6_buildsMembers_13 ++ dktX6_buildsMembers_14
def dkwX6_buildsMembers_12 : List UInt8 := [167, 255, 218, 42, 180, 0, 32, 16, 24, 27, 104, 28, 96, 42, 182, 0, 202, 79, 42, 180, 0, 32, 16, 24]
abbrev dktX6_buildsMembers_12 : List UInt8 := dkwX6_buildsMembers_12 ++ dktX6_buildsMembers_13
def dkwX6_buildsMembers_11 : List UInt8 := [180, 0, 26, 16, 6, 28, 104, 42, 180, 0, 26, 16, 6, 27, 104, 29, 96, 46, 96, 46, 79, 132, 3, 1]
abbrev dktX6_buildsMembers_11 : List UInt8 := dkwX6_buildsMembers_11 ++ dktX6_buildsMembers_12
def dkwX6_buildsMembers_10 : List UInt8 := [180, 0, 196, 162, 0, 88, 3, 62, 29, 42, 180, 0, 115, 162, 0, 36, 42, 180, 0, 29, 29, 42]
abbrev dktX6_buildsMembers_10 : List UInt8 := dkwX6_buildsMembers_10 ++ dktX6_buildsMembers_11
def dkwX6_buildsMembers_9 : List UInt8 := [167, 255, 230, 132, 1, 1, 167, 255, 212, 3, 60, 27, 42, 180, 0, 196, 162, 0, 104, 3, 61, 28, 42]
abbrev dktX6_buildsMembers_9 : List UInt8 := dkwX6_buildsMembers_9 ++ dktX6_buildsMembers_10
def dkwX6_buildsMembers_8 : List UInt8 := [180, 0, 196, 162, 0, 24, 42, 27, 28, 182, 0, 206, 153, 0, 9, 42, 27, 28, 182, 0, 210, 132, 2, 1]
abbrev dktX6_buildsMembers_8 : List UInt8 := dkwX6_buildsMembers_8 ++ dktX6_buildsMembers_9
def dkwX6_buildsMembers_7 : List UInt8 := [132, 1, 1, 167, 255, 118, 3, 60, 27, 42, 180, 0, 196, 162, 0, 42, 27, 4, 96, 61, 28, 42]
abbrev dktX6_buildsMembers_7 : List UInt8 := dkwX6_buildsMembers_7 ++ dktX6_buildsMembers_8
def dkwX6_buildsMembers_6 : List UInt8 := [132, 3, 1, 167, 255, 225, 42, 89, 180, 0, 196, 4, 96, 181, 0, 196, 132, 2, 1, 167, 255, 134]
abbrev dktX6_buildsMembers_6 : List UInt8 := dkwX6_buildsMembers_6 ++ dktX6_buildsMembers_7
def dkwX6_buildsMembers_5 : List UInt8 := [162, 0, 29, 42, 180, 0, 26, 16, 6, 42, 180, 0, 196, 104, 29, 96, 42, 180, 0, 29, 29, 46, 79]
abbrev dktX6_buildsMembers_5 : List UInt8 := dkwX6_buildsMembers_5 ++ dktX6_buildsMembers_6
def dkwX6_buildsMembers_4 : List UInt8 := [159, 0, 6, 167, 0, 60, 42, 180, 0, 196, 16, 24, 160, 0, 5, 3, 172, 3, 62, 29, 42, 180, 0, 115]
abbrev dktX6_buildsMembers_4 : List UInt8 := dkwX6_buildsMembers_4 ++ dktX6_buildsMembers_5
def dkwX6_buildsMembers_3 : List UInt8 := [180, 0, 26, 16, 6, 27, 104, 29, 96, 46, 96, 46, 79, 132, 3, 1, 167, 255, 218, 42, 182, 0, 202, 2]
abbrev dktX6_buildsMembers_3 : List UInt8 := dkwX6_buildsMembers_3 ++ dktX6_buildsMembers_4
def dkwX6_buildsMembers_2 : List UInt8 := [62, 29, 42, 180, 0, 115, 162, 0, 36, 42, 180, 0, 29, 29, 42, 180, 0, 20, 16, 6, 28, 104, 42]
abbrev dktX6_buildsMembers_2 : List UInt8 := dkwX6_buildsMembers_2 ++ dktX6_buildsMembers_3
def dkwX6_buildsMembers_1 : List UInt8 := [167, 255, 240, 3, 60, 27, 42, 180, 0, 196, 162, 0, 136, 3, 61, 28, 42, 180, 0, 199, 162, 0, 120, 3]
abbrev dktX6_buildsMembers_1 : List UInt8 := dkwX6_buildsMembers_1 ++ dktX6_buildsMembers_2
def dkwX6_buildsMembers_0 : List UInt8 := [42, 4, 181, 0, 196, 3, 60, 27, 16, 6, 162, 0, 16, 42, 180, 0, 26, 27, 27, 79, 132, 1, 1]
abbrev dktX6_buildsMembers_0 : List UInt8 := dkwX6_buildsMembers_0 ++ dktX6_buildsMembers_1
theorem dksX6_buildsMembers_0 : cX6_buildsMembers.data.toList.drop 0 = dktX6_buildsMembers_0 := by decide +kernel
theorem dksX6_buildsMembers_1 : cX6_buildsMembers.data.toList.drop 23 = dktX6_buildsMembers_1 := dk_seg dksX6_buildsMembers_0 23 rfl rfl
theorem dksX6_buildsMembers_2 : cX6_buildsMembers.data.toList.drop 47 = dktX6_buildsMembers_2 := dk_seg dksX6_buildsMembers_1 24 rfl rfl
theorem dksX6_buildsMembers_3 : cX6_buildsMembers.data.toList.drop 70 = dktX6_buildsMembers_3 := dk_seg dksX6_buildsMembers_2 23 rfl rfl
theorem dksX6_buildsMembers_4 : cX6_buildsMembers.data.toList.drop 94 = dktX6_buildsMembers_4 := dk_seg dksX6_buildsMembers_3 24 rfl rfl
theorem dksX6_buildsMembers_5 : cX6_buildsMembers.data.toList.drop 118 = dktX6_buildsMembers_5 := dk_seg dksX6_buildsMembers_4 24 rfl rfl
theorem dksX6_buildsMembers_6 : cX6_buildsMembers.data.toList.drop 141 = dktX6_buildsMembers_6 := dk_seg dksX6_buildsMembers_5 23 rfl rfl
theorem dksX6_buildsMembers_7 : cX6_buildsMembers.data.toList.drop 163 = dktX6_buildsMembers_7 := dk_seg dksX6_buildsMembers_6 22 rfl rfl
theorem dksX6_buildsMembers_8 : cX6_buildsMembers.data.toList.drop 185 = dktX6_buildsMembers_8 := dk_seg dksX6_buildsMembers_7 22 rfl rfl
theorem dksX6_buildsMembers_9 : cX6_buildsMembers.data.toList.drop 209 = dktX6_buildsMembers_9 := dk_seg dksX6_buildsMembers_8 24 rfl rfl
theorem dksX6_buildsMembers_10 : cX6_buildsMembers.data.toList.drop 232 = dktX6_buildsMembers_10 := dk_seg dksX6_buildsMembers_9 23 rfl rfl
theorem dksX6_buildsMembers_11 : cX6_buildsMembers.data.toList.drop 254 = dktX6_buildsMembers_11 := dk_seg dksX6_buildsMembers_10 22 rfl rfl
theorem dksX6_buildsMembers_12 : cX6_buildsMembers.data.toList.drop 278 = dktX6_buildsMembers_12 := dk_seg dksX6_buildsMembers_11 24 rfl rfl
theorem dksX6_buildsMembers_13 : cX6_buildsMembers.data.toList.drop 302 = dktX6_buildsMembers_13 := dk_seg dksX6_buildsMembers_12 24 rfl rfl
theorem dksX6_buildsMembers_14 : cX6_buildsMembers.data.toList.drop 326 = dktX6_buildsMembers_14 := dk_seg dksX6_buildsMembers_13 24 rfl rfl
theorem dX6_buildsMembers_0 : decode cX6_buildsMembers 0 = .ok (.aload_n 0, 1) := dk_42 (dk_at dksX6_buildsMembers_0 0 rfl rfl)
theorem dX6_buildsMembers_1 : decode cX6_buildsMembers 1 = .ok (.iconst 1, 1) := dk_4 (dk_at dksX6_buildsMembers_0 1 rfl rfl)
theorem dX6_buildsMembers_2 : decode cX6_buildsMembers 2 = .ok (.putfield 196, 3) := dk_181 0 196 (dk_at dksX6_buildsMembers_0 2 rfl rfl)
theorem dX6_buildsMembers_5 : decode cX6_buildsMembers 5 = .ok (.iconst 0, 1) := dk_3 (dk_at dksX6_buildsMembers_0 5 rfl rfl)
theorem dX6_buildsMembers_6 : decode cX6_buildsMembers 6 = .ok (.istore_n 1, 1) := dk_60 (dk_at dksX6_buildsMembers_0 6 rfl rfl)
theorem dX6_buildsMembers_7 : decode cX6_buildsMembers 7 = .ok (.iload_n 1, 1) := dk_27 (dk_at dksX6_buildsMembers_0 7 rfl rfl)
theorem dX6_buildsMembers_8 : decode cX6_buildsMembers 8 = .ok (.bipush 6, 2) := dk_16 6 (dk_at dksX6_buildsMembers_0 8 rfl rfl)
theorem dX6_buildsMembers_10 : decode cX6_buildsMembers 10 = .ok (.if_icmp .ge 16, 3) := dk_162 0 16 (dk_at dksX6_buildsMembers_0 10 rfl rfl)
theorem dX6_buildsMembers_13 : decode cX6_buildsMembers 13 = .ok (.aload_n 0, 1) := dk_42 (dk_at dksX6_buildsMembers_0 13 rfl rfl)
theorem dX6_buildsMembers_14 : decode cX6_buildsMembers 14 = .ok (.getfield 26, 3) := dk_180 0 26 (dk_at dksX6_buildsMembers_0 14 rfl rfl)
theorem dX6_buildsMembers_17 : decode cX6_buildsMembers 17 = .ok (.iload_n 1, 1) := dk_27 (dk_at dksX6_buildsMembers_0 17 rfl rfl)
theorem dX6_buildsMembers_18 : decode cX6_buildsMembers 18 = .ok (.iload_n 1, 1) := dk_27 (dk_at dksX6_buildsMembers_0 18 rfl rfl)
theorem dX6_buildsMembers_19 : decode cX6_buildsMembers 19 = .ok (.iastore, 1) := dk_79 (dk_at dksX6_buildsMembers_0 19 rfl rfl)
theorem dX6_buildsMembers_20 : decode cX6_buildsMembers 20 = .ok (.iinc 1 1, 3) := dk_132 1 1 (dk_at dksX6_buildsMembers_0 20 rfl rfl)
theorem dX6_buildsMembers_23 : decode cX6_buildsMembers 23 = .ok (.goto (-16), 3) := dk_167 255 240 (dk_at dksX6_buildsMembers_1 0 rfl rfl)
theorem dX6_buildsMembers_26 : decode cX6_buildsMembers 26 = .ok (.iconst 0, 1) := dk_3 (dk_at dksX6_buildsMembers_1 3 rfl rfl)
theorem dX6_buildsMembers_27 : decode cX6_buildsMembers 27 = .ok (.istore_n 1, 1) := dk_60 (dk_at dksX6_buildsMembers_1 4 rfl rfl)
theorem dX6_buildsMembers_28 : decode cX6_buildsMembers 28 = .ok (.iload_n 1, 1) := dk_27 (dk_at dksX6_buildsMembers_1 5 rfl rfl)
theorem dX6_buildsMembers_29 : decode cX6_buildsMembers 29 = .ok (.aload_n 0, 1) := dk_42 (dk_at dksX6_buildsMembers_1 6 rfl rfl)
theorem dX6_buildsMembers_30 : decode cX6_buildsMembers 30 = .ok (.getfield 196, 3) := dk_180 0 196 (dk_at dksX6_buildsMembers_1 7 rfl rfl)
theorem dX6_buildsMembers_33 : decode cX6_buildsMembers 33 = .ok (.if_icmp .ge 136, 3) := dk_162 0 136 (dk_at dksX6_buildsMembers_1 10 rfl rfl)
theorem dX6_buildsMembers_36 : decode cX6_buildsMembers 36 = .ok (.iconst 0, 1) := dk_3 (dk_at dksX6_buildsMembers_1 13 rfl rfl)
theorem dX6_buildsMembers_37 : decode cX6_buildsMembers 37 = .ok (.istore_n 2, 1) := dk_61 (dk_at dksX6_buildsMembers_1 14 rfl rfl)
theorem dX6_buildsMembers_38 : decode cX6_buildsMembers 38 = .ok (.iload_n 2, 1) := dk_28 (dk_at dksX6_buildsMembers_1 15 rfl rfl)
theorem dX6_buildsMembers_39 : decode cX6_buildsMembers 39 = .ok (.aload_n 0, 1) := dk_42 (dk_at dksX6_buildsMembers_1 16 rfl rfl)
theorem dX6_buildsMembers_40 : decode cX6_buildsMembers 40 = .ok (.getfield 199, 3) := dk_180 0 199 (dk_at dksX6_buildsMembers_1 17 rfl rfl)
theorem dX6_buildsMembers_43 : decode cX6_buildsMembers 43 = .ok (.if_icmp .ge 120, 3) := dk_162 0 120 (dk_at dksX6_buildsMembers_1 20 rfl rfl)
theorem dX6_buildsMembers_46 : decode cX6_buildsMembers 46 = .ok (.iconst 0, 1) := dk_3 (dk_at dksX6_buildsMembers_1 23 rfl rfl)
theorem dX6_buildsMembers_47 : decode cX6_buildsMembers 47 = .ok (.istore_n 3, 1) := dk_62 (dk_at dksX6_buildsMembers_2 0 rfl rfl)
theorem dX6_buildsMembers_48 : decode cX6_buildsMembers 48 = .ok (.iload_n 3, 1) := dk_29 (dk_at dksX6_buildsMembers_2 1 rfl rfl)
theorem dX6_buildsMembers_49 : decode cX6_buildsMembers 49 = .ok (.aload_n 0, 1) := dk_42 (dk_at dksX6_buildsMembers_2 2 rfl rfl)
theorem dX6_buildsMembers_50 : decode cX6_buildsMembers 50 = .ok (.getfield 115, 3) := dk_180 0 115 (dk_at dksX6_buildsMembers_2 3 rfl rfl)
theorem dX6_buildsMembers_53 : decode cX6_buildsMembers 53 = .ok (.if_icmp .ge 36, 3) := dk_162 0 36 (dk_at dksX6_buildsMembers_2 6 rfl rfl)
theorem dX6_buildsMembers_56 : decode cX6_buildsMembers 56 = .ok (.aload_n 0, 1) := dk_42 (dk_at dksX6_buildsMembers_2 9 rfl rfl)
theorem dX6_buildsMembers_57 : decode cX6_buildsMembers 57 = .ok (.getfield 29, 3) := dk_180 0 29 (dk_at dksX6_buildsMembers_2 10 rfl rfl)
theorem dX6_buildsMembers_60 : decode cX6_buildsMembers 60 = .ok (.iload_n 3, 1) := dk_29 (dk_at dksX6_buildsMembers_2 13 rfl rfl)
theorem dX6_buildsMembers_61 : decode cX6_buildsMembers 61 = .ok (.aload_n 0, 1) := dk_42 (dk_at dksX6_buildsMembers_2 14 rfl rfl)
theorem dX6_buildsMembers_62 : decode cX6_buildsMembers 62 = .ok (.getfield 20, 3) := dk_180 0 20 (dk_at dksX6_buildsMembers_2 15 rfl rfl)
theorem dX6_buildsMembers_65 : decode cX6_buildsMembers 65 = .ok (.bipush 6, 2) := dk_16 6 (dk_at dksX6_buildsMembers_2 18 rfl rfl)
theorem dX6_buildsMembers_67 : decode cX6_buildsMembers 67 = .ok (.iload_n 2, 1) := dk_28 (dk_at dksX6_buildsMembers_2 20 rfl rfl)
theorem dX6_buildsMembers_68 : decode cX6_buildsMembers 68 = .ok (.imul, 1) := dk_104 (dk_at dksX6_buildsMembers_2 21 rfl rfl)
theorem dX6_buildsMembers_69 : decode cX6_buildsMembers 69 = .ok (.aload_n 0, 1) := dk_42 (dk_at dksX6_buildsMembers_2 22 rfl rfl)
theorem dX6_buildsMembers_70 : decode cX6_buildsMembers 70 = .ok (.getfield 26, 3) := dk_180 0 26 (dk_at dksX6_buildsMembers_3 0 rfl rfl)
theorem dX6_buildsMembers_73 : decode cX6_buildsMembers 73 = .ok (.bipush 6, 2) := dk_16 6 (dk_at dksX6_buildsMembers_3 3 rfl rfl)
theorem dX6_buildsMembers_75 : decode cX6_buildsMembers 75 = .ok (.iload_n 1, 1) := dk_27 (dk_at dksX6_buildsMembers_3 5 rfl rfl)
theorem dX6_buildsMembers_76 : decode cX6_buildsMembers 76 = .ok (.imul, 1) := dk_104 (dk_at dksX6_buildsMembers_3 6 rfl rfl)
theorem dX6_buildsMembers_77 : decode cX6_buildsMembers 77 = .ok (.iload_n 3, 1) := dk_29 (dk_at dksX6_buildsMembers_3 7 rfl rfl)
theorem dX6_buildsMembers_78 : decode cX6_buildsMembers 78 = .ok (.iadd, 1) := dk_96 (dk_at dksX6_buildsMembers_3 8 rfl rfl)
theorem dX6_buildsMembers_79 : decode cX6_buildsMembers 79 = .ok (.iaload, 1) := dk_46 (dk_at dksX6_buildsMembers_3 9 rfl rfl)
theorem dX6_buildsMembers_80 : decode cX6_buildsMembers 80 = .ok (.iadd, 1) := dk_96 (dk_at dksX6_buildsMembers_3 10 rfl rfl)
theorem dX6_buildsMembers_81 : decode cX6_buildsMembers 81 = .ok (.iaload, 1) := dk_46 (dk_at dksX6_buildsMembers_3 11 rfl rfl)
theorem dX6_buildsMembers_82 : decode cX6_buildsMembers 82 = .ok (.iastore, 1) := dk_79 (dk_at dksX6_buildsMembers_3 12 rfl rfl)
theorem dX6_buildsMembers_83 : decode cX6_buildsMembers 83 = .ok (.iinc 3 1, 3) := dk_132 3 1 (dk_at dksX6_buildsMembers_3 13 rfl rfl)
theorem dX6_buildsMembers_86 : decode cX6_buildsMembers 86 = .ok (.goto (-38), 3) := dk_167 255 218 (dk_at dksX6_buildsMembers_3 16 rfl rfl)
theorem dX6_buildsMembers_89 : decode cX6_buildsMembers 89 = .ok (.aload_n 0, 1) := dk_42 (dk_at dksX6_buildsMembers_3 19 rfl rfl)
theorem dX6_buildsMembers_90 : decode cX6_buildsMembers 90 = .ok (.invokevirtual 202, 3) := dk_182 0 202 (dk_at dksX6_buildsMembers_3 20 rfl rfl)
theorem dX6_buildsMembers_93 : decode cX6_buildsMembers 93 = .ok (.iconst (-1), 1) := dk_2 (dk_at dksX6_buildsMembers_3 23 rfl rfl)
theorem dX6_buildsMembers_94 : decode cX6_buildsMembers 94 = .ok (.if_icmp .eq 6, 3) := dk_159 0 6 (dk_at dksX6_buildsMembers_4 0 rfl rfl)
theorem dX6_buildsMembers_97 : decode cX6_buildsMembers 97 = .ok (.goto 60, 3) := dk_167 0 60 (dk_at dksX6_buildsMembers_4 3 rfl rfl)
theorem dX6_buildsMembers_100 : decode cX6_buildsMembers 100 = .ok (.aload_n 0, 1) := dk_42 (dk_at dksX6_buildsMembers_4 6 rfl rfl)
theorem dX6_buildsMembers_101 : decode cX6_buildsMembers 101 = .ok (.getfield 196, 3) := dk_180 0 196 (dk_at dksX6_buildsMembers_4 7 rfl rfl)
theorem dX6_buildsMembers_104 : decode cX6_buildsMembers 104 = .ok (.bipush 24, 2) := dk_16 24 (dk_at dksX6_buildsMembers_4 10 rfl rfl)
theorem dX6_buildsMembers_106 : decode cX6_buildsMembers 106 = .ok (.if_icmp .ne 5, 3) := dk_160 0 5 (dk_at dksX6_buildsMembers_4 12 rfl rfl)
theorem dX6_buildsMembers_109 : decode cX6_buildsMembers 109 = .ok (.iconst 0, 1) := dk_3 (dk_at dksX6_buildsMembers_4 15 rfl rfl)
theorem dX6_buildsMembers_110 : decode cX6_buildsMembers 110 = .ok (.ireturn, 1) := dk_172 (dk_at dksX6_buildsMembers_4 16 rfl rfl)
theorem dX6_buildsMembers_111 : decode cX6_buildsMembers 111 = .ok (.iconst 0, 1) := dk_3 (dk_at dksX6_buildsMembers_4 17 rfl rfl)
theorem dX6_buildsMembers_112 : decode cX6_buildsMembers 112 = .ok (.istore_n 3, 1) := dk_62 (dk_at dksX6_buildsMembers_4 18 rfl rfl)
theorem dX6_buildsMembers_113 : decode cX6_buildsMembers 113 = .ok (.iload_n 3, 1) := dk_29 (dk_at dksX6_buildsMembers_4 19 rfl rfl)
theorem dX6_buildsMembers_114 : decode cX6_buildsMembers 114 = .ok (.aload_n 0, 1) := dk_42 (dk_at dksX6_buildsMembers_4 20 rfl rfl)
theorem dX6_buildsMembers_115 : decode cX6_buildsMembers 115 = .ok (.getfield 115, 3) := dk_180 0 115 (dk_at dksX6_buildsMembers_4 21 rfl rfl)
theorem dX6_buildsMembers_118 : decode cX6_buildsMembers 118 = .ok (.if_icmp .ge 29, 3) := dk_162 0 29 (dk_at dksX6_buildsMembers_5 0 rfl rfl)
theorem dX6_buildsMembers_121 : decode cX6_buildsMembers 121 = .ok (.aload_n 0, 1) := dk_42 (dk_at dksX6_buildsMembers_5 3 rfl rfl)
theorem dX6_buildsMembers_122 : decode cX6_buildsMembers 122 = .ok (.getfield 26, 3) := dk_180 0 26 (dk_at dksX6_buildsMembers_5 4 rfl rfl)
theorem dX6_buildsMembers_125 : decode cX6_buildsMembers 125 = .ok (.bipush 6, 2) := dk_16 6 (dk_at dksX6_buildsMembers_5 7 rfl rfl)
theorem dX6_buildsMembers_127 : decode cX6_buildsMembers 127 = .ok (.aload_n 0, 1) := dk_42 (dk_at dksX6_buildsMembers_5 9 rfl rfl)
theorem dX6_buildsMembers_128 : decode cX6_buildsMembers 128 = .ok (.getfield 196, 3) := dk_180 0 196 (dk_at dksX6_buildsMembers_5 10 rfl rfl)
theorem dX6_buildsMembers_131 : decode cX6_buildsMembers 131 = .ok (.imul, 1) := dk_104 (dk_at dksX6_buildsMembers_5 13 rfl rfl)
theorem dX6_buildsMembers_132 : decode cX6_buildsMembers 132 = .ok (.iload_n 3, 1) := dk_29 (dk_at dksX6_buildsMembers_5 14 rfl rfl)
theorem dX6_buildsMembers_133 : decode cX6_buildsMembers 133 = .ok (.iadd, 1) := dk_96 (dk_at dksX6_buildsMembers_5 15 rfl rfl)
theorem dX6_buildsMembers_134 : decode cX6_buildsMembers 134 = .ok (.aload_n 0, 1) := dk_42 (dk_at dksX6_buildsMembers_5 16 rfl rfl)
theorem dX6_buildsMembers_135 : decode cX6_buildsMembers 135 = .ok (.getfield 29, 3) := dk_180 0 29 (dk_at dksX6_buildsMembers_5 17 rfl rfl)
theorem dX6_buildsMembers_138 : decode cX6_buildsMembers 138 = .ok (.iload_n 3, 1) := dk_29 (dk_at dksX6_buildsMembers_5 20 rfl rfl)
theorem dX6_buildsMembers_139 : decode cX6_buildsMembers 139 = .ok (.iaload, 1) := dk_46 (dk_at dksX6_buildsMembers_5 21 rfl rfl)
theorem dX6_buildsMembers_140 : decode cX6_buildsMembers 140 = .ok (.iastore, 1) := dk_79 (dk_at dksX6_buildsMembers_5 22 rfl rfl)
theorem dX6_buildsMembers_141 : decode cX6_buildsMembers 141 = .ok (.iinc 3 1, 3) := dk_132 3 1 (dk_at dksX6_buildsMembers_6 0 rfl rfl)
theorem dX6_buildsMembers_144 : decode cX6_buildsMembers 144 = .ok (.goto (-31), 3) := dk_167 255 225 (dk_at dksX6_buildsMembers_6 3 rfl rfl)
theorem dX6_buildsMembers_147 : decode cX6_buildsMembers 147 = .ok (.aload_n 0, 1) := dk_42 (dk_at dksX6_buildsMembers_6 6 rfl rfl)
theorem dX6_buildsMembers_148 : decode cX6_buildsMembers 148 = .ok (.dup, 1) := dk_89 (dk_at dksX6_buildsMembers_6 7 rfl rfl)
theorem dX6_buildsMembers_149 : decode cX6_buildsMembers 149 = .ok (.getfield 196, 3) := dk_180 0 196 (dk_at dksX6_buildsMembers_6 8 rfl rfl)
theorem dX6_buildsMembers_152 : decode cX6_buildsMembers 152 = .ok (.iconst 1, 1) := dk_4 (dk_at dksX6_buildsMembers_6 11 rfl rfl)
theorem dX6_buildsMembers_153 : decode cX6_buildsMembers 153 = .ok (.iadd, 1) := dk_96 (dk_at dksX6_buildsMembers_6 12 rfl rfl)
theorem dX6_buildsMembers_154 : decode cX6_buildsMembers 154 = .ok (.putfield 196, 3) := dk_181 0 196 (dk_at dksX6_buildsMembers_6 13 rfl rfl)
theorem dX6_buildsMembers_157 : decode cX6_buildsMembers 157 = .ok (.iinc 2 1, 3) := dk_132 2 1 (dk_at dksX6_buildsMembers_6 16 rfl rfl)
theorem dX6_buildsMembers_160 : decode cX6_buildsMembers 160 = .ok (.goto (-122), 3) := dk_167 255 134 (dk_at dksX6_buildsMembers_6 19 rfl rfl)
theorem dX6_buildsMembers_163 : decode cX6_buildsMembers 163 = .ok (.iinc 1 1, 3) := dk_132 1 1 (dk_at dksX6_buildsMembers_7 0 rfl rfl)
theorem dX6_buildsMembers_166 : decode cX6_buildsMembers 166 = .ok (.goto (-138), 3) := dk_167 255 118 (dk_at dksX6_buildsMembers_7 3 rfl rfl)
theorem dX6_buildsMembers_169 : decode cX6_buildsMembers 169 = .ok (.iconst 0, 1) := dk_3 (dk_at dksX6_buildsMembers_7 6 rfl rfl)
theorem dX6_buildsMembers_170 : decode cX6_buildsMembers 170 = .ok (.istore_n 1, 1) := dk_60 (dk_at dksX6_buildsMembers_7 7 rfl rfl)
theorem dX6_buildsMembers_171 : decode cX6_buildsMembers 171 = .ok (.iload_n 1, 1) := dk_27 (dk_at dksX6_buildsMembers_7 8 rfl rfl)
theorem dX6_buildsMembers_172 : decode cX6_buildsMembers 172 = .ok (.aload_n 0, 1) := dk_42 (dk_at dksX6_buildsMembers_7 9 rfl rfl)
theorem dX6_buildsMembers_173 : decode cX6_buildsMembers 173 = .ok (.getfield 196, 3) := dk_180 0 196 (dk_at dksX6_buildsMembers_7 10 rfl rfl)
theorem dX6_buildsMembers_176 : decode cX6_buildsMembers 176 = .ok (.if_icmp .ge 42, 3) := dk_162 0 42 (dk_at dksX6_buildsMembers_7 13 rfl rfl)
theorem dX6_buildsMembers_179 : decode cX6_buildsMembers 179 = .ok (.iload_n 1, 1) := dk_27 (dk_at dksX6_buildsMembers_7 16 rfl rfl)
theorem dX6_buildsMembers_180 : decode cX6_buildsMembers 180 = .ok (.iconst 1, 1) := dk_4 (dk_at dksX6_buildsMembers_7 17 rfl rfl)
theorem dX6_buildsMembers_181 : decode cX6_buildsMembers 181 = .ok (.iadd, 1) := dk_96 (dk_at dksX6_buildsMembers_7 18 rfl rfl)
theorem dX6_buildsMembers_182 : decode cX6_buildsMembers 182 = .ok (.istore_n 2, 1) := dk_61 (dk_at dksX6_buildsMembers_7 19 rfl rfl)
theorem dX6_buildsMembers_183 : decode cX6_buildsMembers 183 = .ok (.iload_n 2, 1) := dk_28 (dk_at dksX6_buildsMembers_7 20 rfl rfl)
theorem dX6_buildsMembers_184 : decode cX6_buildsMembers 184 = .ok (.aload_n 0, 1) := dk_42 (dk_at dksX6_buildsMembers_7 21 rfl rfl)
theorem dX6_buildsMembers_185 : decode cX6_buildsMembers 185 = .ok (.getfield 196, 3) := dk_180 0 196 (dk_at dksX6_buildsMembers_8 0 rfl rfl)
theorem dX6_buildsMembers_188 : decode cX6_buildsMembers 188 = .ok (.if_icmp .ge 24, 3) := dk_162 0 24 (dk_at dksX6_buildsMembers_8 3 rfl rfl)
theorem dX6_buildsMembers_191 : decode cX6_buildsMembers 191 = .ok (.aload_n 0, 1) := dk_42 (dk_at dksX6_buildsMembers_8 6 rfl rfl)
theorem dX6_buildsMembers_192 : decode cX6_buildsMembers 192 = .ok (.iload_n 1, 1) := dk_27 (dk_at dksX6_buildsMembers_8 7 rfl rfl)
theorem dX6_buildsMembers_193 : decode cX6_buildsMembers 193 = .ok (.iload_n 2, 1) := dk_28 (dk_at dksX6_buildsMembers_8 8 rfl rfl)
theorem dX6_buildsMembers_194 : decode cX6_buildsMembers 194 = .ok (.invokevirtual 206, 3) := dk_182 0 206 (dk_at dksX6_buildsMembers_8 9 rfl rfl)
theorem dX6_buildsMembers_197 : decode cX6_buildsMembers 197 = .ok (.ifCond .eq 9, 3) := dk_153 0 9 (dk_at dksX6_buildsMembers_8 12 rfl rfl)
theorem dX6_buildsMembers_200 : decode cX6_buildsMembers 200 = .ok (.aload_n 0, 1) := dk_42 (dk_at dksX6_buildsMembers_8 15 rfl rfl)
theorem dX6_buildsMembers_201 : decode cX6_buildsMembers 201 = .ok (.iload_n 1, 1) := dk_27 (dk_at dksX6_buildsMembers_8 16 rfl rfl)
theorem dX6_buildsMembers_202 : decode cX6_buildsMembers 202 = .ok (.iload_n 2, 1) := dk_28 (dk_at dksX6_buildsMembers_8 17 rfl rfl)
theorem dX6_buildsMembers_203 : decode cX6_buildsMembers 203 = .ok (.invokevirtual 210, 3) := dk_182 0 210 (dk_at dksX6_buildsMembers_8 18 rfl rfl)
theorem dX6_buildsMembers_206 : decode cX6_buildsMembers 206 = .ok (.iinc 2 1, 3) := dk_132 2 1 (dk_at dksX6_buildsMembers_8 21 rfl rfl)
theorem dX6_buildsMembers_209 : decode cX6_buildsMembers 209 = .ok (.goto (-26), 3) := dk_167 255 230 (dk_at dksX6_buildsMembers_9 0 rfl rfl)
theorem dX6_buildsMembers_212 : decode cX6_buildsMembers 212 = .ok (.iinc 1 1, 3) := dk_132 1 1 (dk_at dksX6_buildsMembers_9 3 rfl rfl)
theorem dX6_buildsMembers_215 : decode cX6_buildsMembers 215 = .ok (.goto (-44), 3) := dk_167 255 212 (dk_at dksX6_buildsMembers_9 6 rfl rfl)
theorem dX6_buildsMembers_218 : decode cX6_buildsMembers 218 = .ok (.iconst 0, 1) := dk_3 (dk_at dksX6_buildsMembers_9 9 rfl rfl)
theorem dX6_buildsMembers_219 : decode cX6_buildsMembers 219 = .ok (.istore_n 1, 1) := dk_60 (dk_at dksX6_buildsMembers_9 10 rfl rfl)
theorem dX6_buildsMembers_220 : decode cX6_buildsMembers 220 = .ok (.iload_n 1, 1) := dk_27 (dk_at dksX6_buildsMembers_9 11 rfl rfl)
theorem dX6_buildsMembers_221 : decode cX6_buildsMembers 221 = .ok (.aload_n 0, 1) := dk_42 (dk_at dksX6_buildsMembers_9 12 rfl rfl)
theorem dX6_buildsMembers_222 : decode cX6_buildsMembers 222 = .ok (.getfield 196, 3) := dk_180 0 196 (dk_at dksX6_buildsMembers_9 13 rfl rfl)
theorem dX6_buildsMembers_225 : decode cX6_buildsMembers 225 = .ok (.if_icmp .ge 104, 3) := dk_162 0 104 (dk_at dksX6_buildsMembers_9 16 rfl rfl)
theorem dX6_buildsMembers_228 : decode cX6_buildsMembers 228 = .ok (.iconst 0, 1) := dk_3 (dk_at dksX6_buildsMembers_9 19 rfl rfl)
theorem dX6_buildsMembers_229 : decode cX6_buildsMembers 229 = .ok (.istore_n 2, 1) := dk_61 (dk_at dksX6_buildsMembers_9 20 rfl rfl)
theorem dX6_buildsMembers_230 : decode cX6_buildsMembers 230 = .ok (.iload_n 2, 1) := dk_28 (dk_at dksX6_buildsMembers_9 21 rfl rfl)
theorem dX6_buildsMembers_231 : decode cX6_buildsMembers 231 = .ok (.aload_n 0, 1) := dk_42 (dk_at dksX6_buildsMembers_9 22 rfl rfl)
theorem dX6_buildsMembers_232 : decode cX6_buildsMembers 232 = .ok (.getfield 196, 3) := dk_180 0 196 (dk_at dksX6_buildsMembers_10 0 rfl rfl)
theorem dX6_buildsMembers_235 : decode cX6_buildsMembers 235 = .ok (.if_icmp .ge 88, 3) := dk_162 0 88 (dk_at dksX6_buildsMembers_10 3 rfl rfl)
theorem dX6_buildsMembers_238 : decode cX6_buildsMembers 238 = .ok (.iconst 0, 1) := dk_3 (dk_at dksX6_buildsMembers_10 6 rfl rfl)
theorem dX6_buildsMembers_239 : decode cX6_buildsMembers 239 = .ok (.istore_n 3, 1) := dk_62 (dk_at dksX6_buildsMembers_10 7 rfl rfl)
theorem dX6_buildsMembers_240 : decode cX6_buildsMembers 240 = .ok (.iload_n 3, 1) := dk_29 (dk_at dksX6_buildsMembers_10 8 rfl rfl)
theorem dX6_buildsMembers_241 : decode cX6_buildsMembers 241 = .ok (.aload_n 0, 1) := dk_42 (dk_at dksX6_buildsMembers_10 9 rfl rfl)
theorem dX6_buildsMembers_242 : decode cX6_buildsMembers 242 = .ok (.getfield 115, 3) := dk_180 0 115 (dk_at dksX6_buildsMembers_10 10 rfl rfl)
theorem dX6_buildsMembers_245 : decode cX6_buildsMembers 245 = .ok (.if_icmp .ge 36, 3) := dk_162 0 36 (dk_at dksX6_buildsMembers_10 13 rfl rfl)
theorem dX6_buildsMembers_248 : decode cX6_buildsMembers 248 = .ok (.aload_n 0, 1) := dk_42 (dk_at dksX6_buildsMembers_10 16 rfl rfl)
theorem dX6_buildsMembers_249 : decode cX6_buildsMembers 249 = .ok (.getfield 29, 3) := dk_180 0 29 (dk_at dksX6_buildsMembers_10 17 rfl rfl)
theorem dX6_buildsMembers_252 : decode cX6_buildsMembers 252 = .ok (.iload_n 3, 1) := dk_29 (dk_at dksX6_buildsMembers_10 20 rfl rfl)
theorem dX6_buildsMembers_253 : decode cX6_buildsMembers 253 = .ok (.aload_n 0, 1) := dk_42 (dk_at dksX6_buildsMembers_10 21 rfl rfl)
theorem dX6_buildsMembers_254 : decode cX6_buildsMembers 254 = .ok (.getfield 26, 3) := dk_180 0 26 (dk_at dksX6_buildsMembers_11 0 rfl rfl)
theorem dX6_buildsMembers_257 : decode cX6_buildsMembers 257 = .ok (.bipush 6, 2) := dk_16 6 (dk_at dksX6_buildsMembers_11 3 rfl rfl)
theorem dX6_buildsMembers_259 : decode cX6_buildsMembers 259 = .ok (.iload_n 2, 1) := dk_28 (dk_at dksX6_buildsMembers_11 5 rfl rfl)
theorem dX6_buildsMembers_260 : decode cX6_buildsMembers 260 = .ok (.imul, 1) := dk_104 (dk_at dksX6_buildsMembers_11 6 rfl rfl)
theorem dX6_buildsMembers_261 : decode cX6_buildsMembers 261 = .ok (.aload_n 0, 1) := dk_42 (dk_at dksX6_buildsMembers_11 7 rfl rfl)
theorem dX6_buildsMembers_262 : decode cX6_buildsMembers 262 = .ok (.getfield 26, 3) := dk_180 0 26 (dk_at dksX6_buildsMembers_11 8 rfl rfl)
theorem dX6_buildsMembers_265 : decode cX6_buildsMembers 265 = .ok (.bipush 6, 2) := dk_16 6 (dk_at dksX6_buildsMembers_11 11 rfl rfl)
theorem dX6_buildsMembers_267 : decode cX6_buildsMembers 267 = .ok (.iload_n 1, 1) := dk_27 (dk_at dksX6_buildsMembers_11 13 rfl rfl)
theorem dX6_buildsMembers_268 : decode cX6_buildsMembers 268 = .ok (.imul, 1) := dk_104 (dk_at dksX6_buildsMembers_11 14 rfl rfl)
theorem dX6_buildsMembers_269 : decode cX6_buildsMembers 269 = .ok (.iload_n 3, 1) := dk_29 (dk_at dksX6_buildsMembers_11 15 rfl rfl)
theorem dX6_buildsMembers_270 : decode cX6_buildsMembers 270 = .ok (.iadd, 1) := dk_96 (dk_at dksX6_buildsMembers_11 16 rfl rfl)
theorem dX6_buildsMembers_271 : decode cX6_buildsMembers 271 = .ok (.iaload, 1) := dk_46 (dk_at dksX6_buildsMembers_11 17 rfl rfl)
theorem dX6_buildsMembers_272 : decode cX6_buildsMembers 272 = .ok (.iadd, 1) := dk_96 (dk_at dksX6_buildsMembers_11 18 rfl rfl)
theorem dX6_buildsMembers_273 : decode cX6_buildsMembers 273 = .ok (.iaload, 1) := dk_46 (dk_at dksX6_buildsMembers_11 19 rfl rfl)
theorem dX6_buildsMembers_274 : decode cX6_buildsMembers 274 = .ok (.iastore, 1) := dk_79 (dk_at dksX6_buildsMembers_11 20 rfl rfl)
theorem dX6_buildsMembers_275 : decode cX6_buildsMembers 275 = .ok (.iinc 3 1, 3) := dk_132 3 1 (dk_at dksX6_buildsMembers_11 21 rfl rfl)
theorem dX6_buildsMembers_278 : decode cX6_buildsMembers 278 = .ok (.goto (-38), 3) := dk_167 255 218 (dk_at dksX6_buildsMembers_12 0 rfl rfl)
theorem dX6_buildsMembers_281 : decode cX6_buildsMembers 281 = .ok (.aload_n 0, 1) := dk_42 (dk_at dksX6_buildsMembers_12 3 rfl rfl)
theorem dX6_buildsMembers_282 : decode cX6_buildsMembers 282 = .ok (.getfield 32, 3) := dk_180 0 32 (dk_at dksX6_buildsMembers_12 4 rfl rfl)
theorem dX6_buildsMembers_285 : decode cX6_buildsMembers 285 = .ok (.bipush 24, 2) := dk_16 24 (dk_at dksX6_buildsMembers_12 7 rfl rfl)
theorem dX6_buildsMembers_287 : decode cX6_buildsMembers 287 = .ok (.iload_n 1, 1) := dk_27 (dk_at dksX6_buildsMembers_12 9 rfl rfl)
theorem dX6_buildsMembers_288 : decode cX6_buildsMembers 288 = .ok (.imul, 1) := dk_104 (dk_at dksX6_buildsMembers_12 10 rfl rfl)
theorem dX6_buildsMembers_289 : decode cX6_buildsMembers 289 = .ok (.iload_n 2, 1) := dk_28 (dk_at dksX6_buildsMembers_12 11 rfl rfl)
theorem dX6_buildsMembers_290 : decode cX6_buildsMembers 290 = .ok (.iadd, 1) := dk_96 (dk_at dksX6_buildsMembers_12 12 rfl rfl)
theorem dX6_buildsMembers_291 : decode cX6_buildsMembers 291 = .ok (.aload_n 0, 1) := dk_42 (dk_at dksX6_buildsMembers_12 13 rfl rfl)
theorem dX6_buildsMembers_292 : decode cX6_buildsMembers 292 = .ok (.invokevirtual 202, 3) := dk_182 0 202 (dk_at dksX6_buildsMembers_12 14 rfl rfl)
theorem dX6_buildsMembers_295 : decode cX6_buildsMembers 295 = .ok (.iastore, 1) := dk_79 (dk_at dksX6_buildsMembers_12 17 rfl rfl)
theorem dX6_buildsMembers_296 : decode cX6_buildsMembers 296 = .ok (.aload_n 0, 1) := dk_42 (dk_at dksX6_buildsMembers_12 18 rfl rfl)
theorem dX6_buildsMembers_297 : decode cX6_buildsMembers 297 = .ok (.getfield 32, 3) := dk_180 0 32 (dk_at dksX6_buildsMembers_12 19 rfl rfl)
theorem dX6_buildsMembers_300 : decode cX6_buildsMembers 300 = .ok (.bipush 24, 2) := dk_16 24 (dk_at dksX6_buildsMembers_12 22 rfl rfl)
theorem dX6_buildsMembers_302 : decode cX6_buildsMembers 302 = .ok (.iload_n 1, 1) := dk_27 (dk_at dksX6_buildsMembers_13 0 rfl rfl)
theorem dX6_buildsMembers_303 : decode cX6_buildsMembers 303 = .ok (.imul, 1) := dk_104 (dk_at dksX6_buildsMembers_13 1 rfl rfl)
theorem dX6_buildsMembers_304 : decode cX6_buildsMembers 304 = .ok (.iload_n 2, 1) := dk_28 (dk_at dksX6_buildsMembers_13 2 rfl rfl)
theorem dX6_buildsMembers_305 : decode cX6_buildsMembers 305 = .ok (.iadd, 1) := dk_96 (dk_at dksX6_buildsMembers_13 3 rfl rfl)
theorem dX6_buildsMembers_306 : decode cX6_buildsMembers 306 = .ok (.iaload, 1) := dk_46 (dk_at dksX6_buildsMembers_13 4 rfl rfl)
theorem dX6_buildsMembers_307 : decode cX6_buildsMembers 307 = .ok (.ifCond .ne 10, 3) := dk_154 0 10 (dk_at dksX6_buildsMembers_13 5 rfl rfl)
theorem dX6_buildsMembers_310 : decode cX6_buildsMembers 310 = .ok (.aload_n 0, 1) := dk_42 (dk_at dksX6_buildsMembers_13 8 rfl rfl)
theorem dX6_buildsMembers_311 : decode cX6_buildsMembers 311 = .ok (.getfield 35, 3) := dk_180 0 35 (dk_at dksX6_buildsMembers_13 9 rfl rfl)
theorem dX6_buildsMembers_314 : decode cX6_buildsMembers 314 = .ok (.iload_n 1, 1) := dk_27 (dk_at dksX6_buildsMembers_13 12 rfl rfl)
theorem dX6_buildsMembers_315 : decode cX6_buildsMembers 315 = .ok (.iload_n 2, 1) := dk_28 (dk_at dksX6_buildsMembers_13 13 rfl rfl)
theorem dX6_buildsMembers_316 : decode cX6_buildsMembers 316 = .ok (.iastore, 1) := dk_79 (dk_at dksX6_buildsMembers_13 14 rfl rfl)
theorem dX6_buildsMembers_317 : decode cX6_buildsMembers 317 = .ok (.iinc 2 1, 3) := dk_132 2 1 (dk_at dksX6_buildsMembers_13 15 rfl rfl)
theorem dX6_buildsMembers_320 : decode cX6_buildsMembers 320 = .ok (.goto (-90), 3) := dk_167 255 166 (dk_at dksX6_buildsMembers_13 18 rfl rfl)
theorem dX6_buildsMembers_323 : decode cX6_buildsMembers 323 = .ok (.iinc 1 1, 3) := dk_132 1 1 (dk_at dksX6_buildsMembers_13 21 rfl rfl)
theorem dX6_buildsMembers_326 : decode cX6_buildsMembers 326 = .ok (.goto (-106), 3) := dk_167 255 150 (dk_at dksX6_buildsMembers_14 0 rfl rfl)
theorem dX6_buildsMembers_329 : decode cX6_buildsMembers 329 = .ok (.iconst 1, 1) := dk_4 (dk_at dksX6_buildsMembers_14 3 rfl rfl)
theorem dX6_buildsMembers_330 : decode cX6_buildsMembers 330 = .ok (.ireturn, 1) := dk_172 (dk_at dksX6_buildsMembers_14 4 rfl rfl)
abbrev cX6_indexOf : ByteArray := prog_16_method_22_code
def yX6_indexOf : MethodName := ⟨RX6, "indexOf", "()I"⟩
def dkwX6_indexOf_3 : List UInt8 := [172]
abbrev dktX6_indexOf_3 : List UInt8 := dkwX6_indexOf_3 ++ []
def dkwX6_indexOf_2 : List UInt8 := [167, 0, 4, 3, 61, 132, 3, 1, 167, 255, 215, 28, 153, 0, 5, 27, 172, 132, 1, 1, 167, 255, 191, 2]
abbrev dktX6_indexOf_2 : List UInt8 := dkwX6_indexOf_2 ++ dktX6_indexOf_3
def dkwX6_indexOf_1 : List UInt8 := [153, 0, 27, 42, 180, 0, 26, 16, 6, 27, 104, 29, 96, 46, 42, 180, 0, 29, 29, 46, 160, 0, 7, 4]
abbrev dktX6_indexOf_1 : List UInt8 := dkwX6_indexOf_1 ++ dktX6_indexOf_2
def dkwX6_indexOf_0 : List UInt8 := [3, 60, 27, 42, 180, 0, 196, 162, 0, 63, 4, 61, 3, 62, 29, 42, 180, 0, 115, 162, 0, 39, 28]
abbrev dktX6_indexOf_0 : List UInt8 := dkwX6_indexOf_0 ++ dktX6_indexOf_1
theorem dksX6_indexOf_0 : cX6_indexOf.data.toList.drop 0 = dktX6_indexOf_0 := by decide +kernel
theorem dksX6_indexOf_1 : cX6_indexOf.data.toList.drop 23 = dktX6_indexOf_1 := dk_seg dksX6_indexOf_0 23 rfl rfl
theorem dksX6_indexOf_2 : cX6_indexOf.data.toList.drop 47 = dktX6_indexOf_2 := dk_seg dksX6_indexOf_1 24 rfl rfl
theorem dksX6_indexOf_3 : cX6_indexOf.data.toList.drop 71 = dktX6_indexOf_3 := dk_seg dksX6_indexOf_2 24 rfl rfl
theorem dX6_indexOf_0 : decode cX6_indexOf 0 = .ok (.iconst 0, 1) := dk_3 (dk_at dksX6_indexOf_0 0 rfl rfl)
theorem dX6_indexOf_1 : decode cX6_indexOf 1 = .ok (.istore_n 1, 1) := dk_60 (dk_at dksX6_indexOf_0 1 rfl rfl)
theorem dX6_indexOf_2 : decode cX6_indexOf 2 = .ok (.iload_n 1, 1) := dk_27 (dk_at dksX6_indexOf_0 2 rfl rfl)
theorem dX6_indexOf_3 : decode cX6_indexOf 3 = .ok (.aload_n 0, 1) := dk_42 (dk_at dksX6_indexOf_0 3 rfl rfl)
theorem dX6_indexOf_4 : decode cX6_indexOf 4 = .ok (.getfield 196, 3) := dk_180 0 196 (dk_at dksX6_indexOf_0 4 rfl rfl)
theorem dX6_indexOf_7 : decode cX6_indexOf 7 = .ok (.if_icmp .ge 63, 3) := dk_162 0 63 (dk_at dksX6_indexOf_0 7 rfl rfl)
theorem dX6_indexOf_10 : decode cX6_indexOf 10 = .ok (.iconst 1, 1) := dk_4 (dk_at dksX6_indexOf_0 10 rfl rfl)
theorem dX6_indexOf_11 : decode cX6_indexOf 11 = .ok (.istore_n 2, 1) := dk_61 (dk_at dksX6_indexOf_0 11 rfl rfl)
theorem dX6_indexOf_12 : decode cX6_indexOf 12 = .ok (.iconst 0, 1) := dk_3 (dk_at dksX6_indexOf_0 12 rfl rfl)
theorem dX6_indexOf_13 : decode cX6_indexOf 13 = .ok (.istore_n 3, 1) := dk_62 (dk_at dksX6_indexOf_0 13 rfl rfl)
theorem dX6_indexOf_14 : decode cX6_indexOf 14 = .ok (.iload_n 3, 1) := dk_29 (dk_at dksX6_indexOf_0 14 rfl rfl)
theorem dX6_indexOf_15 : decode cX6_indexOf 15 = .ok (.aload_n 0, 1) := dk_42 (dk_at dksX6_indexOf_0 15 rfl rfl)
theorem dX6_indexOf_16 : decode cX6_indexOf 16 = .ok (.getfield 115, 3) := dk_180 0 115 (dk_at dksX6_indexOf_0 16 rfl rfl)
theorem dX6_indexOf_19 : decode cX6_indexOf 19 = .ok (.if_icmp .ge 39, 3) := dk_162 0 39 (dk_at dksX6_indexOf_0 19 rfl rfl)
theorem dX6_indexOf_22 : decode cX6_indexOf 22 = .ok (.iload_n 2, 1) := dk_28 (dk_at dksX6_indexOf_0 22 rfl rfl)
theorem dX6_indexOf_23 : decode cX6_indexOf 23 = .ok (.ifCond .eq 27, 3) := dk_153 0 27 (dk_at dksX6_indexOf_1 0 rfl rfl)
theorem dX6_indexOf_26 : decode cX6_indexOf 26 = .ok (.aload_n 0, 1) := dk_42 (dk_at dksX6_indexOf_1 3 rfl rfl)
theorem dX6_indexOf_27 : decode cX6_indexOf 27 = .ok (.getfield 26, 3) := dk_180 0 26 (dk_at dksX6_indexOf_1 4 rfl rfl)
theorem dX6_indexOf_30 : decode cX6_indexOf 30 = .ok (.bipush 6, 2) := dk_16 6 (dk_at dksX6_indexOf_1 7 rfl rfl)
theorem dX6_indexOf_32 : decode cX6_indexOf 32 = .ok (.iload_n 1, 1) := dk_27 (dk_at dksX6_indexOf_1 9 rfl rfl)
theorem dX6_indexOf_33 : decode cX6_indexOf 33 = .ok (.imul, 1) := dk_104 (dk_at dksX6_indexOf_1 10 rfl rfl)
theorem dX6_indexOf_34 : decode cX6_indexOf 34 = .ok (.iload_n 3, 1) := dk_29 (dk_at dksX6_indexOf_1 11 rfl rfl)
theorem dX6_indexOf_35 : decode cX6_indexOf 35 = .ok (.iadd, 1) := dk_96 (dk_at dksX6_indexOf_1 12 rfl rfl)
theorem dX6_indexOf_36 : decode cX6_indexOf 36 = .ok (.iaload, 1) := dk_46 (dk_at dksX6_indexOf_1 13 rfl rfl)
theorem dX6_indexOf_37 : decode cX6_indexOf 37 = .ok (.aload_n 0, 1) := dk_42 (dk_at dksX6_indexOf_1 14 rfl rfl)
theorem dX6_indexOf_38 : decode cX6_indexOf 38 = .ok (.getfield 29, 3) := dk_180 0 29 (dk_at dksX6_indexOf_1 15 rfl rfl)
theorem dX6_indexOf_41 : decode cX6_indexOf 41 = .ok (.iload_n 3, 1) := dk_29 (dk_at dksX6_indexOf_1 18 rfl rfl)
theorem dX6_indexOf_42 : decode cX6_indexOf 42 = .ok (.iaload, 1) := dk_46 (dk_at dksX6_indexOf_1 19 rfl rfl)
theorem dX6_indexOf_43 : decode cX6_indexOf 43 = .ok (.if_icmp .ne 7, 3) := dk_160 0 7 (dk_at dksX6_indexOf_1 20 rfl rfl)
theorem dX6_indexOf_46 : decode cX6_indexOf 46 = .ok (.iconst 1, 1) := dk_4 (dk_at dksX6_indexOf_1 23 rfl rfl)
theorem dX6_indexOf_47 : decode cX6_indexOf 47 = .ok (.goto 4, 3) := dk_167 0 4 (dk_at dksX6_indexOf_2 0 rfl rfl)
theorem dX6_indexOf_50 : decode cX6_indexOf 50 = .ok (.iconst 0, 1) := dk_3 (dk_at dksX6_indexOf_2 3 rfl rfl)
theorem dX6_indexOf_51 : decode cX6_indexOf 51 = .ok (.istore_n 2, 1) := dk_61 (dk_at dksX6_indexOf_2 4 rfl rfl)
theorem dX6_indexOf_52 : decode cX6_indexOf 52 = .ok (.iinc 3 1, 3) := dk_132 3 1 (dk_at dksX6_indexOf_2 5 rfl rfl)
theorem dX6_indexOf_55 : decode cX6_indexOf 55 = .ok (.goto (-41), 3) := dk_167 255 215 (dk_at dksX6_indexOf_2 8 rfl rfl)
theorem dX6_indexOf_58 : decode cX6_indexOf 58 = .ok (.iload_n 2, 1) := dk_28 (dk_at dksX6_indexOf_2 11 rfl rfl)
theorem dX6_indexOf_59 : decode cX6_indexOf 59 = .ok (.ifCond .eq 5, 3) := dk_153 0 5 (dk_at dksX6_indexOf_2 12 rfl rfl)
theorem dX6_indexOf_62 : decode cX6_indexOf 62 = .ok (.iload_n 1, 1) := dk_27 (dk_at dksX6_indexOf_2 15 rfl rfl)
theorem dX6_indexOf_63 : decode cX6_indexOf 63 = .ok (.ireturn, 1) := dk_172 (dk_at dksX6_indexOf_2 16 rfl rfl)
theorem dX6_indexOf_64 : decode cX6_indexOf 64 = .ok (.iinc 1 1, 3) := dk_132 1 1 (dk_at dksX6_indexOf_2 17 rfl rfl)
theorem dX6_indexOf_67 : decode cX6_indexOf 67 = .ok (.goto (-65), 3) := dk_167 255 191 (dk_at dksX6_indexOf_2 20 rfl rfl)
theorem dX6_indexOf_70 : decode cX6_indexOf 70 = .ok (.iconst (-1), 1) := dk_2 (dk_at dksX6_indexOf_2 23 rfl rfl)
theorem dX6_indexOf_71 : decode cX6_indexOf 71 = .ok (.ireturn, 1) := dk_172 (dk_at dksX6_indexOf_3 0 rfl rfl)
abbrev cX6_isBehind : ByteArray := prog_16_method_23_code
def yX6_isBehind : MethodName := ⟨RX6, "isBehind", "(II)Z"⟩
def dkwX6_isBehind_3 : List UInt8 := [167, 255, 189, 3, 172]
abbrev dktX6_isBehind_3 : List UInt8 := dkwX6_isBehind_3 ++ []
def dkwX6_isBehind_2 : List UInt8 := [42, 180, 0, 26, 16, 6, 28, 104, 29, 96, 46, 164, 0, 7, 4, 167, 0, 4, 3, 172, 132, 3, 1]
abbrev dktX6_isBehind_2 : List UInt8 := dkwX6_isBehind_2 ++ dktX6_isBehind_3
def dkwX6_isBehind_1 : List UInt8 := [180, 0, 26, 16, 6, 28, 104, 29, 96, 46, 159, 0, 34, 42, 180, 0, 26, 16, 6, 27, 104, 29, 96, 46]
abbrev dktX6_isBehind_1 : List UInt8 := dkwX6_isBehind_1 ++ dktX6_isBehind_2
def dkwX6_isBehind_0 : List UInt8 := [3, 62, 29, 42, 180, 0, 115, 162, 0, 65, 42, 180, 0, 26, 16, 6, 27, 104, 29, 96, 46, 42]
abbrev dktX6_isBehind_0 : List UInt8 := dkwX6_isBehind_0 ++ dktX6_isBehind_1
theorem dksX6_isBehind_0 : cX6_isBehind.data.toList.drop 0 = dktX6_isBehind_0 := by decide +kernel
theorem dksX6_isBehind_1 : cX6_isBehind.data.toList.drop 22 = dktX6_isBehind_1 := dk_seg dksX6_isBehind_0 22 rfl rfl
theorem dksX6_isBehind_2 : cX6_isBehind.data.toList.drop 46 = dktX6_isBehind_2 := dk_seg dksX6_isBehind_1 24 rfl rfl
theorem dksX6_isBehind_3 : cX6_isBehind.data.toList.drop 69 = dktX6_isBehind_3 := dk_seg dksX6_isBehind_2 23 rfl rfl
theorem dX6_isBehind_0 : decode cX6_isBehind 0 = .ok (.iconst 0, 1) := dk_3 (dk_at dksX6_isBehind_0 0 rfl rfl)
theorem dX6_isBehind_1 : decode cX6_isBehind 1 = .ok (.istore_n 3, 1) := dk_62 (dk_at dksX6_isBehind_0 1 rfl rfl)
theorem dX6_isBehind_2 : decode cX6_isBehind 2 = .ok (.iload_n 3, 1) := dk_29 (dk_at dksX6_isBehind_0 2 rfl rfl)
theorem dX6_isBehind_3 : decode cX6_isBehind 3 = .ok (.aload_n 0, 1) := dk_42 (dk_at dksX6_isBehind_0 3 rfl rfl)
theorem dX6_isBehind_4 : decode cX6_isBehind 4 = .ok (.getfield 115, 3) := dk_180 0 115 (dk_at dksX6_isBehind_0 4 rfl rfl)
theorem dX6_isBehind_7 : decode cX6_isBehind 7 = .ok (.if_icmp .ge 65, 3) := dk_162 0 65 (dk_at dksX6_isBehind_0 7 rfl rfl)
theorem dX6_isBehind_10 : decode cX6_isBehind 10 = .ok (.aload_n 0, 1) := dk_42 (dk_at dksX6_isBehind_0 10 rfl rfl)
theorem dX6_isBehind_11 : decode cX6_isBehind 11 = .ok (.getfield 26, 3) := dk_180 0 26 (dk_at dksX6_isBehind_0 11 rfl rfl)
theorem dX6_isBehind_14 : decode cX6_isBehind 14 = .ok (.bipush 6, 2) := dk_16 6 (dk_at dksX6_isBehind_0 14 rfl rfl)
theorem dX6_isBehind_16 : decode cX6_isBehind 16 = .ok (.iload_n 1, 1) := dk_27 (dk_at dksX6_isBehind_0 16 rfl rfl)
theorem dX6_isBehind_17 : decode cX6_isBehind 17 = .ok (.imul, 1) := dk_104 (dk_at dksX6_isBehind_0 17 rfl rfl)
theorem dX6_isBehind_18 : decode cX6_isBehind 18 = .ok (.iload_n 3, 1) := dk_29 (dk_at dksX6_isBehind_0 18 rfl rfl)
theorem dX6_isBehind_19 : decode cX6_isBehind 19 = .ok (.iadd, 1) := dk_96 (dk_at dksX6_isBehind_0 19 rfl rfl)
theorem dX6_isBehind_20 : decode cX6_isBehind 20 = .ok (.iaload, 1) := dk_46 (dk_at dksX6_isBehind_0 20 rfl rfl)
theorem dX6_isBehind_21 : decode cX6_isBehind 21 = .ok (.aload_n 0, 1) := dk_42 (dk_at dksX6_isBehind_0 21 rfl rfl)
theorem dX6_isBehind_22 : decode cX6_isBehind 22 = .ok (.getfield 26, 3) := dk_180 0 26 (dk_at dksX6_isBehind_1 0 rfl rfl)
theorem dX6_isBehind_25 : decode cX6_isBehind 25 = .ok (.bipush 6, 2) := dk_16 6 (dk_at dksX6_isBehind_1 3 rfl rfl)
theorem dX6_isBehind_27 : decode cX6_isBehind 27 = .ok (.iload_n 2, 1) := dk_28 (dk_at dksX6_isBehind_1 5 rfl rfl)
theorem dX6_isBehind_28 : decode cX6_isBehind 28 = .ok (.imul, 1) := dk_104 (dk_at dksX6_isBehind_1 6 rfl rfl)
theorem dX6_isBehind_29 : decode cX6_isBehind 29 = .ok (.iload_n 3, 1) := dk_29 (dk_at dksX6_isBehind_1 7 rfl rfl)
theorem dX6_isBehind_30 : decode cX6_isBehind 30 = .ok (.iadd, 1) := dk_96 (dk_at dksX6_isBehind_1 8 rfl rfl)
theorem dX6_isBehind_31 : decode cX6_isBehind 31 = .ok (.iaload, 1) := dk_46 (dk_at dksX6_isBehind_1 9 rfl rfl)
theorem dX6_isBehind_32 : decode cX6_isBehind 32 = .ok (.if_icmp .eq 34, 3) := dk_159 0 34 (dk_at dksX6_isBehind_1 10 rfl rfl)
theorem dX6_isBehind_35 : decode cX6_isBehind 35 = .ok (.aload_n 0, 1) := dk_42 (dk_at dksX6_isBehind_1 13 rfl rfl)
theorem dX6_isBehind_36 : decode cX6_isBehind 36 = .ok (.getfield 26, 3) := dk_180 0 26 (dk_at dksX6_isBehind_1 14 rfl rfl)
theorem dX6_isBehind_39 : decode cX6_isBehind 39 = .ok (.bipush 6, 2) := dk_16 6 (dk_at dksX6_isBehind_1 17 rfl rfl)
theorem dX6_isBehind_41 : decode cX6_isBehind 41 = .ok (.iload_n 1, 1) := dk_27 (dk_at dksX6_isBehind_1 19 rfl rfl)
theorem dX6_isBehind_42 : decode cX6_isBehind 42 = .ok (.imul, 1) := dk_104 (dk_at dksX6_isBehind_1 20 rfl rfl)
theorem dX6_isBehind_43 : decode cX6_isBehind 43 = .ok (.iload_n 3, 1) := dk_29 (dk_at dksX6_isBehind_1 21 rfl rfl)
theorem dX6_isBehind_44 : decode cX6_isBehind 44 = .ok (.iadd, 1) := dk_96 (dk_at dksX6_isBehind_1 22 rfl rfl)
theorem dX6_isBehind_45 : decode cX6_isBehind 45 = .ok (.iaload, 1) := dk_46 (dk_at dksX6_isBehind_1 23 rfl rfl)
theorem dX6_isBehind_46 : decode cX6_isBehind 46 = .ok (.aload_n 0, 1) := dk_42 (dk_at dksX6_isBehind_2 0 rfl rfl)
theorem dX6_isBehind_47 : decode cX6_isBehind 47 = .ok (.getfield 26, 3) := dk_180 0 26 (dk_at dksX6_isBehind_2 1 rfl rfl)
theorem dX6_isBehind_50 : decode cX6_isBehind 50 = .ok (.bipush 6, 2) := dk_16 6 (dk_at dksX6_isBehind_2 4 rfl rfl)
theorem dX6_isBehind_52 : decode cX6_isBehind 52 = .ok (.iload_n 2, 1) := dk_28 (dk_at dksX6_isBehind_2 6 rfl rfl)
theorem dX6_isBehind_53 : decode cX6_isBehind 53 = .ok (.imul, 1) := dk_104 (dk_at dksX6_isBehind_2 7 rfl rfl)
theorem dX6_isBehind_54 : decode cX6_isBehind 54 = .ok (.iload_n 3, 1) := dk_29 (dk_at dksX6_isBehind_2 8 rfl rfl)
theorem dX6_isBehind_55 : decode cX6_isBehind 55 = .ok (.iadd, 1) := dk_96 (dk_at dksX6_isBehind_2 9 rfl rfl)
theorem dX6_isBehind_56 : decode cX6_isBehind 56 = .ok (.iaload, 1) := dk_46 (dk_at dksX6_isBehind_2 10 rfl rfl)
theorem dX6_isBehind_57 : decode cX6_isBehind 57 = .ok (.if_icmp .le 7, 3) := dk_164 0 7 (dk_at dksX6_isBehind_2 11 rfl rfl)
theorem dX6_isBehind_60 : decode cX6_isBehind 60 = .ok (.iconst 1, 1) := dk_4 (dk_at dksX6_isBehind_2 14 rfl rfl)
theorem dX6_isBehind_61 : decode cX6_isBehind 61 = .ok (.goto 4, 3) := dk_167 0 4 (dk_at dksX6_isBehind_2 15 rfl rfl)
theorem dX6_isBehind_64 : decode cX6_isBehind 64 = .ok (.iconst 0, 1) := dk_3 (dk_at dksX6_isBehind_2 18 rfl rfl)
theorem dX6_isBehind_65 : decode cX6_isBehind 65 = .ok (.ireturn, 1) := dk_172 (dk_at dksX6_isBehind_2 19 rfl rfl)
theorem dX6_isBehind_66 : decode cX6_isBehind 66 = .ok (.iinc 3 1, 3) := dk_132 3 1 (dk_at dksX6_isBehind_2 20 rfl rfl)
theorem dX6_isBehind_69 : decode cX6_isBehind 69 = .ok (.goto (-67), 3) := dk_167 255 189 (dk_at dksX6_isBehind_3 0 rfl rfl)
theorem dX6_isBehind_72 : decode cX6_isBehind 72 = .ok (.iconst 0, 1) := dk_3 (dk_at dksX6_isBehind_3 3 rfl rfl)
theorem dX6_isBehind_73 : decode cX6_isBehind 73 = .ok (.ireturn, 1) := dk_172 (dk_at dksX6_isBehind_3 4 rfl rfl)
abbrev cX6_exchanges : ByteArray := prog_16_method_24_code
def yX6_exchanges : MethodName := ⟨RX6, "exchanges", "(II)V"⟩
def dkwX6_exchanges_2 : List UInt8 := [180, 0, 26, 16, 6, 28, 104, 29, 96, 21, 4, 79, 132, 3, 1, 167, 255, 199, 177]
abbrev dktX6_exchanges_2 : List UInt8 := dkwX6_exchanges_2 ++ []
def dkwX6_exchanges_1 : List UInt8 := [180, 0, 26, 16, 6, 27, 104, 29, 96, 42, 180, 0, 26, 16, 6, 28, 104, 29, 96, 46, 79, 42]
abbrev dktX6_exchanges_1 : List UInt8 := dkwX6_exchanges_1 ++ dktX6_exchanges_2
def dkwX6_exchanges_0 : List UInt8 := [3, 62, 29, 16, 6, 162, 0, 57, 42, 180, 0, 26, 16, 6, 27, 104, 29, 96, 46, 54, 4, 42]
abbrev dktX6_exchanges_0 : List UInt8 := dkwX6_exchanges_0 ++ dktX6_exchanges_1
theorem dksX6_exchanges_0 : cX6_exchanges.data.toList.drop 0 = dktX6_exchanges_0 := by decide +kernel
theorem dksX6_exchanges_1 : cX6_exchanges.data.toList.drop 22 = dktX6_exchanges_1 := dk_seg dksX6_exchanges_0 22 rfl rfl
theorem dksX6_exchanges_2 : cX6_exchanges.data.toList.drop 44 = dktX6_exchanges_2 := dk_seg dksX6_exchanges_1 22 rfl rfl
theorem dX6_exchanges_0 : decode cX6_exchanges 0 = .ok (.iconst 0, 1) := dk_3 (dk_at dksX6_exchanges_0 0 rfl rfl)
theorem dX6_exchanges_1 : decode cX6_exchanges 1 = .ok (.istore_n 3, 1) := dk_62 (dk_at dksX6_exchanges_0 1 rfl rfl)
theorem dX6_exchanges_2 : decode cX6_exchanges 2 = .ok (.iload_n 3, 1) := dk_29 (dk_at dksX6_exchanges_0 2 rfl rfl)
theorem dX6_exchanges_3 : decode cX6_exchanges 3 = .ok (.bipush 6, 2) := dk_16 6 (dk_at dksX6_exchanges_0 3 rfl rfl)
theorem dX6_exchanges_5 : decode cX6_exchanges 5 = .ok (.if_icmp .ge 57, 3) := dk_162 0 57 (dk_at dksX6_exchanges_0 5 rfl rfl)
theorem dX6_exchanges_8 : decode cX6_exchanges 8 = .ok (.aload_n 0, 1) := dk_42 (dk_at dksX6_exchanges_0 8 rfl rfl)
theorem dX6_exchanges_9 : decode cX6_exchanges 9 = .ok (.getfield 26, 3) := dk_180 0 26 (dk_at dksX6_exchanges_0 9 rfl rfl)
theorem dX6_exchanges_12 : decode cX6_exchanges 12 = .ok (.bipush 6, 2) := dk_16 6 (dk_at dksX6_exchanges_0 12 rfl rfl)
theorem dX6_exchanges_14 : decode cX6_exchanges 14 = .ok (.iload_n 1, 1) := dk_27 (dk_at dksX6_exchanges_0 14 rfl rfl)
theorem dX6_exchanges_15 : decode cX6_exchanges 15 = .ok (.imul, 1) := dk_104 (dk_at dksX6_exchanges_0 15 rfl rfl)
theorem dX6_exchanges_16 : decode cX6_exchanges 16 = .ok (.iload_n 3, 1) := dk_29 (dk_at dksX6_exchanges_0 16 rfl rfl)
theorem dX6_exchanges_17 : decode cX6_exchanges 17 = .ok (.iadd, 1) := dk_96 (dk_at dksX6_exchanges_0 17 rfl rfl)
theorem dX6_exchanges_18 : decode cX6_exchanges 18 = .ok (.iaload, 1) := dk_46 (dk_at dksX6_exchanges_0 18 rfl rfl)
theorem dX6_exchanges_19 : decode cX6_exchanges 19 = .ok (.istore 4, 2) := dk_54 4 (dk_at dksX6_exchanges_0 19 rfl rfl)
theorem dX6_exchanges_21 : decode cX6_exchanges 21 = .ok (.aload_n 0, 1) := dk_42 (dk_at dksX6_exchanges_0 21 rfl rfl)
theorem dX6_exchanges_22 : decode cX6_exchanges 22 = .ok (.getfield 26, 3) := dk_180 0 26 (dk_at dksX6_exchanges_1 0 rfl rfl)
theorem dX6_exchanges_25 : decode cX6_exchanges 25 = .ok (.bipush 6, 2) := dk_16 6 (dk_at dksX6_exchanges_1 3 rfl rfl)
theorem dX6_exchanges_27 : decode cX6_exchanges 27 = .ok (.iload_n 1, 1) := dk_27 (dk_at dksX6_exchanges_1 5 rfl rfl)
theorem dX6_exchanges_28 : decode cX6_exchanges 28 = .ok (.imul, 1) := dk_104 (dk_at dksX6_exchanges_1 6 rfl rfl)
theorem dX6_exchanges_29 : decode cX6_exchanges 29 = .ok (.iload_n 3, 1) := dk_29 (dk_at dksX6_exchanges_1 7 rfl rfl)
theorem dX6_exchanges_30 : decode cX6_exchanges 30 = .ok (.iadd, 1) := dk_96 (dk_at dksX6_exchanges_1 8 rfl rfl)
theorem dX6_exchanges_31 : decode cX6_exchanges 31 = .ok (.aload_n 0, 1) := dk_42 (dk_at dksX6_exchanges_1 9 rfl rfl)
theorem dX6_exchanges_32 : decode cX6_exchanges 32 = .ok (.getfield 26, 3) := dk_180 0 26 (dk_at dksX6_exchanges_1 10 rfl rfl)
theorem dX6_exchanges_35 : decode cX6_exchanges 35 = .ok (.bipush 6, 2) := dk_16 6 (dk_at dksX6_exchanges_1 13 rfl rfl)
theorem dX6_exchanges_37 : decode cX6_exchanges 37 = .ok (.iload_n 2, 1) := dk_28 (dk_at dksX6_exchanges_1 15 rfl rfl)
theorem dX6_exchanges_38 : decode cX6_exchanges 38 = .ok (.imul, 1) := dk_104 (dk_at dksX6_exchanges_1 16 rfl rfl)
theorem dX6_exchanges_39 : decode cX6_exchanges 39 = .ok (.iload_n 3, 1) := dk_29 (dk_at dksX6_exchanges_1 17 rfl rfl)
theorem dX6_exchanges_40 : decode cX6_exchanges 40 = .ok (.iadd, 1) := dk_96 (dk_at dksX6_exchanges_1 18 rfl rfl)
theorem dX6_exchanges_41 : decode cX6_exchanges 41 = .ok (.iaload, 1) := dk_46 (dk_at dksX6_exchanges_1 19 rfl rfl)
theorem dX6_exchanges_42 : decode cX6_exchanges 42 = .ok (.iastore, 1) := dk_79 (dk_at dksX6_exchanges_1 20 rfl rfl)
theorem dX6_exchanges_43 : decode cX6_exchanges 43 = .ok (.aload_n 0, 1) := dk_42 (dk_at dksX6_exchanges_1 21 rfl rfl)
theorem dX6_exchanges_44 : decode cX6_exchanges 44 = .ok (.getfield 26, 3) := dk_180 0 26 (dk_at dksX6_exchanges_2 0 rfl rfl)
theorem dX6_exchanges_47 : decode cX6_exchanges 47 = .ok (.bipush 6, 2) := dk_16 6 (dk_at dksX6_exchanges_2 3 rfl rfl)
theorem dX6_exchanges_49 : decode cX6_exchanges 49 = .ok (.iload_n 2, 1) := dk_28 (dk_at dksX6_exchanges_2 5 rfl rfl)
theorem dX6_exchanges_50 : decode cX6_exchanges 50 = .ok (.imul, 1) := dk_104 (dk_at dksX6_exchanges_2 6 rfl rfl)
theorem dX6_exchanges_51 : decode cX6_exchanges 51 = .ok (.iload_n 3, 1) := dk_29 (dk_at dksX6_exchanges_2 7 rfl rfl)
theorem dX6_exchanges_52 : decode cX6_exchanges 52 = .ok (.iadd, 1) := dk_96 (dk_at dksX6_exchanges_2 8 rfl rfl)
theorem dX6_exchanges_53 : decode cX6_exchanges 53 = .ok (.iload 4, 2) := dk_21 4 (dk_at dksX6_exchanges_2 9 rfl rfl)
theorem dX6_exchanges_55 : decode cX6_exchanges 55 = .ok (.iastore, 1) := dk_79 (dk_at dksX6_exchanges_2 11 rfl rfl)
theorem dX6_exchanges_56 : decode cX6_exchanges 56 = .ok (.iinc 3 1, 3) := dk_132 3 1 (dk_at dksX6_exchanges_2 12 rfl rfl)
theorem dX6_exchanges_59 : decode cX6_exchanges 59 = .ok (.goto (-57), 3) := dk_167 255 199 (dk_at dksX6_exchanges_2 15 rfl rfl)
theorem dX6_exchanges_62 : decode cX6_exchanges 62 = .ok (.return_, 1) := dk_177 (dk_at dksX6_exchanges_2 18 rfl rfl)
abbrev cX6_holds : ByteArray := prog_16_method_4_code
def yX6_holds : MethodName := ⟨RX6, "holds", "(II)Z"⟩
def dkwX6_holds_0 : List UInt8 := [26, 27, 122, 4, 126, 4, 160, 0, 7, 4, 167, 0, 4, 3, 172]
abbrev dktX6_holds_0 : List UInt8 := dkwX6_holds_0 ++ []
theorem dksX6_holds_0 : cX6_holds.data.toList.drop 0 = dktX6_holds_0 := by decide +kernel
theorem dX6_holds_0 : decode cX6_holds 0 = .ok (.iload_n 0, 1) := dk_26 (dk_at dksX6_holds_0 0 rfl rfl)
theorem dX6_holds_1 : decode cX6_holds 1 = .ok (.iload_n 1, 1) := dk_27 (dk_at dksX6_holds_0 1 rfl rfl)
theorem dX6_holds_2 : decode cX6_holds 2 = .ok (.ishr, 1) := dk_122 (dk_at dksX6_holds_0 2 rfl rfl)
theorem dX6_holds_3 : decode cX6_holds 3 = .ok (.iconst 1, 1) := dk_4 (dk_at dksX6_holds_0 3 rfl rfl)
theorem dX6_holds_4 : decode cX6_holds 4 = .ok (.iand, 1) := dk_126 (dk_at dksX6_holds_0 4 rfl rfl)
theorem dX6_holds_5 : decode cX6_holds 5 = .ok (.iconst 1, 1) := dk_4 (dk_at dksX6_holds_0 5 rfl rfl)
theorem dX6_holds_6 : decode cX6_holds 6 = .ok (.if_icmp .ne 7, 3) := dk_160 0 7 (dk_at dksX6_holds_0 6 rfl rfl)
theorem dX6_holds_9 : decode cX6_holds 9 = .ok (.iconst 1, 1) := dk_4 (dk_at dksX6_holds_0 9 rfl rfl)
theorem dX6_holds_10 : decode cX6_holds 10 = .ok (.goto 4, 3) := dk_167 0 4 (dk_at dksX6_holds_0 10 rfl rfl)
theorem dX6_holds_13 : decode cX6_holds 13 = .ok (.iconst 0, 1) := dk_3 (dk_at dksX6_holds_0 13 rfl rfl)
theorem dX6_holds_14 : decode cX6_holds 14 = .ok (.ireturn, 1) := dk_172 (dk_at dksX6_holds_0 14 rfl rfl)
abbrev cX6_closed : ByteArray := prog_16_method_27_code
def yX6_closed : MethodName := ⟨RX6, "closed", "(I)I"⟩
def dkwX6_closed_3 : List UInt8 := [132, 5, 1, 167, 255, 213, 132, 4, 1, 167, 255, 195, 167, 255, 182, 28, 172]
abbrev dktX6_closed_3 : List UInt8 := dkwX6_closed_3 ++ []
def dkwX6_closed_2 : List UInt8 := [28, 21, 5, 184, 0, 213, 153, 0, 16, 28, 4, 42, 21, 4, 21, 5, 182, 0, 216, 120, 128, 61]
abbrev dktX6_closed_2 : List UInt8 := dkwX6_closed_2 ++ dktX6_closed_3
def dkwX6_closed_1 : List UInt8 := [162, 0, 58, 3, 54, 5, 21, 5, 42, 180, 0, 196, 162, 0, 40, 28, 21, 4, 184, 0, 213, 153, 0, 31]
abbrev dktX6_closed_1 : List UInt8 := dkwX6_closed_1 ++ dktX6_closed_2
def dkwX6_closed_0 : List UInt8 := [27, 4, 128, 61, 3, 62, 28, 29, 159, 0, 75, 28, 62, 3, 54, 4, 21, 4, 42, 180, 0, 196]
abbrev dktX6_closed_0 : List UInt8 := dkwX6_closed_0 ++ dktX6_closed_1
theorem dksX6_closed_0 : cX6_closed.data.toList.drop 0 = dktX6_closed_0 := by decide +kernel
theorem dksX6_closed_1 : cX6_closed.data.toList.drop 22 = dktX6_closed_1 := dk_seg dksX6_closed_0 22 rfl rfl
theorem dksX6_closed_2 : cX6_closed.data.toList.drop 46 = dktX6_closed_2 := dk_seg dksX6_closed_1 24 rfl rfl
theorem dksX6_closed_3 : cX6_closed.data.toList.drop 68 = dktX6_closed_3 := dk_seg dksX6_closed_2 22 rfl rfl
theorem dX6_closed_0 : decode cX6_closed 0 = .ok (.iload_n 1, 1) := dk_27 (dk_at dksX6_closed_0 0 rfl rfl)
theorem dX6_closed_1 : decode cX6_closed 1 = .ok (.iconst 1, 1) := dk_4 (dk_at dksX6_closed_0 1 rfl rfl)
theorem dX6_closed_2 : decode cX6_closed 2 = .ok (.ior, 1) := dk_128 (dk_at dksX6_closed_0 2 rfl rfl)
theorem dX6_closed_3 : decode cX6_closed 3 = .ok (.istore_n 2, 1) := dk_61 (dk_at dksX6_closed_0 3 rfl rfl)
theorem dX6_closed_4 : decode cX6_closed 4 = .ok (.iconst 0, 1) := dk_3 (dk_at dksX6_closed_0 4 rfl rfl)
theorem dX6_closed_5 : decode cX6_closed 5 = .ok (.istore_n 3, 1) := dk_62 (dk_at dksX6_closed_0 5 rfl rfl)
theorem dX6_closed_6 : decode cX6_closed 6 = .ok (.iload_n 2, 1) := dk_28 (dk_at dksX6_closed_0 6 rfl rfl)
theorem dX6_closed_7 : decode cX6_closed 7 = .ok (.iload_n 3, 1) := dk_29 (dk_at dksX6_closed_0 7 rfl rfl)
theorem dX6_closed_8 : decode cX6_closed 8 = .ok (.if_icmp .eq 75, 3) := dk_159 0 75 (dk_at dksX6_closed_0 8 rfl rfl)
theorem dX6_closed_11 : decode cX6_closed 11 = .ok (.iload_n 2, 1) := dk_28 (dk_at dksX6_closed_0 11 rfl rfl)
theorem dX6_closed_12 : decode cX6_closed 12 = .ok (.istore_n 3, 1) := dk_62 (dk_at dksX6_closed_0 12 rfl rfl)
theorem dX6_closed_13 : decode cX6_closed 13 = .ok (.iconst 0, 1) := dk_3 (dk_at dksX6_closed_0 13 rfl rfl)
theorem dX6_closed_14 : decode cX6_closed 14 = .ok (.istore 4, 2) := dk_54 4 (dk_at dksX6_closed_0 14 rfl rfl)
theorem dX6_closed_16 : decode cX6_closed 16 = .ok (.iload 4, 2) := dk_21 4 (dk_at dksX6_closed_0 16 rfl rfl)
theorem dX6_closed_18 : decode cX6_closed 18 = .ok (.aload_n 0, 1) := dk_42 (dk_at dksX6_closed_0 18 rfl rfl)
theorem dX6_closed_19 : decode cX6_closed 19 = .ok (.getfield 196, 3) := dk_180 0 196 (dk_at dksX6_closed_0 19 rfl rfl)
theorem dX6_closed_22 : decode cX6_closed 22 = .ok (.if_icmp .ge 58, 3) := dk_162 0 58 (dk_at dksX6_closed_1 0 rfl rfl)
theorem dX6_closed_25 : decode cX6_closed 25 = .ok (.iconst 0, 1) := dk_3 (dk_at dksX6_closed_1 3 rfl rfl)
theorem dX6_closed_26 : decode cX6_closed 26 = .ok (.istore 5, 2) := dk_54 5 (dk_at dksX6_closed_1 4 rfl rfl)
theorem dX6_closed_28 : decode cX6_closed 28 = .ok (.iload 5, 2) := dk_21 5 (dk_at dksX6_closed_1 6 rfl rfl)
theorem dX6_closed_30 : decode cX6_closed 30 = .ok (.aload_n 0, 1) := dk_42 (dk_at dksX6_closed_1 8 rfl rfl)
theorem dX6_closed_31 : decode cX6_closed 31 = .ok (.getfield 196, 3) := dk_180 0 196 (dk_at dksX6_closed_1 9 rfl rfl)
theorem dX6_closed_34 : decode cX6_closed 34 = .ok (.if_icmp .ge 40, 3) := dk_162 0 40 (dk_at dksX6_closed_1 12 rfl rfl)
theorem dX6_closed_37 : decode cX6_closed 37 = .ok (.iload_n 2, 1) := dk_28 (dk_at dksX6_closed_1 15 rfl rfl)
theorem dX6_closed_38 : decode cX6_closed 38 = .ok (.iload 4, 2) := dk_21 4 (dk_at dksX6_closed_1 16 rfl rfl)
theorem dX6_closed_40 : decode cX6_closed 40 = .ok (.invokestatic 213, 3) := dk_184 0 213 (dk_at dksX6_closed_1 18 rfl rfl)
theorem dX6_closed_43 : decode cX6_closed 43 = .ok (.ifCond .eq 31, 3) := dk_153 0 31 (dk_at dksX6_closed_1 21 rfl rfl)
theorem dX6_closed_46 : decode cX6_closed 46 = .ok (.iload_n 2, 1) := dk_28 (dk_at dksX6_closed_2 0 rfl rfl)
theorem dX6_closed_47 : decode cX6_closed 47 = .ok (.iload 5, 2) := dk_21 5 (dk_at dksX6_closed_2 1 rfl rfl)
theorem dX6_closed_49 : decode cX6_closed 49 = .ok (.invokestatic 213, 3) := dk_184 0 213 (dk_at dksX6_closed_2 3 rfl rfl)
theorem dX6_closed_52 : decode cX6_closed 52 = .ok (.ifCond .eq 16, 3) := dk_153 0 16 (dk_at dksX6_closed_2 6 rfl rfl)
theorem dX6_closed_55 : decode cX6_closed 55 = .ok (.iload_n 2, 1) := dk_28 (dk_at dksX6_closed_2 9 rfl rfl)
theorem dX6_closed_56 : decode cX6_closed 56 = .ok (.iconst 1, 1) := dk_4 (dk_at dksX6_closed_2 10 rfl rfl)
theorem dX6_closed_57 : decode cX6_closed 57 = .ok (.aload_n 0, 1) := dk_42 (dk_at dksX6_closed_2 11 rfl rfl)
theorem dX6_closed_58 : decode cX6_closed 58 = .ok (.iload 4, 2) := dk_21 4 (dk_at dksX6_closed_2 12 rfl rfl)
theorem dX6_closed_60 : decode cX6_closed 60 = .ok (.iload 5, 2) := dk_21 5 (dk_at dksX6_closed_2 14 rfl rfl)
theorem dX6_closed_62 : decode cX6_closed 62 = .ok (.invokevirtual 216, 3) := dk_182 0 216 (dk_at dksX6_closed_2 16 rfl rfl)
theorem dX6_closed_65 : decode cX6_closed 65 = .ok (.ishl, 1) := dk_120 (dk_at dksX6_closed_2 19 rfl rfl)
theorem dX6_closed_66 : decode cX6_closed 66 = .ok (.ior, 1) := dk_128 (dk_at dksX6_closed_2 20 rfl rfl)
theorem dX6_closed_67 : decode cX6_closed 67 = .ok (.istore_n 2, 1) := dk_61 (dk_at dksX6_closed_2 21 rfl rfl)
theorem dX6_closed_68 : decode cX6_closed 68 = .ok (.iinc 5 1, 3) := dk_132 5 1 (dk_at dksX6_closed_3 0 rfl rfl)
theorem dX6_closed_71 : decode cX6_closed 71 = .ok (.goto (-43), 3) := dk_167 255 213 (dk_at dksX6_closed_3 3 rfl rfl)
theorem dX6_closed_74 : decode cX6_closed 74 = .ok (.iinc 4 1, 3) := dk_132 4 1 (dk_at dksX6_closed_3 6 rfl rfl)
theorem dX6_closed_77 : decode cX6_closed 77 = .ok (.goto (-61), 3) := dk_167 255 195 (dk_at dksX6_closed_3 9 rfl rfl)
theorem dX6_closed_80 : decode cX6_closed 80 = .ok (.goto (-74), 3) := dk_167 255 182 (dk_at dksX6_closed_3 12 rfl rfl)
theorem dX6_closed_83 : decode cX6_closed 83 = .ok (.iload_n 2, 1) := dk_28 (dk_at dksX6_closed_3 15 rfl rfl)
theorem dX6_closed_84 : decode cX6_closed 84 = .ok (.ireturn, 1) := dk_172 (dk_at dksX6_closed_3 16 rfl rfl)
abbrev cX6_by : ByteArray := prog_16_method_26_code
def yX6_by : MethodName := ⟨RX6, "by", "(II)I"⟩
def dkwX6_by_0 : List UInt8 := [42, 180, 0, 32, 16, 24, 27, 104, 28, 96, 46, 172]
abbrev dktX6_by_0 : List UInt8 := dkwX6_by_0 ++ []
theorem dksX6_by_0 : cX6_by.data.toList.drop 0 = dktX6_by_0 := by decide +kernel
theorem dX6_by_0 : decode cX6_by 0 = .ok (.aload_n 0, 1) := dk_42 (dk_at dksX6_by_0 0 rfl rfl)
theorem dX6_by_1 : decode cX6_by 1 = .ok (.getfield 32, 3) := dk_180 0 32 (dk_at dksX6_by_0 1 rfl rfl)
theorem dX6_by_4 : decode cX6_by 4 = .ok (.bipush 24, 2) := dk_16 24 (dk_at dksX6_by_0 4 rfl rfl)
theorem dX6_by_6 : decode cX6_by 6 = .ok (.iload_n 1, 1) := dk_27 (dk_at dksX6_by_0 6 rfl rfl)
theorem dX6_by_7 : decode cX6_by 7 = .ok (.imul, 1) := dk_104 (dk_at dksX6_by_0 7 rfl rfl)
theorem dX6_by_8 : decode cX6_by 8 = .ok (.iload_n 2, 1) := dk_28 (dk_at dksX6_by_0 8 rfl rfl)
theorem dX6_by_9 : decode cX6_by 9 = .ok (.iadd, 1) := dk_96 (dk_at dksX6_by_0 9 rfl rfl)
theorem dX6_by_10 : decode cX6_by 10 = .ok (.iaload, 1) := dk_46 (dk_at dksX6_by_0 10 rfl rfl)
theorem dX6_by_11 : decode cX6_by 11 = .ok (.ireturn, 1) := dk_172 (dk_at dksX6_by_0 11 rfl rfl)
abbrev cX6_subIndex : ByteArray := prog_16_method_29_code
def yX6_subIndex : MethodName := ⟨RX6, "subIndex", "(I)I"⟩
def dkwX6_subIndex_1 : List UInt8 := [132, 2, 1, 167, 255, 233, 2, 172]
abbrev dktX6_subIndex_1 : List UInt8 := dkwX6_subIndex_1 ++ []
def dkwX6_subIndex_0 : List UInt8 := [3, 61, 28, 42, 180, 0, 220, 162, 0, 21, 42, 180, 0, 38, 28, 46, 27, 160, 0, 5, 28, 172]
abbrev dktX6_subIndex_0 : List UInt8 := dkwX6_subIndex_0 ++ dktX6_subIndex_1
theorem dksX6_subIndex_0 : cX6_subIndex.data.toList.drop 0 = dktX6_subIndex_0 := by decide +kernel
theorem dksX6_subIndex_1 : cX6_subIndex.data.toList.drop 22 = dktX6_subIndex_1 := dk_seg dksX6_subIndex_0 22 rfl rfl
theorem dX6_subIndex_0 : decode cX6_subIndex 0 = .ok (.iconst 0, 1) := dk_3 (dk_at dksX6_subIndex_0 0 rfl rfl)
theorem dX6_subIndex_1 : decode cX6_subIndex 1 = .ok (.istore_n 2, 1) := dk_61 (dk_at dksX6_subIndex_0 1 rfl rfl)
theorem dX6_subIndex_2 : decode cX6_subIndex 2 = .ok (.iload_n 2, 1) := dk_28 (dk_at dksX6_subIndex_0 2 rfl rfl)
theorem dX6_subIndex_3 : decode cX6_subIndex 3 = .ok (.aload_n 0, 1) := dk_42 (dk_at dksX6_subIndex_0 3 rfl rfl)
theorem dX6_subIndex_4 : decode cX6_subIndex 4 = .ok (.getfield 220, 3) := dk_180 0 220 (dk_at dksX6_subIndex_0 4 rfl rfl)
theorem dX6_subIndex_7 : decode cX6_subIndex 7 = .ok (.if_icmp .ge 21, 3) := dk_162 0 21 (dk_at dksX6_subIndex_0 7 rfl rfl)
theorem dX6_subIndex_10 : decode cX6_subIndex 10 = .ok (.aload_n 0, 1) := dk_42 (dk_at dksX6_subIndex_0 10 rfl rfl)
theorem dX6_subIndex_11 : decode cX6_subIndex 11 = .ok (.getfield 38, 3) := dk_180 0 38 (dk_at dksX6_subIndex_0 11 rfl rfl)
theorem dX6_subIndex_14 : decode cX6_subIndex 14 = .ok (.iload_n 2, 1) := dk_28 (dk_at dksX6_subIndex_0 14 rfl rfl)
theorem dX6_subIndex_15 : decode cX6_subIndex 15 = .ok (.iaload, 1) := dk_46 (dk_at dksX6_subIndex_0 15 rfl rfl)
theorem dX6_subIndex_16 : decode cX6_subIndex 16 = .ok (.iload_n 1, 1) := dk_27 (dk_at dksX6_subIndex_0 16 rfl rfl)
theorem dX6_subIndex_17 : decode cX6_subIndex 17 = .ok (.if_icmp .ne 5, 3) := dk_160 0 5 (dk_at dksX6_subIndex_0 17 rfl rfl)
theorem dX6_subIndex_20 : decode cX6_subIndex 20 = .ok (.iload_n 2, 1) := dk_28 (dk_at dksX6_subIndex_0 20 rfl rfl)
theorem dX6_subIndex_21 : decode cX6_subIndex 21 = .ok (.ireturn, 1) := dk_172 (dk_at dksX6_subIndex_0 21 rfl rfl)
theorem dX6_subIndex_22 : decode cX6_subIndex 22 = .ok (.iinc 2 1, 3) := dk_132 2 1 (dk_at dksX6_subIndex_1 0 rfl rfl)
theorem dX6_subIndex_25 : decode cX6_subIndex 25 = .ok (.goto (-23), 3) := dk_167 255 233 (dk_at dksX6_subIndex_1 3 rfl rfl)
theorem dX6_subIndex_28 : decode cX6_subIndex 28 = .ok (.iconst (-1), 1) := dk_2 (dk_at dksX6_subIndex_1 6 rfl rfl)
theorem dX6_subIndex_29 : decode cX6_subIndex 29 = .ok (.ireturn, 1) := dk_172 (dk_at dksX6_subIndex_1 7 rfl rfl)
abbrev cX6_leastTurned : ByteArray := prog_16_method_30_code
def yX6_leastTurned : MethodName := ⟨RX6, "leastTurned", "(I)I"⟩
def dkwX6_leastTurned_1 : List UInt8 := [162, 0, 8, 21, 4, 167, 0, 4, 28, 61, 132, 3, 1, 167, 255, 224, 28, 172]
abbrev dktX6_leastTurned_1 : List UInt8 := dkwX6_leastTurned_1 ++ []
def dkwX6_leastTurned_0 : List UInt8 := [27, 61, 3, 62, 29, 42, 180, 0, 196, 162, 0, 30, 42, 27, 29, 182, 0, 223, 54, 4, 21, 4, 28]
abbrev dktX6_leastTurned_0 : List UInt8 := dkwX6_leastTurned_0 ++ dktX6_leastTurned_1
theorem dksX6_leastTurned_0 : cX6_leastTurned.data.toList.drop 0 = dktX6_leastTurned_0 := by decide +kernel
theorem dksX6_leastTurned_1 : cX6_leastTurned.data.toList.drop 23 = dktX6_leastTurned_1 := dk_seg dksX6_leastTurned_0 23 rfl rfl
theorem dX6_leastTurned_0 : decode cX6_leastTurned 0 = .ok (.iload_n 1, 1) := dk_27 (dk_at dksX6_leastTurned_0 0 rfl rfl)
theorem dX6_leastTurned_1 : decode cX6_leastTurned 1 = .ok (.istore_n 2, 1) := dk_61 (dk_at dksX6_leastTurned_0 1 rfl rfl)
theorem dX6_leastTurned_2 : decode cX6_leastTurned 2 = .ok (.iconst 0, 1) := dk_3 (dk_at dksX6_leastTurned_0 2 rfl rfl)
theorem dX6_leastTurned_3 : decode cX6_leastTurned 3 = .ok (.istore_n 3, 1) := dk_62 (dk_at dksX6_leastTurned_0 3 rfl rfl)
theorem dX6_leastTurned_4 : decode cX6_leastTurned 4 = .ok (.iload_n 3, 1) := dk_29 (dk_at dksX6_leastTurned_0 4 rfl rfl)
theorem dX6_leastTurned_5 : decode cX6_leastTurned 5 = .ok (.aload_n 0, 1) := dk_42 (dk_at dksX6_leastTurned_0 5 rfl rfl)
theorem dX6_leastTurned_6 : decode cX6_leastTurned 6 = .ok (.getfield 196, 3) := dk_180 0 196 (dk_at dksX6_leastTurned_0 6 rfl rfl)
theorem dX6_leastTurned_9 : decode cX6_leastTurned 9 = .ok (.if_icmp .ge 30, 3) := dk_162 0 30 (dk_at dksX6_leastTurned_0 9 rfl rfl)
theorem dX6_leastTurned_12 : decode cX6_leastTurned 12 = .ok (.aload_n 0, 1) := dk_42 (dk_at dksX6_leastTurned_0 12 rfl rfl)
theorem dX6_leastTurned_13 : decode cX6_leastTurned 13 = .ok (.iload_n 1, 1) := dk_27 (dk_at dksX6_leastTurned_0 13 rfl rfl)
theorem dX6_leastTurned_14 : decode cX6_leastTurned 14 = .ok (.iload_n 3, 1) := dk_29 (dk_at dksX6_leastTurned_0 14 rfl rfl)
theorem dX6_leastTurned_15 : decode cX6_leastTurned 15 = .ok (.invokevirtual 223, 3) := dk_182 0 223 (dk_at dksX6_leastTurned_0 15 rfl rfl)
theorem dX6_leastTurned_18 : decode cX6_leastTurned 18 = .ok (.istore 4, 2) := dk_54 4 (dk_at dksX6_leastTurned_0 18 rfl rfl)
theorem dX6_leastTurned_20 : decode cX6_leastTurned 20 = .ok (.iload 4, 2) := dk_21 4 (dk_at dksX6_leastTurned_0 20 rfl rfl)
theorem dX6_leastTurned_22 : decode cX6_leastTurned 22 = .ok (.iload_n 2, 1) := dk_28 (dk_at dksX6_leastTurned_0 22 rfl rfl)
theorem dX6_leastTurned_23 : decode cX6_leastTurned 23 = .ok (.if_icmp .ge 8, 3) := dk_162 0 8 (dk_at dksX6_leastTurned_1 0 rfl rfl)
theorem dX6_leastTurned_26 : decode cX6_leastTurned 26 = .ok (.iload 4, 2) := dk_21 4 (dk_at dksX6_leastTurned_1 3 rfl rfl)
theorem dX6_leastTurned_28 : decode cX6_leastTurned 28 = .ok (.goto 4, 3) := dk_167 0 4 (dk_at dksX6_leastTurned_1 5 rfl rfl)
theorem dX6_leastTurned_31 : decode cX6_leastTurned 31 = .ok (.iload_n 2, 1) := dk_28 (dk_at dksX6_leastTurned_1 8 rfl rfl)
theorem dX6_leastTurned_32 : decode cX6_leastTurned 32 = .ok (.istore_n 2, 1) := dk_61 (dk_at dksX6_leastTurned_1 9 rfl rfl)
theorem dX6_leastTurned_33 : decode cX6_leastTurned 33 = .ok (.iinc 3 1, 3) := dk_132 3 1 (dk_at dksX6_leastTurned_1 10 rfl rfl)
theorem dX6_leastTurned_36 : decode cX6_leastTurned 36 = .ok (.goto (-32), 3) := dk_167 255 224 (dk_at dksX6_leastTurned_1 13 rfl rfl)
theorem dX6_leastTurned_39 : decode cX6_leastTurned 39 = .ok (.iload_n 2, 1) := dk_28 (dk_at dksX6_leastTurned_1 16 rfl rfl)
theorem dX6_leastTurned_40 : decode cX6_leastTurned 40 = .ok (.ireturn, 1) := dk_172 (dk_at dksX6_leastTurned_1 17 rfl rfl)
abbrev cX6_turned : ByteArray := prog_16_method_28_code
def yX6_turned : MethodName := ⟨RX6, "turned", "(II)I"⟩
def dkwX6_turned_2 : List UInt8 := [167, 255, 213, 29, 172]
abbrev dktX6_turned_2 : List UInt8 := dkwX6_turned_2 ++ []
def dkwX6_turned_1 : List UInt8 := [4, 42, 42, 42, 180, 0, 35, 28, 46, 21, 4, 182, 0, 216, 28, 182, 0, 216, 120, 128, 62, 132, 4, 1]
abbrev dktX6_turned_1 : List UInt8 := dkwX6_turned_1 ++ dktX6_turned_2
def dkwX6_turned_0 : List UInt8 := [3, 62, 3, 54, 4, 21, 4, 42, 180, 0, 196, 162, 0, 40, 27, 21, 4, 184, 0, 213, 153, 0, 25, 29]
abbrev dktX6_turned_0 : List UInt8 := dkwX6_turned_0 ++ dktX6_turned_1
theorem dksX6_turned_0 : cX6_turned.data.toList.drop 0 = dktX6_turned_0 := by decide +kernel
theorem dksX6_turned_1 : cX6_turned.data.toList.drop 24 = dktX6_turned_1 := dk_seg dksX6_turned_0 24 rfl rfl
theorem dksX6_turned_2 : cX6_turned.data.toList.drop 48 = dktX6_turned_2 := dk_seg dksX6_turned_1 24 rfl rfl
theorem dX6_turned_0 : decode cX6_turned 0 = .ok (.iconst 0, 1) := dk_3 (dk_at dksX6_turned_0 0 rfl rfl)
theorem dX6_turned_1 : decode cX6_turned 1 = .ok (.istore_n 3, 1) := dk_62 (dk_at dksX6_turned_0 1 rfl rfl)
theorem dX6_turned_2 : decode cX6_turned 2 = .ok (.iconst 0, 1) := dk_3 (dk_at dksX6_turned_0 2 rfl rfl)
theorem dX6_turned_3 : decode cX6_turned 3 = .ok (.istore 4, 2) := dk_54 4 (dk_at dksX6_turned_0 3 rfl rfl)
theorem dX6_turned_5 : decode cX6_turned 5 = .ok (.iload 4, 2) := dk_21 4 (dk_at dksX6_turned_0 5 rfl rfl)
theorem dX6_turned_7 : decode cX6_turned 7 = .ok (.aload_n 0, 1) := dk_42 (dk_at dksX6_turned_0 7 rfl rfl)
theorem dX6_turned_8 : decode cX6_turned 8 = .ok (.getfield 196, 3) := dk_180 0 196 (dk_at dksX6_turned_0 8 rfl rfl)
theorem dX6_turned_11 : decode cX6_turned 11 = .ok (.if_icmp .ge 40, 3) := dk_162 0 40 (dk_at dksX6_turned_0 11 rfl rfl)
theorem dX6_turned_14 : decode cX6_turned 14 = .ok (.iload_n 1, 1) := dk_27 (dk_at dksX6_turned_0 14 rfl rfl)
theorem dX6_turned_15 : decode cX6_turned 15 = .ok (.iload 4, 2) := dk_21 4 (dk_at dksX6_turned_0 15 rfl rfl)
theorem dX6_turned_17 : decode cX6_turned 17 = .ok (.invokestatic 213, 3) := dk_184 0 213 (dk_at dksX6_turned_0 17 rfl rfl)
theorem dX6_turned_20 : decode cX6_turned 20 = .ok (.ifCond .eq 25, 3) := dk_153 0 25 (dk_at dksX6_turned_0 20 rfl rfl)
theorem dX6_turned_23 : decode cX6_turned 23 = .ok (.iload_n 3, 1) := dk_29 (dk_at dksX6_turned_0 23 rfl rfl)
theorem dX6_turned_24 : decode cX6_turned 24 = .ok (.iconst 1, 1) := dk_4 (dk_at dksX6_turned_1 0 rfl rfl)
theorem dX6_turned_25 : decode cX6_turned 25 = .ok (.aload_n 0, 1) := dk_42 (dk_at dksX6_turned_1 1 rfl rfl)
theorem dX6_turned_26 : decode cX6_turned 26 = .ok (.aload_n 0, 1) := dk_42 (dk_at dksX6_turned_1 2 rfl rfl)
theorem dX6_turned_27 : decode cX6_turned 27 = .ok (.aload_n 0, 1) := dk_42 (dk_at dksX6_turned_1 3 rfl rfl)
theorem dX6_turned_28 : decode cX6_turned 28 = .ok (.getfield 35, 3) := dk_180 0 35 (dk_at dksX6_turned_1 4 rfl rfl)
theorem dX6_turned_31 : decode cX6_turned 31 = .ok (.iload_n 2, 1) := dk_28 (dk_at dksX6_turned_1 7 rfl rfl)
theorem dX6_turned_32 : decode cX6_turned 32 = .ok (.iaload, 1) := dk_46 (dk_at dksX6_turned_1 8 rfl rfl)
theorem dX6_turned_33 : decode cX6_turned 33 = .ok (.iload 4, 2) := dk_21 4 (dk_at dksX6_turned_1 9 rfl rfl)
theorem dX6_turned_35 : decode cX6_turned 35 = .ok (.invokevirtual 216, 3) := dk_182 0 216 (dk_at dksX6_turned_1 11 rfl rfl)
theorem dX6_turned_38 : decode cX6_turned 38 = .ok (.iload_n 2, 1) := dk_28 (dk_at dksX6_turned_1 14 rfl rfl)
theorem dX6_turned_39 : decode cX6_turned 39 = .ok (.invokevirtual 216, 3) := dk_182 0 216 (dk_at dksX6_turned_1 15 rfl rfl)
theorem dX6_turned_42 : decode cX6_turned 42 = .ok (.ishl, 1) := dk_120 (dk_at dksX6_turned_1 18 rfl rfl)
theorem dX6_turned_43 : decode cX6_turned 43 = .ok (.ior, 1) := dk_128 (dk_at dksX6_turned_1 19 rfl rfl)
theorem dX6_turned_44 : decode cX6_turned 44 = .ok (.istore_n 3, 1) := dk_62 (dk_at dksX6_turned_1 20 rfl rfl)
theorem dX6_turned_45 : decode cX6_turned 45 = .ok (.iinc 4 1, 3) := dk_132 4 1 (dk_at dksX6_turned_1 21 rfl rfl)
theorem dX6_turned_48 : decode cX6_turned 48 = .ok (.goto (-43), 3) := dk_167 255 213 (dk_at dksX6_turned_2 0 rfl rfl)
theorem dX6_turned_51 : decode cX6_turned 51 = .ok (.iload_n 3, 1) := dk_29 (dk_at dksX6_turned_2 3 rfl rfl)
theorem dX6_turned_52 : decode cX6_turned 52 = .ok (.ireturn, 1) := dk_172 (dk_at dksX6_turned_2 4 rfl rfl)
abbrev cX6_comesSort : ByteArray := prog_16_method_32_code
def yX6_comesSort : MethodName := ⟨RX6, "comesSort", "(I)V"⟩
def dkwX6_comesSort_4 : List UInt8 := [177]
abbrev dktX6_comesSort_4 : List UInt8 := dkwX6_comesSort_4 ++ []
def dkwX6_comesSort_3 : List UInt8 := [79, 132, 2, 255, 167, 255, 187, 42, 180, 0, 44, 28, 27, 79, 42, 89, 180, 0, 235, 4, 96, 181, 0, 235]
abbrev dktX6_comesSort_3 : List UInt8 := dkwX6_comesSort_3 ++ dktX6_comesSort_4
def dkwX6_comesSort_2 : List UInt8 := [180, 0, 44, 28, 4, 100, 46, 27, 164, 0, 23, 42, 180, 0, 44, 28, 42, 180, 0, 44, 28, 4, 100, 46]
abbrev dktX6_comesSort_2 : List UInt8 := dkwX6_comesSort_2 ++ dktX6_comesSort_3
def dkwX6_comesSort_1 : List UInt8 := [163, 0, 33, 42, 180, 0, 44, 28, 4, 100, 46, 184, 0, 253, 27, 184, 0, 253, 160, 0, 35, 42]
abbrev dktX6_comesSort_1 : List UInt8 := dkwX6_comesSort_1 ++ dktX6_comesSort_2
def dkwX6_comesSort_0 : List UInt8 := [42, 180, 0, 235, 61, 28, 158, 0, 71, 42, 180, 0, 44, 28, 4, 100, 46, 184, 0, 253, 27, 184, 0, 253]
abbrev dktX6_comesSort_0 : List UInt8 := dkwX6_comesSort_0 ++ dktX6_comesSort_1
theorem dksX6_comesSort_0 : cX6_comesSort.data.toList.drop 0 = dktX6_comesSort_0 := by decide +kernel
theorem dksX6_comesSort_1 : cX6_comesSort.data.toList.drop 24 = dktX6_comesSort_1 := dk_seg dksX6_comesSort_0 24 rfl rfl
theorem dksX6_comesSort_2 : cX6_comesSort.data.toList.drop 46 = dktX6_comesSort_2 := dk_seg dksX6_comesSort_1 22 rfl rfl
theorem dksX6_comesSort_3 : cX6_comesSort.data.toList.drop 70 = dktX6_comesSort_3 := dk_seg dksX6_comesSort_2 24 rfl rfl
theorem dksX6_comesSort_4 : cX6_comesSort.data.toList.drop 94 = dktX6_comesSort_4 := dk_seg dksX6_comesSort_3 24 rfl rfl
theorem dX6_comesSort_0 : decode cX6_comesSort 0 = .ok (.aload_n 0, 1) := dk_42 (dk_at dksX6_comesSort_0 0 rfl rfl)
theorem dX6_comesSort_1 : decode cX6_comesSort 1 = .ok (.getfield 235, 3) := dk_180 0 235 (dk_at dksX6_comesSort_0 1 rfl rfl)
theorem dX6_comesSort_4 : decode cX6_comesSort 4 = .ok (.istore_n 2, 1) := dk_61 (dk_at dksX6_comesSort_0 4 rfl rfl)
theorem dX6_comesSort_5 : decode cX6_comesSort 5 = .ok (.iload_n 2, 1) := dk_28 (dk_at dksX6_comesSort_0 5 rfl rfl)
theorem dX6_comesSort_6 : decode cX6_comesSort 6 = .ok (.ifCond .le 71, 3) := dk_158 0 71 (dk_at dksX6_comesSort_0 6 rfl rfl)
theorem dX6_comesSort_9 : decode cX6_comesSort 9 = .ok (.aload_n 0, 1) := dk_42 (dk_at dksX6_comesSort_0 9 rfl rfl)
theorem dX6_comesSort_10 : decode cX6_comesSort 10 = .ok (.getfield 44, 3) := dk_180 0 44 (dk_at dksX6_comesSort_0 10 rfl rfl)
theorem dX6_comesSort_13 : decode cX6_comesSort 13 = .ok (.iload_n 2, 1) := dk_28 (dk_at dksX6_comesSort_0 13 rfl rfl)
theorem dX6_comesSort_14 : decode cX6_comesSort 14 = .ok (.iconst 1, 1) := dk_4 (dk_at dksX6_comesSort_0 14 rfl rfl)
theorem dX6_comesSort_15 : decode cX6_comesSort 15 = .ok (.isub, 1) := dk_100 (dk_at dksX6_comesSort_0 15 rfl rfl)
theorem dX6_comesSort_16 : decode cX6_comesSort 16 = .ok (.iaload, 1) := dk_46 (dk_at dksX6_comesSort_0 16 rfl rfl)
theorem dX6_comesSort_17 : decode cX6_comesSort 17 = .ok (.invokestatic 253, 3) := dk_184 0 253 (dk_at dksX6_comesSort_0 17 rfl rfl)
theorem dX6_comesSort_20 : decode cX6_comesSort 20 = .ok (.iload_n 1, 1) := dk_27 (dk_at dksX6_comesSort_0 20 rfl rfl)
theorem dX6_comesSort_21 : decode cX6_comesSort 21 = .ok (.invokestatic 253, 3) := dk_184 0 253 (dk_at dksX6_comesSort_0 21 rfl rfl)
theorem dX6_comesSort_24 : decode cX6_comesSort 24 = .ok (.if_icmp .gt 33, 3) := dk_163 0 33 (dk_at dksX6_comesSort_1 0 rfl rfl)
theorem dX6_comesSort_27 : decode cX6_comesSort 27 = .ok (.aload_n 0, 1) := dk_42 (dk_at dksX6_comesSort_1 3 rfl rfl)
theorem dX6_comesSort_28 : decode cX6_comesSort 28 = .ok (.getfield 44, 3) := dk_180 0 44 (dk_at dksX6_comesSort_1 4 rfl rfl)
theorem dX6_comesSort_31 : decode cX6_comesSort 31 = .ok (.iload_n 2, 1) := dk_28 (dk_at dksX6_comesSort_1 7 rfl rfl)
theorem dX6_comesSort_32 : decode cX6_comesSort 32 = .ok (.iconst 1, 1) := dk_4 (dk_at dksX6_comesSort_1 8 rfl rfl)
theorem dX6_comesSort_33 : decode cX6_comesSort 33 = .ok (.isub, 1) := dk_100 (dk_at dksX6_comesSort_1 9 rfl rfl)
theorem dX6_comesSort_34 : decode cX6_comesSort 34 = .ok (.iaload, 1) := dk_46 (dk_at dksX6_comesSort_1 10 rfl rfl)
theorem dX6_comesSort_35 : decode cX6_comesSort 35 = .ok (.invokestatic 253, 3) := dk_184 0 253 (dk_at dksX6_comesSort_1 11 rfl rfl)
theorem dX6_comesSort_38 : decode cX6_comesSort 38 = .ok (.iload_n 1, 1) := dk_27 (dk_at dksX6_comesSort_1 14 rfl rfl)
theorem dX6_comesSort_39 : decode cX6_comesSort 39 = .ok (.invokestatic 253, 3) := dk_184 0 253 (dk_at dksX6_comesSort_1 15 rfl rfl)
theorem dX6_comesSort_42 : decode cX6_comesSort 42 = .ok (.if_icmp .ne 35, 3) := dk_160 0 35 (dk_at dksX6_comesSort_1 18 rfl rfl)
theorem dX6_comesSort_45 : decode cX6_comesSort 45 = .ok (.aload_n 0, 1) := dk_42 (dk_at dksX6_comesSort_1 21 rfl rfl)
theorem dX6_comesSort_46 : decode cX6_comesSort 46 = .ok (.getfield 44, 3) := dk_180 0 44 (dk_at dksX6_comesSort_2 0 rfl rfl)
theorem dX6_comesSort_49 : decode cX6_comesSort 49 = .ok (.iload_n 2, 1) := dk_28 (dk_at dksX6_comesSort_2 3 rfl rfl)
theorem dX6_comesSort_50 : decode cX6_comesSort 50 = .ok (.iconst 1, 1) := dk_4 (dk_at dksX6_comesSort_2 4 rfl rfl)
theorem dX6_comesSort_51 : decode cX6_comesSort 51 = .ok (.isub, 1) := dk_100 (dk_at dksX6_comesSort_2 5 rfl rfl)
theorem dX6_comesSort_52 : decode cX6_comesSort 52 = .ok (.iaload, 1) := dk_46 (dk_at dksX6_comesSort_2 6 rfl rfl)
theorem dX6_comesSort_53 : decode cX6_comesSort 53 = .ok (.iload_n 1, 1) := dk_27 (dk_at dksX6_comesSort_2 7 rfl rfl)
theorem dX6_comesSort_54 : decode cX6_comesSort 54 = .ok (.if_icmp .le 23, 3) := dk_164 0 23 (dk_at dksX6_comesSort_2 8 rfl rfl)
theorem dX6_comesSort_57 : decode cX6_comesSort 57 = .ok (.aload_n 0, 1) := dk_42 (dk_at dksX6_comesSort_2 11 rfl rfl)
theorem dX6_comesSort_58 : decode cX6_comesSort 58 = .ok (.getfield 44, 3) := dk_180 0 44 (dk_at dksX6_comesSort_2 12 rfl rfl)
theorem dX6_comesSort_61 : decode cX6_comesSort 61 = .ok (.iload_n 2, 1) := dk_28 (dk_at dksX6_comesSort_2 15 rfl rfl)
theorem dX6_comesSort_62 : decode cX6_comesSort 62 = .ok (.aload_n 0, 1) := dk_42 (dk_at dksX6_comesSort_2 16 rfl rfl)
theorem dX6_comesSort_63 : decode cX6_comesSort 63 = .ok (.getfield 44, 3) := dk_180 0 44 (dk_at dksX6_comesSort_2 17 rfl rfl)
theorem dX6_comesSort_66 : decode cX6_comesSort 66 = .ok (.iload_n 2, 1) := dk_28 (dk_at dksX6_comesSort_2 20 rfl rfl)
theorem dX6_comesSort_67 : decode cX6_comesSort 67 = .ok (.iconst 1, 1) := dk_4 (dk_at dksX6_comesSort_2 21 rfl rfl)
theorem dX6_comesSort_68 : decode cX6_comesSort 68 = .ok (.isub, 1) := dk_100 (dk_at dksX6_comesSort_2 22 rfl rfl)
theorem dX6_comesSort_69 : decode cX6_comesSort 69 = .ok (.iaload, 1) := dk_46 (dk_at dksX6_comesSort_2 23 rfl rfl)
theorem dX6_comesSort_70 : decode cX6_comesSort 70 = .ok (.iastore, 1) := dk_79 (dk_at dksX6_comesSort_3 0 rfl rfl)
theorem dX6_comesSort_71 : decode cX6_comesSort 71 = .ok (.iinc 2 (-1), 3) := dk_132 2 255 (dk_at dksX6_comesSort_3 1 rfl rfl)
theorem dX6_comesSort_74 : decode cX6_comesSort 74 = .ok (.goto (-69), 3) := dk_167 255 187 (dk_at dksX6_comesSort_3 4 rfl rfl)
theorem dX6_comesSort_77 : decode cX6_comesSort 77 = .ok (.aload_n 0, 1) := dk_42 (dk_at dksX6_comesSort_3 7 rfl rfl)
theorem dX6_comesSort_78 : decode cX6_comesSort 78 = .ok (.getfield 44, 3) := dk_180 0 44 (dk_at dksX6_comesSort_3 8 rfl rfl)
theorem dX6_comesSort_81 : decode cX6_comesSort 81 = .ok (.iload_n 2, 1) := dk_28 (dk_at dksX6_comesSort_3 11 rfl rfl)
theorem dX6_comesSort_82 : decode cX6_comesSort 82 = .ok (.iload_n 1, 1) := dk_27 (dk_at dksX6_comesSort_3 12 rfl rfl)
theorem dX6_comesSort_83 : decode cX6_comesSort 83 = .ok (.iastore, 1) := dk_79 (dk_at dksX6_comesSort_3 13 rfl rfl)
theorem dX6_comesSort_84 : decode cX6_comesSort 84 = .ok (.aload_n 0, 1) := dk_42 (dk_at dksX6_comesSort_3 14 rfl rfl)
theorem dX6_comesSort_85 : decode cX6_comesSort 85 = .ok (.dup, 1) := dk_89 (dk_at dksX6_comesSort_3 15 rfl rfl)
theorem dX6_comesSort_86 : decode cX6_comesSort 86 = .ok (.getfield 235, 3) := dk_180 0 235 (dk_at dksX6_comesSort_3 16 rfl rfl)
theorem dX6_comesSort_89 : decode cX6_comesSort 89 = .ok (.iconst 1, 1) := dk_4 (dk_at dksX6_comesSort_3 19 rfl rfl)
theorem dX6_comesSort_90 : decode cX6_comesSort 90 = .ok (.iadd, 1) := dk_96 (dk_at dksX6_comesSort_3 20 rfl rfl)
theorem dX6_comesSort_91 : decode cX6_comesSort 91 = .ok (.putfield 235, 3) := dk_181 0 235 (dk_at dksX6_comesSort_3 21 rfl rfl)
theorem dX6_comesSort_94 : decode cX6_comesSort 94 = .ok (.return_, 1) := dk_177 (dk_at dksX6_comesSort_4 0 rfl rfl)
abbrev cX6_ones : ByteArray := prog_16_method_5_code
def yX6_ones : MethodName := ⟨RX6, "ones", "(I)I"⟩
def dkwX6_ones_1 : List UInt8 := [27, 172]
abbrev dktX6_ones_1 : List UInt8 := dkwX6_ones_1 ++ []
def dkwX6_ones_0 : List UInt8 := [3, 60, 3, 61, 28, 16, 31, 162, 0, 17, 27, 26, 28, 122, 4, 126, 96, 60, 132, 2, 1, 167, 255, 239]
abbrev dktX6_ones_0 : List UInt8 := dkwX6_ones_0 ++ dktX6_ones_1
theorem dksX6_ones_0 : cX6_ones.data.toList.drop 0 = dktX6_ones_0 := by decide +kernel
theorem dksX6_ones_1 : cX6_ones.data.toList.drop 24 = dktX6_ones_1 := dk_seg dksX6_ones_0 24 rfl rfl
theorem dX6_ones_0 : decode cX6_ones 0 = .ok (.iconst 0, 1) := dk_3 (dk_at dksX6_ones_0 0 rfl rfl)
theorem dX6_ones_1 : decode cX6_ones 1 = .ok (.istore_n 1, 1) := dk_60 (dk_at dksX6_ones_0 1 rfl rfl)
theorem dX6_ones_2 : decode cX6_ones 2 = .ok (.iconst 0, 1) := dk_3 (dk_at dksX6_ones_0 2 rfl rfl)
theorem dX6_ones_3 : decode cX6_ones 3 = .ok (.istore_n 2, 1) := dk_61 (dk_at dksX6_ones_0 3 rfl rfl)
theorem dX6_ones_4 : decode cX6_ones 4 = .ok (.iload_n 2, 1) := dk_28 (dk_at dksX6_ones_0 4 rfl rfl)
theorem dX6_ones_5 : decode cX6_ones 5 = .ok (.bipush 31, 2) := dk_16 31 (dk_at dksX6_ones_0 5 rfl rfl)
theorem dX6_ones_7 : decode cX6_ones 7 = .ok (.if_icmp .ge 17, 3) := dk_162 0 17 (dk_at dksX6_ones_0 7 rfl rfl)
theorem dX6_ones_10 : decode cX6_ones 10 = .ok (.iload_n 1, 1) := dk_27 (dk_at dksX6_ones_0 10 rfl rfl)
theorem dX6_ones_11 : decode cX6_ones 11 = .ok (.iload_n 0, 1) := dk_26 (dk_at dksX6_ones_0 11 rfl rfl)
theorem dX6_ones_12 : decode cX6_ones 12 = .ok (.iload_n 2, 1) := dk_28 (dk_at dksX6_ones_0 12 rfl rfl)
theorem dX6_ones_13 : decode cX6_ones 13 = .ok (.ishr, 1) := dk_122 (dk_at dksX6_ones_0 13 rfl rfl)
theorem dX6_ones_14 : decode cX6_ones 14 = .ok (.iconst 1, 1) := dk_4 (dk_at dksX6_ones_0 14 rfl rfl)
theorem dX6_ones_15 : decode cX6_ones 15 = .ok (.iand, 1) := dk_126 (dk_at dksX6_ones_0 15 rfl rfl)
theorem dX6_ones_16 : decode cX6_ones 16 = .ok (.iadd, 1) := dk_96 (dk_at dksX6_ones_0 16 rfl rfl)
theorem dX6_ones_17 : decode cX6_ones 17 = .ok (.istore_n 1, 1) := dk_60 (dk_at dksX6_ones_0 17 rfl rfl)
theorem dX6_ones_18 : decode cX6_ones 18 = .ok (.iinc 2 1, 3) := dk_132 2 1 (dk_at dksX6_ones_0 18 rfl rfl)
theorem dX6_ones_21 : decode cX6_ones 21 = .ok (.goto (-17), 3) := dk_167 255 239 (dk_at dksX6_ones_0 21 rfl rfl)
theorem dX6_ones_24 : decode cX6_ones 24 = .ok (.iload_n 1, 1) := dk_27 (dk_at dksX6_ones_1 0 rfl rfl)
theorem dX6_ones_25 : decode cX6_ones 25 = .ok (.ireturn, 1) := dk_172 (dk_at dksX6_ones_1 1 rfl rfl)
abbrev cX6_sortOfFirst : ByteArray := prog_16_method_33_code
def yX6_sortOfFirst : MethodName := ⟨RX6, "sortOfFirst", "(I)I"⟩
def dkwX6_sortOfFirst_1 : List UInt8 := [132, 2, 1, 167, 255, 233, 2, 172]
abbrev dktX6_sortOfFirst_1 : List UInt8 := dkwX6_sortOfFirst_1 ++ []
def dkwX6_sortOfFirst_0 : List UInt8 := [3, 61, 28, 42, 180, 0, 235, 162, 0, 21, 42, 180, 0, 44, 28, 46, 27, 160, 0, 5, 28, 172]
abbrev dktX6_sortOfFirst_0 : List UInt8 := dkwX6_sortOfFirst_0 ++ dktX6_sortOfFirst_1
theorem dksX6_sortOfFirst_0 : cX6_sortOfFirst.data.toList.drop 0 = dktX6_sortOfFirst_0 := by decide +kernel
theorem dksX6_sortOfFirst_1 : cX6_sortOfFirst.data.toList.drop 22 = dktX6_sortOfFirst_1 := dk_seg dksX6_sortOfFirst_0 22 rfl rfl
theorem dX6_sortOfFirst_0 : decode cX6_sortOfFirst 0 = .ok (.iconst 0, 1) := dk_3 (dk_at dksX6_sortOfFirst_0 0 rfl rfl)
theorem dX6_sortOfFirst_1 : decode cX6_sortOfFirst 1 = .ok (.istore_n 2, 1) := dk_61 (dk_at dksX6_sortOfFirst_0 1 rfl rfl)
theorem dX6_sortOfFirst_2 : decode cX6_sortOfFirst 2 = .ok (.iload_n 2, 1) := dk_28 (dk_at dksX6_sortOfFirst_0 2 rfl rfl)
theorem dX6_sortOfFirst_3 : decode cX6_sortOfFirst 3 = .ok (.aload_n 0, 1) := dk_42 (dk_at dksX6_sortOfFirst_0 3 rfl rfl)
theorem dX6_sortOfFirst_4 : decode cX6_sortOfFirst 4 = .ok (.getfield 235, 3) := dk_180 0 235 (dk_at dksX6_sortOfFirst_0 4 rfl rfl)
theorem dX6_sortOfFirst_7 : decode cX6_sortOfFirst 7 = .ok (.if_icmp .ge 21, 3) := dk_162 0 21 (dk_at dksX6_sortOfFirst_0 7 rfl rfl)
theorem dX6_sortOfFirst_10 : decode cX6_sortOfFirst 10 = .ok (.aload_n 0, 1) := dk_42 (dk_at dksX6_sortOfFirst_0 10 rfl rfl)
theorem dX6_sortOfFirst_11 : decode cX6_sortOfFirst 11 = .ok (.getfield 44, 3) := dk_180 0 44 (dk_at dksX6_sortOfFirst_0 11 rfl rfl)
theorem dX6_sortOfFirst_14 : decode cX6_sortOfFirst 14 = .ok (.iload_n 2, 1) := dk_28 (dk_at dksX6_sortOfFirst_0 14 rfl rfl)
theorem dX6_sortOfFirst_15 : decode cX6_sortOfFirst 15 = .ok (.iaload, 1) := dk_46 (dk_at dksX6_sortOfFirst_0 15 rfl rfl)
theorem dX6_sortOfFirst_16 : decode cX6_sortOfFirst 16 = .ok (.iload_n 1, 1) := dk_27 (dk_at dksX6_sortOfFirst_0 16 rfl rfl)
theorem dX6_sortOfFirst_17 : decode cX6_sortOfFirst 17 = .ok (.if_icmp .ne 5, 3) := dk_160 0 5 (dk_at dksX6_sortOfFirst_0 17 rfl rfl)
theorem dX6_sortOfFirst_20 : decode cX6_sortOfFirst 20 = .ok (.iload_n 2, 1) := dk_28 (dk_at dksX6_sortOfFirst_0 20 rfl rfl)
theorem dX6_sortOfFirst_21 : decode cX6_sortOfFirst 21 = .ok (.ireturn, 1) := dk_172 (dk_at dksX6_sortOfFirst_0 21 rfl rfl)
theorem dX6_sortOfFirst_22 : decode cX6_sortOfFirst 22 = .ok (.iinc 2 1, 3) := dk_132 2 1 (dk_at dksX6_sortOfFirst_1 0 rfl rfl)
theorem dX6_sortOfFirst_25 : decode cX6_sortOfFirst 25 = .ok (.goto (-23), 3) := dk_167 255 233 (dk_at dksX6_sortOfFirst_1 3 rfl rfl)
theorem dX6_sortOfFirst_28 : decode cX6_sortOfFirst 28 = .ok (.iconst (-1), 1) := dk_2 (dk_at dksX6_sortOfFirst_1 6 rfl rfl)
theorem dX6_sortOfFirst_29 : decode cX6_sortOfFirst 29 = .ok (.ireturn, 1) := dk_172 (dk_at dksX6_sortOfFirst_1 7 rfl rfl)
abbrev cX6_leastOf : ByteArray := prog_16_method_34_code
def yX6_leastOf : MethodName := ⟨RX6, "leastOf", "(II)I"⟩
def dkwX6_leastOf_2 : List UInt8 := [29, 172]
abbrev dktX6_leastOf_2 : List UInt8 := dkwX6_leastOf_2 ++ []
def dkwX6_leastOf_1 : List UInt8 := [21, 4, 28, 182, 0, 216, 29, 162, 0, 11, 42, 21, 4, 28, 182, 0, 216, 62, 132, 4, 1, 167, 255, 216]
abbrev dktX6_leastOf_1 : List UInt8 := dkwX6_leastOf_1 ++ dktX6_leastOf_2
def dkwX6_leastOf_0 : List UInt8 := [28, 62, 3, 54, 4, 21, 4, 42, 180, 0, 196, 162, 0, 37, 27, 21, 4, 184, 0, 213, 153, 0, 22, 42]
abbrev dktX6_leastOf_0 : List UInt8 := dkwX6_leastOf_0 ++ dktX6_leastOf_1
theorem dksX6_leastOf_0 : cX6_leastOf.data.toList.drop 0 = dktX6_leastOf_0 := by decide +kernel
theorem dksX6_leastOf_1 : cX6_leastOf.data.toList.drop 24 = dktX6_leastOf_1 := dk_seg dksX6_leastOf_0 24 rfl rfl
theorem dksX6_leastOf_2 : cX6_leastOf.data.toList.drop 48 = dktX6_leastOf_2 := dk_seg dksX6_leastOf_1 24 rfl rfl
theorem dX6_leastOf_0 : decode cX6_leastOf 0 = .ok (.iload_n 2, 1) := dk_28 (dk_at dksX6_leastOf_0 0 rfl rfl)
theorem dX6_leastOf_1 : decode cX6_leastOf 1 = .ok (.istore_n 3, 1) := dk_62 (dk_at dksX6_leastOf_0 1 rfl rfl)
theorem dX6_leastOf_2 : decode cX6_leastOf 2 = .ok (.iconst 0, 1) := dk_3 (dk_at dksX6_leastOf_0 2 rfl rfl)
theorem dX6_leastOf_3 : decode cX6_leastOf 3 = .ok (.istore 4, 2) := dk_54 4 (dk_at dksX6_leastOf_0 3 rfl rfl)
theorem dX6_leastOf_5 : decode cX6_leastOf 5 = .ok (.iload 4, 2) := dk_21 4 (dk_at dksX6_leastOf_0 5 rfl rfl)
theorem dX6_leastOf_7 : decode cX6_leastOf 7 = .ok (.aload_n 0, 1) := dk_42 (dk_at dksX6_leastOf_0 7 rfl rfl)
theorem dX6_leastOf_8 : decode cX6_leastOf 8 = .ok (.getfield 196, 3) := dk_180 0 196 (dk_at dksX6_leastOf_0 8 rfl rfl)
theorem dX6_leastOf_11 : decode cX6_leastOf 11 = .ok (.if_icmp .ge 37, 3) := dk_162 0 37 (dk_at dksX6_leastOf_0 11 rfl rfl)
theorem dX6_leastOf_14 : decode cX6_leastOf 14 = .ok (.iload_n 1, 1) := dk_27 (dk_at dksX6_leastOf_0 14 rfl rfl)
theorem dX6_leastOf_15 : decode cX6_leastOf 15 = .ok (.iload 4, 2) := dk_21 4 (dk_at dksX6_leastOf_0 15 rfl rfl)
theorem dX6_leastOf_17 : decode cX6_leastOf 17 = .ok (.invokestatic 213, 3) := dk_184 0 213 (dk_at dksX6_leastOf_0 17 rfl rfl)
theorem dX6_leastOf_20 : decode cX6_leastOf 20 = .ok (.ifCond .eq 22, 3) := dk_153 0 22 (dk_at dksX6_leastOf_0 20 rfl rfl)
theorem dX6_leastOf_23 : decode cX6_leastOf 23 = .ok (.aload_n 0, 1) := dk_42 (dk_at dksX6_leastOf_0 23 rfl rfl)
theorem dX6_leastOf_24 : decode cX6_leastOf 24 = .ok (.iload 4, 2) := dk_21 4 (dk_at dksX6_leastOf_1 0 rfl rfl)
theorem dX6_leastOf_26 : decode cX6_leastOf 26 = .ok (.iload_n 2, 1) := dk_28 (dk_at dksX6_leastOf_1 2 rfl rfl)
theorem dX6_leastOf_27 : decode cX6_leastOf 27 = .ok (.invokevirtual 216, 3) := dk_182 0 216 (dk_at dksX6_leastOf_1 3 rfl rfl)
theorem dX6_leastOf_30 : decode cX6_leastOf 30 = .ok (.iload_n 3, 1) := dk_29 (dk_at dksX6_leastOf_1 6 rfl rfl)
theorem dX6_leastOf_31 : decode cX6_leastOf 31 = .ok (.if_icmp .ge 11, 3) := dk_162 0 11 (dk_at dksX6_leastOf_1 7 rfl rfl)
theorem dX6_leastOf_34 : decode cX6_leastOf 34 = .ok (.aload_n 0, 1) := dk_42 (dk_at dksX6_leastOf_1 10 rfl rfl)
theorem dX6_leastOf_35 : decode cX6_leastOf 35 = .ok (.iload 4, 2) := dk_21 4 (dk_at dksX6_leastOf_1 11 rfl rfl)
theorem dX6_leastOf_37 : decode cX6_leastOf 37 = .ok (.iload_n 2, 1) := dk_28 (dk_at dksX6_leastOf_1 13 rfl rfl)
theorem dX6_leastOf_38 : decode cX6_leastOf 38 = .ok (.invokevirtual 216, 3) := dk_182 0 216 (dk_at dksX6_leastOf_1 14 rfl rfl)
theorem dX6_leastOf_41 : decode cX6_leastOf 41 = .ok (.istore_n 3, 1) := dk_62 (dk_at dksX6_leastOf_1 17 rfl rfl)
theorem dX6_leastOf_42 : decode cX6_leastOf 42 = .ok (.iinc 4 1, 3) := dk_132 4 1 (dk_at dksX6_leastOf_1 18 rfl rfl)
theorem dX6_leastOf_45 : decode cX6_leastOf 45 = .ok (.goto (-40), 3) := dk_167 255 216 (dk_at dksX6_leastOf_1 21 rfl rfl)
theorem dX6_leastOf_48 : decode cX6_leastOf 48 = .ok (.iload_n 3, 1) := dk_29 (dk_at dksX6_leastOf_2 0 rfl rfl)
theorem dX6_leastOf_49 : decode cX6_leastOf 49 = .ok (.ireturn, 1) := dk_172 (dk_at dksX6_leastOf_2 1 rfl rfl)
abbrev cX6_fixedOf : ByteArray := prog_16_method_35_code
def yX6_fixedOf : MethodName := ⟨RX6, "fixedOf", "(II)I"⟩
def dkwX6_fixedOf_4 : List UInt8 := [132, 6, 1, 167, 255, 200, 29, 21, 5, 184, 1, 0, 96, 62, 132, 4, 1, 167, 255, 150, 29, 172]
abbrev dktX6_fixedOf_4 : List UInt8 := dkwX6_fixedOf_4 ++ []
def dkwX6_fixedOf_3 : List UInt8 := [104, 42, 21, 4, 21, 6, 182, 0, 216, 96, 46, 21, 4, 160, 0, 7, 4, 167, 0, 4, 3, 54, 5]
abbrev dktX6_fixedOf_3 : List UInt8 := dkwX6_fixedOf_3 ++ dktX6_fixedOf_4
def dkwX6_fixedOf_2 : List UInt8 := [162, 0, 53, 21, 5, 153, 0, 48, 28, 21, 6, 184, 0, 213, 153, 0, 26, 42, 180, 0, 53, 16, 24, 27]
abbrev dktX6_fixedOf_2 : List UInt8 := dkwX6_fixedOf_2 ++ dktX6_fixedOf_3
def dkwX6_fixedOf_1 : List UInt8 := [96, 46, 21, 4, 160, 0, 7, 4, 167, 0, 4, 3, 54, 5, 3, 54, 6, 21, 6, 42, 180, 0, 196]
abbrev dktX6_fixedOf_1 : List UInt8 := dkwX6_fixedOf_1 ++ dktX6_fixedOf_2
def dkwX6_fixedOf_0 : List UInt8 := [3, 62, 3, 54, 4, 21, 4, 42, 180, 0, 196, 162, 0, 103, 42, 180, 0, 53, 16, 24, 27, 104, 21, 4]
abbrev dktX6_fixedOf_0 : List UInt8 := dkwX6_fixedOf_0 ++ dktX6_fixedOf_1
theorem dksX6_fixedOf_0 : cX6_fixedOf.data.toList.drop 0 = dktX6_fixedOf_0 := by decide +kernel
theorem dksX6_fixedOf_1 : cX6_fixedOf.data.toList.drop 24 = dktX6_fixedOf_1 := dk_seg dksX6_fixedOf_0 24 rfl rfl
theorem dksX6_fixedOf_2 : cX6_fixedOf.data.toList.drop 47 = dktX6_fixedOf_2 := dk_seg dksX6_fixedOf_1 23 rfl rfl
theorem dksX6_fixedOf_3 : cX6_fixedOf.data.toList.drop 71 = dktX6_fixedOf_3 := dk_seg dksX6_fixedOf_2 24 rfl rfl
theorem dksX6_fixedOf_4 : cX6_fixedOf.data.toList.drop 94 = dktX6_fixedOf_4 := dk_seg dksX6_fixedOf_3 23 rfl rfl
theorem dX6_fixedOf_0 : decode cX6_fixedOf 0 = .ok (.iconst 0, 1) := dk_3 (dk_at dksX6_fixedOf_0 0 rfl rfl)
theorem dX6_fixedOf_1 : decode cX6_fixedOf 1 = .ok (.istore_n 3, 1) := dk_62 (dk_at dksX6_fixedOf_0 1 rfl rfl)
theorem dX6_fixedOf_2 : decode cX6_fixedOf 2 = .ok (.iconst 0, 1) := dk_3 (dk_at dksX6_fixedOf_0 2 rfl rfl)
theorem dX6_fixedOf_3 : decode cX6_fixedOf 3 = .ok (.istore 4, 2) := dk_54 4 (dk_at dksX6_fixedOf_0 3 rfl rfl)
theorem dX6_fixedOf_5 : decode cX6_fixedOf 5 = .ok (.iload 4, 2) := dk_21 4 (dk_at dksX6_fixedOf_0 5 rfl rfl)
theorem dX6_fixedOf_7 : decode cX6_fixedOf 7 = .ok (.aload_n 0, 1) := dk_42 (dk_at dksX6_fixedOf_0 7 rfl rfl)
theorem dX6_fixedOf_8 : decode cX6_fixedOf 8 = .ok (.getfield 196, 3) := dk_180 0 196 (dk_at dksX6_fixedOf_0 8 rfl rfl)
theorem dX6_fixedOf_11 : decode cX6_fixedOf 11 = .ok (.if_icmp .ge 103, 3) := dk_162 0 103 (dk_at dksX6_fixedOf_0 11 rfl rfl)
theorem dX6_fixedOf_14 : decode cX6_fixedOf 14 = .ok (.aload_n 0, 1) := dk_42 (dk_at dksX6_fixedOf_0 14 rfl rfl)
theorem dX6_fixedOf_15 : decode cX6_fixedOf 15 = .ok (.getfield 53, 3) := dk_180 0 53 (dk_at dksX6_fixedOf_0 15 rfl rfl)
theorem dX6_fixedOf_18 : decode cX6_fixedOf 18 = .ok (.bipush 24, 2) := dk_16 24 (dk_at dksX6_fixedOf_0 18 rfl rfl)
theorem dX6_fixedOf_20 : decode cX6_fixedOf 20 = .ok (.iload_n 1, 1) := dk_27 (dk_at dksX6_fixedOf_0 20 rfl rfl)
theorem dX6_fixedOf_21 : decode cX6_fixedOf 21 = .ok (.imul, 1) := dk_104 (dk_at dksX6_fixedOf_0 21 rfl rfl)
theorem dX6_fixedOf_22 : decode cX6_fixedOf 22 = .ok (.iload 4, 2) := dk_21 4 (dk_at dksX6_fixedOf_0 22 rfl rfl)
theorem dX6_fixedOf_24 : decode cX6_fixedOf 24 = .ok (.iadd, 1) := dk_96 (dk_at dksX6_fixedOf_1 0 rfl rfl)
theorem dX6_fixedOf_25 : decode cX6_fixedOf 25 = .ok (.iaload, 1) := dk_46 (dk_at dksX6_fixedOf_1 1 rfl rfl)
theorem dX6_fixedOf_26 : decode cX6_fixedOf 26 = .ok (.iload 4, 2) := dk_21 4 (dk_at dksX6_fixedOf_1 2 rfl rfl)
theorem dX6_fixedOf_28 : decode cX6_fixedOf 28 = .ok (.if_icmp .ne 7, 3) := dk_160 0 7 (dk_at dksX6_fixedOf_1 4 rfl rfl)
theorem dX6_fixedOf_31 : decode cX6_fixedOf 31 = .ok (.iconst 1, 1) := dk_4 (dk_at dksX6_fixedOf_1 7 rfl rfl)
theorem dX6_fixedOf_32 : decode cX6_fixedOf 32 = .ok (.goto 4, 3) := dk_167 0 4 (dk_at dksX6_fixedOf_1 8 rfl rfl)
theorem dX6_fixedOf_35 : decode cX6_fixedOf 35 = .ok (.iconst 0, 1) := dk_3 (dk_at dksX6_fixedOf_1 11 rfl rfl)
theorem dX6_fixedOf_36 : decode cX6_fixedOf 36 = .ok (.istore 5, 2) := dk_54 5 (dk_at dksX6_fixedOf_1 12 rfl rfl)
theorem dX6_fixedOf_38 : decode cX6_fixedOf 38 = .ok (.iconst 0, 1) := dk_3 (dk_at dksX6_fixedOf_1 14 rfl rfl)
theorem dX6_fixedOf_39 : decode cX6_fixedOf 39 = .ok (.istore 6, 2) := dk_54 6 (dk_at dksX6_fixedOf_1 15 rfl rfl)
theorem dX6_fixedOf_41 : decode cX6_fixedOf 41 = .ok (.iload 6, 2) := dk_21 6 (dk_at dksX6_fixedOf_1 17 rfl rfl)
theorem dX6_fixedOf_43 : decode cX6_fixedOf 43 = .ok (.aload_n 0, 1) := dk_42 (dk_at dksX6_fixedOf_1 19 rfl rfl)
theorem dX6_fixedOf_44 : decode cX6_fixedOf 44 = .ok (.getfield 196, 3) := dk_180 0 196 (dk_at dksX6_fixedOf_1 20 rfl rfl)
theorem dX6_fixedOf_47 : decode cX6_fixedOf 47 = .ok (.if_icmp .ge 53, 3) := dk_162 0 53 (dk_at dksX6_fixedOf_2 0 rfl rfl)
theorem dX6_fixedOf_50 : decode cX6_fixedOf 50 = .ok (.iload 5, 2) := dk_21 5 (dk_at dksX6_fixedOf_2 3 rfl rfl)
theorem dX6_fixedOf_52 : decode cX6_fixedOf 52 = .ok (.ifCond .eq 48, 3) := dk_153 0 48 (dk_at dksX6_fixedOf_2 5 rfl rfl)
theorem dX6_fixedOf_55 : decode cX6_fixedOf 55 = .ok (.iload_n 2, 1) := dk_28 (dk_at dksX6_fixedOf_2 8 rfl rfl)
theorem dX6_fixedOf_56 : decode cX6_fixedOf 56 = .ok (.iload 6, 2) := dk_21 6 (dk_at dksX6_fixedOf_2 9 rfl rfl)
theorem dX6_fixedOf_58 : decode cX6_fixedOf 58 = .ok (.invokestatic 213, 3) := dk_184 0 213 (dk_at dksX6_fixedOf_2 11 rfl rfl)
theorem dX6_fixedOf_61 : decode cX6_fixedOf 61 = .ok (.ifCond .eq 26, 3) := dk_153 0 26 (dk_at dksX6_fixedOf_2 14 rfl rfl)
theorem dX6_fixedOf_64 : decode cX6_fixedOf 64 = .ok (.aload_n 0, 1) := dk_42 (dk_at dksX6_fixedOf_2 17 rfl rfl)
theorem dX6_fixedOf_65 : decode cX6_fixedOf 65 = .ok (.getfield 53, 3) := dk_180 0 53 (dk_at dksX6_fixedOf_2 18 rfl rfl)
theorem dX6_fixedOf_68 : decode cX6_fixedOf 68 = .ok (.bipush 24, 2) := dk_16 24 (dk_at dksX6_fixedOf_2 21 rfl rfl)
theorem dX6_fixedOf_70 : decode cX6_fixedOf 70 = .ok (.iload_n 1, 1) := dk_27 (dk_at dksX6_fixedOf_2 23 rfl rfl)
theorem dX6_fixedOf_71 : decode cX6_fixedOf 71 = .ok (.imul, 1) := dk_104 (dk_at dksX6_fixedOf_3 0 rfl rfl)
theorem dX6_fixedOf_72 : decode cX6_fixedOf 72 = .ok (.aload_n 0, 1) := dk_42 (dk_at dksX6_fixedOf_3 1 rfl rfl)
theorem dX6_fixedOf_73 : decode cX6_fixedOf 73 = .ok (.iload 4, 2) := dk_21 4 (dk_at dksX6_fixedOf_3 2 rfl rfl)
theorem dX6_fixedOf_75 : decode cX6_fixedOf 75 = .ok (.iload 6, 2) := dk_21 6 (dk_at dksX6_fixedOf_3 4 rfl rfl)
theorem dX6_fixedOf_77 : decode cX6_fixedOf 77 = .ok (.invokevirtual 216, 3) := dk_182 0 216 (dk_at dksX6_fixedOf_3 6 rfl rfl)
theorem dX6_fixedOf_80 : decode cX6_fixedOf 80 = .ok (.iadd, 1) := dk_96 (dk_at dksX6_fixedOf_3 9 rfl rfl)
theorem dX6_fixedOf_81 : decode cX6_fixedOf 81 = .ok (.iaload, 1) := dk_46 (dk_at dksX6_fixedOf_3 10 rfl rfl)
theorem dX6_fixedOf_82 : decode cX6_fixedOf 82 = .ok (.iload 4, 2) := dk_21 4 (dk_at dksX6_fixedOf_3 11 rfl rfl)
theorem dX6_fixedOf_84 : decode cX6_fixedOf 84 = .ok (.if_icmp .ne 7, 3) := dk_160 0 7 (dk_at dksX6_fixedOf_3 13 rfl rfl)
theorem dX6_fixedOf_87 : decode cX6_fixedOf 87 = .ok (.iconst 1, 1) := dk_4 (dk_at dksX6_fixedOf_3 16 rfl rfl)
theorem dX6_fixedOf_88 : decode cX6_fixedOf 88 = .ok (.goto 4, 3) := dk_167 0 4 (dk_at dksX6_fixedOf_3 17 rfl rfl)
theorem dX6_fixedOf_91 : decode cX6_fixedOf 91 = .ok (.iconst 0, 1) := dk_3 (dk_at dksX6_fixedOf_3 20 rfl rfl)
theorem dX6_fixedOf_92 : decode cX6_fixedOf 92 = .ok (.istore 5, 2) := dk_54 5 (dk_at dksX6_fixedOf_3 21 rfl rfl)
theorem dX6_fixedOf_94 : decode cX6_fixedOf 94 = .ok (.iinc 6 1, 3) := dk_132 6 1 (dk_at dksX6_fixedOf_4 0 rfl rfl)
theorem dX6_fixedOf_97 : decode cX6_fixedOf 97 = .ok (.goto (-56), 3) := dk_167 255 200 (dk_at dksX6_fixedOf_4 3 rfl rfl)
theorem dX6_fixedOf_100 : decode cX6_fixedOf 100 = .ok (.iload_n 3, 1) := dk_29 (dk_at dksX6_fixedOf_4 6 rfl rfl)
theorem dX6_fixedOf_101 : decode cX6_fixedOf 101 = .ok (.iload 5, 2) := dk_21 5 (dk_at dksX6_fixedOf_4 7 rfl rfl)
theorem dX6_fixedOf_103 : decode cX6_fixedOf 103 = .ok (.invokestatic 256, 3) := dk_184 1 0 (dk_at dksX6_fixedOf_4 9 rfl rfl)
theorem dX6_fixedOf_106 : decode cX6_fixedOf 106 = .ok (.iadd, 1) := dk_96 (dk_at dksX6_fixedOf_4 12 rfl rfl)
theorem dX6_fixedOf_107 : decode cX6_fixedOf 107 = .ok (.istore_n 3, 1) := dk_62 (dk_at dksX6_fixedOf_4 13 rfl rfl)
theorem dX6_fixedOf_108 : decode cX6_fixedOf 108 = .ok (.iinc 4 1, 3) := dk_132 4 1 (dk_at dksX6_fixedOf_4 14 rfl rfl)
theorem dX6_fixedOf_111 : decode cX6_fixedOf 111 = .ok (.goto (-106), 3) := dk_167 255 150 (dk_at dksX6_fixedOf_4 17 rfl rfl)
theorem dX6_fixedOf_114 : decode cX6_fixedOf 114 = .ok (.iload_n 3, 1) := dk_29 (dk_at dksX6_fixedOf_4 20 rfl rfl)
theorem dX6_fixedOf_115 : decode cX6_fixedOf 115 = .ok (.ireturn, 1) := dk_172 (dk_at dksX6_fixedOf_4 21 rfl rfl)
abbrev cX6_truth : ByteArray := prog_16_method_3_code
def yX6_truth : MethodName := ⟨RX6, "truth", "(Z)I"⟩
def dkwX6_truth_0 : List UInt8 := [26, 153, 0, 7, 4, 167, 0, 4, 3, 172]
abbrev dktX6_truth_0 : List UInt8 := dkwX6_truth_0 ++ []
theorem dksX6_truth_0 : cX6_truth.data.toList.drop 0 = dktX6_truth_0 := by decide +kernel
theorem dX6_truth_0 : decode cX6_truth 0 = .ok (.iload_n 0, 1) := dk_26 (dk_at dksX6_truth_0 0 rfl rfl)
theorem dX6_truth_1 : decode cX6_truth 1 = .ok (.ifCond .eq 7, 3) := dk_153 0 7 (dk_at dksX6_truth_0 1 rfl rfl)
theorem dX6_truth_4 : decode cX6_truth 4 = .ok (.iconst 1, 1) := dk_4 (dk_at dksX6_truth_0 4 rfl rfl)
theorem dX6_truth_5 : decode cX6_truth 5 = .ok (.goto 4, 3) := dk_167 0 4 (dk_at dksX6_truth_0 5 rfl rfl)
theorem dX6_truth_8 : decode cX6_truth 8 = .ok (.iconst 0, 1) := dk_3 (dk_at dksX6_truth_0 8 rfl rfl)
theorem dX6_truth_9 : decode cX6_truth 9 = .ok (.ireturn, 1) := dk_172 (dk_at dksX6_truth_0 9 rfl rfl)
abbrev cX6_inForce : ByteArray := prog_16_method_65_code
def yX6_inForce : MethodName := ⟨RX6, "inForce", "()V"⟩
def dkwX6_inForce_5 : List UInt8 := [132, 1, 1, 167, 255, 240, 42, 3, 181, 1, 135, 42, 3, 181, 1, 138, 177]
abbrev dktX6_inForce_5 : List UInt8 := dkwX6_inForce_5 ++ []
def dkwX6_inForce_4 : List UInt8 := [27, 47, 80, 132, 1, 1, 167, 255, 234, 3, 60, 27, 16, 64, 162, 0, 16, 42, 180, 0, 66, 27, 9, 80]
abbrev dktX6_inForce_4 : List UInt8 := dkwX6_inForce_4 ++ dktX6_inForce_5
def dkwX6_inForce_3 : List UInt8 := [132, 1, 1, 167, 255, 235, 3, 60, 27, 17, 2, 0, 162, 0, 21, 42, 180, 0, 84, 27, 42, 180, 0, 78]
abbrev dktX6_inForce_3 : List UInt8 := dkwX6_inForce_3 ++ dktX6_inForce_4
def dkwX6_inForce_2 : List UInt8 := [167, 255, 235, 3, 60, 27, 16, 8, 162, 0, 21, 42, 180, 0, 81, 27, 42, 180, 0, 75, 27, 47, 80]
abbrev dktX6_inForce_2 : List UInt8 := dkwX6_inForce_2 ++ dktX6_inForce_3
def dkwX6_inForce_1 : List UInt8 := [3, 60, 27, 16, 24, 162, 0, 21, 42, 180, 0, 23, 27, 42, 180, 0, 20, 27, 46, 79, 132, 1, 1]
abbrev dktX6_inForce_1 : List UInt8 := dkwX6_inForce_1 ++ dktX6_inForce_2
def dkwX6_inForce_0 : List UInt8 := [42, 42, 180, 0, 115, 181, 1, 126, 42, 42, 180, 0, 199, 181, 1, 129, 42, 42, 180, 1, 43, 181, 1, 132]
abbrev dktX6_inForce_0 : List UInt8 := dkwX6_inForce_0 ++ dktX6_inForce_1
theorem dksX6_inForce_0 : cX6_inForce.data.toList.drop 0 = dktX6_inForce_0 := by decide +kernel
theorem dksX6_inForce_1 : cX6_inForce.data.toList.drop 24 = dktX6_inForce_1 := dk_seg dksX6_inForce_0 24 rfl rfl
theorem dksX6_inForce_2 : cX6_inForce.data.toList.drop 47 = dktX6_inForce_2 := dk_seg dksX6_inForce_1 23 rfl rfl
theorem dksX6_inForce_3 : cX6_inForce.data.toList.drop 70 = dktX6_inForce_3 := dk_seg dksX6_inForce_2 23 rfl rfl
theorem dksX6_inForce_4 : cX6_inForce.data.toList.drop 94 = dktX6_inForce_4 := dk_seg dksX6_inForce_3 24 rfl rfl
theorem dksX6_inForce_5 : cX6_inForce.data.toList.drop 118 = dktX6_inForce_5 := dk_seg dksX6_inForce_4 24 rfl rfl
theorem dX6_inForce_0 : decode cX6_inForce 0 = .ok (.aload_n 0, 1) := dk_42 (dk_at dksX6_inForce_0 0 rfl rfl)
theorem dX6_inForce_1 : decode cX6_inForce 1 = .ok (.aload_n 0, 1) := dk_42 (dk_at dksX6_inForce_0 1 rfl rfl)
theorem dX6_inForce_2 : decode cX6_inForce 2 = .ok (.getfield 115, 3) := dk_180 0 115 (dk_at dksX6_inForce_0 2 rfl rfl)
theorem dX6_inForce_5 : decode cX6_inForce 5 = .ok (.putfield 382, 3) := dk_181 1 126 (dk_at dksX6_inForce_0 5 rfl rfl)
theorem dX6_inForce_8 : decode cX6_inForce 8 = .ok (.aload_n 0, 1) := dk_42 (dk_at dksX6_inForce_0 8 rfl rfl)
theorem dX6_inForce_9 : decode cX6_inForce 9 = .ok (.aload_n 0, 1) := dk_42 (dk_at dksX6_inForce_0 9 rfl rfl)
theorem dX6_inForce_10 : decode cX6_inForce 10 = .ok (.getfield 199, 3) := dk_180 0 199 (dk_at dksX6_inForce_0 10 rfl rfl)
theorem dX6_inForce_13 : decode cX6_inForce 13 = .ok (.putfield 385, 3) := dk_181 1 129 (dk_at dksX6_inForce_0 13 rfl rfl)
theorem dX6_inForce_16 : decode cX6_inForce 16 = .ok (.aload_n 0, 1) := dk_42 (dk_at dksX6_inForce_0 16 rfl rfl)
theorem dX6_inForce_17 : decode cX6_inForce 17 = .ok (.aload_n 0, 1) := dk_42 (dk_at dksX6_inForce_0 17 rfl rfl)
theorem dX6_inForce_18 : decode cX6_inForce 18 = .ok (.getfield 299, 3) := dk_180 1 43 (dk_at dksX6_inForce_0 18 rfl rfl)
theorem dX6_inForce_21 : decode cX6_inForce 21 = .ok (.putfield 388, 3) := dk_181 1 132 (dk_at dksX6_inForce_0 21 rfl rfl)
theorem dX6_inForce_24 : decode cX6_inForce 24 = .ok (.iconst 0, 1) := dk_3 (dk_at dksX6_inForce_1 0 rfl rfl)
theorem dX6_inForce_25 : decode cX6_inForce 25 = .ok (.istore_n 1, 1) := dk_60 (dk_at dksX6_inForce_1 1 rfl rfl)
theorem dX6_inForce_26 : decode cX6_inForce 26 = .ok (.iload_n 1, 1) := dk_27 (dk_at dksX6_inForce_1 2 rfl rfl)
theorem dX6_inForce_27 : decode cX6_inForce 27 = .ok (.bipush 24, 2) := dk_16 24 (dk_at dksX6_inForce_1 3 rfl rfl)
theorem dX6_inForce_29 : decode cX6_inForce 29 = .ok (.if_icmp .ge 21, 3) := dk_162 0 21 (dk_at dksX6_inForce_1 5 rfl rfl)
theorem dX6_inForce_32 : decode cX6_inForce 32 = .ok (.aload_n 0, 1) := dk_42 (dk_at dksX6_inForce_1 8 rfl rfl)
theorem dX6_inForce_33 : decode cX6_inForce 33 = .ok (.getfield 23, 3) := dk_180 0 23 (dk_at dksX6_inForce_1 9 rfl rfl)
theorem dX6_inForce_36 : decode cX6_inForce 36 = .ok (.iload_n 1, 1) := dk_27 (dk_at dksX6_inForce_1 12 rfl rfl)
theorem dX6_inForce_37 : decode cX6_inForce 37 = .ok (.aload_n 0, 1) := dk_42 (dk_at dksX6_inForce_1 13 rfl rfl)
theorem dX6_inForce_38 : decode cX6_inForce 38 = .ok (.getfield 20, 3) := dk_180 0 20 (dk_at dksX6_inForce_1 14 rfl rfl)
theorem dX6_inForce_41 : decode cX6_inForce 41 = .ok (.iload_n 1, 1) := dk_27 (dk_at dksX6_inForce_1 17 rfl rfl)
theorem dX6_inForce_42 : decode cX6_inForce 42 = .ok (.iaload, 1) := dk_46 (dk_at dksX6_inForce_1 18 rfl rfl)
theorem dX6_inForce_43 : decode cX6_inForce 43 = .ok (.iastore, 1) := dk_79 (dk_at dksX6_inForce_1 19 rfl rfl)
theorem dX6_inForce_44 : decode cX6_inForce 44 = .ok (.iinc 1 1, 3) := dk_132 1 1 (dk_at dksX6_inForce_1 20 rfl rfl)
theorem dX6_inForce_47 : decode cX6_inForce 47 = .ok (.goto (-21), 3) := dk_167 255 235 (dk_at dksX6_inForce_2 0 rfl rfl)
theorem dX6_inForce_50 : decode cX6_inForce 50 = .ok (.iconst 0, 1) := dk_3 (dk_at dksX6_inForce_2 3 rfl rfl)
theorem dX6_inForce_51 : decode cX6_inForce 51 = .ok (.istore_n 1, 1) := dk_60 (dk_at dksX6_inForce_2 4 rfl rfl)
theorem dX6_inForce_52 : decode cX6_inForce 52 = .ok (.iload_n 1, 1) := dk_27 (dk_at dksX6_inForce_2 5 rfl rfl)
theorem dX6_inForce_53 : decode cX6_inForce 53 = .ok (.bipush 8, 2) := dk_16 8 (dk_at dksX6_inForce_2 6 rfl rfl)
theorem dX6_inForce_55 : decode cX6_inForce 55 = .ok (.if_icmp .ge 21, 3) := dk_162 0 21 (dk_at dksX6_inForce_2 8 rfl rfl)
theorem dX6_inForce_58 : decode cX6_inForce 58 = .ok (.aload_n 0, 1) := dk_42 (dk_at dksX6_inForce_2 11 rfl rfl)
theorem dX6_inForce_59 : decode cX6_inForce 59 = .ok (.getfield 81, 3) := dk_180 0 81 (dk_at dksX6_inForce_2 12 rfl rfl)
theorem dX6_inForce_62 : decode cX6_inForce 62 = .ok (.iload_n 1, 1) := dk_27 (dk_at dksX6_inForce_2 15 rfl rfl)
theorem dX6_inForce_63 : decode cX6_inForce 63 = .ok (.aload_n 0, 1) := dk_42 (dk_at dksX6_inForce_2 16 rfl rfl)
theorem dX6_inForce_64 : decode cX6_inForce 64 = .ok (.getfield 75, 3) := dk_180 0 75 (dk_at dksX6_inForce_2 17 rfl rfl)
theorem dX6_inForce_67 : decode cX6_inForce 67 = .ok (.iload_n 1, 1) := dk_27 (dk_at dksX6_inForce_2 20 rfl rfl)
theorem dX6_inForce_68 : decode cX6_inForce 68 = .ok (.laload, 1) := dk_47 (dk_at dksX6_inForce_2 21 rfl rfl)
theorem dX6_inForce_69 : decode cX6_inForce 69 = .ok (.lastore, 1) := dk_80 (dk_at dksX6_inForce_2 22 rfl rfl)
theorem dX6_inForce_70 : decode cX6_inForce 70 = .ok (.iinc 1 1, 3) := dk_132 1 1 (dk_at dksX6_inForce_3 0 rfl rfl)
theorem dX6_inForce_73 : decode cX6_inForce 73 = .ok (.goto (-21), 3) := dk_167 255 235 (dk_at dksX6_inForce_3 3 rfl rfl)
theorem dX6_inForce_76 : decode cX6_inForce 76 = .ok (.iconst 0, 1) := dk_3 (dk_at dksX6_inForce_3 6 rfl rfl)
theorem dX6_inForce_77 : decode cX6_inForce 77 = .ok (.istore_n 1, 1) := dk_60 (dk_at dksX6_inForce_3 7 rfl rfl)
theorem dX6_inForce_78 : decode cX6_inForce 78 = .ok (.iload_n 1, 1) := dk_27 (dk_at dksX6_inForce_3 8 rfl rfl)
theorem dX6_inForce_79 : decode cX6_inForce 79 = .ok (.sipush 512, 3) := dk_17 2 0 (dk_at dksX6_inForce_3 9 rfl rfl)
theorem dX6_inForce_82 : decode cX6_inForce 82 = .ok (.if_icmp .ge 21, 3) := dk_162 0 21 (dk_at dksX6_inForce_3 12 rfl rfl)
theorem dX6_inForce_85 : decode cX6_inForce 85 = .ok (.aload_n 0, 1) := dk_42 (dk_at dksX6_inForce_3 15 rfl rfl)
theorem dX6_inForce_86 : decode cX6_inForce 86 = .ok (.getfield 84, 3) := dk_180 0 84 (dk_at dksX6_inForce_3 16 rfl rfl)
theorem dX6_inForce_89 : decode cX6_inForce 89 = .ok (.iload_n 1, 1) := dk_27 (dk_at dksX6_inForce_3 19 rfl rfl)
theorem dX6_inForce_90 : decode cX6_inForce 90 = .ok (.aload_n 0, 1) := dk_42 (dk_at dksX6_inForce_3 20 rfl rfl)
theorem dX6_inForce_91 : decode cX6_inForce 91 = .ok (.getfield 78, 3) := dk_180 0 78 (dk_at dksX6_inForce_3 21 rfl rfl)
theorem dX6_inForce_94 : decode cX6_inForce 94 = .ok (.iload_n 1, 1) := dk_27 (dk_at dksX6_inForce_4 0 rfl rfl)
theorem dX6_inForce_95 : decode cX6_inForce 95 = .ok (.laload, 1) := dk_47 (dk_at dksX6_inForce_4 1 rfl rfl)
theorem dX6_inForce_96 : decode cX6_inForce 96 = .ok (.lastore, 1) := dk_80 (dk_at dksX6_inForce_4 2 rfl rfl)
theorem dX6_inForce_97 : decode cX6_inForce 97 = .ok (.iinc 1 1, 3) := dk_132 1 1 (dk_at dksX6_inForce_4 3 rfl rfl)
theorem dX6_inForce_100 : decode cX6_inForce 100 = .ok (.goto (-22), 3) := dk_167 255 234 (dk_at dksX6_inForce_4 6 rfl rfl)
theorem dX6_inForce_103 : decode cX6_inForce 103 = .ok (.iconst 0, 1) := dk_3 (dk_at dksX6_inForce_4 9 rfl rfl)
theorem dX6_inForce_104 : decode cX6_inForce 104 = .ok (.istore_n 1, 1) := dk_60 (dk_at dksX6_inForce_4 10 rfl rfl)
theorem dX6_inForce_105 : decode cX6_inForce 105 = .ok (.iload_n 1, 1) := dk_27 (dk_at dksX6_inForce_4 11 rfl rfl)
theorem dX6_inForce_106 : decode cX6_inForce 106 = .ok (.bipush 64, 2) := dk_16 64 (dk_at dksX6_inForce_4 12 rfl rfl)
theorem dX6_inForce_108 : decode cX6_inForce 108 = .ok (.if_icmp .ge 16, 3) := dk_162 0 16 (dk_at dksX6_inForce_4 14 rfl rfl)
theorem dX6_inForce_111 : decode cX6_inForce 111 = .ok (.aload_n 0, 1) := dk_42 (dk_at dksX6_inForce_4 17 rfl rfl)
theorem dX6_inForce_112 : decode cX6_inForce 112 = .ok (.getfield 66, 3) := dk_180 0 66 (dk_at dksX6_inForce_4 18 rfl rfl)
theorem dX6_inForce_115 : decode cX6_inForce 115 = .ok (.iload_n 1, 1) := dk_27 (dk_at dksX6_inForce_4 21 rfl rfl)
theorem dX6_inForce_116 : decode cX6_inForce 116 = .ok (.lconst 0, 1) := dk_9 (dk_at dksX6_inForce_4 22 rfl rfl)
theorem dX6_inForce_117 : decode cX6_inForce 117 = .ok (.lastore, 1) := dk_80 (dk_at dksX6_inForce_4 23 rfl rfl)
theorem dX6_inForce_118 : decode cX6_inForce 118 = .ok (.iinc 1 1, 3) := dk_132 1 1 (dk_at dksX6_inForce_5 0 rfl rfl)
theorem dX6_inForce_121 : decode cX6_inForce 121 = .ok (.goto (-16), 3) := dk_167 255 240 (dk_at dksX6_inForce_5 3 rfl rfl)
theorem dX6_inForce_124 : decode cX6_inForce 124 = .ok (.aload_n 0, 1) := dk_42 (dk_at dksX6_inForce_5 6 rfl rfl)
theorem dX6_inForce_125 : decode cX6_inForce 125 = .ok (.iconst 0, 1) := dk_3 (dk_at dksX6_inForce_5 7 rfl rfl)
theorem dX6_inForce_126 : decode cX6_inForce 126 = .ok (.putfield 391, 3) := dk_181 1 135 (dk_at dksX6_inForce_5 8 rfl rfl)
theorem dX6_inForce_129 : decode cX6_inForce 129 = .ok (.aload_n 0, 1) := dk_42 (dk_at dksX6_inForce_5 11 rfl rfl)
theorem dX6_inForce_130 : decode cX6_inForce 130 = .ok (.iconst 0, 1) := dk_3 (dk_at dksX6_inForce_5 12 rfl rfl)
theorem dX6_inForce_131 : decode cX6_inForce 131 = .ok (.putfield 394, 3) := dk_181 1 138 (dk_at dksX6_inForce_5 13 rfl rfl)
theorem dX6_inForce_134 : decode cX6_inForce 134 = .ok (.return_, 1) := dk_177 (dk_at dksX6_inForce_5 16 rfl rfl)
abbrev cX6_feed : ByteArray := prog_16_method_6_code
def yX6_feed : MethodName := ⟨RX6, "feed", "(IIIII)I"⟩
def dkwX6_feed_2 : List UInt8 := [172]
abbrev dktX6_feed_2 : List UInt8 := dkwX6_feed_2 ++ []
def dkwX6_feed_1 : List UInt8 := [182, 0, 127, 42, 29, 182, 0, 127, 42, 21, 4, 182, 0, 127, 42, 21, 5, 182, 0, 127, 42, 180, 0, 124]
abbrev dktX6_feed_1 : List UInt8 := dkwX6_feed_1 ++ dktX6_feed_2
def dkwX6_feed_0 : List UInt8 := [42, 180, 0, 124, 16, 20, 96, 17, 2, 188, 164, 0, 5, 2, 172, 42, 27, 182, 0, 127, 42, 28]
abbrev dktX6_feed_0 : List UInt8 := dkwX6_feed_0 ++ dktX6_feed_1
theorem dksX6_feed_0 : cX6_feed.data.toList.drop 0 = dktX6_feed_0 := by decide +kernel
theorem dksX6_feed_1 : cX6_feed.data.toList.drop 22 = dktX6_feed_1 := dk_seg dksX6_feed_0 22 rfl rfl
theorem dksX6_feed_2 : cX6_feed.data.toList.drop 46 = dktX6_feed_2 := dk_seg dksX6_feed_1 24 rfl rfl
theorem dX6_feed_0 : decode cX6_feed 0 = .ok (.aload_n 0, 1) := dk_42 (dk_at dksX6_feed_0 0 rfl rfl)
theorem dX6_feed_1 : decode cX6_feed 1 = .ok (.getfield 124, 3) := dk_180 0 124 (dk_at dksX6_feed_0 1 rfl rfl)
theorem dX6_feed_4 : decode cX6_feed 4 = .ok (.bipush 20, 2) := dk_16 20 (dk_at dksX6_feed_0 4 rfl rfl)
theorem dX6_feed_6 : decode cX6_feed 6 = .ok (.iadd, 1) := dk_96 (dk_at dksX6_feed_0 6 rfl rfl)
theorem dX6_feed_7 : decode cX6_feed 7 = .ok (.sipush 700, 3) := dk_17 2 188 (dk_at dksX6_feed_0 7 rfl rfl)
theorem dX6_feed_10 : decode cX6_feed 10 = .ok (.if_icmp .le 5, 3) := dk_164 0 5 (dk_at dksX6_feed_0 10 rfl rfl)
theorem dX6_feed_13 : decode cX6_feed 13 = .ok (.iconst (-1), 1) := dk_2 (dk_at dksX6_feed_0 13 rfl rfl)
theorem dX6_feed_14 : decode cX6_feed 14 = .ok (.ireturn, 1) := dk_172 (dk_at dksX6_feed_0 14 rfl rfl)
theorem dX6_feed_15 : decode cX6_feed 15 = .ok (.aload_n 0, 1) := dk_42 (dk_at dksX6_feed_0 15 rfl rfl)
theorem dX6_feed_16 : decode cX6_feed 16 = .ok (.iload_n 1, 1) := dk_27 (dk_at dksX6_feed_0 16 rfl rfl)
theorem dX6_feed_17 : decode cX6_feed 17 = .ok (.invokevirtual 127, 3) := dk_182 0 127 (dk_at dksX6_feed_0 17 rfl rfl)
theorem dX6_feed_20 : decode cX6_feed 20 = .ok (.aload_n 0, 1) := dk_42 (dk_at dksX6_feed_0 20 rfl rfl)
theorem dX6_feed_21 : decode cX6_feed 21 = .ok (.iload_n 2, 1) := dk_28 (dk_at dksX6_feed_0 21 rfl rfl)
theorem dX6_feed_22 : decode cX6_feed 22 = .ok (.invokevirtual 127, 3) := dk_182 0 127 (dk_at dksX6_feed_1 0 rfl rfl)
theorem dX6_feed_25 : decode cX6_feed 25 = .ok (.aload_n 0, 1) := dk_42 (dk_at dksX6_feed_1 3 rfl rfl)
theorem dX6_feed_26 : decode cX6_feed 26 = .ok (.iload_n 3, 1) := dk_29 (dk_at dksX6_feed_1 4 rfl rfl)
theorem dX6_feed_27 : decode cX6_feed 27 = .ok (.invokevirtual 127, 3) := dk_182 0 127 (dk_at dksX6_feed_1 5 rfl rfl)
theorem dX6_feed_30 : decode cX6_feed 30 = .ok (.aload_n 0, 1) := dk_42 (dk_at dksX6_feed_1 8 rfl rfl)
theorem dX6_feed_31 : decode cX6_feed 31 = .ok (.iload 4, 2) := dk_21 4 (dk_at dksX6_feed_1 9 rfl rfl)
theorem dX6_feed_33 : decode cX6_feed 33 = .ok (.invokevirtual 127, 3) := dk_182 0 127 (dk_at dksX6_feed_1 11 rfl rfl)
theorem dX6_feed_36 : decode cX6_feed 36 = .ok (.aload_n 0, 1) := dk_42 (dk_at dksX6_feed_1 14 rfl rfl)
theorem dX6_feed_37 : decode cX6_feed 37 = .ok (.iload 5, 2) := dk_21 5 (dk_at dksX6_feed_1 15 rfl rfl)
theorem dX6_feed_39 : decode cX6_feed 39 = .ok (.invokevirtual 127, 3) := dk_182 0 127 (dk_at dksX6_feed_1 17 rfl rfl)
theorem dX6_feed_42 : decode cX6_feed 42 = .ok (.aload_n 0, 1) := dk_42 (dk_at dksX6_feed_1 20 rfl rfl)
theorem dX6_feed_43 : decode cX6_feed 43 = .ok (.getfield 124, 3) := dk_180 0 124 (dk_at dksX6_feed_1 21 rfl rfl)
theorem dX6_feed_46 : decode cX6_feed 46 = .ok (.ireturn, 1) := dk_172 (dk_at dksX6_feed_2 0 rfl rfl)
abbrev cX6_four : ByteArray := prog_16_method_7_code
def yX6_four : MethodName := ⟨RX6, "four", "(I)V"⟩
def dkwX6_four_1 : List UInt8 := [89, 180, 0, 124, 4, 96, 181, 0, 124, 132, 2, 248, 167, 255, 223, 177]
abbrev dktX6_four_1 : List UInt8 := dkwX6_four_1 ++ []
def dkwX6_four_0 : List UInt8 := [16, 24, 61, 28, 155, 0, 35, 42, 180, 0, 7, 42, 180, 0, 124, 27, 28, 122, 17, 0, 255, 126, 79, 42]
abbrev dktX6_four_0 : List UInt8 := dkwX6_four_0 ++ dktX6_four_1
theorem dksX6_four_0 : cX6_four.data.toList.drop 0 = dktX6_four_0 := by decide +kernel
theorem dksX6_four_1 : cX6_four.data.toList.drop 24 = dktX6_four_1 := dk_seg dksX6_four_0 24 rfl rfl
theorem dX6_four_0 : decode cX6_four 0 = .ok (.bipush 24, 2) := dk_16 24 (dk_at dksX6_four_0 0 rfl rfl)
theorem dX6_four_2 : decode cX6_four 2 = .ok (.istore_n 2, 1) := dk_61 (dk_at dksX6_four_0 2 rfl rfl)
theorem dX6_four_3 : decode cX6_four 3 = .ok (.iload_n 2, 1) := dk_28 (dk_at dksX6_four_0 3 rfl rfl)
theorem dX6_four_4 : decode cX6_four 4 = .ok (.ifCond .lt 35, 3) := dk_155 0 35 (dk_at dksX6_four_0 4 rfl rfl)
theorem dX6_four_7 : decode cX6_four 7 = .ok (.aload_n 0, 1) := dk_42 (dk_at dksX6_four_0 7 rfl rfl)
theorem dX6_four_8 : decode cX6_four 8 = .ok (.getfield 7, 3) := dk_180 0 7 (dk_at dksX6_four_0 8 rfl rfl)
theorem dX6_four_11 : decode cX6_four 11 = .ok (.aload_n 0, 1) := dk_42 (dk_at dksX6_four_0 11 rfl rfl)
theorem dX6_four_12 : decode cX6_four 12 = .ok (.getfield 124, 3) := dk_180 0 124 (dk_at dksX6_four_0 12 rfl rfl)
theorem dX6_four_15 : decode cX6_four 15 = .ok (.iload_n 1, 1) := dk_27 (dk_at dksX6_four_0 15 rfl rfl)
theorem dX6_four_16 : decode cX6_four 16 = .ok (.iload_n 2, 1) := dk_28 (dk_at dksX6_four_0 16 rfl rfl)
theorem dX6_four_17 : decode cX6_four 17 = .ok (.ishr, 1) := dk_122 (dk_at dksX6_four_0 17 rfl rfl)
theorem dX6_four_18 : decode cX6_four 18 = .ok (.sipush 255, 3) := dk_17 0 255 (dk_at dksX6_four_0 18 rfl rfl)
theorem dX6_four_21 : decode cX6_four 21 = .ok (.iand, 1) := dk_126 (dk_at dksX6_four_0 21 rfl rfl)
theorem dX6_four_22 : decode cX6_four 22 = .ok (.iastore, 1) := dk_79 (dk_at dksX6_four_0 22 rfl rfl)
theorem dX6_four_23 : decode cX6_four 23 = .ok (.aload_n 0, 1) := dk_42 (dk_at dksX6_four_0 23 rfl rfl)
theorem dX6_four_24 : decode cX6_four 24 = .ok (.dup, 1) := dk_89 (dk_at dksX6_four_1 0 rfl rfl)
theorem dX6_four_25 : decode cX6_four 25 = .ok (.getfield 124, 3) := dk_180 0 124 (dk_at dksX6_four_1 1 rfl rfl)
theorem dX6_four_28 : decode cX6_four 28 = .ok (.iconst 1, 1) := dk_4 (dk_at dksX6_four_1 4 rfl rfl)
theorem dX6_four_29 : decode cX6_four 29 = .ok (.iadd, 1) := dk_96 (dk_at dksX6_four_1 5 rfl rfl)
theorem dX6_four_30 : decode cX6_four 30 = .ok (.putfield 124, 3) := dk_181 0 124 (dk_at dksX6_four_1 6 rfl rfl)
theorem dX6_four_33 : decode cX6_four 33 = .ok (.iinc 2 (-8), 3) := dk_132 2 248 (dk_at dksX6_four_1 9 rfl rfl)
theorem dX6_four_36 : decode cX6_four 36 = .ok (.goto (-33), 3) := dk_167 255 223 (dk_at dksX6_four_1 12 rfl rfl)
theorem dX6_four_39 : decode cX6_four 39 = .ok (.return_, 1) := dk_177 (dk_at dksX6_four_1 15 rfl rfl)
abbrev cX6_end : ByteArray := prog_16_method_8_code
def yX6_end : MethodName := ⟨RX6, "end", "(I)I"⟩
def dkwX6_end_0 : List UInt8 := [27, 133, 9, 42, 180, 0, 124, 133, 184, 0, 131, 154, 0, 5, 2, 172, 42, 27, 181, 0, 124, 27, 172]
abbrev dktX6_end_0 : List UInt8 := dkwX6_end_0 ++ []
theorem dksX6_end_0 : cX6_end.data.toList.drop 0 = dktX6_end_0 := by decide +kernel
theorem dX6_end_0 : decode cX6_end 0 = .ok (.iload_n 1, 1) := dk_27 (dk_at dksX6_end_0 0 rfl rfl)
theorem dX6_end_1 : decode cX6_end 1 = .ok (.i2l, 1) := dk_133 (dk_at dksX6_end_0 1 rfl rfl)
theorem dX6_end_2 : decode cX6_end 2 = .ok (.lconst 0, 1) := dk_9 (dk_at dksX6_end_0 2 rfl rfl)
theorem dX6_end_3 : decode cX6_end 3 = .ok (.aload_n 0, 1) := dk_42 (dk_at dksX6_end_0 3 rfl rfl)
theorem dX6_end_4 : decode cX6_end 4 = .ok (.getfield 124, 3) := dk_180 0 124 (dk_at dksX6_end_0 4 rfl rfl)
theorem dX6_end_7 : decode cX6_end 7 = .ok (.i2l, 1) := dk_133 (dk_at dksX6_end_0 7 rfl rfl)
theorem dX6_end_8 : decode cX6_end 8 = .ok (.invokestatic 131, 3) := dk_184 0 131 (dk_at dksX6_end_0 8 rfl rfl)
theorem dX6_end_11 : decode cX6_end 11 = .ok (.ifCond .ne 5, 3) := dk_154 0 5 (dk_at dksX6_end_0 11 rfl rfl)
theorem dX6_end_14 : decode cX6_end 14 = .ok (.iconst (-1), 1) := dk_2 (dk_at dksX6_end_0 14 rfl rfl)
theorem dX6_end_15 : decode cX6_end 15 = .ok (.ireturn, 1) := dk_172 (dk_at dksX6_end_0 15 rfl rfl)
theorem dX6_end_16 : decode cX6_end 16 = .ok (.aload_n 0, 1) := dk_42 (dk_at dksX6_end_0 16 rfl rfl)
theorem dX6_end_17 : decode cX6_end 17 = .ok (.iload_n 1, 1) := dk_27 (dk_at dksX6_end_0 17 rfl rfl)
theorem dX6_end_18 : decode cX6_end 18 = .ok (.putfield 124, 3) := dk_181 0 124 (dk_at dksX6_end_0 18 rfl rfl)
theorem dX6_end_21 : decode cX6_end 21 = .ok (.iload_n 1, 1) := dk_27 (dk_at dksX6_end_0 21 rfl rfl)
theorem dX6_end_22 : decode cX6_end 22 = .ok (.ireturn, 1) := dk_172 (dk_at dksX6_end_0 22 rfl rfl)
abbrev cX6_isIn : ByteArray := prog_16_method_2_code
def yX6_isIn : MethodName := ⟨RX6, "isIn", "(JJJ)Z"⟩
def dkwX6_isIn_0 : List UInt8 := [30, 32, 148, 155, 0, 14, 30, 22, 4, 148, 157, 0, 7, 4, 167, 0, 4, 3, 172]
abbrev dktX6_isIn_0 : List UInt8 := dkwX6_isIn_0 ++ []
theorem dksX6_isIn_0 : cX6_isIn.data.toList.drop 0 = dktX6_isIn_0 := by decide +kernel
theorem dX6_isIn_0 : decode cX6_isIn 0 = .ok (.lload_n 0, 1) := dk_30 (dk_at dksX6_isIn_0 0 rfl rfl)
theorem dX6_isIn_1 : decode cX6_isIn 1 = .ok (.lload_n 2, 1) := dk_32 (dk_at dksX6_isIn_0 1 rfl rfl)
theorem dX6_isIn_2 : decode cX6_isIn 2 = .ok (.lcmp, 1) := dk_148 (dk_at dksX6_isIn_0 2 rfl rfl)
theorem dX6_isIn_3 : decode cX6_isIn 3 = .ok (.ifCond .lt 14, 3) := dk_155 0 14 (dk_at dksX6_isIn_0 3 rfl rfl)
theorem dX6_isIn_6 : decode cX6_isIn 6 = .ok (.lload_n 0, 1) := dk_30 (dk_at dksX6_isIn_0 6 rfl rfl)
theorem dX6_isIn_7 : decode cX6_isIn 7 = .ok (.lload 4, 2) := dk_22 4 (dk_at dksX6_isIn_0 7 rfl rfl)
theorem dX6_isIn_9 : decode cX6_isIn 9 = .ok (.lcmp, 1) := dk_148 (dk_at dksX6_isIn_0 9 rfl rfl)
theorem dX6_isIn_10 : decode cX6_isIn 10 = .ok (.ifCond .gt 7, 3) := dk_157 0 7 (dk_at dksX6_isIn_0 10 rfl rfl)
theorem dX6_isIn_13 : decode cX6_isIn 13 = .ok (.iconst 1, 1) := dk_4 (dk_at dksX6_isIn_0 13 rfl rfl)
theorem dX6_isIn_14 : decode cX6_isIn 14 = .ok (.goto 4, 3) := dk_167 0 4 (dk_at dksX6_isIn_0 14 rfl rfl)
theorem dX6_isIn_17 : decode cX6_isIn 17 = .ok (.iconst 0, 1) := dk_3 (dk_at dksX6_isIn_0 17 rfl rfl)
theorem dX6_isIn_18 : decode cX6_isIn 18 = .ok (.ireturn, 1) := dk_172 (dk_at dksX6_isIn_0 18 rfl rfl)
abbrev cX6_troupe : ByteArray := prog_16_method_62_code
def yX6_troupe : MethodName := ⟨RX6, "troupe", "()I"⟩
def dkwX6_troupe_2 : List UInt8 := [172]
abbrev dktX6_troupe_2 : List UInt8 := dkwX6_troupe_2 ++ []
def dkwX6_troupe_1 : List UInt8 := [182, 1, 117, 42, 180, 0, 172, 158, 0, 9, 42, 182, 1, 120, 2, 172, 42, 182, 0, 121, 42, 180, 0, 196]
abbrev dktX6_troupe_1 : List UInt8 := dkwX6_troupe_1 ++ dktX6_troupe_2
def dkwX6_troupe_0 : List UInt8 := [42, 4, 181, 0, 115, 42, 3, 181, 0, 199, 42, 3, 181, 1, 43, 42, 182, 1, 111, 42, 182, 1, 114, 42]
abbrev dktX6_troupe_0 : List UInt8 := dkwX6_troupe_0 ++ dktX6_troupe_1
theorem dksX6_troupe_0 : cX6_troupe.data.toList.drop 0 = dktX6_troupe_0 := by decide +kernel
theorem dksX6_troupe_1 : cX6_troupe.data.toList.drop 24 = dktX6_troupe_1 := dk_seg dksX6_troupe_0 24 rfl rfl
theorem dksX6_troupe_2 : cX6_troupe.data.toList.drop 48 = dktX6_troupe_2 := dk_seg dksX6_troupe_1 24 rfl rfl
theorem dX6_troupe_0 : decode cX6_troupe 0 = .ok (.aload_n 0, 1) := dk_42 (dk_at dksX6_troupe_0 0 rfl rfl)
theorem dX6_troupe_1 : decode cX6_troupe 1 = .ok (.iconst 1, 1) := dk_4 (dk_at dksX6_troupe_0 1 rfl rfl)
theorem dX6_troupe_2 : decode cX6_troupe 2 = .ok (.putfield 115, 3) := dk_181 0 115 (dk_at dksX6_troupe_0 2 rfl rfl)
theorem dX6_troupe_5 : decode cX6_troupe 5 = .ok (.aload_n 0, 1) := dk_42 (dk_at dksX6_troupe_0 5 rfl rfl)
theorem dX6_troupe_6 : decode cX6_troupe 6 = .ok (.iconst 0, 1) := dk_3 (dk_at dksX6_troupe_0 6 rfl rfl)
theorem dX6_troupe_7 : decode cX6_troupe 7 = .ok (.putfield 199, 3) := dk_181 0 199 (dk_at dksX6_troupe_0 7 rfl rfl)
theorem dX6_troupe_10 : decode cX6_troupe 10 = .ok (.aload_n 0, 1) := dk_42 (dk_at dksX6_troupe_0 10 rfl rfl)
theorem dX6_troupe_11 : decode cX6_troupe 11 = .ok (.iconst 0, 1) := dk_3 (dk_at dksX6_troupe_0 11 rfl rfl)
theorem dX6_troupe_12 : decode cX6_troupe 12 = .ok (.putfield 299, 3) := dk_181 1 43 (dk_at dksX6_troupe_0 12 rfl rfl)
theorem dX6_troupe_15 : decode cX6_troupe 15 = .ok (.aload_n 0, 1) := dk_42 (dk_at dksX6_troupe_0 15 rfl rfl)
theorem dX6_troupe_16 : decode cX6_troupe 16 = .ok (.invokevirtual 367, 3) := dk_182 1 111 (dk_at dksX6_troupe_0 16 rfl rfl)
theorem dX6_troupe_19 : decode cX6_troupe 19 = .ok (.aload_n 0, 1) := dk_42 (dk_at dksX6_troupe_0 19 rfl rfl)
theorem dX6_troupe_20 : decode cX6_troupe 20 = .ok (.invokevirtual 370, 3) := dk_182 1 114 (dk_at dksX6_troupe_0 20 rfl rfl)
theorem dX6_troupe_23 : decode cX6_troupe 23 = .ok (.aload_n 0, 1) := dk_42 (dk_at dksX6_troupe_0 23 rfl rfl)
theorem dX6_troupe_24 : decode cX6_troupe 24 = .ok (.invokevirtual 373, 3) := dk_182 1 117 (dk_at dksX6_troupe_1 0 rfl rfl)
theorem dX6_troupe_27 : decode cX6_troupe 27 = .ok (.aload_n 0, 1) := dk_42 (dk_at dksX6_troupe_1 3 rfl rfl)
theorem dX6_troupe_28 : decode cX6_troupe 28 = .ok (.getfield 172, 3) := dk_180 0 172 (dk_at dksX6_troupe_1 4 rfl rfl)
theorem dX6_troupe_31 : decode cX6_troupe 31 = .ok (.ifCond .le 9, 3) := dk_158 0 9 (dk_at dksX6_troupe_1 7 rfl rfl)
theorem dX6_troupe_34 : decode cX6_troupe 34 = .ok (.aload_n 0, 1) := dk_42 (dk_at dksX6_troupe_1 10 rfl rfl)
theorem dX6_troupe_35 : decode cX6_troupe 35 = .ok (.invokevirtual 376, 3) := dk_182 1 120 (dk_at dksX6_troupe_1 11 rfl rfl)
theorem dX6_troupe_38 : decode cX6_troupe 38 = .ok (.iconst (-1), 1) := dk_2 (dk_at dksX6_troupe_1 14 rfl rfl)
theorem dX6_troupe_39 : decode cX6_troupe 39 = .ok (.ireturn, 1) := dk_172 (dk_at dksX6_troupe_1 15 rfl rfl)
theorem dX6_troupe_40 : decode cX6_troupe 40 = .ok (.aload_n 0, 1) := dk_42 (dk_at dksX6_troupe_1 16 rfl rfl)
theorem dX6_troupe_41 : decode cX6_troupe 41 = .ok (.invokevirtual 121, 3) := dk_182 0 121 (dk_at dksX6_troupe_1 17 rfl rfl)
theorem dX6_troupe_44 : decode cX6_troupe 44 = .ok (.aload_n 0, 1) := dk_42 (dk_at dksX6_troupe_1 20 rfl rfl)
theorem dX6_troupe_45 : decode cX6_troupe 45 = .ok (.getfield 196, 3) := dk_180 0 196 (dk_at dksX6_troupe_1 21 rfl rfl)
theorem dX6_troupe_48 : decode cX6_troupe 48 = .ok (.ireturn, 1) := dk_172 (dk_at dksX6_troupe_2 0 rfl rfl)
abbrev cX6_begins : ByteArray := prog_16_method_63_code
def yX6_begins : MethodName := ⟨RX6, "begins", "()V"⟩
def dkwX6_begins_1 : List UInt8 := [2, 181, 0, 13, 42, 182, 0, 193, 177]
abbrev dktX6_begins_1 : List UInt8 := dkwX6_begins_1 ++ []
def dkwX6_begins_0 : List UInt8 := [42, 42, 180, 0, 124, 181, 0, 138, 42, 3, 181, 0, 124, 42, 3, 181, 0, 135, 42, 3, 181, 0, 172, 42]
abbrev dktX6_begins_0 : List UInt8 := dkwX6_begins_0 ++ dktX6_begins_1
theorem dksX6_begins_0 : cX6_begins.data.toList.drop 0 = dktX6_begins_0 := by decide +kernel
theorem dksX6_begins_1 : cX6_begins.data.toList.drop 24 = dktX6_begins_1 := dk_seg dksX6_begins_0 24 rfl rfl
theorem dX6_begins_0 : decode cX6_begins 0 = .ok (.aload_n 0, 1) := dk_42 (dk_at dksX6_begins_0 0 rfl rfl)
theorem dX6_begins_1 : decode cX6_begins 1 = .ok (.aload_n 0, 1) := dk_42 (dk_at dksX6_begins_0 1 rfl rfl)
theorem dX6_begins_2 : decode cX6_begins 2 = .ok (.getfield 124, 3) := dk_180 0 124 (dk_at dksX6_begins_0 2 rfl rfl)
theorem dX6_begins_5 : decode cX6_begins 5 = .ok (.putfield 138, 3) := dk_181 0 138 (dk_at dksX6_begins_0 5 rfl rfl)
theorem dX6_begins_8 : decode cX6_begins 8 = .ok (.aload_n 0, 1) := dk_42 (dk_at dksX6_begins_0 8 rfl rfl)
theorem dX6_begins_9 : decode cX6_begins 9 = .ok (.iconst 0, 1) := dk_3 (dk_at dksX6_begins_0 9 rfl rfl)
theorem dX6_begins_10 : decode cX6_begins 10 = .ok (.putfield 124, 3) := dk_181 0 124 (dk_at dksX6_begins_0 10 rfl rfl)
theorem dX6_begins_13 : decode cX6_begins 13 = .ok (.aload_n 0, 1) := dk_42 (dk_at dksX6_begins_0 13 rfl rfl)
theorem dX6_begins_14 : decode cX6_begins 14 = .ok (.iconst 0, 1) := dk_3 (dk_at dksX6_begins_0 14 rfl rfl)
theorem dX6_begins_15 : decode cX6_begins 15 = .ok (.putfield 135, 3) := dk_181 0 135 (dk_at dksX6_begins_0 15 rfl rfl)
theorem dX6_begins_18 : decode cX6_begins 18 = .ok (.aload_n 0, 1) := dk_42 (dk_at dksX6_begins_0 18 rfl rfl)
theorem dX6_begins_19 : decode cX6_begins 19 = .ok (.iconst 0, 1) := dk_3 (dk_at dksX6_begins_0 19 rfl rfl)
theorem dX6_begins_20 : decode cX6_begins 20 = .ok (.putfield 172, 3) := dk_181 0 172 (dk_at dksX6_begins_0 20 rfl rfl)
theorem dX6_begins_23 : decode cX6_begins 23 = .ok (.aload_n 0, 1) := dk_42 (dk_at dksX6_begins_0 23 rfl rfl)
theorem dX6_begins_24 : decode cX6_begins 24 = .ok (.iconst (-1), 1) := dk_2 (dk_at dksX6_begins_1 0 rfl rfl)
theorem dX6_begins_25 : decode cX6_begins 25 = .ok (.putfield 13, 3) := dk_181 0 13 (dk_at dksX6_begins_1 1 rfl rfl)
theorem dX6_begins_28 : decode cX6_begins 28 = .ok (.aload_n 0, 1) := dk_42 (dk_at dksX6_begins_1 4 rfl rfl)
theorem dX6_begins_29 : decode cX6_begins 29 = .ok (.invokevirtual 193, 3) := dk_182 0 193 (dk_at dksX6_begins_1 5 rfl rfl)
theorem dX6_begins_32 : decode cX6_begins 32 = .ok (.return_, 1) := dk_177 (dk_at dksX6_begins_1 8 rfl rfl)
abbrev cX6_goOn : ByteArray := prog_16_method_13_code
def yX6_goOn : MethodName := ⟨RX6, "goOn", "()V"⟩
def dkwX6_goOn_10 : List UInt8 := [180, 0, 135, 28, 96, 181, 0, 135, 177]
abbrev dktX6_goOn_10 : List UInt8 := dkwX6_goOn_10 ++ []
def dkwX6_goOn_9 : List UInt8 := [184, 0, 165, 153, 0, 7, 6, 167, 0, 4, 7, 181, 0, 155, 42, 27, 181, 0, 152, 4, 61, 42, 89]
abbrev dktX6_goOn_9 : List UInt8 := dkwX6_goOn_9 ++ dktX6_goOn_10
def dkwX6_goOn_8 : List UInt8 := [42, 28, 182, 0, 141, 184, 0, 158, 153, 0, 7, 7, 167, 0, 4, 5, 181, 0, 155, 167, 0, 26, 42, 27]
abbrev dktX6_goOn_8 : List UInt8 := dkwX6_goOn_8 ++ dktX6_goOn_9
def dkwX6_goOn_7 : List UInt8 := [42, 28, 182, 0, 141, 96, 16, 48, 100, 181, 0, 152, 132, 2, 1, 167, 255, 217, 42, 28, 6, 163, 0, 14]
abbrev dktX6_goOn_7 : List UInt8 := dkwX6_goOn_7 ++ dktX6_goOn_8
def dkwX6_goOn_6 : List UInt8 := [42, 28, 182, 0, 141, 184, 0, 162, 153, 0, 34, 28, 6, 162, 0, 23, 42, 16, 10, 42, 180, 0, 152, 104]
abbrev dktX6_goOn_6 : List UInt8 := dkwX6_goOn_6 ++ dktX6_goOn_7
def dkwX6_goOn_5 : List UInt8 := [28, 16, 6, 164, 0, 7, 7, 167, 0, 4, 4, 181, 0, 155, 167, 0, 103, 27, 184, 0, 162, 153, 0, 73]
abbrev dktX6_goOn_5 : List UInt8 := dkwX6_goOn_5 ++ dktX6_goOn_6
def dkwX6_goOn_4 : List UInt8 := [42, 180, 0, 148, 16, 8, 121, 42, 28, 182, 0, 141, 133, 129, 181, 0, 148, 132, 2, 1, 167, 255, 218, 42]
abbrev dktX6_goOn_4 : List UInt8 := dkwX6_goOn_4 ++ dktX6_goOn_5
def dkwX6_goOn_3 : List UInt8 := [184, 0, 158, 153, 0, 62, 42, 28, 182, 0, 141, 184, 0, 158, 153, 0, 33, 28, 16, 6, 162, 0, 21, 42]
abbrev dktX6_goOn_3 : List UInt8 := dkwX6_goOn_3 ++ dktX6_goOn_4
def dkwX6_goOn_2 : List UInt8 := [42, 3, 181, 0, 152, 42, 3, 182, 0, 141, 60, 3, 61, 27, 156, 0, 9, 42, 3, 181, 0, 155, 177, 27]
abbrev dktX6_goOn_2 : List UInt8 := dkwX6_goOn_2 ++ dktX6_goOn_3
def dkwX6_goOn_1 : List UInt8 := [180, 0, 135, 4, 96, 181, 0, 135, 167, 255, 226, 42, 42, 180, 0, 135, 181, 0, 145, 42, 9, 181, 0, 148]
abbrev dktX6_goOn_1 : List UInt8 := dkwX6_goOn_1 ++ dktX6_goOn_2
def dkwX6_goOn_0 : List UInt8 := [42, 3, 182, 0, 141, 16, 32, 159, 0, 13, 42, 3, 182, 0, 141, 16, 10, 160, 0, 16, 42, 89]
abbrev dktX6_goOn_0 : List UInt8 := dkwX6_goOn_0 ++ dktX6_goOn_1
theorem dksX6_goOn_0 : cX6_goOn.data.toList.drop 0 = dktX6_goOn_0 := by decide +kernel
theorem dksX6_goOn_1 : cX6_goOn.data.toList.drop 22 = dktX6_goOn_1 := dk_seg dksX6_goOn_0 22 rfl rfl
theorem dksX6_goOn_2 : cX6_goOn.data.toList.drop 46 = dktX6_goOn_2 := dk_seg dksX6_goOn_1 24 rfl rfl
theorem dksX6_goOn_3 : cX6_goOn.data.toList.drop 70 = dktX6_goOn_3 := dk_seg dksX6_goOn_2 24 rfl rfl
theorem dksX6_goOn_4 : cX6_goOn.data.toList.drop 94 = dktX6_goOn_4 := dk_seg dksX6_goOn_3 24 rfl rfl
theorem dksX6_goOn_5 : cX6_goOn.data.toList.drop 118 = dktX6_goOn_5 := dk_seg dksX6_goOn_4 24 rfl rfl
theorem dksX6_goOn_6 : cX6_goOn.data.toList.drop 142 = dktX6_goOn_6 := dk_seg dksX6_goOn_5 24 rfl rfl
theorem dksX6_goOn_7 : cX6_goOn.data.toList.drop 166 = dktX6_goOn_7 := dk_seg dksX6_goOn_6 24 rfl rfl
theorem dksX6_goOn_8 : cX6_goOn.data.toList.drop 190 = dktX6_goOn_8 := dk_seg dksX6_goOn_7 24 rfl rfl
theorem dksX6_goOn_9 : cX6_goOn.data.toList.drop 214 = dktX6_goOn_9 := dk_seg dksX6_goOn_8 24 rfl rfl
theorem dksX6_goOn_10 : cX6_goOn.data.toList.drop 237 = dktX6_goOn_10 := dk_seg dksX6_goOn_9 23 rfl rfl
theorem dX6_goOn_0 : decode cX6_goOn 0 = .ok (.aload_n 0, 1) := dk_42 (dk_at dksX6_goOn_0 0 rfl rfl)
theorem dX6_goOn_1 : decode cX6_goOn 1 = .ok (.iconst 0, 1) := dk_3 (dk_at dksX6_goOn_0 1 rfl rfl)
theorem dX6_goOn_2 : decode cX6_goOn 2 = .ok (.invokevirtual 141, 3) := dk_182 0 141 (dk_at dksX6_goOn_0 2 rfl rfl)
theorem dX6_goOn_5 : decode cX6_goOn 5 = .ok (.bipush 32, 2) := dk_16 32 (dk_at dksX6_goOn_0 5 rfl rfl)
theorem dX6_goOn_7 : decode cX6_goOn 7 = .ok (.if_icmp .eq 13, 3) := dk_159 0 13 (dk_at dksX6_goOn_0 7 rfl rfl)
theorem dX6_goOn_10 : decode cX6_goOn 10 = .ok (.aload_n 0, 1) := dk_42 (dk_at dksX6_goOn_0 10 rfl rfl)
theorem dX6_goOn_11 : decode cX6_goOn 11 = .ok (.iconst 0, 1) := dk_3 (dk_at dksX6_goOn_0 11 rfl rfl)
theorem dX6_goOn_12 : decode cX6_goOn 12 = .ok (.invokevirtual 141, 3) := dk_182 0 141 (dk_at dksX6_goOn_0 12 rfl rfl)
theorem dX6_goOn_15 : decode cX6_goOn 15 = .ok (.bipush 10, 2) := dk_16 10 (dk_at dksX6_goOn_0 15 rfl rfl)
theorem dX6_goOn_17 : decode cX6_goOn 17 = .ok (.if_icmp .ne 16, 3) := dk_160 0 16 (dk_at dksX6_goOn_0 17 rfl rfl)
theorem dX6_goOn_20 : decode cX6_goOn 20 = .ok (.aload_n 0, 1) := dk_42 (dk_at dksX6_goOn_0 20 rfl rfl)
theorem dX6_goOn_21 : decode cX6_goOn 21 = .ok (.dup, 1) := dk_89 (dk_at dksX6_goOn_0 21 rfl rfl)
theorem dX6_goOn_22 : decode cX6_goOn 22 = .ok (.getfield 135, 3) := dk_180 0 135 (dk_at dksX6_goOn_1 0 rfl rfl)
theorem dX6_goOn_25 : decode cX6_goOn 25 = .ok (.iconst 1, 1) := dk_4 (dk_at dksX6_goOn_1 3 rfl rfl)
theorem dX6_goOn_26 : decode cX6_goOn 26 = .ok (.iadd, 1) := dk_96 (dk_at dksX6_goOn_1 4 rfl rfl)
theorem dX6_goOn_27 : decode cX6_goOn 27 = .ok (.putfield 135, 3) := dk_181 0 135 (dk_at dksX6_goOn_1 5 rfl rfl)
theorem dX6_goOn_30 : decode cX6_goOn 30 = .ok (.goto (-30), 3) := dk_167 255 226 (dk_at dksX6_goOn_1 8 rfl rfl)
theorem dX6_goOn_33 : decode cX6_goOn 33 = .ok (.aload_n 0, 1) := dk_42 (dk_at dksX6_goOn_1 11 rfl rfl)
theorem dX6_goOn_34 : decode cX6_goOn 34 = .ok (.aload_n 0, 1) := dk_42 (dk_at dksX6_goOn_1 12 rfl rfl)
theorem dX6_goOn_35 : decode cX6_goOn 35 = .ok (.getfield 135, 3) := dk_180 0 135 (dk_at dksX6_goOn_1 13 rfl rfl)
theorem dX6_goOn_38 : decode cX6_goOn 38 = .ok (.putfield 145, 3) := dk_181 0 145 (dk_at dksX6_goOn_1 16 rfl rfl)
theorem dX6_goOn_41 : decode cX6_goOn 41 = .ok (.aload_n 0, 1) := dk_42 (dk_at dksX6_goOn_1 19 rfl rfl)
theorem dX6_goOn_42 : decode cX6_goOn 42 = .ok (.lconst 0, 1) := dk_9 (dk_at dksX6_goOn_1 20 rfl rfl)
theorem dX6_goOn_43 : decode cX6_goOn 43 = .ok (.putfield 148, 3) := dk_181 0 148 (dk_at dksX6_goOn_1 21 rfl rfl)
theorem dX6_goOn_46 : decode cX6_goOn 46 = .ok (.aload_n 0, 1) := dk_42 (dk_at dksX6_goOn_2 0 rfl rfl)
theorem dX6_goOn_47 : decode cX6_goOn 47 = .ok (.iconst 0, 1) := dk_3 (dk_at dksX6_goOn_2 1 rfl rfl)
theorem dX6_goOn_48 : decode cX6_goOn 48 = .ok (.putfield 152, 3) := dk_181 0 152 (dk_at dksX6_goOn_2 2 rfl rfl)
theorem dX6_goOn_51 : decode cX6_goOn 51 = .ok (.aload_n 0, 1) := dk_42 (dk_at dksX6_goOn_2 5 rfl rfl)
theorem dX6_goOn_52 : decode cX6_goOn 52 = .ok (.iconst 0, 1) := dk_3 (dk_at dksX6_goOn_2 6 rfl rfl)
theorem dX6_goOn_53 : decode cX6_goOn 53 = .ok (.invokevirtual 141, 3) := dk_182 0 141 (dk_at dksX6_goOn_2 7 rfl rfl)
theorem dX6_goOn_56 : decode cX6_goOn 56 = .ok (.istore_n 1, 1) := dk_60 (dk_at dksX6_goOn_2 10 rfl rfl)
theorem dX6_goOn_57 : decode cX6_goOn 57 = .ok (.iconst 0, 1) := dk_3 (dk_at dksX6_goOn_2 11 rfl rfl)
theorem dX6_goOn_58 : decode cX6_goOn 58 = .ok (.istore_n 2, 1) := dk_61 (dk_at dksX6_goOn_2 12 rfl rfl)
theorem dX6_goOn_59 : decode cX6_goOn 59 = .ok (.iload_n 1, 1) := dk_27 (dk_at dksX6_goOn_2 13 rfl rfl)
theorem dX6_goOn_60 : decode cX6_goOn 60 = .ok (.ifCond .ge 9, 3) := dk_156 0 9 (dk_at dksX6_goOn_2 14 rfl rfl)
theorem dX6_goOn_63 : decode cX6_goOn 63 = .ok (.aload_n 0, 1) := dk_42 (dk_at dksX6_goOn_2 17 rfl rfl)
theorem dX6_goOn_64 : decode cX6_goOn 64 = .ok (.iconst 0, 1) := dk_3 (dk_at dksX6_goOn_2 18 rfl rfl)
theorem dX6_goOn_65 : decode cX6_goOn 65 = .ok (.putfield 155, 3) := dk_181 0 155 (dk_at dksX6_goOn_2 19 rfl rfl)
theorem dX6_goOn_68 : decode cX6_goOn 68 = .ok (.return_, 1) := dk_177 (dk_at dksX6_goOn_2 22 rfl rfl)
theorem dX6_goOn_69 : decode cX6_goOn 69 = .ok (.iload_n 1, 1) := dk_27 (dk_at dksX6_goOn_2 23 rfl rfl)
theorem dX6_goOn_70 : decode cX6_goOn 70 = .ok (.invokestatic 158, 3) := dk_184 0 158 (dk_at dksX6_goOn_3 0 rfl rfl)
theorem dX6_goOn_73 : decode cX6_goOn 73 = .ok (.ifCond .eq 62, 3) := dk_153 0 62 (dk_at dksX6_goOn_3 3 rfl rfl)
theorem dX6_goOn_76 : decode cX6_goOn 76 = .ok (.aload_n 0, 1) := dk_42 (dk_at dksX6_goOn_3 6 rfl rfl)
theorem dX6_goOn_77 : decode cX6_goOn 77 = .ok (.iload_n 2, 1) := dk_28 (dk_at dksX6_goOn_3 7 rfl rfl)
theorem dX6_goOn_78 : decode cX6_goOn 78 = .ok (.invokevirtual 141, 3) := dk_182 0 141 (dk_at dksX6_goOn_3 8 rfl rfl)
theorem dX6_goOn_81 : decode cX6_goOn 81 = .ok (.invokestatic 158, 3) := dk_184 0 158 (dk_at dksX6_goOn_3 11 rfl rfl)
theorem dX6_goOn_84 : decode cX6_goOn 84 = .ok (.ifCond .eq 33, 3) := dk_153 0 33 (dk_at dksX6_goOn_3 14 rfl rfl)
theorem dX6_goOn_87 : decode cX6_goOn 87 = .ok (.iload_n 2, 1) := dk_28 (dk_at dksX6_goOn_3 17 rfl rfl)
theorem dX6_goOn_88 : decode cX6_goOn 88 = .ok (.bipush 6, 2) := dk_16 6 (dk_at dksX6_goOn_3 18 rfl rfl)
theorem dX6_goOn_90 : decode cX6_goOn 90 = .ok (.if_icmp .ge 21, 3) := dk_162 0 21 (dk_at dksX6_goOn_3 20 rfl rfl)
theorem dX6_goOn_93 : decode cX6_goOn 93 = .ok (.aload_n 0, 1) := dk_42 (dk_at dksX6_goOn_3 23 rfl rfl)
theorem dX6_goOn_94 : decode cX6_goOn 94 = .ok (.aload_n 0, 1) := dk_42 (dk_at dksX6_goOn_4 0 rfl rfl)
theorem dX6_goOn_95 : decode cX6_goOn 95 = .ok (.getfield 148, 3) := dk_180 0 148 (dk_at dksX6_goOn_4 1 rfl rfl)
theorem dX6_goOn_98 : decode cX6_goOn 98 = .ok (.bipush 8, 2) := dk_16 8 (dk_at dksX6_goOn_4 4 rfl rfl)
theorem dX6_goOn_100 : decode cX6_goOn 100 = .ok (.lshl, 1) := dk_121 (dk_at dksX6_goOn_4 6 rfl rfl)
theorem dX6_goOn_101 : decode cX6_goOn 101 = .ok (.aload_n 0, 1) := dk_42 (dk_at dksX6_goOn_4 7 rfl rfl)
theorem dX6_goOn_102 : decode cX6_goOn 102 = .ok (.iload_n 2, 1) := dk_28 (dk_at dksX6_goOn_4 8 rfl rfl)
theorem dX6_goOn_103 : decode cX6_goOn 103 = .ok (.invokevirtual 141, 3) := dk_182 0 141 (dk_at dksX6_goOn_4 9 rfl rfl)
theorem dX6_goOn_106 : decode cX6_goOn 106 = .ok (.i2l, 1) := dk_133 (dk_at dksX6_goOn_4 12 rfl rfl)
theorem dX6_goOn_107 : decode cX6_goOn 107 = .ok (.lor, 1) := dk_129 (dk_at dksX6_goOn_4 13 rfl rfl)
theorem dX6_goOn_108 : decode cX6_goOn 108 = .ok (.putfield 148, 3) := dk_181 0 148 (dk_at dksX6_goOn_4 14 rfl rfl)
theorem dX6_goOn_111 : decode cX6_goOn 111 = .ok (.iinc 2 1, 3) := dk_132 2 1 (dk_at dksX6_goOn_4 17 rfl rfl)
theorem dX6_goOn_114 : decode cX6_goOn 114 = .ok (.goto (-38), 3) := dk_167 255 218 (dk_at dksX6_goOn_4 20 rfl rfl)
theorem dX6_goOn_117 : decode cX6_goOn 117 = .ok (.aload_n 0, 1) := dk_42 (dk_at dksX6_goOn_4 23 rfl rfl)
theorem dX6_goOn_118 : decode cX6_goOn 118 = .ok (.iload_n 2, 1) := dk_28 (dk_at dksX6_goOn_5 0 rfl rfl)
theorem dX6_goOn_119 : decode cX6_goOn 119 = .ok (.bipush 6, 2) := dk_16 6 (dk_at dksX6_goOn_5 1 rfl rfl)
theorem dX6_goOn_121 : decode cX6_goOn 121 = .ok (.if_icmp .le 7, 3) := dk_164 0 7 (dk_at dksX6_goOn_5 3 rfl rfl)
theorem dX6_goOn_124 : decode cX6_goOn 124 = .ok (.iconst 4, 1) := dk_7 (dk_at dksX6_goOn_5 6 rfl rfl)
theorem dX6_goOn_125 : decode cX6_goOn 125 = .ok (.goto 4, 3) := dk_167 0 4 (dk_at dksX6_goOn_5 7 rfl rfl)
theorem dX6_goOn_128 : decode cX6_goOn 128 = .ok (.iconst 1, 1) := dk_4 (dk_at dksX6_goOn_5 10 rfl rfl)
theorem dX6_goOn_129 : decode cX6_goOn 129 = .ok (.putfield 155, 3) := dk_181 0 155 (dk_at dksX6_goOn_5 11 rfl rfl)
theorem dX6_goOn_132 : decode cX6_goOn 132 = .ok (.goto 103, 3) := dk_167 0 103 (dk_at dksX6_goOn_5 14 rfl rfl)
theorem dX6_goOn_135 : decode cX6_goOn 135 = .ok (.iload_n 1, 1) := dk_27 (dk_at dksX6_goOn_5 17 rfl rfl)
theorem dX6_goOn_136 : decode cX6_goOn 136 = .ok (.invokestatic 162, 3) := dk_184 0 162 (dk_at dksX6_goOn_5 18 rfl rfl)
theorem dX6_goOn_139 : decode cX6_goOn 139 = .ok (.ifCond .eq 73, 3) := dk_153 0 73 (dk_at dksX6_goOn_5 21 rfl rfl)
theorem dX6_goOn_142 : decode cX6_goOn 142 = .ok (.aload_n 0, 1) := dk_42 (dk_at dksX6_goOn_6 0 rfl rfl)
theorem dX6_goOn_143 : decode cX6_goOn 143 = .ok (.iload_n 2, 1) := dk_28 (dk_at dksX6_goOn_6 1 rfl rfl)
theorem dX6_goOn_144 : decode cX6_goOn 144 = .ok (.invokevirtual 141, 3) := dk_182 0 141 (dk_at dksX6_goOn_6 2 rfl rfl)
theorem dX6_goOn_147 : decode cX6_goOn 147 = .ok (.invokestatic 162, 3) := dk_184 0 162 (dk_at dksX6_goOn_6 5 rfl rfl)
theorem dX6_goOn_150 : decode cX6_goOn 150 = .ok (.ifCond .eq 34, 3) := dk_153 0 34 (dk_at dksX6_goOn_6 8 rfl rfl)
theorem dX6_goOn_153 : decode cX6_goOn 153 = .ok (.iload_n 2, 1) := dk_28 (dk_at dksX6_goOn_6 11 rfl rfl)
theorem dX6_goOn_154 : decode cX6_goOn 154 = .ok (.iconst 3, 1) := dk_6 (dk_at dksX6_goOn_6 12 rfl rfl)
theorem dX6_goOn_155 : decode cX6_goOn 155 = .ok (.if_icmp .ge 23, 3) := dk_162 0 23 (dk_at dksX6_goOn_6 13 rfl rfl)
theorem dX6_goOn_158 : decode cX6_goOn 158 = .ok (.aload_n 0, 1) := dk_42 (dk_at dksX6_goOn_6 16 rfl rfl)
theorem dX6_goOn_159 : decode cX6_goOn 159 = .ok (.bipush 10, 2) := dk_16 10 (dk_at dksX6_goOn_6 17 rfl rfl)
theorem dX6_goOn_161 : decode cX6_goOn 161 = .ok (.aload_n 0, 1) := dk_42 (dk_at dksX6_goOn_6 19 rfl rfl)
theorem dX6_goOn_162 : decode cX6_goOn 162 = .ok (.getfield 152, 3) := dk_180 0 152 (dk_at dksX6_goOn_6 20 rfl rfl)
theorem dX6_goOn_165 : decode cX6_goOn 165 = .ok (.imul, 1) := dk_104 (dk_at dksX6_goOn_6 23 rfl rfl)
theorem dX6_goOn_166 : decode cX6_goOn 166 = .ok (.aload_n 0, 1) := dk_42 (dk_at dksX6_goOn_7 0 rfl rfl)
theorem dX6_goOn_167 : decode cX6_goOn 167 = .ok (.iload_n 2, 1) := dk_28 (dk_at dksX6_goOn_7 1 rfl rfl)
theorem dX6_goOn_168 : decode cX6_goOn 168 = .ok (.invokevirtual 141, 3) := dk_182 0 141 (dk_at dksX6_goOn_7 2 rfl rfl)
theorem dX6_goOn_171 : decode cX6_goOn 171 = .ok (.iadd, 1) := dk_96 (dk_at dksX6_goOn_7 5 rfl rfl)
theorem dX6_goOn_172 : decode cX6_goOn 172 = .ok (.bipush 48, 2) := dk_16 48 (dk_at dksX6_goOn_7 6 rfl rfl)
theorem dX6_goOn_174 : decode cX6_goOn 174 = .ok (.isub, 1) := dk_100 (dk_at dksX6_goOn_7 8 rfl rfl)
theorem dX6_goOn_175 : decode cX6_goOn 175 = .ok (.putfield 152, 3) := dk_181 0 152 (dk_at dksX6_goOn_7 9 rfl rfl)
theorem dX6_goOn_178 : decode cX6_goOn 178 = .ok (.iinc 2 1, 3) := dk_132 2 1 (dk_at dksX6_goOn_7 12 rfl rfl)
theorem dX6_goOn_181 : decode cX6_goOn 181 = .ok (.goto (-39), 3) := dk_167 255 217 (dk_at dksX6_goOn_7 15 rfl rfl)
theorem dX6_goOn_184 : decode cX6_goOn 184 = .ok (.aload_n 0, 1) := dk_42 (dk_at dksX6_goOn_7 18 rfl rfl)
theorem dX6_goOn_185 : decode cX6_goOn 185 = .ok (.iload_n 2, 1) := dk_28 (dk_at dksX6_goOn_7 19 rfl rfl)
theorem dX6_goOn_186 : decode cX6_goOn 186 = .ok (.iconst 3, 1) := dk_6 (dk_at dksX6_goOn_7 20 rfl rfl)
theorem dX6_goOn_187 : decode cX6_goOn 187 = .ok (.if_icmp .gt 14, 3) := dk_163 0 14 (dk_at dksX6_goOn_7 21 rfl rfl)
theorem dX6_goOn_190 : decode cX6_goOn 190 = .ok (.aload_n 0, 1) := dk_42 (dk_at dksX6_goOn_8 0 rfl rfl)
theorem dX6_goOn_191 : decode cX6_goOn 191 = .ok (.iload_n 2, 1) := dk_28 (dk_at dksX6_goOn_8 1 rfl rfl)
theorem dX6_goOn_192 : decode cX6_goOn 192 = .ok (.invokevirtual 141, 3) := dk_182 0 141 (dk_at dksX6_goOn_8 2 rfl rfl)
theorem dX6_goOn_195 : decode cX6_goOn 195 = .ok (.invokestatic 158, 3) := dk_184 0 158 (dk_at dksX6_goOn_8 5 rfl rfl)
theorem dX6_goOn_198 : decode cX6_goOn 198 = .ok (.ifCond .eq 7, 3) := dk_153 0 7 (dk_at dksX6_goOn_8 8 rfl rfl)
theorem dX6_goOn_201 : decode cX6_goOn 201 = .ok (.iconst 4, 1) := dk_7 (dk_at dksX6_goOn_8 11 rfl rfl)
theorem dX6_goOn_202 : decode cX6_goOn 202 = .ok (.goto 4, 3) := dk_167 0 4 (dk_at dksX6_goOn_8 12 rfl rfl)
theorem dX6_goOn_205 : decode cX6_goOn 205 = .ok (.iconst 2, 1) := dk_5 (dk_at dksX6_goOn_8 15 rfl rfl)
theorem dX6_goOn_206 : decode cX6_goOn 206 = .ok (.putfield 155, 3) := dk_181 0 155 (dk_at dksX6_goOn_8 16 rfl rfl)
theorem dX6_goOn_209 : decode cX6_goOn 209 = .ok (.goto 26, 3) := dk_167 0 26 (dk_at dksX6_goOn_8 19 rfl rfl)
theorem dX6_goOn_212 : decode cX6_goOn 212 = .ok (.aload_n 0, 1) := dk_42 (dk_at dksX6_goOn_8 22 rfl rfl)
theorem dX6_goOn_213 : decode cX6_goOn 213 = .ok (.iload_n 1, 1) := dk_27 (dk_at dksX6_goOn_8 23 rfl rfl)
theorem dX6_goOn_214 : decode cX6_goOn 214 = .ok (.invokestatic 165, 3) := dk_184 0 165 (dk_at dksX6_goOn_9 0 rfl rfl)
theorem dX6_goOn_217 : decode cX6_goOn 217 = .ok (.ifCond .eq 7, 3) := dk_153 0 7 (dk_at dksX6_goOn_9 3 rfl rfl)
theorem dX6_goOn_220 : decode cX6_goOn 220 = .ok (.iconst 3, 1) := dk_6 (dk_at dksX6_goOn_9 6 rfl rfl)
theorem dX6_goOn_221 : decode cX6_goOn 221 = .ok (.goto 4, 3) := dk_167 0 4 (dk_at dksX6_goOn_9 7 rfl rfl)
theorem dX6_goOn_224 : decode cX6_goOn 224 = .ok (.iconst 4, 1) := dk_7 (dk_at dksX6_goOn_9 10 rfl rfl)
theorem dX6_goOn_225 : decode cX6_goOn 225 = .ok (.putfield 155, 3) := dk_181 0 155 (dk_at dksX6_goOn_9 11 rfl rfl)
theorem dX6_goOn_228 : decode cX6_goOn 228 = .ok (.aload_n 0, 1) := dk_42 (dk_at dksX6_goOn_9 14 rfl rfl)
theorem dX6_goOn_229 : decode cX6_goOn 229 = .ok (.iload_n 1, 1) := dk_27 (dk_at dksX6_goOn_9 15 rfl rfl)
theorem dX6_goOn_230 : decode cX6_goOn 230 = .ok (.putfield 152, 3) := dk_181 0 152 (dk_at dksX6_goOn_9 16 rfl rfl)
theorem dX6_goOn_233 : decode cX6_goOn 233 = .ok (.iconst 1, 1) := dk_4 (dk_at dksX6_goOn_9 19 rfl rfl)
theorem dX6_goOn_234 : decode cX6_goOn 234 = .ok (.istore_n 2, 1) := dk_61 (dk_at dksX6_goOn_9 20 rfl rfl)
theorem dX6_goOn_235 : decode cX6_goOn 235 = .ok (.aload_n 0, 1) := dk_42 (dk_at dksX6_goOn_9 21 rfl rfl)
theorem dX6_goOn_236 : decode cX6_goOn 236 = .ok (.dup, 1) := dk_89 (dk_at dksX6_goOn_9 22 rfl rfl)
theorem dX6_goOn_237 : decode cX6_goOn 237 = .ok (.getfield 135, 3) := dk_180 0 135 (dk_at dksX6_goOn_10 0 rfl rfl)
theorem dX6_goOn_240 : decode cX6_goOn 240 = .ok (.iload_n 2, 1) := dk_28 (dk_at dksX6_goOn_10 3 rfl rfl)
theorem dX6_goOn_241 : decode cX6_goOn 241 = .ok (.iadd, 1) := dk_96 (dk_at dksX6_goOn_10 4 rfl rfl)
theorem dX6_goOn_242 : decode cX6_goOn 242 = .ok (.putfield 135, 3) := dk_181 0 135 (dk_at dksX6_goOn_10 5 rfl rfl)
theorem dX6_goOn_245 : decode cX6_goOn 245 = .ok (.return_, 1) := dk_177 (dk_at dksX6_goOn_10 8 rfl rfl)
abbrev cX6_here : ByteArray := prog_16_method_9_code
def yX6_here : MethodName := ⟨RX6, "here", "(I)I"⟩
def dkwX6_here_1 : List UInt8 := [167, 0, 4, 2, 172]
abbrev dktX6_here_1 : List UInt8 := dkwX6_here_1 ++ []
def dkwX6_here_0 : List UInt8 := [42, 180, 0, 135, 27, 96, 42, 180, 0, 138, 162, 0, 17, 42, 180, 0, 7, 42, 180, 0, 135, 27, 96, 46]
abbrev dktX6_here_0 : List UInt8 := dkwX6_here_0 ++ dktX6_here_1
theorem dksX6_here_0 : cX6_here.data.toList.drop 0 = dktX6_here_0 := by decide +kernel
theorem dksX6_here_1 : cX6_here.data.toList.drop 24 = dktX6_here_1 := dk_seg dksX6_here_0 24 rfl rfl
theorem dX6_here_0 : decode cX6_here 0 = .ok (.aload_n 0, 1) := dk_42 (dk_at dksX6_here_0 0 rfl rfl)
theorem dX6_here_1 : decode cX6_here 1 = .ok (.getfield 135, 3) := dk_180 0 135 (dk_at dksX6_here_0 1 rfl rfl)
theorem dX6_here_4 : decode cX6_here 4 = .ok (.iload_n 1, 1) := dk_27 (dk_at dksX6_here_0 4 rfl rfl)
theorem dX6_here_5 : decode cX6_here 5 = .ok (.iadd, 1) := dk_96 (dk_at dksX6_here_0 5 rfl rfl)
theorem dX6_here_6 : decode cX6_here 6 = .ok (.aload_n 0, 1) := dk_42 (dk_at dksX6_here_0 6 rfl rfl)
theorem dX6_here_7 : decode cX6_here 7 = .ok (.getfield 138, 3) := dk_180 0 138 (dk_at dksX6_here_0 7 rfl rfl)
theorem dX6_here_10 : decode cX6_here 10 = .ok (.if_icmp .ge 17, 3) := dk_162 0 17 (dk_at dksX6_here_0 10 rfl rfl)
theorem dX6_here_13 : decode cX6_here 13 = .ok (.aload_n 0, 1) := dk_42 (dk_at dksX6_here_0 13 rfl rfl)
theorem dX6_here_14 : decode cX6_here 14 = .ok (.getfield 7, 3) := dk_180 0 7 (dk_at dksX6_here_0 14 rfl rfl)
theorem dX6_here_17 : decode cX6_here 17 = .ok (.aload_n 0, 1) := dk_42 (dk_at dksX6_here_0 17 rfl rfl)
theorem dX6_here_18 : decode cX6_here 18 = .ok (.getfield 135, 3) := dk_180 0 135 (dk_at dksX6_here_0 18 rfl rfl)
theorem dX6_here_21 : decode cX6_here 21 = .ok (.iload_n 1, 1) := dk_27 (dk_at dksX6_here_0 21 rfl rfl)
theorem dX6_here_22 : decode cX6_here 22 = .ok (.iadd, 1) := dk_96 (dk_at dksX6_here_0 22 rfl rfl)
theorem dX6_here_23 : decode cX6_here 23 = .ok (.iaload, 1) := dk_46 (dk_at dksX6_here_0 23 rfl rfl)
theorem dX6_here_24 : decode cX6_here 24 = .ok (.goto 4, 3) := dk_167 0 4 (dk_at dksX6_here_1 0 rfl rfl)
theorem dX6_here_27 : decode cX6_here 27 = .ok (.iconst (-1), 1) := dk_2 (dk_at dksX6_here_1 3 rfl rfl)
theorem dX6_here_28 : decode cX6_here 28 = .ok (.ireturn, 1) := dk_172 (dk_at dksX6_here_1 4 rfl rfl)
abbrev cX6_isLetter : ByteArray := prog_16_method_10_code
def yX6_isLetter : MethodName := ⟨RX6, "isLetter", "(I)Z"⟩
def dkwX6_isLetter_0 : List UInt8 := [26, 16, 97, 161, 0, 13, 26, 16, 122, 163, 0, 7, 4, 167, 0, 4, 3, 172]
abbrev dktX6_isLetter_0 : List UInt8 := dkwX6_isLetter_0 ++ []
theorem dksX6_isLetter_0 : cX6_isLetter.data.toList.drop 0 = dktX6_isLetter_0 := by decide +kernel
theorem dX6_isLetter_0 : decode cX6_isLetter 0 = .ok (.iload_n 0, 1) := dk_26 (dk_at dksX6_isLetter_0 0 rfl rfl)
theorem dX6_isLetter_1 : decode cX6_isLetter 1 = .ok (.bipush 97, 2) := dk_16 97 (dk_at dksX6_isLetter_0 1 rfl rfl)
theorem dX6_isLetter_3 : decode cX6_isLetter 3 = .ok (.if_icmp .lt 13, 3) := dk_161 0 13 (dk_at dksX6_isLetter_0 3 rfl rfl)
theorem dX6_isLetter_6 : decode cX6_isLetter 6 = .ok (.iload_n 0, 1) := dk_26 (dk_at dksX6_isLetter_0 6 rfl rfl)
theorem dX6_isLetter_7 : decode cX6_isLetter 7 = .ok (.bipush 122, 2) := dk_16 122 (dk_at dksX6_isLetter_0 7 rfl rfl)
theorem dX6_isLetter_9 : decode cX6_isLetter 9 = .ok (.if_icmp .gt 7, 3) := dk_163 0 7 (dk_at dksX6_isLetter_0 9 rfl rfl)
theorem dX6_isLetter_12 : decode cX6_isLetter 12 = .ok (.iconst 1, 1) := dk_4 (dk_at dksX6_isLetter_0 12 rfl rfl)
theorem dX6_isLetter_13 : decode cX6_isLetter 13 = .ok (.goto 4, 3) := dk_167 0 4 (dk_at dksX6_isLetter_0 13 rfl rfl)
theorem dX6_isLetter_16 : decode cX6_isLetter 16 = .ok (.iconst 0, 1) := dk_3 (dk_at dksX6_isLetter_0 16 rfl rfl)
theorem dX6_isLetter_17 : decode cX6_isLetter 17 = .ok (.ireturn, 1) := dk_172 (dk_at dksX6_isLetter_0 17 rfl rfl)
abbrev cX6_isDigit : ByteArray := prog_16_method_11_code
def yX6_isDigit : MethodName := ⟨RX6, "isDigit", "(I)Z"⟩
def dkwX6_isDigit_0 : List UInt8 := [26, 16, 48, 161, 0, 13, 26, 16, 57, 163, 0, 7, 4, 167, 0, 4, 3, 172]
abbrev dktX6_isDigit_0 : List UInt8 := dkwX6_isDigit_0 ++ []
theorem dksX6_isDigit_0 : cX6_isDigit.data.toList.drop 0 = dktX6_isDigit_0 := by decide +kernel
theorem dX6_isDigit_0 : decode cX6_isDigit 0 = .ok (.iload_n 0, 1) := dk_26 (dk_at dksX6_isDigit_0 0 rfl rfl)
theorem dX6_isDigit_1 : decode cX6_isDigit 1 = .ok (.bipush 48, 2) := dk_16 48 (dk_at dksX6_isDigit_0 1 rfl rfl)
theorem dX6_isDigit_3 : decode cX6_isDigit 3 = .ok (.if_icmp .lt 13, 3) := dk_161 0 13 (dk_at dksX6_isDigit_0 3 rfl rfl)
theorem dX6_isDigit_6 : decode cX6_isDigit 6 = .ok (.iload_n 0, 1) := dk_26 (dk_at dksX6_isDigit_0 6 rfl rfl)
theorem dX6_isDigit_7 : decode cX6_isDigit 7 = .ok (.bipush 57, 2) := dk_16 57 (dk_at dksX6_isDigit_0 7 rfl rfl)
theorem dX6_isDigit_9 : decode cX6_isDigit 9 = .ok (.if_icmp .gt 7, 3) := dk_163 0 7 (dk_at dksX6_isDigit_0 9 rfl rfl)
theorem dX6_isDigit_12 : decode cX6_isDigit 12 = .ok (.iconst 1, 1) := dk_4 (dk_at dksX6_isDigit_0 12 rfl rfl)
theorem dX6_isDigit_13 : decode cX6_isDigit 13 = .ok (.goto 4, 3) := dk_167 0 4 (dk_at dksX6_isDigit_0 13 rfl rfl)
theorem dX6_isDigit_16 : decode cX6_isDigit 16 = .ok (.iconst 0, 1) := dk_3 (dk_at dksX6_isDigit_0 16 rfl rfl)
theorem dX6_isDigit_17 : decode cX6_isDigit 17 = .ok (.ireturn, 1) := dk_172 (dk_at dksX6_isDigit_0 17 rfl rfl)
abbrev cX6_isSign : ByteArray := prog_16_method_12_code
def yX6_isSign : MethodName := ⟨RX6, "isSign", "(I)Z"⟩
def dkwX6_isSign_2 : List UInt8 := [4, 167, 0, 4, 3, 172]
abbrev dktX6_isSign_2 : List UInt8 := dkwX6_isSign_2 ++ []
def dkwX6_isSign_1 : List UInt8 := [26, 16, 94, 159, 0, 21, 26, 16, 40, 159, 0, 15, 26, 16, 41, 159, 0, 9, 26, 16, 59, 160, 0, 7]
abbrev dktX6_isSign_1 : List UInt8 := dkwX6_isSign_1 ++ dktX6_isSign_2
def dkwX6_isSign_0 : List UInt8 := [26, 16, 61, 159, 0, 45, 26, 16, 43, 159, 0, 39, 26, 16, 42, 159, 0, 33, 26, 16, 45, 159, 0, 27]
abbrev dktX6_isSign_0 : List UInt8 := dkwX6_isSign_0 ++ dktX6_isSign_1
theorem dksX6_isSign_0 : cX6_isSign.data.toList.drop 0 = dktX6_isSign_0 := by decide +kernel
theorem dksX6_isSign_1 : cX6_isSign.data.toList.drop 24 = dktX6_isSign_1 := dk_seg dksX6_isSign_0 24 rfl rfl
theorem dksX6_isSign_2 : cX6_isSign.data.toList.drop 48 = dktX6_isSign_2 := dk_seg dksX6_isSign_1 24 rfl rfl
theorem dX6_isSign_0 : decode cX6_isSign 0 = .ok (.iload_n 0, 1) := dk_26 (dk_at dksX6_isSign_0 0 rfl rfl)
theorem dX6_isSign_1 : decode cX6_isSign 1 = .ok (.bipush 61, 2) := dk_16 61 (dk_at dksX6_isSign_0 1 rfl rfl)
theorem dX6_isSign_3 : decode cX6_isSign 3 = .ok (.if_icmp .eq 45, 3) := dk_159 0 45 (dk_at dksX6_isSign_0 3 rfl rfl)
theorem dX6_isSign_6 : decode cX6_isSign 6 = .ok (.iload_n 0, 1) := dk_26 (dk_at dksX6_isSign_0 6 rfl rfl)
theorem dX6_isSign_7 : decode cX6_isSign 7 = .ok (.bipush 43, 2) := dk_16 43 (dk_at dksX6_isSign_0 7 rfl rfl)
theorem dX6_isSign_9 : decode cX6_isSign 9 = .ok (.if_icmp .eq 39, 3) := dk_159 0 39 (dk_at dksX6_isSign_0 9 rfl rfl)
theorem dX6_isSign_12 : decode cX6_isSign 12 = .ok (.iload_n 0, 1) := dk_26 (dk_at dksX6_isSign_0 12 rfl rfl)
theorem dX6_isSign_13 : decode cX6_isSign 13 = .ok (.bipush 42, 2) := dk_16 42 (dk_at dksX6_isSign_0 13 rfl rfl)
theorem dX6_isSign_15 : decode cX6_isSign 15 = .ok (.if_icmp .eq 33, 3) := dk_159 0 33 (dk_at dksX6_isSign_0 15 rfl rfl)
theorem dX6_isSign_18 : decode cX6_isSign 18 = .ok (.iload_n 0, 1) := dk_26 (dk_at dksX6_isSign_0 18 rfl rfl)
theorem dX6_isSign_19 : decode cX6_isSign 19 = .ok (.bipush 45, 2) := dk_16 45 (dk_at dksX6_isSign_0 19 rfl rfl)
theorem dX6_isSign_21 : decode cX6_isSign 21 = .ok (.if_icmp .eq 27, 3) := dk_159 0 27 (dk_at dksX6_isSign_0 21 rfl rfl)
theorem dX6_isSign_24 : decode cX6_isSign 24 = .ok (.iload_n 0, 1) := dk_26 (dk_at dksX6_isSign_1 0 rfl rfl)
theorem dX6_isSign_25 : decode cX6_isSign 25 = .ok (.bipush 94, 2) := dk_16 94 (dk_at dksX6_isSign_1 1 rfl rfl)
theorem dX6_isSign_27 : decode cX6_isSign 27 = .ok (.if_icmp .eq 21, 3) := dk_159 0 21 (dk_at dksX6_isSign_1 3 rfl rfl)
theorem dX6_isSign_30 : decode cX6_isSign 30 = .ok (.iload_n 0, 1) := dk_26 (dk_at dksX6_isSign_1 6 rfl rfl)
theorem dX6_isSign_31 : decode cX6_isSign 31 = .ok (.bipush 40, 2) := dk_16 40 (dk_at dksX6_isSign_1 7 rfl rfl)
theorem dX6_isSign_33 : decode cX6_isSign 33 = .ok (.if_icmp .eq 15, 3) := dk_159 0 15 (dk_at dksX6_isSign_1 9 rfl rfl)
theorem dX6_isSign_36 : decode cX6_isSign 36 = .ok (.iload_n 0, 1) := dk_26 (dk_at dksX6_isSign_1 12 rfl rfl)
theorem dX6_isSign_37 : decode cX6_isSign 37 = .ok (.bipush 41, 2) := dk_16 41 (dk_at dksX6_isSign_1 13 rfl rfl)
theorem dX6_isSign_39 : decode cX6_isSign 39 = .ok (.if_icmp .eq 9, 3) := dk_159 0 9 (dk_at dksX6_isSign_1 15 rfl rfl)
theorem dX6_isSign_42 : decode cX6_isSign 42 = .ok (.iload_n 0, 1) := dk_26 (dk_at dksX6_isSign_1 18 rfl rfl)
theorem dX6_isSign_43 : decode cX6_isSign 43 = .ok (.bipush 59, 2) := dk_16 59 (dk_at dksX6_isSign_1 19 rfl rfl)
theorem dX6_isSign_45 : decode cX6_isSign 45 = .ok (.if_icmp .ne 7, 3) := dk_160 0 7 (dk_at dksX6_isSign_1 21 rfl rfl)
theorem dX6_isSign_48 : decode cX6_isSign 48 = .ok (.iconst 1, 1) := dk_4 (dk_at dksX6_isSign_2 0 rfl rfl)
theorem dX6_isSign_49 : decode cX6_isSign 49 = .ok (.goto 4, 3) := dk_167 0 4 (dk_at dksX6_isSign_2 1 rfl rfl)
theorem dX6_isSign_52 : decode cX6_isSign 52 = .ok (.iconst 0, 1) := dk_3 (dk_at dksX6_isSign_2 4 rfl rfl)
theorem dX6_isSign_53 : decode cX6_isSign 53 = .ok (.ireturn, 1) := dk_172 (dk_at dksX6_isSign_2 5 rfl rfl)
abbrev cX6_reads : ByteArray := prog_16_method_61_code
def yX6_reads : MethodName := ⟨RX6, "reads", "()V"⟩
def dkwX6_reads_4 : List UInt8 := [42, 180, 0, 155, 153, 0, 8, 42, 5, 182, 0, 190, 177]
abbrev dktX6_reads_4 : List UInt8 := dkwX6_reads_4 ++ []
def dkwX6_reads_3 : List UInt8 := [42, 20, 0, 179, 182, 1, 56, 153, 0, 10, 42, 182, 1, 108, 167, 255, 242, 42, 182, 0, 183, 153, 0, 15]
abbrev dktX6_reads_3 : List UInt8 := dkwX6_reads_3 ++ dktX6_reads_4
def dkwX6_reads_2 : List UInt8 := [182, 1, 56, 153, 0, 10, 42, 182, 1, 105, 167, 255, 242, 42, 182, 0, 183, 153, 0, 7, 42, 182, 0, 118]
abbrev dktX6_reads_2 : List UInt8 := dkwX6_reads_2 ++ dktX6_reads_3
def dkwX6_reads_1 : List UInt8 := [182, 0, 193, 42, 42, 4, 16, 6, 182, 1, 66, 181, 0, 115, 42, 16, 59, 182, 1, 99, 42, 20, 0, 177]
abbrev dktX6_reads_1 : List UInt8 := dkwX6_reads_1 ++ dktX6_reads_2
def dkwX6_reads_0 : List UInt8 := [42, 20, 0, 175, 182, 1, 56, 154, 0, 8, 42, 5, 182, 0, 190, 42, 182, 0, 183, 153, 0, 7, 42]
abbrev dktX6_reads_0 : List UInt8 := dkwX6_reads_0 ++ dktX6_reads_1
theorem dksX6_reads_0 : cX6_reads.data.toList.drop 0 = dktX6_reads_0 := by decide +kernel
theorem dksX6_reads_1 : cX6_reads.data.toList.drop 23 = dktX6_reads_1 := dk_seg dksX6_reads_0 23 rfl rfl
theorem dksX6_reads_2 : cX6_reads.data.toList.drop 47 = dktX6_reads_2 := dk_seg dksX6_reads_1 24 rfl rfl
theorem dksX6_reads_3 : cX6_reads.data.toList.drop 71 = dktX6_reads_3 := dk_seg dksX6_reads_2 24 rfl rfl
theorem dksX6_reads_4 : cX6_reads.data.toList.drop 95 = dktX6_reads_4 := dk_seg dksX6_reads_3 24 rfl rfl
theorem dX6_reads_0 : decode cX6_reads 0 = .ok (.aload_n 0, 1) := dk_42 (dk_at dksX6_reads_0 0 rfl rfl)
theorem dX6_reads_1 : decode cX6_reads 1 = .ok (.ldc2_w 175, 3) := dk_20 0 175 (dk_at dksX6_reads_0 1 rfl rfl)
theorem dX6_reads_4 : decode cX6_reads 4 = .ok (.invokevirtual 312, 3) := dk_182 1 56 (dk_at dksX6_reads_0 4 rfl rfl)
theorem dX6_reads_7 : decode cX6_reads 7 = .ok (.ifCond .ne 8, 3) := dk_154 0 8 (dk_at dksX6_reads_0 7 rfl rfl)
theorem dX6_reads_10 : decode cX6_reads 10 = .ok (.aload_n 0, 1) := dk_42 (dk_at dksX6_reads_0 10 rfl rfl)
theorem dX6_reads_11 : decode cX6_reads 11 = .ok (.iconst 2, 1) := dk_5 (dk_at dksX6_reads_0 11 rfl rfl)
theorem dX6_reads_12 : decode cX6_reads 12 = .ok (.invokevirtual 190, 3) := dk_182 0 190 (dk_at dksX6_reads_0 12 rfl rfl)
theorem dX6_reads_15 : decode cX6_reads 15 = .ok (.aload_n 0, 1) := dk_42 (dk_at dksX6_reads_0 15 rfl rfl)
theorem dX6_reads_16 : decode cX6_reads 16 = .ok (.invokevirtual 183, 3) := dk_182 0 183 (dk_at dksX6_reads_0 16 rfl rfl)
theorem dX6_reads_19 : decode cX6_reads 19 = .ok (.ifCond .eq 7, 3) := dk_153 0 7 (dk_at dksX6_reads_0 19 rfl rfl)
theorem dX6_reads_22 : decode cX6_reads 22 = .ok (.aload_n 0, 1) := dk_42 (dk_at dksX6_reads_0 22 rfl rfl)
theorem dX6_reads_23 : decode cX6_reads 23 = .ok (.invokevirtual 193, 3) := dk_182 0 193 (dk_at dksX6_reads_1 0 rfl rfl)
theorem dX6_reads_26 : decode cX6_reads 26 = .ok (.aload_n 0, 1) := dk_42 (dk_at dksX6_reads_1 3 rfl rfl)
theorem dX6_reads_27 : decode cX6_reads 27 = .ok (.aload_n 0, 1) := dk_42 (dk_at dksX6_reads_1 4 rfl rfl)
theorem dX6_reads_28 : decode cX6_reads 28 = .ok (.iconst 1, 1) := dk_4 (dk_at dksX6_reads_1 5 rfl rfl)
theorem dX6_reads_29 : decode cX6_reads 29 = .ok (.bipush 6, 2) := dk_16 6 (dk_at dksX6_reads_1 6 rfl rfl)
theorem dX6_reads_31 : decode cX6_reads 31 = .ok (.invokevirtual 322, 3) := dk_182 1 66 (dk_at dksX6_reads_1 8 rfl rfl)
theorem dX6_reads_34 : decode cX6_reads 34 = .ok (.putfield 115, 3) := dk_181 0 115 (dk_at dksX6_reads_1 11 rfl rfl)
theorem dX6_reads_37 : decode cX6_reads 37 = .ok (.aload_n 0, 1) := dk_42 (dk_at dksX6_reads_1 14 rfl rfl)
theorem dX6_reads_38 : decode cX6_reads 38 = .ok (.bipush 59, 2) := dk_16 59 (dk_at dksX6_reads_1 15 rfl rfl)
theorem dX6_reads_40 : decode cX6_reads 40 = .ok (.invokevirtual 355, 3) := dk_182 1 99 (dk_at dksX6_reads_1 17 rfl rfl)
theorem dX6_reads_43 : decode cX6_reads 43 = .ok (.aload_n 0, 1) := dk_42 (dk_at dksX6_reads_1 20 rfl rfl)
theorem dX6_reads_44 : decode cX6_reads 44 = .ok (.ldc2_w 177, 3) := dk_20 0 177 (dk_at dksX6_reads_1 21 rfl rfl)
theorem dX6_reads_47 : decode cX6_reads 47 = .ok (.invokevirtual 312, 3) := dk_182 1 56 (dk_at dksX6_reads_2 0 rfl rfl)
theorem dX6_reads_50 : decode cX6_reads 50 = .ok (.ifCond .eq 10, 3) := dk_153 0 10 (dk_at dksX6_reads_2 3 rfl rfl)
theorem dX6_reads_53 : decode cX6_reads 53 = .ok (.aload_n 0, 1) := dk_42 (dk_at dksX6_reads_2 6 rfl rfl)
theorem dX6_reads_54 : decode cX6_reads 54 = .ok (.invokevirtual 361, 3) := dk_182 1 105 (dk_at dksX6_reads_2 7 rfl rfl)
theorem dX6_reads_57 : decode cX6_reads 57 = .ok (.goto (-14), 3) := dk_167 255 242 (dk_at dksX6_reads_2 10 rfl rfl)
theorem dX6_reads_60 : decode cX6_reads 60 = .ok (.aload_n 0, 1) := dk_42 (dk_at dksX6_reads_2 13 rfl rfl)
theorem dX6_reads_61 : decode cX6_reads 61 = .ok (.invokevirtual 183, 3) := dk_182 0 183 (dk_at dksX6_reads_2 14 rfl rfl)
theorem dX6_reads_64 : decode cX6_reads 64 = .ok (.ifCond .eq 7, 3) := dk_153 0 7 (dk_at dksX6_reads_2 17 rfl rfl)
theorem dX6_reads_67 : decode cX6_reads 67 = .ok (.aload_n 0, 1) := dk_42 (dk_at dksX6_reads_2 20 rfl rfl)
theorem dX6_reads_68 : decode cX6_reads 68 = .ok (.invokevirtual 118, 3) := dk_182 0 118 (dk_at dksX6_reads_2 21 rfl rfl)
theorem dX6_reads_71 : decode cX6_reads 71 = .ok (.aload_n 0, 1) := dk_42 (dk_at dksX6_reads_3 0 rfl rfl)
theorem dX6_reads_72 : decode cX6_reads 72 = .ok (.ldc2_w 179, 3) := dk_20 0 179 (dk_at dksX6_reads_3 1 rfl rfl)
theorem dX6_reads_75 : decode cX6_reads 75 = .ok (.invokevirtual 312, 3) := dk_182 1 56 (dk_at dksX6_reads_3 4 rfl rfl)
theorem dX6_reads_78 : decode cX6_reads 78 = .ok (.ifCond .eq 10, 3) := dk_153 0 10 (dk_at dksX6_reads_3 7 rfl rfl)
theorem dX6_reads_81 : decode cX6_reads 81 = .ok (.aload_n 0, 1) := dk_42 (dk_at dksX6_reads_3 10 rfl rfl)
theorem dX6_reads_82 : decode cX6_reads 82 = .ok (.invokevirtual 364, 3) := dk_182 1 108 (dk_at dksX6_reads_3 11 rfl rfl)
theorem dX6_reads_85 : decode cX6_reads 85 = .ok (.goto (-14), 3) := dk_167 255 242 (dk_at dksX6_reads_3 14 rfl rfl)
theorem dX6_reads_88 : decode cX6_reads 88 = .ok (.aload_n 0, 1) := dk_42 (dk_at dksX6_reads_3 17 rfl rfl)
theorem dX6_reads_89 : decode cX6_reads 89 = .ok (.invokevirtual 183, 3) := dk_182 0 183 (dk_at dksX6_reads_3 18 rfl rfl)
theorem dX6_reads_92 : decode cX6_reads 92 = .ok (.ifCond .eq 15, 3) := dk_153 0 15 (dk_at dksX6_reads_3 21 rfl rfl)
theorem dX6_reads_95 : decode cX6_reads 95 = .ok (.aload_n 0, 1) := dk_42 (dk_at dksX6_reads_4 0 rfl rfl)
theorem dX6_reads_96 : decode cX6_reads 96 = .ok (.getfield 155, 3) := dk_180 0 155 (dk_at dksX6_reads_4 1 rfl rfl)
theorem dX6_reads_99 : decode cX6_reads 99 = .ok (.ifCond .eq 8, 3) := dk_153 0 8 (dk_at dksX6_reads_4 4 rfl rfl)
theorem dX6_reads_102 : decode cX6_reads 102 = .ok (.aload_n 0, 1) := dk_42 (dk_at dksX6_reads_4 7 rfl rfl)
theorem dX6_reads_103 : decode cX6_reads 103 = .ok (.iconst 2, 1) := dk_5 (dk_at dksX6_reads_4 8 rfl rfl)
theorem dX6_reads_104 : decode cX6_reads 104 = .ok (.invokevirtual 190, 3) := dk_182 0 190 (dk_at dksX6_reads_4 9 rfl rfl)
theorem dX6_reads_107 : decode cX6_reads 107 = .ok (.return_, 1) := dk_177 (dk_at dksX6_reads_4 12 rfl rfl)
abbrev cX6_isWord : ByteArray := prog_16_method_17_code
def yX6_isWord : MethodName := ⟨RX6, "isWord", "(J)Z"⟩
def dkwX6_isWord_1 : List UInt8 := [4, 167, 0, 4, 3, 172]
abbrev dktX6_isWord_1 : List UInt8 := dkwX6_isWord_1 ++ []
def dkwX6_isWord_0 : List UInt8 := [42, 180, 0, 172, 154, 0, 24, 42, 180, 0, 155, 4, 160, 0, 16, 42, 180, 0, 148, 31, 148, 154, 0, 7]
abbrev dktX6_isWord_0 : List UInt8 := dkwX6_isWord_0 ++ dktX6_isWord_1
theorem dksX6_isWord_0 : cX6_isWord.data.toList.drop 0 = dktX6_isWord_0 := by decide +kernel
theorem dksX6_isWord_1 : cX6_isWord.data.toList.drop 24 = dktX6_isWord_1 := dk_seg dksX6_isWord_0 24 rfl rfl
theorem dX6_isWord_0 : decode cX6_isWord 0 = .ok (.aload_n 0, 1) := dk_42 (dk_at dksX6_isWord_0 0 rfl rfl)
theorem dX6_isWord_1 : decode cX6_isWord 1 = .ok (.getfield 172, 3) := dk_180 0 172 (dk_at dksX6_isWord_0 1 rfl rfl)
theorem dX6_isWord_4 : decode cX6_isWord 4 = .ok (.ifCond .ne 24, 3) := dk_154 0 24 (dk_at dksX6_isWord_0 4 rfl rfl)
theorem dX6_isWord_7 : decode cX6_isWord 7 = .ok (.aload_n 0, 1) := dk_42 (dk_at dksX6_isWord_0 7 rfl rfl)
theorem dX6_isWord_8 : decode cX6_isWord 8 = .ok (.getfield 155, 3) := dk_180 0 155 (dk_at dksX6_isWord_0 8 rfl rfl)
theorem dX6_isWord_11 : decode cX6_isWord 11 = .ok (.iconst 1, 1) := dk_4 (dk_at dksX6_isWord_0 11 rfl rfl)
theorem dX6_isWord_12 : decode cX6_isWord 12 = .ok (.if_icmp .ne 16, 3) := dk_160 0 16 (dk_at dksX6_isWord_0 12 rfl rfl)
theorem dX6_isWord_15 : decode cX6_isWord 15 = .ok (.aload_n 0, 1) := dk_42 (dk_at dksX6_isWord_0 15 rfl rfl)
theorem dX6_isWord_16 : decode cX6_isWord 16 = .ok (.getfield 148, 3) := dk_180 0 148 (dk_at dksX6_isWord_0 16 rfl rfl)
theorem dX6_isWord_19 : decode cX6_isWord 19 = .ok (.lload_n 1, 1) := dk_31 (dk_at dksX6_isWord_0 19 rfl rfl)
theorem dX6_isWord_20 : decode cX6_isWord 20 = .ok (.lcmp, 1) := dk_148 (dk_at dksX6_isWord_0 20 rfl rfl)
theorem dX6_isWord_21 : decode cX6_isWord 21 = .ok (.ifCond .ne 7, 3) := dk_154 0 7 (dk_at dksX6_isWord_0 21 rfl rfl)
theorem dX6_isWord_24 : decode cX6_isWord 24 = .ok (.iconst 1, 1) := dk_4 (dk_at dksX6_isWord_1 0 rfl rfl)
theorem dX6_isWord_25 : decode cX6_isWord 25 = .ok (.goto 4, 3) := dk_167 0 4 (dk_at dksX6_isWord_1 1 rfl rfl)
theorem dX6_isWord_28 : decode cX6_isWord 28 = .ok (.iconst 0, 1) := dk_3 (dk_at dksX6_isWord_1 4 rfl rfl)
theorem dX6_isWord_29 : decode cX6_isWord 29 = .ok (.ireturn, 1) := dk_172 (dk_at dksX6_isWord_1 5 rfl rfl)
abbrev cX6_wrong : ByteArray := prog_16_method_14_code
def yX6_wrong : MethodName := ⟨RX6, "wrong", "(I)V"⟩
def dkwX6_wrong_0 : List UInt8 := [42, 42, 180, 0, 155, 7, 160, 0, 7, 4, 167, 0, 4, 27, 42, 180, 0, 145, 182, 0, 168, 177]
abbrev dktX6_wrong_0 : List UInt8 := dkwX6_wrong_0 ++ []
theorem dksX6_wrong_0 : cX6_wrong.data.toList.drop 0 = dktX6_wrong_0 := by decide +kernel
theorem dX6_wrong_0 : decode cX6_wrong 0 = .ok (.aload_n 0, 1) := dk_42 (dk_at dksX6_wrong_0 0 rfl rfl)
theorem dX6_wrong_1 : decode cX6_wrong 1 = .ok (.aload_n 0, 1) := dk_42 (dk_at dksX6_wrong_0 1 rfl rfl)
theorem dX6_wrong_2 : decode cX6_wrong 2 = .ok (.getfield 155, 3) := dk_180 0 155 (dk_at dksX6_wrong_0 2 rfl rfl)
theorem dX6_wrong_5 : decode cX6_wrong 5 = .ok (.iconst 4, 1) := dk_7 (dk_at dksX6_wrong_0 5 rfl rfl)
theorem dX6_wrong_6 : decode cX6_wrong 6 = .ok (.if_icmp .ne 7, 3) := dk_160 0 7 (dk_at dksX6_wrong_0 6 rfl rfl)
theorem dX6_wrong_9 : decode cX6_wrong 9 = .ok (.iconst 1, 1) := dk_4 (dk_at dksX6_wrong_0 9 rfl rfl)
theorem dX6_wrong_10 : decode cX6_wrong 10 = .ok (.goto 4, 3) := dk_167 0 4 (dk_at dksX6_wrong_0 10 rfl rfl)
theorem dX6_wrong_13 : decode cX6_wrong 13 = .ok (.iload_n 1, 1) := dk_27 (dk_at dksX6_wrong_0 13 rfl rfl)
theorem dX6_wrong_14 : decode cX6_wrong 14 = .ok (.aload_n 0, 1) := dk_42 (dk_at dksX6_wrong_0 14 rfl rfl)
theorem dX6_wrong_15 : decode cX6_wrong 15 = .ok (.getfield 145, 3) := dk_180 0 145 (dk_at dksX6_wrong_0 15 rfl rfl)
theorem dX6_wrong_18 : decode cX6_wrong 18 = .ok (.invokevirtual 168, 3) := dk_182 0 168 (dk_at dksX6_wrong_0 18 rfl rfl)
theorem dX6_wrong_21 : decode cX6_wrong 21 = .ok (.return_, 1) := dk_177 (dk_at dksX6_wrong_0 21 rfl rfl)
abbrev cX6_wrongAt : ByteArray := prog_16_method_15_code
def yX6_wrongAt : MethodName := ⟨RX6, "wrongAt", "(II)V"⟩
def dkwX6_wrongAt_0 : List UInt8 := [42, 180, 0, 172, 158, 0, 4, 177, 42, 27, 181, 0, 172, 42, 28, 181, 0, 13, 177]
abbrev dktX6_wrongAt_0 : List UInt8 := dkwX6_wrongAt_0 ++ []
theorem dksX6_wrongAt_0 : cX6_wrongAt.data.toList.drop 0 = dktX6_wrongAt_0 := by decide +kernel
theorem dX6_wrongAt_0 : decode cX6_wrongAt 0 = .ok (.aload_n 0, 1) := dk_42 (dk_at dksX6_wrongAt_0 0 rfl rfl)
theorem dX6_wrongAt_1 : decode cX6_wrongAt 1 = .ok (.getfield 172, 3) := dk_180 0 172 (dk_at dksX6_wrongAt_0 1 rfl rfl)
theorem dX6_wrongAt_4 : decode cX6_wrongAt 4 = .ok (.ifCond .le 4, 3) := dk_158 0 4 (dk_at dksX6_wrongAt_0 4 rfl rfl)
theorem dX6_wrongAt_7 : decode cX6_wrongAt 7 = .ok (.return_, 1) := dk_177 (dk_at dksX6_wrongAt_0 7 rfl rfl)
theorem dX6_wrongAt_8 : decode cX6_wrongAt 8 = .ok (.aload_n 0, 1) := dk_42 (dk_at dksX6_wrongAt_0 8 rfl rfl)
theorem dX6_wrongAt_9 : decode cX6_wrongAt 9 = .ok (.iload_n 1, 1) := dk_27 (dk_at dksX6_wrongAt_0 9 rfl rfl)
theorem dX6_wrongAt_10 : decode cX6_wrongAt 10 = .ok (.putfield 172, 3) := dk_181 0 172 (dk_at dksX6_wrongAt_0 10 rfl rfl)
theorem dX6_wrongAt_13 : decode cX6_wrongAt 13 = .ok (.aload_n 0, 1) := dk_42 (dk_at dksX6_wrongAt_0 13 rfl rfl)
theorem dX6_wrongAt_14 : decode cX6_wrongAt 14 = .ok (.iload_n 2, 1) := dk_28 (dk_at dksX6_wrongAt_0 14 rfl rfl)
theorem dX6_wrongAt_15 : decode cX6_wrongAt 15 = .ok (.putfield 13, 3) := dk_181 0 13 (dk_at dksX6_wrongAt_0 15 rfl rfl)
theorem dX6_wrongAt_18 : decode cX6_wrongAt 18 = .ok (.return_, 1) := dk_177 (dk_at dksX6_wrongAt_0 18 rfl rfl)
abbrev cX6_isGood : ByteArray := prog_16_method_16_code
def yX6_isGood : MethodName := ⟨RX6, "isGood", "()Z"⟩
def dkwX6_isGood_0 : List UInt8 := [42, 180, 0, 172, 154, 0, 7, 4, 167, 0, 4, 3, 172]
abbrev dktX6_isGood_0 : List UInt8 := dkwX6_isGood_0 ++ []
theorem dksX6_isGood_0 : cX6_isGood.data.toList.drop 0 = dktX6_isGood_0 := by decide +kernel
theorem dX6_isGood_0 : decode cX6_isGood 0 = .ok (.aload_n 0, 1) := dk_42 (dk_at dksX6_isGood_0 0 rfl rfl)
theorem dX6_isGood_1 : decode cX6_isGood 1 = .ok (.getfield 172, 3) := dk_180 0 172 (dk_at dksX6_isGood_0 1 rfl rfl)
theorem dX6_isGood_4 : decode cX6_isGood 4 = .ok (.ifCond .ne 7, 3) := dk_154 0 7 (dk_at dksX6_isGood_0 4 rfl rfl)
theorem dX6_isGood_7 : decode cX6_isGood 7 = .ok (.iconst 1, 1) := dk_4 (dk_at dksX6_isGood_0 7 rfl rfl)
theorem dX6_isGood_8 : decode cX6_isGood 8 = .ok (.goto 4, 3) := dk_167 0 4 (dk_at dksX6_isGood_0 8 rfl rfl)
theorem dX6_isGood_11 : decode cX6_isGood 11 = .ok (.iconst 0, 1) := dk_3 (dk_at dksX6_isGood_0 11 rfl rfl)
theorem dX6_isGood_12 : decode cX6_isGood 12 = .ok (.ireturn, 1) := dk_172 (dk_at dksX6_isGood_0 12 rfl rfl)
abbrev cX6_number : ByteArray := prog_16_method_21_code
def yX6_number : MethodName := ⟨RX6, "number", "(II)I"⟩
def dkwX6_number_2 : List UInt8 := [182, 0, 190, 42, 182, 0, 183, 153, 0, 7, 42, 182, 0, 193, 29, 172]
abbrev dktX6_number_2 : List UInt8 := dkwX6_number_2 ++ []
def dkwX6_number_1 : List UInt8 := [62, 42, 182, 0, 183, 153, 0, 20, 29, 133, 27, 133, 28, 133, 184, 0, 131, 154, 0, 8, 42, 7]
abbrev dktX6_number_1 : List UInt8 := dkwX6_number_1 ++ dktX6_number_2
def dkwX6_number_0 : List UInt8 := [42, 182, 0, 183, 153, 0, 16, 42, 180, 0, 155, 5, 159, 0, 8, 42, 5, 182, 0, 190, 42, 180, 0, 152]
abbrev dktX6_number_0 : List UInt8 := dkwX6_number_0 ++ dktX6_number_1
theorem dksX6_number_0 : cX6_number.data.toList.drop 0 = dktX6_number_0 := by decide +kernel
theorem dksX6_number_1 : cX6_number.data.toList.drop 24 = dktX6_number_1 := dk_seg dksX6_number_0 24 rfl rfl
theorem dksX6_number_2 : cX6_number.data.toList.drop 46 = dktX6_number_2 := dk_seg dksX6_number_1 22 rfl rfl
theorem dX6_number_0 : decode cX6_number 0 = .ok (.aload_n 0, 1) := dk_42 (dk_at dksX6_number_0 0 rfl rfl)
theorem dX6_number_1 : decode cX6_number 1 = .ok (.invokevirtual 183, 3) := dk_182 0 183 (dk_at dksX6_number_0 1 rfl rfl)
theorem dX6_number_4 : decode cX6_number 4 = .ok (.ifCond .eq 16, 3) := dk_153 0 16 (dk_at dksX6_number_0 4 rfl rfl)
theorem dX6_number_7 : decode cX6_number 7 = .ok (.aload_n 0, 1) := dk_42 (dk_at dksX6_number_0 7 rfl rfl)
theorem dX6_number_8 : decode cX6_number 8 = .ok (.getfield 155, 3) := dk_180 0 155 (dk_at dksX6_number_0 8 rfl rfl)
theorem dX6_number_11 : decode cX6_number 11 = .ok (.iconst 2, 1) := dk_5 (dk_at dksX6_number_0 11 rfl rfl)
theorem dX6_number_12 : decode cX6_number 12 = .ok (.if_icmp .eq 8, 3) := dk_159 0 8 (dk_at dksX6_number_0 12 rfl rfl)
theorem dX6_number_15 : decode cX6_number 15 = .ok (.aload_n 0, 1) := dk_42 (dk_at dksX6_number_0 15 rfl rfl)
theorem dX6_number_16 : decode cX6_number 16 = .ok (.iconst 2, 1) := dk_5 (dk_at dksX6_number_0 16 rfl rfl)
theorem dX6_number_17 : decode cX6_number 17 = .ok (.invokevirtual 190, 3) := dk_182 0 190 (dk_at dksX6_number_0 17 rfl rfl)
theorem dX6_number_20 : decode cX6_number 20 = .ok (.aload_n 0, 1) := dk_42 (dk_at dksX6_number_0 20 rfl rfl)
theorem dX6_number_21 : decode cX6_number 21 = .ok (.getfield 152, 3) := dk_180 0 152 (dk_at dksX6_number_0 21 rfl rfl)
theorem dX6_number_24 : decode cX6_number 24 = .ok (.istore_n 3, 1) := dk_62 (dk_at dksX6_number_1 0 rfl rfl)
theorem dX6_number_25 : decode cX6_number 25 = .ok (.aload_n 0, 1) := dk_42 (dk_at dksX6_number_1 1 rfl rfl)
theorem dX6_number_26 : decode cX6_number 26 = .ok (.invokevirtual 183, 3) := dk_182 0 183 (dk_at dksX6_number_1 2 rfl rfl)
theorem dX6_number_29 : decode cX6_number 29 = .ok (.ifCond .eq 20, 3) := dk_153 0 20 (dk_at dksX6_number_1 5 rfl rfl)
theorem dX6_number_32 : decode cX6_number 32 = .ok (.iload_n 3, 1) := dk_29 (dk_at dksX6_number_1 8 rfl rfl)
theorem dX6_number_33 : decode cX6_number 33 = .ok (.i2l, 1) := dk_133 (dk_at dksX6_number_1 9 rfl rfl)
theorem dX6_number_34 : decode cX6_number 34 = .ok (.iload_n 1, 1) := dk_27 (dk_at dksX6_number_1 10 rfl rfl)
theorem dX6_number_35 : decode cX6_number 35 = .ok (.i2l, 1) := dk_133 (dk_at dksX6_number_1 11 rfl rfl)
theorem dX6_number_36 : decode cX6_number 36 = .ok (.iload_n 2, 1) := dk_28 (dk_at dksX6_number_1 12 rfl rfl)
theorem dX6_number_37 : decode cX6_number 37 = .ok (.i2l, 1) := dk_133 (dk_at dksX6_number_1 13 rfl rfl)
theorem dX6_number_38 : decode cX6_number 38 = .ok (.invokestatic 131, 3) := dk_184 0 131 (dk_at dksX6_number_1 14 rfl rfl)
theorem dX6_number_41 : decode cX6_number 41 = .ok (.ifCond .ne 8, 3) := dk_154 0 8 (dk_at dksX6_number_1 17 rfl rfl)
theorem dX6_number_44 : decode cX6_number 44 = .ok (.aload_n 0, 1) := dk_42 (dk_at dksX6_number_1 20 rfl rfl)
theorem dX6_number_45 : decode cX6_number 45 = .ok (.iconst 4, 1) := dk_7 (dk_at dksX6_number_1 21 rfl rfl)
theorem dX6_number_46 : decode cX6_number 46 = .ok (.invokevirtual 190, 3) := dk_182 0 190 (dk_at dksX6_number_2 0 rfl rfl)
theorem dX6_number_49 : decode cX6_number 49 = .ok (.aload_n 0, 1) := dk_42 (dk_at dksX6_number_2 3 rfl rfl)
theorem dX6_number_50 : decode cX6_number 50 = .ok (.invokevirtual 183, 3) := dk_182 0 183 (dk_at dksX6_number_2 4 rfl rfl)
theorem dX6_number_53 : decode cX6_number 53 = .ok (.ifCond .eq 7, 3) := dk_153 0 7 (dk_at dksX6_number_2 7 rfl rfl)
theorem dX6_number_56 : decode cX6_number 56 = .ok (.aload_n 0, 1) := dk_42 (dk_at dksX6_number_2 10 rfl rfl)
theorem dX6_number_57 : decode cX6_number 57 = .ok (.invokevirtual 193, 3) := dk_182 0 193 (dk_at dksX6_number_2 11 rfl rfl)
theorem dX6_number_60 : decode cX6_number 60 = .ok (.iload_n 3, 1) := dk_29 (dk_at dksX6_number_2 14 rfl rfl)
theorem dX6_number_61 : decode cX6_number 61 = .ok (.ireturn, 1) := dk_172 (dk_at dksX6_number_2 15 rfl rfl)
abbrev cX6_must : ByteArray := prog_16_method_20_code
def yX6_must : MethodName := ⟨RX6, "must", "(I)V"⟩
def dkwX6_must_1 : List UInt8 := [153, 0, 7, 42, 182, 0, 193, 177]
abbrev dktX6_must_1 : List UInt8 := dkwX6_must_1 ++ []
def dkwX6_must_0 : List UInt8 := [42, 182, 0, 183, 153, 0, 16, 42, 27, 182, 0, 187, 154, 0, 8, 42, 5, 182, 0, 190, 42, 182, 0, 183]
abbrev dktX6_must_0 : List UInt8 := dkwX6_must_0 ++ dktX6_must_1
theorem dksX6_must_0 : cX6_must.data.toList.drop 0 = dktX6_must_0 := by decide +kernel
theorem dksX6_must_1 : cX6_must.data.toList.drop 24 = dktX6_must_1 := dk_seg dksX6_must_0 24 rfl rfl
theorem dX6_must_0 : decode cX6_must 0 = .ok (.aload_n 0, 1) := dk_42 (dk_at dksX6_must_0 0 rfl rfl)
theorem dX6_must_1 : decode cX6_must 1 = .ok (.invokevirtual 183, 3) := dk_182 0 183 (dk_at dksX6_must_0 1 rfl rfl)
theorem dX6_must_4 : decode cX6_must 4 = .ok (.ifCond .eq 16, 3) := dk_153 0 16 (dk_at dksX6_must_0 4 rfl rfl)
theorem dX6_must_7 : decode cX6_must 7 = .ok (.aload_n 0, 1) := dk_42 (dk_at dksX6_must_0 7 rfl rfl)
theorem dX6_must_8 : decode cX6_must 8 = .ok (.iload_n 1, 1) := dk_27 (dk_at dksX6_must_0 8 rfl rfl)
theorem dX6_must_9 : decode cX6_must 9 = .ok (.invokevirtual 187, 3) := dk_182 0 187 (dk_at dksX6_must_0 9 rfl rfl)
theorem dX6_must_12 : decode cX6_must 12 = .ok (.ifCond .ne 8, 3) := dk_154 0 8 (dk_at dksX6_must_0 12 rfl rfl)
theorem dX6_must_15 : decode cX6_must 15 = .ok (.aload_n 0, 1) := dk_42 (dk_at dksX6_must_0 15 rfl rfl)
theorem dX6_must_16 : decode cX6_must 16 = .ok (.iconst 2, 1) := dk_5 (dk_at dksX6_must_0 16 rfl rfl)
theorem dX6_must_17 : decode cX6_must 17 = .ok (.invokevirtual 190, 3) := dk_182 0 190 (dk_at dksX6_must_0 17 rfl rfl)
theorem dX6_must_20 : decode cX6_must 20 = .ok (.aload_n 0, 1) := dk_42 (dk_at dksX6_must_0 20 rfl rfl)
theorem dX6_must_21 : decode cX6_must 21 = .ok (.invokevirtual 183, 3) := dk_182 0 183 (dk_at dksX6_must_0 21 rfl rfl)
theorem dX6_must_24 : decode cX6_must 24 = .ok (.ifCond .eq 7, 3) := dk_153 0 7 (dk_at dksX6_must_1 0 rfl rfl)
theorem dX6_must_27 : decode cX6_must 27 = .ok (.aload_n 0, 1) := dk_42 (dk_at dksX6_must_1 3 rfl rfl)
theorem dX6_must_28 : decode cX6_must 28 = .ok (.invokevirtual 193, 3) := dk_182 0 193 (dk_at dksX6_must_1 4 rfl rfl)
theorem dX6_must_31 : decode cX6_must 31 = .ok (.return_, 1) := dk_177 (dk_at dksX6_must_1 7 rfl rfl)
abbrev cX6_isSignHere : ByteArray := prog_16_method_18_code
def yX6_isSignHere : MethodName := ⟨RX6, "isSignHere", "(I)Z"⟩
def dkwX6_isSignHere_1 : List UInt8 := [167, 0, 4, 3, 172]
abbrev dktX6_isSignHere_1 : List UInt8 := dkwX6_isSignHere_1 ++ []
def dkwX6_isSignHere_0 : List UInt8 := [42, 180, 0, 172, 154, 0, 23, 42, 180, 0, 155, 6, 160, 0, 15, 42, 180, 0, 152, 27, 160, 0, 7, 4]
abbrev dktX6_isSignHere_0 : List UInt8 := dkwX6_isSignHere_0 ++ dktX6_isSignHere_1
theorem dksX6_isSignHere_0 : cX6_isSignHere.data.toList.drop 0 = dktX6_isSignHere_0 := by decide +kernel
theorem dksX6_isSignHere_1 : cX6_isSignHere.data.toList.drop 24 = dktX6_isSignHere_1 := dk_seg dksX6_isSignHere_0 24 rfl rfl
theorem dX6_isSignHere_0 : decode cX6_isSignHere 0 = .ok (.aload_n 0, 1) := dk_42 (dk_at dksX6_isSignHere_0 0 rfl rfl)
theorem dX6_isSignHere_1 : decode cX6_isSignHere 1 = .ok (.getfield 172, 3) := dk_180 0 172 (dk_at dksX6_isSignHere_0 1 rfl rfl)
theorem dX6_isSignHere_4 : decode cX6_isSignHere 4 = .ok (.ifCond .ne 23, 3) := dk_154 0 23 (dk_at dksX6_isSignHere_0 4 rfl rfl)
theorem dX6_isSignHere_7 : decode cX6_isSignHere 7 = .ok (.aload_n 0, 1) := dk_42 (dk_at dksX6_isSignHere_0 7 rfl rfl)
theorem dX6_isSignHere_8 : decode cX6_isSignHere 8 = .ok (.getfield 155, 3) := dk_180 0 155 (dk_at dksX6_isSignHere_0 8 rfl rfl)
theorem dX6_isSignHere_11 : decode cX6_isSignHere 11 = .ok (.iconst 3, 1) := dk_6 (dk_at dksX6_isSignHere_0 11 rfl rfl)
theorem dX6_isSignHere_12 : decode cX6_isSignHere 12 = .ok (.if_icmp .ne 15, 3) := dk_160 0 15 (dk_at dksX6_isSignHere_0 12 rfl rfl)
theorem dX6_isSignHere_15 : decode cX6_isSignHere 15 = .ok (.aload_n 0, 1) := dk_42 (dk_at dksX6_isSignHere_0 15 rfl rfl)
theorem dX6_isSignHere_16 : decode cX6_isSignHere 16 = .ok (.getfield 152, 3) := dk_180 0 152 (dk_at dksX6_isSignHere_0 16 rfl rfl)
theorem dX6_isSignHere_19 : decode cX6_isSignHere 19 = .ok (.iload_n 1, 1) := dk_27 (dk_at dksX6_isSignHere_0 19 rfl rfl)
theorem dX6_isSignHere_20 : decode cX6_isSignHere 20 = .ok (.if_icmp .ne 7, 3) := dk_160 0 7 (dk_at dksX6_isSignHere_0 20 rfl rfl)
theorem dX6_isSignHere_23 : decode cX6_isSignHere 23 = .ok (.iconst 1, 1) := dk_4 (dk_at dksX6_isSignHere_0 23 rfl rfl)
theorem dX6_isSignHere_24 : decode cX6_isSignHere 24 = .ok (.goto 4, 3) := dk_167 0 4 (dk_at dksX6_isSignHere_1 0 rfl rfl)
theorem dX6_isSignHere_27 : decode cX6_isSignHere 27 = .ok (.iconst 0, 1) := dk_3 (dk_at dksX6_isSignHere_1 3 rfl rfl)
theorem dX6_isSignHere_28 : decode cX6_isSignHere 28 = .ok (.ireturn, 1) := dk_172 (dk_at dksX6_isSignHere_1 4 rfl rfl)
abbrev cX6_moveLine : ByteArray := prog_16_method_59_code
def yX6_moveLine : MethodName := ⟨RX6, "moveLine", "()V"⟩
def dkwX6_moveLine_7 : List UInt8 := [182, 0, 226, 154, 0, 9, 42, 8, 27, 182, 0, 168, 177]
abbrev dktX6_moveLine_7 : List UInt8 := dkwX6_moveLine_7 ++ []
def dkwX6_moveLine_6 : List UInt8 := [16, 59, 182, 1, 99, 42, 180, 0, 172, 158, 0, 4, 177, 42, 89, 180, 0, 199, 4, 96, 181, 0, 199, 42]
abbrev dktX6_moveLine_6 : List UInt8 := dkwX6_moveLine_6 ++ dktX6_moveLine_7
def dkwX6_moveLine_5 : List UInt8 := [16, 6, 42, 180, 0, 199, 104, 29, 96, 21, 4, 79, 42, 182, 0, 193, 132, 3, 1, 167, 255, 154, 42]
abbrev dktX6_moveLine_5 : List UInt8 := dkwX6_moveLine_5 ++ dktX6_moveLine_6
def dkwX6_moveLine_4 : List UInt8 := [42, 7, 182, 0, 190, 42, 180, 0, 172, 158, 0, 4, 177, 28, 4, 21, 4, 120, 128, 61, 42, 180, 0, 20]
abbrev dktX6_moveLine_4 : List UInt8 := dkwX6_moveLine_4 ++ dktX6_moveLine_5
def dkwX6_moveLine_3 : List UInt8 := [182, 0, 183, 153, 0, 26, 21, 4, 42, 180, 0, 115, 162, 0, 12, 28, 21, 4, 184, 0, 213, 153, 0, 8]
abbrev dktX6_moveLine_3 : List UInt8 := dkwX6_moveLine_3 ++ dktX6_moveLine_4
def dkwX6_moveLine_2 : List UInt8 := [153, 0, 93, 42, 180, 0, 155, 5, 159, 0, 8, 42, 5, 182, 0, 190, 42, 180, 0, 152, 54, 4, 42]
abbrev dktX6_moveLine_2 : List UInt8 := dkwX6_moveLine_2 ++ dktX6_moveLine_3
def dkwX6_moveLine_1 : List UInt8 := [153, 0, 7, 42, 182, 0, 193, 3, 61, 3, 62, 29, 42, 180, 0, 115, 162, 0, 100, 42, 182, 0, 183]
abbrev dktX6_moveLine_1 : List UInt8 := dkwX6_moveLine_1 ++ dktX6_moveLine_2
def dkwX6_moveLine_0 : List UInt8 := [42, 180, 0, 145, 60, 42, 180, 0, 199, 7, 160, 0, 8, 42, 8, 182, 0, 190, 42, 182, 0, 183]
abbrev dktX6_moveLine_0 : List UInt8 := dkwX6_moveLine_0 ++ dktX6_moveLine_1
theorem dksX6_moveLine_0 : cX6_moveLine.data.toList.drop 0 = dktX6_moveLine_0 := by decide +kernel
theorem dksX6_moveLine_1 : cX6_moveLine.data.toList.drop 22 = dktX6_moveLine_1 := dk_seg dksX6_moveLine_0 22 rfl rfl
theorem dksX6_moveLine_2 : cX6_moveLine.data.toList.drop 45 = dktX6_moveLine_2 := dk_seg dksX6_moveLine_1 23 rfl rfl
theorem dksX6_moveLine_3 : cX6_moveLine.data.toList.drop 68 = dktX6_moveLine_3 := dk_seg dksX6_moveLine_2 23 rfl rfl
theorem dksX6_moveLine_4 : cX6_moveLine.data.toList.drop 92 = dktX6_moveLine_4 := dk_seg dksX6_moveLine_3 24 rfl rfl
theorem dksX6_moveLine_5 : cX6_moveLine.data.toList.drop 116 = dktX6_moveLine_5 := dk_seg dksX6_moveLine_4 24 rfl rfl
theorem dksX6_moveLine_6 : cX6_moveLine.data.toList.drop 139 = dktX6_moveLine_6 := dk_seg dksX6_moveLine_5 23 rfl rfl
theorem dksX6_moveLine_7 : cX6_moveLine.data.toList.drop 163 = dktX6_moveLine_7 := dk_seg dksX6_moveLine_6 24 rfl rfl
theorem dX6_moveLine_0 : decode cX6_moveLine 0 = .ok (.aload_n 0, 1) := dk_42 (dk_at dksX6_moveLine_0 0 rfl rfl)
theorem dX6_moveLine_1 : decode cX6_moveLine 1 = .ok (.getfield 145, 3) := dk_180 0 145 (dk_at dksX6_moveLine_0 1 rfl rfl)
theorem dX6_moveLine_4 : decode cX6_moveLine 4 = .ok (.istore_n 1, 1) := dk_60 (dk_at dksX6_moveLine_0 4 rfl rfl)
theorem dX6_moveLine_5 : decode cX6_moveLine 5 = .ok (.aload_n 0, 1) := dk_42 (dk_at dksX6_moveLine_0 5 rfl rfl)
theorem dX6_moveLine_6 : decode cX6_moveLine 6 = .ok (.getfield 199, 3) := dk_180 0 199 (dk_at dksX6_moveLine_0 6 rfl rfl)
theorem dX6_moveLine_9 : decode cX6_moveLine 9 = .ok (.iconst 4, 1) := dk_7 (dk_at dksX6_moveLine_0 9 rfl rfl)
theorem dX6_moveLine_10 : decode cX6_moveLine 10 = .ok (.if_icmp .ne 8, 3) := dk_160 0 8 (dk_at dksX6_moveLine_0 10 rfl rfl)
theorem dX6_moveLine_13 : decode cX6_moveLine 13 = .ok (.aload_n 0, 1) := dk_42 (dk_at dksX6_moveLine_0 13 rfl rfl)
theorem dX6_moveLine_14 : decode cX6_moveLine 14 = .ok (.iconst 5, 1) := dk_8 (dk_at dksX6_moveLine_0 14 rfl rfl)
theorem dX6_moveLine_15 : decode cX6_moveLine 15 = .ok (.invokevirtual 190, 3) := dk_182 0 190 (dk_at dksX6_moveLine_0 15 rfl rfl)
theorem dX6_moveLine_18 : decode cX6_moveLine 18 = .ok (.aload_n 0, 1) := dk_42 (dk_at dksX6_moveLine_0 18 rfl rfl)
theorem dX6_moveLine_19 : decode cX6_moveLine 19 = .ok (.invokevirtual 183, 3) := dk_182 0 183 (dk_at dksX6_moveLine_0 19 rfl rfl)
theorem dX6_moveLine_22 : decode cX6_moveLine 22 = .ok (.ifCond .eq 7, 3) := dk_153 0 7 (dk_at dksX6_moveLine_1 0 rfl rfl)
theorem dX6_moveLine_25 : decode cX6_moveLine 25 = .ok (.aload_n 0, 1) := dk_42 (dk_at dksX6_moveLine_1 3 rfl rfl)
theorem dX6_moveLine_26 : decode cX6_moveLine 26 = .ok (.invokevirtual 193, 3) := dk_182 0 193 (dk_at dksX6_moveLine_1 4 rfl rfl)
theorem dX6_moveLine_29 : decode cX6_moveLine 29 = .ok (.iconst 0, 1) := dk_3 (dk_at dksX6_moveLine_1 7 rfl rfl)
theorem dX6_moveLine_30 : decode cX6_moveLine 30 = .ok (.istore_n 2, 1) := dk_61 (dk_at dksX6_moveLine_1 8 rfl rfl)
theorem dX6_moveLine_31 : decode cX6_moveLine 31 = .ok (.iconst 0, 1) := dk_3 (dk_at dksX6_moveLine_1 9 rfl rfl)
theorem dX6_moveLine_32 : decode cX6_moveLine 32 = .ok (.istore_n 3, 1) := dk_62 (dk_at dksX6_moveLine_1 10 rfl rfl)
theorem dX6_moveLine_33 : decode cX6_moveLine 33 = .ok (.iload_n 3, 1) := dk_29 (dk_at dksX6_moveLine_1 11 rfl rfl)
theorem dX6_moveLine_34 : decode cX6_moveLine 34 = .ok (.aload_n 0, 1) := dk_42 (dk_at dksX6_moveLine_1 12 rfl rfl)
theorem dX6_moveLine_35 : decode cX6_moveLine 35 = .ok (.getfield 115, 3) := dk_180 0 115 (dk_at dksX6_moveLine_1 13 rfl rfl)
theorem dX6_moveLine_38 : decode cX6_moveLine 38 = .ok (.if_icmp .ge 100, 3) := dk_162 0 100 (dk_at dksX6_moveLine_1 16 rfl rfl)
theorem dX6_moveLine_41 : decode cX6_moveLine 41 = .ok (.aload_n 0, 1) := dk_42 (dk_at dksX6_moveLine_1 19 rfl rfl)
theorem dX6_moveLine_42 : decode cX6_moveLine 42 = .ok (.invokevirtual 183, 3) := dk_182 0 183 (dk_at dksX6_moveLine_1 20 rfl rfl)
theorem dX6_moveLine_45 : decode cX6_moveLine 45 = .ok (.ifCond .eq 93, 3) := dk_153 0 93 (dk_at dksX6_moveLine_2 0 rfl rfl)
theorem dX6_moveLine_48 : decode cX6_moveLine 48 = .ok (.aload_n 0, 1) := dk_42 (dk_at dksX6_moveLine_2 3 rfl rfl)
theorem dX6_moveLine_49 : decode cX6_moveLine 49 = .ok (.getfield 155, 3) := dk_180 0 155 (dk_at dksX6_moveLine_2 4 rfl rfl)
theorem dX6_moveLine_52 : decode cX6_moveLine 52 = .ok (.iconst 2, 1) := dk_5 (dk_at dksX6_moveLine_2 7 rfl rfl)
theorem dX6_moveLine_53 : decode cX6_moveLine 53 = .ok (.if_icmp .eq 8, 3) := dk_159 0 8 (dk_at dksX6_moveLine_2 8 rfl rfl)
theorem dX6_moveLine_56 : decode cX6_moveLine 56 = .ok (.aload_n 0, 1) := dk_42 (dk_at dksX6_moveLine_2 11 rfl rfl)
theorem dX6_moveLine_57 : decode cX6_moveLine 57 = .ok (.iconst 2, 1) := dk_5 (dk_at dksX6_moveLine_2 12 rfl rfl)
theorem dX6_moveLine_58 : decode cX6_moveLine 58 = .ok (.invokevirtual 190, 3) := dk_182 0 190 (dk_at dksX6_moveLine_2 13 rfl rfl)
theorem dX6_moveLine_61 : decode cX6_moveLine 61 = .ok (.aload_n 0, 1) := dk_42 (dk_at dksX6_moveLine_2 16 rfl rfl)
theorem dX6_moveLine_62 : decode cX6_moveLine 62 = .ok (.getfield 152, 3) := dk_180 0 152 (dk_at dksX6_moveLine_2 17 rfl rfl)
theorem dX6_moveLine_65 : decode cX6_moveLine 65 = .ok (.istore 4, 2) := dk_54 4 (dk_at dksX6_moveLine_2 20 rfl rfl)
theorem dX6_moveLine_67 : decode cX6_moveLine 67 = .ok (.aload_n 0, 1) := dk_42 (dk_at dksX6_moveLine_2 22 rfl rfl)
theorem dX6_moveLine_68 : decode cX6_moveLine 68 = .ok (.invokevirtual 183, 3) := dk_182 0 183 (dk_at dksX6_moveLine_3 0 rfl rfl)
theorem dX6_moveLine_71 : decode cX6_moveLine 71 = .ok (.ifCond .eq 26, 3) := dk_153 0 26 (dk_at dksX6_moveLine_3 3 rfl rfl)
theorem dX6_moveLine_74 : decode cX6_moveLine 74 = .ok (.iload 4, 2) := dk_21 4 (dk_at dksX6_moveLine_3 6 rfl rfl)
theorem dX6_moveLine_76 : decode cX6_moveLine 76 = .ok (.aload_n 0, 1) := dk_42 (dk_at dksX6_moveLine_3 8 rfl rfl)
theorem dX6_moveLine_77 : decode cX6_moveLine 77 = .ok (.getfield 115, 3) := dk_180 0 115 (dk_at dksX6_moveLine_3 9 rfl rfl)
theorem dX6_moveLine_80 : decode cX6_moveLine 80 = .ok (.if_icmp .ge 12, 3) := dk_162 0 12 (dk_at dksX6_moveLine_3 12 rfl rfl)
theorem dX6_moveLine_83 : decode cX6_moveLine 83 = .ok (.iload_n 2, 1) := dk_28 (dk_at dksX6_moveLine_3 15 rfl rfl)
theorem dX6_moveLine_84 : decode cX6_moveLine 84 = .ok (.iload 4, 2) := dk_21 4 (dk_at dksX6_moveLine_3 16 rfl rfl)
theorem dX6_moveLine_86 : decode cX6_moveLine 86 = .ok (.invokestatic 213, 3) := dk_184 0 213 (dk_at dksX6_moveLine_3 18 rfl rfl)
theorem dX6_moveLine_89 : decode cX6_moveLine 89 = .ok (.ifCond .eq 8, 3) := dk_153 0 8 (dk_at dksX6_moveLine_3 21 rfl rfl)
theorem dX6_moveLine_92 : decode cX6_moveLine 92 = .ok (.aload_n 0, 1) := dk_42 (dk_at dksX6_moveLine_4 0 rfl rfl)
theorem dX6_moveLine_93 : decode cX6_moveLine 93 = .ok (.iconst 4, 1) := dk_7 (dk_at dksX6_moveLine_4 1 rfl rfl)
theorem dX6_moveLine_94 : decode cX6_moveLine 94 = .ok (.invokevirtual 190, 3) := dk_182 0 190 (dk_at dksX6_moveLine_4 2 rfl rfl)
theorem dX6_moveLine_97 : decode cX6_moveLine 97 = .ok (.aload_n 0, 1) := dk_42 (dk_at dksX6_moveLine_4 5 rfl rfl)
theorem dX6_moveLine_98 : decode cX6_moveLine 98 = .ok (.getfield 172, 3) := dk_180 0 172 (dk_at dksX6_moveLine_4 6 rfl rfl)
theorem dX6_moveLine_101 : decode cX6_moveLine 101 = .ok (.ifCond .le 4, 3) := dk_158 0 4 (dk_at dksX6_moveLine_4 9 rfl rfl)
theorem dX6_moveLine_104 : decode cX6_moveLine 104 = .ok (.return_, 1) := dk_177 (dk_at dksX6_moveLine_4 12 rfl rfl)
theorem dX6_moveLine_105 : decode cX6_moveLine 105 = .ok (.iload_n 2, 1) := dk_28 (dk_at dksX6_moveLine_4 13 rfl rfl)
theorem dX6_moveLine_106 : decode cX6_moveLine 106 = .ok (.iconst 1, 1) := dk_4 (dk_at dksX6_moveLine_4 14 rfl rfl)
theorem dX6_moveLine_107 : decode cX6_moveLine 107 = .ok (.iload 4, 2) := dk_21 4 (dk_at dksX6_moveLine_4 15 rfl rfl)
theorem dX6_moveLine_109 : decode cX6_moveLine 109 = .ok (.ishl, 1) := dk_120 (dk_at dksX6_moveLine_4 17 rfl rfl)
theorem dX6_moveLine_110 : decode cX6_moveLine 110 = .ok (.ior, 1) := dk_128 (dk_at dksX6_moveLine_4 18 rfl rfl)
theorem dX6_moveLine_111 : decode cX6_moveLine 111 = .ok (.istore_n 2, 1) := dk_61 (dk_at dksX6_moveLine_4 19 rfl rfl)
theorem dX6_moveLine_112 : decode cX6_moveLine 112 = .ok (.aload_n 0, 1) := dk_42 (dk_at dksX6_moveLine_4 20 rfl rfl)
theorem dX6_moveLine_113 : decode cX6_moveLine 113 = .ok (.getfield 20, 3) := dk_180 0 20 (dk_at dksX6_moveLine_4 21 rfl rfl)
theorem dX6_moveLine_116 : decode cX6_moveLine 116 = .ok (.bipush 6, 2) := dk_16 6 (dk_at dksX6_moveLine_5 0 rfl rfl)
theorem dX6_moveLine_118 : decode cX6_moveLine 118 = .ok (.aload_n 0, 1) := dk_42 (dk_at dksX6_moveLine_5 2 rfl rfl)
theorem dX6_moveLine_119 : decode cX6_moveLine 119 = .ok (.getfield 199, 3) := dk_180 0 199 (dk_at dksX6_moveLine_5 3 rfl rfl)
theorem dX6_moveLine_122 : decode cX6_moveLine 122 = .ok (.imul, 1) := dk_104 (dk_at dksX6_moveLine_5 6 rfl rfl)
theorem dX6_moveLine_123 : decode cX6_moveLine 123 = .ok (.iload_n 3, 1) := dk_29 (dk_at dksX6_moveLine_5 7 rfl rfl)
theorem dX6_moveLine_124 : decode cX6_moveLine 124 = .ok (.iadd, 1) := dk_96 (dk_at dksX6_moveLine_5 8 rfl rfl)
theorem dX6_moveLine_125 : decode cX6_moveLine 125 = .ok (.iload 4, 2) := dk_21 4 (dk_at dksX6_moveLine_5 9 rfl rfl)
theorem dX6_moveLine_127 : decode cX6_moveLine 127 = .ok (.iastore, 1) := dk_79 (dk_at dksX6_moveLine_5 11 rfl rfl)
theorem dX6_moveLine_128 : decode cX6_moveLine 128 = .ok (.aload_n 0, 1) := dk_42 (dk_at dksX6_moveLine_5 12 rfl rfl)
theorem dX6_moveLine_129 : decode cX6_moveLine 129 = .ok (.invokevirtual 193, 3) := dk_182 0 193 (dk_at dksX6_moveLine_5 13 rfl rfl)
theorem dX6_moveLine_132 : decode cX6_moveLine 132 = .ok (.iinc 3 1, 3) := dk_132 3 1 (dk_at dksX6_moveLine_5 16 rfl rfl)
theorem dX6_moveLine_135 : decode cX6_moveLine 135 = .ok (.goto (-102), 3) := dk_167 255 154 (dk_at dksX6_moveLine_5 19 rfl rfl)
theorem dX6_moveLine_138 : decode cX6_moveLine 138 = .ok (.aload_n 0, 1) := dk_42 (dk_at dksX6_moveLine_5 22 rfl rfl)
theorem dX6_moveLine_139 : decode cX6_moveLine 139 = .ok (.bipush 59, 2) := dk_16 59 (dk_at dksX6_moveLine_6 0 rfl rfl)
theorem dX6_moveLine_141 : decode cX6_moveLine 141 = .ok (.invokevirtual 355, 3) := dk_182 1 99 (dk_at dksX6_moveLine_6 2 rfl rfl)
theorem dX6_moveLine_144 : decode cX6_moveLine 144 = .ok (.aload_n 0, 1) := dk_42 (dk_at dksX6_moveLine_6 5 rfl rfl)
theorem dX6_moveLine_145 : decode cX6_moveLine 145 = .ok (.getfield 172, 3) := dk_180 0 172 (dk_at dksX6_moveLine_6 6 rfl rfl)
theorem dX6_moveLine_148 : decode cX6_moveLine 148 = .ok (.ifCond .le 4, 3) := dk_158 0 4 (dk_at dksX6_moveLine_6 9 rfl rfl)
theorem dX6_moveLine_151 : decode cX6_moveLine 151 = .ok (.return_, 1) := dk_177 (dk_at dksX6_moveLine_6 12 rfl rfl)
theorem dX6_moveLine_152 : decode cX6_moveLine 152 = .ok (.aload_n 0, 1) := dk_42 (dk_at dksX6_moveLine_6 13 rfl rfl)
theorem dX6_moveLine_153 : decode cX6_moveLine 153 = .ok (.dup, 1) := dk_89 (dk_at dksX6_moveLine_6 14 rfl rfl)
theorem dX6_moveLine_154 : decode cX6_moveLine 154 = .ok (.getfield 199, 3) := dk_180 0 199 (dk_at dksX6_moveLine_6 15 rfl rfl)
theorem dX6_moveLine_157 : decode cX6_moveLine 157 = .ok (.iconst 1, 1) := dk_4 (dk_at dksX6_moveLine_6 18 rfl rfl)
theorem dX6_moveLine_158 : decode cX6_moveLine 158 = .ok (.iadd, 1) := dk_96 (dk_at dksX6_moveLine_6 19 rfl rfl)
theorem dX6_moveLine_159 : decode cX6_moveLine 159 = .ok (.putfield 199, 3) := dk_181 0 199 (dk_at dksX6_moveLine_6 20 rfl rfl)
theorem dX6_moveLine_162 : decode cX6_moveLine 162 = .ok (.aload_n 0, 1) := dk_42 (dk_at dksX6_moveLine_6 23 rfl rfl)
theorem dX6_moveLine_163 : decode cX6_moveLine 163 = .ok (.invokevirtual 226, 3) := dk_182 0 226 (dk_at dksX6_moveLine_7 0 rfl rfl)
theorem dX6_moveLine_166 : decode cX6_moveLine 166 = .ok (.ifCond .ne 9, 3) := dk_154 0 9 (dk_at dksX6_moveLine_7 3 rfl rfl)
theorem dX6_moveLine_169 : decode cX6_moveLine 169 = .ok (.aload_n 0, 1) := dk_42 (dk_at dksX6_moveLine_7 6 rfl rfl)
theorem dX6_moveLine_170 : decode cX6_moveLine 170 = .ok (.iconst 5, 1) := dk_8 (dk_at dksX6_moveLine_7 7 rfl rfl)
theorem dX6_moveLine_171 : decode cX6_moveLine 171 = .ok (.iload_n 1, 1) := dk_27 (dk_at dksX6_moveLine_7 8 rfl rfl)
theorem dX6_moveLine_172 : decode cX6_moveLine 172 = .ok (.invokevirtual 168, 3) := dk_182 0 168 (dk_at dksX6_moveLine_7 9 rfl rfl)
theorem dX6_moveLine_175 : decode cX6_moveLine 175 = .ok (.return_, 1) := dk_177 (dk_at dksX6_moveLine_7 12 rfl rfl)
abbrev cX6_letLine : ByteArray := prog_16_method_60_code
def yX6_letLine : MethodName := ⟨RX6, "letLine", "()V"⟩
def dkwX6_letLine_8 : List UInt8 := [181, 1, 43, 177]
abbrev dktX6_letLine_8 : List UInt8 := dkwX6_letLine_8 ++ []
def dkwX6_letLine_7 : List UInt8 := [21, 4, 96, 42, 180, 0, 56, 21, 4, 47, 80, 132, 4, 1, 167, 255, 222, 42, 89, 180, 1, 43, 4, 96]
abbrev dktX6_letLine_7 : List UInt8 := dkwX6_letLine_7 ++ dktX6_letLine_8
def dkwX6_letLine_6 : List UInt8 := [3, 54, 4, 21, 4, 42, 180, 0, 235, 162, 0, 31, 42, 180, 0, 78, 16, 64, 42, 180, 1, 43, 104]
abbrev dktX6_letLine_6 : List UInt8 := dkwX6_letLine_6 ++ dktX6_letLine_7
def dkwX6_letLine_5 : List UInt8 := [16, 6, 27, 182, 0, 168, 42, 180, 0, 172, 158, 0, 4, 177, 42, 180, 0, 75, 42, 180, 1, 43, 32, 80]
abbrev dktX6_letLine_5 : List UInt8 := dkwX6_letLine_5 ++ dktX6_letLine_6
def dkwX6_letLine_4 : List UInt8 := [182, 1, 102, 42, 16, 59, 182, 1, 99, 42, 182, 0, 183, 153, 0, 17, 42, 180, 1, 19, 153, 0, 10, 42]
abbrev dktX6_letLine_4 : List UInt8 := dkwX6_letLine_4 ++ dktX6_letLine_5
def dkwX6_letLine_3 : List UInt8 := [180, 0, 172, 158, 0, 4, 177, 42, 180, 0, 148, 65, 42, 182, 0, 193, 42, 16, 61, 182, 1, 99, 42]
abbrev dktX6_letLine_3 : List UInt8 := dkwX6_letLine_3 ++ dktX6_letLine_4
def dkwX6_letLine_2 : List UInt8 := [182, 0, 190, 42, 182, 0, 183, 153, 0, 16, 42, 182, 1, 63, 2, 159, 0, 8, 42, 6, 182, 0, 190, 42]
abbrev dktX6_letLine_2 : List UInt8 := dkwX6_letLine_2 ++ dktX6_letLine_3
def dkwX6_letLine_1 : List UInt8 := [153, 0, 7, 42, 182, 0, 193, 42, 182, 0, 183, 153, 0, 15, 42, 182, 1, 60, 154, 0, 8, 42, 5]
abbrev dktX6_letLine_1 : List UInt8 := dkwX6_letLine_1 ++ dktX6_letLine_2
def dkwX6_letLine_0 : List UInt8 := [42, 180, 0, 145, 60, 42, 180, 1, 43, 16, 8, 160, 0, 8, 42, 8, 182, 0, 190, 42, 182, 0, 183]
abbrev dktX6_letLine_0 : List UInt8 := dkwX6_letLine_0 ++ dktX6_letLine_1
theorem dksX6_letLine_0 : cX6_letLine.data.toList.drop 0 = dktX6_letLine_0 := by decide +kernel
theorem dksX6_letLine_1 : cX6_letLine.data.toList.drop 23 = dktX6_letLine_1 := dk_seg dksX6_letLine_0 23 rfl rfl
theorem dksX6_letLine_2 : cX6_letLine.data.toList.drop 46 = dktX6_letLine_2 := dk_seg dksX6_letLine_1 23 rfl rfl
theorem dksX6_letLine_3 : cX6_letLine.data.toList.drop 70 = dktX6_letLine_3 := dk_seg dksX6_letLine_2 24 rfl rfl
theorem dksX6_letLine_4 : cX6_letLine.data.toList.drop 93 = dktX6_letLine_4 := dk_seg dksX6_letLine_3 23 rfl rfl
theorem dksX6_letLine_5 : cX6_letLine.data.toList.drop 117 = dktX6_letLine_5 := dk_seg dksX6_letLine_4 24 rfl rfl
theorem dksX6_letLine_6 : cX6_letLine.data.toList.drop 141 = dktX6_letLine_6 := dk_seg dksX6_letLine_5 24 rfl rfl
theorem dksX6_letLine_7 : cX6_letLine.data.toList.drop 164 = dktX6_letLine_7 := dk_seg dksX6_letLine_6 23 rfl rfl
theorem dksX6_letLine_8 : cX6_letLine.data.toList.drop 188 = dktX6_letLine_8 := dk_seg dksX6_letLine_7 24 rfl rfl
theorem dX6_letLine_0 : decode cX6_letLine 0 = .ok (.aload_n 0, 1) := dk_42 (dk_at dksX6_letLine_0 0 rfl rfl)
theorem dX6_letLine_1 : decode cX6_letLine 1 = .ok (.getfield 145, 3) := dk_180 0 145 (dk_at dksX6_letLine_0 1 rfl rfl)
theorem dX6_letLine_4 : decode cX6_letLine 4 = .ok (.istore_n 1, 1) := dk_60 (dk_at dksX6_letLine_0 4 rfl rfl)
theorem dX6_letLine_5 : decode cX6_letLine 5 = .ok (.aload_n 0, 1) := dk_42 (dk_at dksX6_letLine_0 5 rfl rfl)
theorem dX6_letLine_6 : decode cX6_letLine 6 = .ok (.getfield 299, 3) := dk_180 1 43 (dk_at dksX6_letLine_0 6 rfl rfl)
theorem dX6_letLine_9 : decode cX6_letLine 9 = .ok (.bipush 8, 2) := dk_16 8 (dk_at dksX6_letLine_0 9 rfl rfl)
theorem dX6_letLine_11 : decode cX6_letLine 11 = .ok (.if_icmp .ne 8, 3) := dk_160 0 8 (dk_at dksX6_letLine_0 11 rfl rfl)
theorem dX6_letLine_14 : decode cX6_letLine 14 = .ok (.aload_n 0, 1) := dk_42 (dk_at dksX6_letLine_0 14 rfl rfl)
theorem dX6_letLine_15 : decode cX6_letLine 15 = .ok (.iconst 5, 1) := dk_8 (dk_at dksX6_letLine_0 15 rfl rfl)
theorem dX6_letLine_16 : decode cX6_letLine 16 = .ok (.invokevirtual 190, 3) := dk_182 0 190 (dk_at dksX6_letLine_0 16 rfl rfl)
theorem dX6_letLine_19 : decode cX6_letLine 19 = .ok (.aload_n 0, 1) := dk_42 (dk_at dksX6_letLine_0 19 rfl rfl)
theorem dX6_letLine_20 : decode cX6_letLine 20 = .ok (.invokevirtual 183, 3) := dk_182 0 183 (dk_at dksX6_letLine_0 20 rfl rfl)
theorem dX6_letLine_23 : decode cX6_letLine 23 = .ok (.ifCond .eq 7, 3) := dk_153 0 7 (dk_at dksX6_letLine_1 0 rfl rfl)
theorem dX6_letLine_26 : decode cX6_letLine 26 = .ok (.aload_n 0, 1) := dk_42 (dk_at dksX6_letLine_1 3 rfl rfl)
theorem dX6_letLine_27 : decode cX6_letLine 27 = .ok (.invokevirtual 193, 3) := dk_182 0 193 (dk_at dksX6_letLine_1 4 rfl rfl)
theorem dX6_letLine_30 : decode cX6_letLine 30 = .ok (.aload_n 0, 1) := dk_42 (dk_at dksX6_letLine_1 7 rfl rfl)
theorem dX6_letLine_31 : decode cX6_letLine 31 = .ok (.invokevirtual 183, 3) := dk_182 0 183 (dk_at dksX6_letLine_1 8 rfl rfl)
theorem dX6_letLine_34 : decode cX6_letLine 34 = .ok (.ifCond .eq 15, 3) := dk_153 0 15 (dk_at dksX6_letLine_1 11 rfl rfl)
theorem dX6_letLine_37 : decode cX6_letLine 37 = .ok (.aload_n 0, 1) := dk_42 (dk_at dksX6_letLine_1 14 rfl rfl)
theorem dX6_letLine_38 : decode cX6_letLine 38 = .ok (.invokevirtual 316, 3) := dk_182 1 60 (dk_at dksX6_letLine_1 15 rfl rfl)
theorem dX6_letLine_41 : decode cX6_letLine 41 = .ok (.ifCond .ne 8, 3) := dk_154 0 8 (dk_at dksX6_letLine_1 18 rfl rfl)
theorem dX6_letLine_44 : decode cX6_letLine 44 = .ok (.aload_n 0, 1) := dk_42 (dk_at dksX6_letLine_1 21 rfl rfl)
theorem dX6_letLine_45 : decode cX6_letLine 45 = .ok (.iconst 2, 1) := dk_5 (dk_at dksX6_letLine_1 22 rfl rfl)
theorem dX6_letLine_46 : decode cX6_letLine 46 = .ok (.invokevirtual 190, 3) := dk_182 0 190 (dk_at dksX6_letLine_2 0 rfl rfl)
theorem dX6_letLine_49 : decode cX6_letLine 49 = .ok (.aload_n 0, 1) := dk_42 (dk_at dksX6_letLine_2 3 rfl rfl)
theorem dX6_letLine_50 : decode cX6_letLine 50 = .ok (.invokevirtual 183, 3) := dk_182 0 183 (dk_at dksX6_letLine_2 4 rfl rfl)
theorem dX6_letLine_53 : decode cX6_letLine 53 = .ok (.ifCond .eq 16, 3) := dk_153 0 16 (dk_at dksX6_letLine_2 7 rfl rfl)
theorem dX6_letLine_56 : decode cX6_letLine 56 = .ok (.aload_n 0, 1) := dk_42 (dk_at dksX6_letLine_2 10 rfl rfl)
theorem dX6_letLine_57 : decode cX6_letLine 57 = .ok (.invokevirtual 319, 3) := dk_182 1 63 (dk_at dksX6_letLine_2 11 rfl rfl)
theorem dX6_letLine_60 : decode cX6_letLine 60 = .ok (.iconst (-1), 1) := dk_2 (dk_at dksX6_letLine_2 14 rfl rfl)
theorem dX6_letLine_61 : decode cX6_letLine 61 = .ok (.if_icmp .eq 8, 3) := dk_159 0 8 (dk_at dksX6_letLine_2 15 rfl rfl)
theorem dX6_letLine_64 : decode cX6_letLine 64 = .ok (.aload_n 0, 1) := dk_42 (dk_at dksX6_letLine_2 18 rfl rfl)
theorem dX6_letLine_65 : decode cX6_letLine 65 = .ok (.iconst 3, 1) := dk_6 (dk_at dksX6_letLine_2 19 rfl rfl)
theorem dX6_letLine_66 : decode cX6_letLine 66 = .ok (.invokevirtual 190, 3) := dk_182 0 190 (dk_at dksX6_letLine_2 20 rfl rfl)
theorem dX6_letLine_69 : decode cX6_letLine 69 = .ok (.aload_n 0, 1) := dk_42 (dk_at dksX6_letLine_2 23 rfl rfl)
theorem dX6_letLine_70 : decode cX6_letLine 70 = .ok (.getfield 172, 3) := dk_180 0 172 (dk_at dksX6_letLine_3 0 rfl rfl)
theorem dX6_letLine_73 : decode cX6_letLine 73 = .ok (.ifCond .le 4, 3) := dk_158 0 4 (dk_at dksX6_letLine_3 3 rfl rfl)
theorem dX6_letLine_76 : decode cX6_letLine 76 = .ok (.return_, 1) := dk_177 (dk_at dksX6_letLine_3 6 rfl rfl)
theorem dX6_letLine_77 : decode cX6_letLine 77 = .ok (.aload_n 0, 1) := dk_42 (dk_at dksX6_letLine_3 7 rfl rfl)
theorem dX6_letLine_78 : decode cX6_letLine 78 = .ok (.getfield 148, 3) := dk_180 0 148 (dk_at dksX6_letLine_3 8 rfl rfl)
theorem dX6_letLine_81 : decode cX6_letLine 81 = .ok (.lstore_n 2, 1) := dk_65 (dk_at dksX6_letLine_3 11 rfl rfl)
theorem dX6_letLine_82 : decode cX6_letLine 82 = .ok (.aload_n 0, 1) := dk_42 (dk_at dksX6_letLine_3 12 rfl rfl)
theorem dX6_letLine_83 : decode cX6_letLine 83 = .ok (.invokevirtual 193, 3) := dk_182 0 193 (dk_at dksX6_letLine_3 13 rfl rfl)
theorem dX6_letLine_86 : decode cX6_letLine 86 = .ok (.aload_n 0, 1) := dk_42 (dk_at dksX6_letLine_3 16 rfl rfl)
theorem dX6_letLine_87 : decode cX6_letLine 87 = .ok (.bipush 61, 2) := dk_16 61 (dk_at dksX6_letLine_3 17 rfl rfl)
theorem dX6_letLine_89 : decode cX6_letLine 89 = .ok (.invokevirtual 355, 3) := dk_182 1 99 (dk_at dksX6_letLine_3 19 rfl rfl)
theorem dX6_letLine_92 : decode cX6_letLine 92 = .ok (.aload_n 0, 1) := dk_42 (dk_at dksX6_letLine_3 22 rfl rfl)
theorem dX6_letLine_93 : decode cX6_letLine 93 = .ok (.invokevirtual 358, 3) := dk_182 1 102 (dk_at dksX6_letLine_4 0 rfl rfl)
theorem dX6_letLine_96 : decode cX6_letLine 96 = .ok (.aload_n 0, 1) := dk_42 (dk_at dksX6_letLine_4 3 rfl rfl)
theorem dX6_letLine_97 : decode cX6_letLine 97 = .ok (.bipush 59, 2) := dk_16 59 (dk_at dksX6_letLine_4 4 rfl rfl)
theorem dX6_letLine_99 : decode cX6_letLine 99 = .ok (.invokevirtual 355, 3) := dk_182 1 99 (dk_at dksX6_letLine_4 6 rfl rfl)
theorem dX6_letLine_102 : decode cX6_letLine 102 = .ok (.aload_n 0, 1) := dk_42 (dk_at dksX6_letLine_4 9 rfl rfl)
theorem dX6_letLine_103 : decode cX6_letLine 103 = .ok (.invokevirtual 183, 3) := dk_182 0 183 (dk_at dksX6_letLine_4 10 rfl rfl)
theorem dX6_letLine_106 : decode cX6_letLine 106 = .ok (.ifCond .eq 17, 3) := dk_153 0 17 (dk_at dksX6_letLine_4 13 rfl rfl)
theorem dX6_letLine_109 : decode cX6_letLine 109 = .ok (.aload_n 0, 1) := dk_42 (dk_at dksX6_letLine_4 16 rfl rfl)
theorem dX6_letLine_110 : decode cX6_letLine 110 = .ok (.getfield 275, 3) := dk_180 1 19 (dk_at dksX6_letLine_4 17 rfl rfl)
theorem dX6_letLine_113 : decode cX6_letLine 113 = .ok (.ifCond .eq 10, 3) := dk_153 0 10 (dk_at dksX6_letLine_4 20 rfl rfl)
theorem dX6_letLine_116 : decode cX6_letLine 116 = .ok (.aload_n 0, 1) := dk_42 (dk_at dksX6_letLine_4 23 rfl rfl)
theorem dX6_letLine_117 : decode cX6_letLine 117 = .ok (.bipush 6, 2) := dk_16 6 (dk_at dksX6_letLine_5 0 rfl rfl)
theorem dX6_letLine_119 : decode cX6_letLine 119 = .ok (.iload_n 1, 1) := dk_27 (dk_at dksX6_letLine_5 2 rfl rfl)
theorem dX6_letLine_120 : decode cX6_letLine 120 = .ok (.invokevirtual 168, 3) := dk_182 0 168 (dk_at dksX6_letLine_5 3 rfl rfl)
theorem dX6_letLine_123 : decode cX6_letLine 123 = .ok (.aload_n 0, 1) := dk_42 (dk_at dksX6_letLine_5 6 rfl rfl)
theorem dX6_letLine_124 : decode cX6_letLine 124 = .ok (.getfield 172, 3) := dk_180 0 172 (dk_at dksX6_letLine_5 7 rfl rfl)
theorem dX6_letLine_127 : decode cX6_letLine 127 = .ok (.ifCond .le 4, 3) := dk_158 0 4 (dk_at dksX6_letLine_5 10 rfl rfl)
theorem dX6_letLine_130 : decode cX6_letLine 130 = .ok (.return_, 1) := dk_177 (dk_at dksX6_letLine_5 13 rfl rfl)
theorem dX6_letLine_131 : decode cX6_letLine 131 = .ok (.aload_n 0, 1) := dk_42 (dk_at dksX6_letLine_5 14 rfl rfl)
theorem dX6_letLine_132 : decode cX6_letLine 132 = .ok (.getfield 75, 3) := dk_180 0 75 (dk_at dksX6_letLine_5 15 rfl rfl)
theorem dX6_letLine_135 : decode cX6_letLine 135 = .ok (.aload_n 0, 1) := dk_42 (dk_at dksX6_letLine_5 18 rfl rfl)
theorem dX6_letLine_136 : decode cX6_letLine 136 = .ok (.getfield 299, 3) := dk_180 1 43 (dk_at dksX6_letLine_5 19 rfl rfl)
theorem dX6_letLine_139 : decode cX6_letLine 139 = .ok (.lload_n 2, 1) := dk_32 (dk_at dksX6_letLine_5 22 rfl rfl)
theorem dX6_letLine_140 : decode cX6_letLine 140 = .ok (.lastore, 1) := dk_80 (dk_at dksX6_letLine_5 23 rfl rfl)
theorem dX6_letLine_141 : decode cX6_letLine 141 = .ok (.iconst 0, 1) := dk_3 (dk_at dksX6_letLine_6 0 rfl rfl)
theorem dX6_letLine_142 : decode cX6_letLine 142 = .ok (.istore 4, 2) := dk_54 4 (dk_at dksX6_letLine_6 1 rfl rfl)
theorem dX6_letLine_144 : decode cX6_letLine 144 = .ok (.iload 4, 2) := dk_21 4 (dk_at dksX6_letLine_6 3 rfl rfl)
theorem dX6_letLine_146 : decode cX6_letLine 146 = .ok (.aload_n 0, 1) := dk_42 (dk_at dksX6_letLine_6 5 rfl rfl)
theorem dX6_letLine_147 : decode cX6_letLine 147 = .ok (.getfield 235, 3) := dk_180 0 235 (dk_at dksX6_letLine_6 6 rfl rfl)
theorem dX6_letLine_150 : decode cX6_letLine 150 = .ok (.if_icmp .ge 31, 3) := dk_162 0 31 (dk_at dksX6_letLine_6 9 rfl rfl)
theorem dX6_letLine_153 : decode cX6_letLine 153 = .ok (.aload_n 0, 1) := dk_42 (dk_at dksX6_letLine_6 12 rfl rfl)
theorem dX6_letLine_154 : decode cX6_letLine 154 = .ok (.getfield 78, 3) := dk_180 0 78 (dk_at dksX6_letLine_6 13 rfl rfl)
theorem dX6_letLine_157 : decode cX6_letLine 157 = .ok (.bipush 64, 2) := dk_16 64 (dk_at dksX6_letLine_6 16 rfl rfl)
theorem dX6_letLine_159 : decode cX6_letLine 159 = .ok (.aload_n 0, 1) := dk_42 (dk_at dksX6_letLine_6 18 rfl rfl)
theorem dX6_letLine_160 : decode cX6_letLine 160 = .ok (.getfield 299, 3) := dk_180 1 43 (dk_at dksX6_letLine_6 19 rfl rfl)
theorem dX6_letLine_163 : decode cX6_letLine 163 = .ok (.imul, 1) := dk_104 (dk_at dksX6_letLine_6 22 rfl rfl)
theorem dX6_letLine_164 : decode cX6_letLine 164 = .ok (.iload 4, 2) := dk_21 4 (dk_at dksX6_letLine_7 0 rfl rfl)
theorem dX6_letLine_166 : decode cX6_letLine 166 = .ok (.iadd, 1) := dk_96 (dk_at dksX6_letLine_7 2 rfl rfl)
theorem dX6_letLine_167 : decode cX6_letLine 167 = .ok (.aload_n 0, 1) := dk_42 (dk_at dksX6_letLine_7 3 rfl rfl)
theorem dX6_letLine_168 : decode cX6_letLine 168 = .ok (.getfield 56, 3) := dk_180 0 56 (dk_at dksX6_letLine_7 4 rfl rfl)
theorem dX6_letLine_171 : decode cX6_letLine 171 = .ok (.iload 4, 2) := dk_21 4 (dk_at dksX6_letLine_7 7 rfl rfl)
theorem dX6_letLine_173 : decode cX6_letLine 173 = .ok (.laload, 1) := dk_47 (dk_at dksX6_letLine_7 9 rfl rfl)
theorem dX6_letLine_174 : decode cX6_letLine 174 = .ok (.lastore, 1) := dk_80 (dk_at dksX6_letLine_7 10 rfl rfl)
theorem dX6_letLine_175 : decode cX6_letLine 175 = .ok (.iinc 4 1, 3) := dk_132 4 1 (dk_at dksX6_letLine_7 11 rfl rfl)
theorem dX6_letLine_178 : decode cX6_letLine 178 = .ok (.goto (-34), 3) := dk_167 255 222 (dk_at dksX6_letLine_7 14 rfl rfl)
theorem dX6_letLine_181 : decode cX6_letLine 181 = .ok (.aload_n 0, 1) := dk_42 (dk_at dksX6_letLine_7 17 rfl rfl)
theorem dX6_letLine_182 : decode cX6_letLine 182 = .ok (.dup, 1) := dk_89 (dk_at dksX6_letLine_7 18 rfl rfl)
theorem dX6_letLine_183 : decode cX6_letLine 183 = .ok (.getfield 299, 3) := dk_180 1 43 (dk_at dksX6_letLine_7 19 rfl rfl)
theorem dX6_letLine_186 : decode cX6_letLine 186 = .ok (.iconst 1, 1) := dk_4 (dk_at dksX6_letLine_7 22 rfl rfl)
theorem dX6_letLine_187 : decode cX6_letLine 187 = .ok (.iadd, 1) := dk_96 (dk_at dksX6_letLine_7 23 rfl rfl)
theorem dX6_letLine_188 : decode cX6_letLine 188 = .ok (.putfield 299, 3) := dk_181 1 43 (dk_at dksX6_letLine_8 0 rfl rfl)
theorem dX6_letLine_191 : decode cX6_letLine 191 = .ok (.return_, 1) := dk_177 (dk_at dksX6_letLine_8 3 rfl rfl)
abbrev cX6_isName : ByteArray := prog_16_method_19_code
def yX6_isName : MethodName := ⟨RX6, "isName", "()Z"⟩
def dkwX6_isName_2 : List UInt8 := [20, 0, 181, 148, 153, 0, 7, 4, 167, 0, 4, 3, 172]
abbrev dktX6_isName_2 : List UInt8 := dkwX6_isName_2 ++ []
def dkwX6_isName_1 : List UInt8 := [20, 0, 177, 148, 153, 0, 29, 42, 180, 0, 148, 20, 0, 179, 148, 153, 0, 18, 42, 180, 0, 148]
abbrev dktX6_isName_1 : List UInt8 := dkwX6_isName_1 ++ dktX6_isName_2
def dkwX6_isName_0 : List UInt8 := [42, 180, 0, 155, 4, 160, 0, 51, 42, 180, 0, 148, 20, 0, 175, 148, 153, 0, 40, 42, 180, 0, 148]
abbrev dktX6_isName_0 : List UInt8 := dkwX6_isName_0 ++ dktX6_isName_1
theorem dksX6_isName_0 : cX6_isName.data.toList.drop 0 = dktX6_isName_0 := by decide +kernel
theorem dksX6_isName_1 : cX6_isName.data.toList.drop 23 = dktX6_isName_1 := dk_seg dksX6_isName_0 23 rfl rfl
theorem dksX6_isName_2 : cX6_isName.data.toList.drop 45 = dktX6_isName_2 := dk_seg dksX6_isName_1 22 rfl rfl
theorem dX6_isName_0 : decode cX6_isName 0 = .ok (.aload_n 0, 1) := dk_42 (dk_at dksX6_isName_0 0 rfl rfl)
theorem dX6_isName_1 : decode cX6_isName 1 = .ok (.getfield 155, 3) := dk_180 0 155 (dk_at dksX6_isName_0 1 rfl rfl)
theorem dX6_isName_4 : decode cX6_isName 4 = .ok (.iconst 1, 1) := dk_4 (dk_at dksX6_isName_0 4 rfl rfl)
theorem dX6_isName_5 : decode cX6_isName 5 = .ok (.if_icmp .ne 51, 3) := dk_160 0 51 (dk_at dksX6_isName_0 5 rfl rfl)
theorem dX6_isName_8 : decode cX6_isName 8 = .ok (.aload_n 0, 1) := dk_42 (dk_at dksX6_isName_0 8 rfl rfl)
theorem dX6_isName_9 : decode cX6_isName 9 = .ok (.getfield 148, 3) := dk_180 0 148 (dk_at dksX6_isName_0 9 rfl rfl)
theorem dX6_isName_12 : decode cX6_isName 12 = .ok (.ldc2_w 175, 3) := dk_20 0 175 (dk_at dksX6_isName_0 12 rfl rfl)
theorem dX6_isName_15 : decode cX6_isName 15 = .ok (.lcmp, 1) := dk_148 (dk_at dksX6_isName_0 15 rfl rfl)
theorem dX6_isName_16 : decode cX6_isName 16 = .ok (.ifCond .eq 40, 3) := dk_153 0 40 (dk_at dksX6_isName_0 16 rfl rfl)
theorem dX6_isName_19 : decode cX6_isName 19 = .ok (.aload_n 0, 1) := dk_42 (dk_at dksX6_isName_0 19 rfl rfl)
theorem dX6_isName_20 : decode cX6_isName 20 = .ok (.getfield 148, 3) := dk_180 0 148 (dk_at dksX6_isName_0 20 rfl rfl)
theorem dX6_isName_23 : decode cX6_isName 23 = .ok (.ldc2_w 177, 3) := dk_20 0 177 (dk_at dksX6_isName_1 0 rfl rfl)
theorem dX6_isName_26 : decode cX6_isName 26 = .ok (.lcmp, 1) := dk_148 (dk_at dksX6_isName_1 3 rfl rfl)
theorem dX6_isName_27 : decode cX6_isName 27 = .ok (.ifCond .eq 29, 3) := dk_153 0 29 (dk_at dksX6_isName_1 4 rfl rfl)
theorem dX6_isName_30 : decode cX6_isName 30 = .ok (.aload_n 0, 1) := dk_42 (dk_at dksX6_isName_1 7 rfl rfl)
theorem dX6_isName_31 : decode cX6_isName 31 = .ok (.getfield 148, 3) := dk_180 0 148 (dk_at dksX6_isName_1 8 rfl rfl)
theorem dX6_isName_34 : decode cX6_isName 34 = .ok (.ldc2_w 179, 3) := dk_20 0 179 (dk_at dksX6_isName_1 11 rfl rfl)
theorem dX6_isName_37 : decode cX6_isName 37 = .ok (.lcmp, 1) := dk_148 (dk_at dksX6_isName_1 14 rfl rfl)
theorem dX6_isName_38 : decode cX6_isName 38 = .ok (.ifCond .eq 18, 3) := dk_153 0 18 (dk_at dksX6_isName_1 15 rfl rfl)
theorem dX6_isName_41 : decode cX6_isName 41 = .ok (.aload_n 0, 1) := dk_42 (dk_at dksX6_isName_1 18 rfl rfl)
theorem dX6_isName_42 : decode cX6_isName 42 = .ok (.getfield 148, 3) := dk_180 0 148 (dk_at dksX6_isName_1 19 rfl rfl)
theorem dX6_isName_45 : decode cX6_isName 45 = .ok (.ldc2_w 181, 3) := dk_20 0 181 (dk_at dksX6_isName_2 0 rfl rfl)
theorem dX6_isName_48 : decode cX6_isName 48 = .ok (.lcmp, 1) := dk_148 (dk_at dksX6_isName_2 3 rfl rfl)
theorem dX6_isName_49 : decode cX6_isName 49 = .ok (.ifCond .eq 7, 3) := dk_153 0 7 (dk_at dksX6_isName_2 4 rfl rfl)
theorem dX6_isName_52 : decode cX6_isName 52 = .ok (.iconst 1, 1) := dk_4 (dk_at dksX6_isName_2 7 rfl rfl)
theorem dX6_isName_53 : decode cX6_isName 53 = .ok (.goto 4, 3) := dk_167 0 4 (dk_at dksX6_isName_2 8 rfl rfl)
theorem dX6_isName_56 : decode cX6_isName 56 = .ok (.iconst 0, 1) := dk_3 (dk_at dksX6_isName_2 11 rfl rfl)
theorem dX6_isName_57 : decode cX6_isName 57 = .ok (.ireturn, 1) := dk_172 (dk_at dksX6_isName_2 12 rfl rfl)
abbrev cX6_nameAt : ByteArray := prog_16_method_51_code
def yX6_nameAt : MethodName := ⟨RX6, "nameAt", "()I"⟩
def dkwX6_nameAt_1 : List UInt8 := [27, 172, 132, 1, 1, 167, 255, 229, 2, 172]
abbrev dktX6_nameAt_1 : List UInt8 := dkwX6_nameAt_1 ++ []
def dkwX6_nameAt_0 : List UInt8 := [3, 60, 27, 42, 180, 1, 43, 162, 0, 25, 42, 180, 0, 75, 27, 47, 42, 180, 0, 148, 148, 154, 0, 5]
abbrev dktX6_nameAt_0 : List UInt8 := dkwX6_nameAt_0 ++ dktX6_nameAt_1
theorem dksX6_nameAt_0 : cX6_nameAt.data.toList.drop 0 = dktX6_nameAt_0 := by decide +kernel
theorem dksX6_nameAt_1 : cX6_nameAt.data.toList.drop 24 = dktX6_nameAt_1 := dk_seg dksX6_nameAt_0 24 rfl rfl
theorem dX6_nameAt_0 : decode cX6_nameAt 0 = .ok (.iconst 0, 1) := dk_3 (dk_at dksX6_nameAt_0 0 rfl rfl)
theorem dX6_nameAt_1 : decode cX6_nameAt 1 = .ok (.istore_n 1, 1) := dk_60 (dk_at dksX6_nameAt_0 1 rfl rfl)
theorem dX6_nameAt_2 : decode cX6_nameAt 2 = .ok (.iload_n 1, 1) := dk_27 (dk_at dksX6_nameAt_0 2 rfl rfl)
theorem dX6_nameAt_3 : decode cX6_nameAt 3 = .ok (.aload_n 0, 1) := dk_42 (dk_at dksX6_nameAt_0 3 rfl rfl)
theorem dX6_nameAt_4 : decode cX6_nameAt 4 = .ok (.getfield 299, 3) := dk_180 1 43 (dk_at dksX6_nameAt_0 4 rfl rfl)
theorem dX6_nameAt_7 : decode cX6_nameAt 7 = .ok (.if_icmp .ge 25, 3) := dk_162 0 25 (dk_at dksX6_nameAt_0 7 rfl rfl)
theorem dX6_nameAt_10 : decode cX6_nameAt 10 = .ok (.aload_n 0, 1) := dk_42 (dk_at dksX6_nameAt_0 10 rfl rfl)
theorem dX6_nameAt_11 : decode cX6_nameAt 11 = .ok (.getfield 75, 3) := dk_180 0 75 (dk_at dksX6_nameAt_0 11 rfl rfl)
theorem dX6_nameAt_14 : decode cX6_nameAt 14 = .ok (.iload_n 1, 1) := dk_27 (dk_at dksX6_nameAt_0 14 rfl rfl)
theorem dX6_nameAt_15 : decode cX6_nameAt 15 = .ok (.laload, 1) := dk_47 (dk_at dksX6_nameAt_0 15 rfl rfl)
theorem dX6_nameAt_16 : decode cX6_nameAt 16 = .ok (.aload_n 0, 1) := dk_42 (dk_at dksX6_nameAt_0 16 rfl rfl)
theorem dX6_nameAt_17 : decode cX6_nameAt 17 = .ok (.getfield 148, 3) := dk_180 0 148 (dk_at dksX6_nameAt_0 17 rfl rfl)
theorem dX6_nameAt_20 : decode cX6_nameAt 20 = .ok (.lcmp, 1) := dk_148 (dk_at dksX6_nameAt_0 20 rfl rfl)
theorem dX6_nameAt_21 : decode cX6_nameAt 21 = .ok (.ifCond .ne 5, 3) := dk_154 0 5 (dk_at dksX6_nameAt_0 21 rfl rfl)
theorem dX6_nameAt_24 : decode cX6_nameAt 24 = .ok (.iload_n 1, 1) := dk_27 (dk_at dksX6_nameAt_1 0 rfl rfl)
theorem dX6_nameAt_25 : decode cX6_nameAt 25 = .ok (.ireturn, 1) := dk_172 (dk_at dksX6_nameAt_1 1 rfl rfl)
theorem dX6_nameAt_26 : decode cX6_nameAt 26 = .ok (.iinc 1 1, 3) := dk_132 1 1 (dk_at dksX6_nameAt_1 2 rfl rfl)
theorem dX6_nameAt_29 : decode cX6_nameAt 29 = .ok (.goto (-27), 3) := dk_167 255 229 (dk_at dksX6_nameAt_1 5 rfl rfl)
theorem dX6_nameAt_32 : decode cX6_nameAt 32 = .ok (.iconst (-1), 1) := dk_2 (dk_at dksX6_nameAt_1 8 rfl rfl)
theorem dX6_nameAt_33 : decode cX6_nameAt 33 = .ok (.ireturn, 1) := dk_172 (dk_at dksX6_nameAt_1 9 rfl rfl)
abbrev cX6_formula : ByteArray := prog_16_method_58_code
def yX6_formula : MethodName := ⟨RX6, "formula", "()V"⟩
def dkwX6_formula_8 : List UInt8 := [182, 0, 190, 42, 182, 0, 183, 153, 0, 8, 42, 5, 182, 1, 81, 177]
abbrev dktX6_formula_8 : List UInt8 := dkwX6_formula_8 ++ []
def dkwX6_formula_7 : List UInt8 := [167, 0, 4, 3, 60, 167, 255, 176, 42, 182, 0, 183, 153, 0, 15, 42, 182, 1, 96, 153, 0, 8, 42, 5]
abbrev dktX6_formula_7 : List UInt8 := dkwX6_formula_7 ++ dktX6_formula_8
def dkwX6_formula_6 : List UInt8 := [42, 182, 0, 193, 42, 182, 1, 90, 42, 182, 0, 183, 153, 0, 14, 42, 182, 1, 93, 153, 0, 7, 4]
abbrev dktX6_formula_6 : List UInt8 := dkwX6_formula_6 ++ dktX6_formula_7
def dkwX6_formula_5 : List UInt8 := [5, 182, 1, 81, 42, 89, 180, 1, 49, 4, 100, 181, 1, 49, 42, 89, 180, 1, 40, 4, 100, 181, 1, 40]
abbrev dktX6_formula_5 : List UInt8 := dkwX6_formula_5 ++ dktX6_formula_6
def dkwX6_formula_4 : List UInt8 := [153, 255, 191, 27, 154, 255, 187, 42, 16, 41, 182, 0, 187, 153, 255, 178, 42, 182, 1, 96, 153, 255, 171, 42]
abbrev dktX6_formula_4 : List UInt8 := dkwX6_formula_4 ++ dktX6_formula_5
def dkwX6_formula_3 : List UInt8 := [182, 0, 183, 153, 0, 14, 42, 182, 1, 93, 153, 0, 7, 4, 167, 0, 4, 3, 60, 42, 182, 0, 183]
abbrev dktX6_formula_3 : List UInt8 := dkwX6_formula_3 ++ dktX6_formula_4
def dkwX6_formula_2 : List UInt8 := [182, 1, 87, 154, 0, 8, 4, 60, 167, 255, 240, 42, 182, 0, 183, 153, 0, 7, 42, 182, 1, 90, 42]
abbrev dktX6_formula_2 : List UInt8 := dkwX6_formula_2 ++ dktX6_formula_3
def dkwX6_formula_1 : List UInt8 := [181, 1, 19, 4, 60, 42, 182, 0, 183, 153, 0, 140, 27, 153, 0, 136, 42, 182, 0, 183, 153, 0, 15, 42]
abbrev dktX6_formula_1 : List UInt8 := dkwX6_formula_1 ++ dktX6_formula_2
def dkwX6_formula_0 : List UInt8 := [42, 3, 181, 1, 12, 42, 3, 181, 1, 49, 42, 3, 181, 1, 40, 42, 3, 181, 1, 37, 42, 3]
abbrev dktX6_formula_0 : List UInt8 := dkwX6_formula_0 ++ dktX6_formula_1
theorem dksX6_formula_0 : cX6_formula.data.toList.drop 0 = dktX6_formula_0 := by decide +kernel
theorem dksX6_formula_1 : cX6_formula.data.toList.drop 22 = dktX6_formula_1 := dk_seg dksX6_formula_0 22 rfl rfl
theorem dksX6_formula_2 : cX6_formula.data.toList.drop 46 = dktX6_formula_2 := dk_seg dksX6_formula_1 24 rfl rfl
theorem dksX6_formula_3 : cX6_formula.data.toList.drop 69 = dktX6_formula_3 := dk_seg dksX6_formula_2 23 rfl rfl
theorem dksX6_formula_4 : cX6_formula.data.toList.drop 92 = dktX6_formula_4 := dk_seg dksX6_formula_3 23 rfl rfl
theorem dksX6_formula_5 : cX6_formula.data.toList.drop 116 = dktX6_formula_5 := dk_seg dksX6_formula_4 24 rfl rfl
theorem dksX6_formula_6 : cX6_formula.data.toList.drop 140 = dktX6_formula_6 := dk_seg dksX6_formula_5 24 rfl rfl
theorem dksX6_formula_7 : cX6_formula.data.toList.drop 163 = dktX6_formula_7 := dk_seg dksX6_formula_6 23 rfl rfl
theorem dksX6_formula_8 : cX6_formula.data.toList.drop 187 = dktX6_formula_8 := dk_seg dksX6_formula_7 24 rfl rfl
theorem dX6_formula_0 : decode cX6_formula 0 = .ok (.aload_n 0, 1) := dk_42 (dk_at dksX6_formula_0 0 rfl rfl)
theorem dX6_formula_1 : decode cX6_formula 1 = .ok (.iconst 0, 1) := dk_3 (dk_at dksX6_formula_0 1 rfl rfl)
theorem dX6_formula_2 : decode cX6_formula 2 = .ok (.putfield 268, 3) := dk_181 1 12 (dk_at dksX6_formula_0 2 rfl rfl)
theorem dX6_formula_5 : decode cX6_formula 5 = .ok (.aload_n 0, 1) := dk_42 (dk_at dksX6_formula_0 5 rfl rfl)
theorem dX6_formula_6 : decode cX6_formula 6 = .ok (.iconst 0, 1) := dk_3 (dk_at dksX6_formula_0 6 rfl rfl)
theorem dX6_formula_7 : decode cX6_formula 7 = .ok (.putfield 305, 3) := dk_181 1 49 (dk_at dksX6_formula_0 7 rfl rfl)
theorem dX6_formula_10 : decode cX6_formula 10 = .ok (.aload_n 0, 1) := dk_42 (dk_at dksX6_formula_0 10 rfl rfl)
theorem dX6_formula_11 : decode cX6_formula 11 = .ok (.iconst 0, 1) := dk_3 (dk_at dksX6_formula_0 11 rfl rfl)
theorem dX6_formula_12 : decode cX6_formula 12 = .ok (.putfield 296, 3) := dk_181 1 40 (dk_at dksX6_formula_0 12 rfl rfl)
theorem dX6_formula_15 : decode cX6_formula 15 = .ok (.aload_n 0, 1) := dk_42 (dk_at dksX6_formula_0 15 rfl rfl)
theorem dX6_formula_16 : decode cX6_formula 16 = .ok (.iconst 0, 1) := dk_3 (dk_at dksX6_formula_0 16 rfl rfl)
theorem dX6_formula_17 : decode cX6_formula 17 = .ok (.putfield 293, 3) := dk_181 1 37 (dk_at dksX6_formula_0 17 rfl rfl)
theorem dX6_formula_20 : decode cX6_formula 20 = .ok (.aload_n 0, 1) := dk_42 (dk_at dksX6_formula_0 20 rfl rfl)
theorem dX6_formula_21 : decode cX6_formula 21 = .ok (.iconst 0, 1) := dk_3 (dk_at dksX6_formula_0 21 rfl rfl)
theorem dX6_formula_22 : decode cX6_formula 22 = .ok (.putfield 275, 3) := dk_181 1 19 (dk_at dksX6_formula_1 0 rfl rfl)
theorem dX6_formula_25 : decode cX6_formula 25 = .ok (.iconst 1, 1) := dk_4 (dk_at dksX6_formula_1 3 rfl rfl)
theorem dX6_formula_26 : decode cX6_formula 26 = .ok (.istore_n 1, 1) := dk_60 (dk_at dksX6_formula_1 4 rfl rfl)
theorem dX6_formula_27 : decode cX6_formula 27 = .ok (.aload_n 0, 1) := dk_42 (dk_at dksX6_formula_1 5 rfl rfl)
theorem dX6_formula_28 : decode cX6_formula 28 = .ok (.invokevirtual 183, 3) := dk_182 0 183 (dk_at dksX6_formula_1 6 rfl rfl)
theorem dX6_formula_31 : decode cX6_formula 31 = .ok (.ifCond .eq 140, 3) := dk_153 0 140 (dk_at dksX6_formula_1 9 rfl rfl)
theorem dX6_formula_34 : decode cX6_formula 34 = .ok (.iload_n 1, 1) := dk_27 (dk_at dksX6_formula_1 12 rfl rfl)
theorem dX6_formula_35 : decode cX6_formula 35 = .ok (.ifCond .eq 136, 3) := dk_153 0 136 (dk_at dksX6_formula_1 13 rfl rfl)
theorem dX6_formula_38 : decode cX6_formula 38 = .ok (.aload_n 0, 1) := dk_42 (dk_at dksX6_formula_1 16 rfl rfl)
theorem dX6_formula_39 : decode cX6_formula 39 = .ok (.invokevirtual 183, 3) := dk_182 0 183 (dk_at dksX6_formula_1 17 rfl rfl)
theorem dX6_formula_42 : decode cX6_formula 42 = .ok (.ifCond .eq 15, 3) := dk_153 0 15 (dk_at dksX6_formula_1 20 rfl rfl)
theorem dX6_formula_45 : decode cX6_formula 45 = .ok (.aload_n 0, 1) := dk_42 (dk_at dksX6_formula_1 23 rfl rfl)
theorem dX6_formula_46 : decode cX6_formula 46 = .ok (.invokevirtual 343, 3) := dk_182 1 87 (dk_at dksX6_formula_2 0 rfl rfl)
theorem dX6_formula_49 : decode cX6_formula 49 = .ok (.ifCond .ne 8, 3) := dk_154 0 8 (dk_at dksX6_formula_2 3 rfl rfl)
theorem dX6_formula_52 : decode cX6_formula 52 = .ok (.iconst 1, 1) := dk_4 (dk_at dksX6_formula_2 6 rfl rfl)
theorem dX6_formula_53 : decode cX6_formula 53 = .ok (.istore_n 1, 1) := dk_60 (dk_at dksX6_formula_2 7 rfl rfl)
theorem dX6_formula_54 : decode cX6_formula 54 = .ok (.goto (-16), 3) := dk_167 255 240 (dk_at dksX6_formula_2 8 rfl rfl)
theorem dX6_formula_57 : decode cX6_formula 57 = .ok (.aload_n 0, 1) := dk_42 (dk_at dksX6_formula_2 11 rfl rfl)
theorem dX6_formula_58 : decode cX6_formula 58 = .ok (.invokevirtual 183, 3) := dk_182 0 183 (dk_at dksX6_formula_2 12 rfl rfl)
theorem dX6_formula_61 : decode cX6_formula 61 = .ok (.ifCond .eq 7, 3) := dk_153 0 7 (dk_at dksX6_formula_2 15 rfl rfl)
theorem dX6_formula_64 : decode cX6_formula 64 = .ok (.aload_n 0, 1) := dk_42 (dk_at dksX6_formula_2 18 rfl rfl)
theorem dX6_formula_65 : decode cX6_formula 65 = .ok (.invokevirtual 346, 3) := dk_182 1 90 (dk_at dksX6_formula_2 19 rfl rfl)
theorem dX6_formula_68 : decode cX6_formula 68 = .ok (.aload_n 0, 1) := dk_42 (dk_at dksX6_formula_2 22 rfl rfl)
theorem dX6_formula_69 : decode cX6_formula 69 = .ok (.invokevirtual 183, 3) := dk_182 0 183 (dk_at dksX6_formula_3 0 rfl rfl)
theorem dX6_formula_72 : decode cX6_formula 72 = .ok (.ifCond .eq 14, 3) := dk_153 0 14 (dk_at dksX6_formula_3 3 rfl rfl)
theorem dX6_formula_75 : decode cX6_formula 75 = .ok (.aload_n 0, 1) := dk_42 (dk_at dksX6_formula_3 6 rfl rfl)
theorem dX6_formula_76 : decode cX6_formula 76 = .ok (.invokevirtual 349, 3) := dk_182 1 93 (dk_at dksX6_formula_3 7 rfl rfl)
theorem dX6_formula_79 : decode cX6_formula 79 = .ok (.ifCond .eq 7, 3) := dk_153 0 7 (dk_at dksX6_formula_3 10 rfl rfl)
theorem dX6_formula_82 : decode cX6_formula 82 = .ok (.iconst 1, 1) := dk_4 (dk_at dksX6_formula_3 13 rfl rfl)
theorem dX6_formula_83 : decode cX6_formula 83 = .ok (.goto 4, 3) := dk_167 0 4 (dk_at dksX6_formula_3 14 rfl rfl)
theorem dX6_formula_86 : decode cX6_formula 86 = .ok (.iconst 0, 1) := dk_3 (dk_at dksX6_formula_3 17 rfl rfl)
theorem dX6_formula_87 : decode cX6_formula 87 = .ok (.istore_n 1, 1) := dk_60 (dk_at dksX6_formula_3 18 rfl rfl)
theorem dX6_formula_88 : decode cX6_formula 88 = .ok (.aload_n 0, 1) := dk_42 (dk_at dksX6_formula_3 19 rfl rfl)
theorem dX6_formula_89 : decode cX6_formula 89 = .ok (.invokevirtual 183, 3) := dk_182 0 183 (dk_at dksX6_formula_3 20 rfl rfl)
theorem dX6_formula_92 : decode cX6_formula 92 = .ok (.ifCond .eq (-65), 3) := dk_153 255 191 (dk_at dksX6_formula_4 0 rfl rfl)
theorem dX6_formula_95 : decode cX6_formula 95 = .ok (.iload_n 1, 1) := dk_27 (dk_at dksX6_formula_4 3 rfl rfl)
theorem dX6_formula_96 : decode cX6_formula 96 = .ok (.ifCond .ne (-69), 3) := dk_154 255 187 (dk_at dksX6_formula_4 4 rfl rfl)
theorem dX6_formula_99 : decode cX6_formula 99 = .ok (.aload_n 0, 1) := dk_42 (dk_at dksX6_formula_4 7 rfl rfl)
theorem dX6_formula_100 : decode cX6_formula 100 = .ok (.bipush 41, 2) := dk_16 41 (dk_at dksX6_formula_4 8 rfl rfl)
theorem dX6_formula_102 : decode cX6_formula 102 = .ok (.invokevirtual 187, 3) := dk_182 0 187 (dk_at dksX6_formula_4 10 rfl rfl)
theorem dX6_formula_105 : decode cX6_formula 105 = .ok (.ifCond .eq (-78), 3) := dk_153 255 178 (dk_at dksX6_formula_4 13 rfl rfl)
theorem dX6_formula_108 : decode cX6_formula 108 = .ok (.aload_n 0, 1) := dk_42 (dk_at dksX6_formula_4 16 rfl rfl)
theorem dX6_formula_109 : decode cX6_formula 109 = .ok (.invokevirtual 352, 3) := dk_182 1 96 (dk_at dksX6_formula_4 17 rfl rfl)
theorem dX6_formula_112 : decode cX6_formula 112 = .ok (.ifCond .eq (-85), 3) := dk_153 255 171 (dk_at dksX6_formula_4 20 rfl rfl)
theorem dX6_formula_115 : decode cX6_formula 115 = .ok (.aload_n 0, 1) := dk_42 (dk_at dksX6_formula_4 23 rfl rfl)
theorem dX6_formula_116 : decode cX6_formula 116 = .ok (.iconst 2, 1) := dk_5 (dk_at dksX6_formula_5 0 rfl rfl)
theorem dX6_formula_117 : decode cX6_formula 117 = .ok (.invokevirtual 337, 3) := dk_182 1 81 (dk_at dksX6_formula_5 1 rfl rfl)
theorem dX6_formula_120 : decode cX6_formula 120 = .ok (.aload_n 0, 1) := dk_42 (dk_at dksX6_formula_5 4 rfl rfl)
theorem dX6_formula_121 : decode cX6_formula 121 = .ok (.dup, 1) := dk_89 (dk_at dksX6_formula_5 5 rfl rfl)
theorem dX6_formula_122 : decode cX6_formula 122 = .ok (.getfield 305, 3) := dk_180 1 49 (dk_at dksX6_formula_5 6 rfl rfl)
theorem dX6_formula_125 : decode cX6_formula 125 = .ok (.iconst 1, 1) := dk_4 (dk_at dksX6_formula_5 9 rfl rfl)
theorem dX6_formula_126 : decode cX6_formula 126 = .ok (.isub, 1) := dk_100 (dk_at dksX6_formula_5 10 rfl rfl)
theorem dX6_formula_127 : decode cX6_formula 127 = .ok (.putfield 305, 3) := dk_181 1 49 (dk_at dksX6_formula_5 11 rfl rfl)
theorem dX6_formula_130 : decode cX6_formula 130 = .ok (.aload_n 0, 1) := dk_42 (dk_at dksX6_formula_5 14 rfl rfl)
theorem dX6_formula_131 : decode cX6_formula 131 = .ok (.dup, 1) := dk_89 (dk_at dksX6_formula_5 15 rfl rfl)
theorem dX6_formula_132 : decode cX6_formula 132 = .ok (.getfield 296, 3) := dk_180 1 40 (dk_at dksX6_formula_5 16 rfl rfl)
theorem dX6_formula_135 : decode cX6_formula 135 = .ok (.iconst 1, 1) := dk_4 (dk_at dksX6_formula_5 19 rfl rfl)
theorem dX6_formula_136 : decode cX6_formula 136 = .ok (.isub, 1) := dk_100 (dk_at dksX6_formula_5 20 rfl rfl)
theorem dX6_formula_137 : decode cX6_formula 137 = .ok (.putfield 296, 3) := dk_181 1 40 (dk_at dksX6_formula_5 21 rfl rfl)
theorem dX6_formula_140 : decode cX6_formula 140 = .ok (.aload_n 0, 1) := dk_42 (dk_at dksX6_formula_6 0 rfl rfl)
theorem dX6_formula_141 : decode cX6_formula 141 = .ok (.invokevirtual 193, 3) := dk_182 0 193 (dk_at dksX6_formula_6 1 rfl rfl)
theorem dX6_formula_144 : decode cX6_formula 144 = .ok (.aload_n 0, 1) := dk_42 (dk_at dksX6_formula_6 4 rfl rfl)
theorem dX6_formula_145 : decode cX6_formula 145 = .ok (.invokevirtual 346, 3) := dk_182 1 90 (dk_at dksX6_formula_6 5 rfl rfl)
theorem dX6_formula_148 : decode cX6_formula 148 = .ok (.aload_n 0, 1) := dk_42 (dk_at dksX6_formula_6 8 rfl rfl)
theorem dX6_formula_149 : decode cX6_formula 149 = .ok (.invokevirtual 183, 3) := dk_182 0 183 (dk_at dksX6_formula_6 9 rfl rfl)
theorem dX6_formula_152 : decode cX6_formula 152 = .ok (.ifCond .eq 14, 3) := dk_153 0 14 (dk_at dksX6_formula_6 12 rfl rfl)
theorem dX6_formula_155 : decode cX6_formula 155 = .ok (.aload_n 0, 1) := dk_42 (dk_at dksX6_formula_6 15 rfl rfl)
theorem dX6_formula_156 : decode cX6_formula 156 = .ok (.invokevirtual 349, 3) := dk_182 1 93 (dk_at dksX6_formula_6 16 rfl rfl)
theorem dX6_formula_159 : decode cX6_formula 159 = .ok (.ifCond .eq 7, 3) := dk_153 0 7 (dk_at dksX6_formula_6 19 rfl rfl)
theorem dX6_formula_162 : decode cX6_formula 162 = .ok (.iconst 1, 1) := dk_4 (dk_at dksX6_formula_6 22 rfl rfl)
theorem dX6_formula_163 : decode cX6_formula 163 = .ok (.goto 4, 3) := dk_167 0 4 (dk_at dksX6_formula_7 0 rfl rfl)
theorem dX6_formula_166 : decode cX6_formula 166 = .ok (.iconst 0, 1) := dk_3 (dk_at dksX6_formula_7 3 rfl rfl)
theorem dX6_formula_167 : decode cX6_formula 167 = .ok (.istore_n 1, 1) := dk_60 (dk_at dksX6_formula_7 4 rfl rfl)
theorem dX6_formula_168 : decode cX6_formula 168 = .ok (.goto (-80), 3) := dk_167 255 176 (dk_at dksX6_formula_7 5 rfl rfl)
theorem dX6_formula_171 : decode cX6_formula 171 = .ok (.aload_n 0, 1) := dk_42 (dk_at dksX6_formula_7 8 rfl rfl)
theorem dX6_formula_172 : decode cX6_formula 172 = .ok (.invokevirtual 183, 3) := dk_182 0 183 (dk_at dksX6_formula_7 9 rfl rfl)
theorem dX6_formula_175 : decode cX6_formula 175 = .ok (.ifCond .eq 15, 3) := dk_153 0 15 (dk_at dksX6_formula_7 12 rfl rfl)
theorem dX6_formula_178 : decode cX6_formula 178 = .ok (.aload_n 0, 1) := dk_42 (dk_at dksX6_formula_7 15 rfl rfl)
theorem dX6_formula_179 : decode cX6_formula 179 = .ok (.invokevirtual 352, 3) := dk_182 1 96 (dk_at dksX6_formula_7 16 rfl rfl)
theorem dX6_formula_182 : decode cX6_formula 182 = .ok (.ifCond .eq 8, 3) := dk_153 0 8 (dk_at dksX6_formula_7 19 rfl rfl)
theorem dX6_formula_185 : decode cX6_formula 185 = .ok (.aload_n 0, 1) := dk_42 (dk_at dksX6_formula_7 22 rfl rfl)
theorem dX6_formula_186 : decode cX6_formula 186 = .ok (.iconst 2, 1) := dk_5 (dk_at dksX6_formula_7 23 rfl rfl)
theorem dX6_formula_187 : decode cX6_formula 187 = .ok (.invokevirtual 190, 3) := dk_182 0 190 (dk_at dksX6_formula_8 0 rfl rfl)
theorem dX6_formula_190 : decode cX6_formula 190 = .ok (.aload_n 0, 1) := dk_42 (dk_at dksX6_formula_8 3 rfl rfl)
theorem dX6_formula_191 : decode cX6_formula 191 = .ok (.invokevirtual 183, 3) := dk_182 0 183 (dk_at dksX6_formula_8 4 rfl rfl)
theorem dX6_formula_194 : decode cX6_formula 194 = .ok (.ifCond .eq 8, 3) := dk_153 0 8 (dk_at dksX6_formula_8 7 rfl rfl)
theorem dX6_formula_197 : decode cX6_formula 197 = .ok (.aload_n 0, 1) := dk_42 (dk_at dksX6_formula_8 10 rfl rfl)
theorem dX6_formula_198 : decode cX6_formula 198 = .ok (.iconst 2, 1) := dk_5 (dk_at dksX6_formula_8 11 rfl rfl)
theorem dX6_formula_199 : decode cX6_formula 199 = .ok (.invokevirtual 337, 3) := dk_182 1 81 (dk_at dksX6_formula_8 12 rfl rfl)
theorem dX6_formula_202 : decode cX6_formula 202 = .ok (.return_, 1) := dk_177 (dk_at dksX6_formula_8 15 rfl rfl)
abbrev cX6_operand : ByteArray := prog_16_method_52_code
def yX6_operand : MethodName := ⟨RX6, "operand", "()Z"⟩
def dkwX6_operand_13 : List UInt8 := [167, 0, 8, 42, 5, 182, 0, 190, 42, 182, 0, 183, 153, 0, 7, 42, 182, 0, 193, 4, 172]
abbrev dktX6_operand_13 : List UInt8 := dkwX6_operand_13 ++ []
def dkwX6_operand_12 : List UInt8 := [16, 64, 27, 104, 28, 96, 47, 80, 132, 2, 1, 167, 255, 220, 42, 89, 180, 1, 12, 4, 96, 181, 1, 12]
abbrev dktX6_operand_12 : List UInt8 := dkwX6_operand_12 ++ dktX6_operand_13
def dkwX6_operand_11 : List UInt8 := [180, 0, 235, 162, 0, 34, 42, 180, 0, 56, 16, 64, 42, 180, 1, 12, 104, 28, 96, 42, 180, 0, 78]
abbrev dktX6_operand_11 : List UInt8 := dkwX6_operand_11 ++ dktX6_operand_12
def dkwX6_operand_10 : List UInt8 := [160, 0, 8, 42, 6, 182, 0, 190, 42, 182, 1, 46, 42, 182, 0, 183, 153, 0, 54, 3, 61, 28, 42]
abbrev dktX6_operand_10 : List UInt8 := dkwX6_operand_10 ++ dktX6_operand_11
def dkwX6_operand_9 : List UInt8 := [167, 0, 102, 42, 182, 0, 183, 153, 0, 90, 42, 182, 1, 60, 153, 0, 83, 42, 182, 1, 63, 60, 27, 2]
abbrev dktX6_operand_9 : List UInt8 := dkwX6_operand_9 ++ dktX6_operand_10
def dkwX6_operand_8 : List UInt8 := [161, 0, 8, 42, 7, 182, 0, 190, 42, 182, 0, 183, 153, 0, 114, 42, 42, 180, 0, 152, 10, 182, 1, 52]
abbrev dktX6_operand_8 : List UInt8 := dkwX6_operand_8 ++ dktX6_operand_9
def dkwX6_operand_7 : List UInt8 := [159, 0, 8, 42, 5, 182, 0, 190, 42, 182, 0, 183, 153, 0, 19, 42, 180, 0, 152, 42, 180, 0, 235]
abbrev dktX6_operand_7 : List UInt8 := dkwX6_operand_7 ++ dktX6_operand_8
def dkwX6_operand_6 : List UInt8 := [42, 182, 0, 183, 153, 0, 7, 42, 182, 0, 193, 42, 182, 0, 183, 153, 0, 16, 42, 180, 0, 155, 5]
abbrev dktX6_operand_6 : List UInt8 := dkwX6_operand_6 ++ dktX6_operand_7
def dkwX6_operand_5 : List UInt8 := [180, 0, 152, 133, 182, 1, 52, 167, 0, 189, 42, 20, 0, 181, 182, 1, 56, 153, 0, 80, 42, 182, 1, 46]
abbrev dktX6_operand_5 : List UInt8 := dkwX6_operand_5 ++ dktX6_operand_6
def dkwX6_operand_4 : List UInt8 := [153, 0, 33, 42, 180, 0, 155, 5, 160, 0, 25, 42, 182, 1, 46, 42, 42, 180, 0, 235, 4, 100, 42]
abbrev dktX6_operand_4 : List UInt8 := dkwX6_operand_4 ++ dktX6_operand_5
def dkwX6_operand_3 : List UInt8 := [4, 96, 181, 1, 40, 42, 182, 0, 183, 153, 0, 7, 42, 182, 0, 193, 3, 172, 42, 182, 0, 183]
abbrev dktX6_operand_3 : List UInt8 := dkwX6_operand_3 ++ dktX6_operand_4
def dkwX6_operand_2 : List UInt8 := [153, 0, 7, 3, 167, 0, 4, 4, 79, 42, 89, 180, 1, 49, 4, 96, 181, 1, 49, 42, 89, 180, 1, 40]
abbrev dktX6_operand_2 : List UInt8 := dkwX6_operand_2 ++ dktX6_operand_3
def dkwX6_operand_1 : List UInt8 := [160, 0, 7, 4, 167, 0, 4, 3, 60, 42, 182, 1, 46, 42, 180, 0, 72, 42, 180, 1, 49, 27]
abbrev dktX6_operand_1 : List UInt8 := dkwX6_operand_1 ++ dktX6_operand_2
def dkwX6_operand_0 : List UInt8 := [42, 16, 45, 182, 0, 187, 154, 0, 12, 42, 16, 40, 182, 0, 187, 153, 0, 73, 42, 180, 0, 152, 16, 40]
abbrev dktX6_operand_0 : List UInt8 := dkwX6_operand_0 ++ dktX6_operand_1
theorem dksX6_operand_0 : cX6_operand.data.toList.drop 0 = dktX6_operand_0 := by decide +kernel
theorem dksX6_operand_1 : cX6_operand.data.toList.drop 24 = dktX6_operand_1 := dk_seg dksX6_operand_0 24 rfl rfl
theorem dksX6_operand_2 : cX6_operand.data.toList.drop 46 = dktX6_operand_2 := dk_seg dksX6_operand_1 22 rfl rfl
theorem dksX6_operand_3 : cX6_operand.data.toList.drop 70 = dktX6_operand_3 := dk_seg dksX6_operand_2 24 rfl rfl
theorem dksX6_operand_4 : cX6_operand.data.toList.drop 92 = dktX6_operand_4 := dk_seg dksX6_operand_3 22 rfl rfl
theorem dksX6_operand_5 : cX6_operand.data.toList.drop 115 = dktX6_operand_5 := dk_seg dksX6_operand_4 23 rfl rfl
theorem dksX6_operand_6 : cX6_operand.data.toList.drop 139 = dktX6_operand_6 := dk_seg dksX6_operand_5 24 rfl rfl
theorem dksX6_operand_7 : cX6_operand.data.toList.drop 162 = dktX6_operand_7 := dk_seg dksX6_operand_6 23 rfl rfl
theorem dksX6_operand_8 : cX6_operand.data.toList.drop 185 = dktX6_operand_8 := dk_seg dksX6_operand_7 23 rfl rfl
theorem dksX6_operand_9 : cX6_operand.data.toList.drop 209 = dktX6_operand_9 := dk_seg dksX6_operand_8 24 rfl rfl
theorem dksX6_operand_10 : cX6_operand.data.toList.drop 233 = dktX6_operand_10 := dk_seg dksX6_operand_9 24 rfl rfl
theorem dksX6_operand_11 : cX6_operand.data.toList.drop 256 = dktX6_operand_11 := dk_seg dksX6_operand_10 23 rfl rfl
theorem dksX6_operand_12 : cX6_operand.data.toList.drop 279 = dktX6_operand_12 := dk_seg dksX6_operand_11 23 rfl rfl
theorem dksX6_operand_13 : cX6_operand.data.toList.drop 303 = dktX6_operand_13 := dk_seg dksX6_operand_12 24 rfl rfl
theorem dX6_operand_0 : decode cX6_operand 0 = .ok (.aload_n 0, 1) := dk_42 (dk_at dksX6_operand_0 0 rfl rfl)
theorem dX6_operand_1 : decode cX6_operand 1 = .ok (.bipush 45, 2) := dk_16 45 (dk_at dksX6_operand_0 1 rfl rfl)
theorem dX6_operand_3 : decode cX6_operand 3 = .ok (.invokevirtual 187, 3) := dk_182 0 187 (dk_at dksX6_operand_0 3 rfl rfl)
theorem dX6_operand_6 : decode cX6_operand 6 = .ok (.ifCond .ne 12, 3) := dk_154 0 12 (dk_at dksX6_operand_0 6 rfl rfl)
theorem dX6_operand_9 : decode cX6_operand 9 = .ok (.aload_n 0, 1) := dk_42 (dk_at dksX6_operand_0 9 rfl rfl)
theorem dX6_operand_10 : decode cX6_operand 10 = .ok (.bipush 40, 2) := dk_16 40 (dk_at dksX6_operand_0 10 rfl rfl)
theorem dX6_operand_12 : decode cX6_operand 12 = .ok (.invokevirtual 187, 3) := dk_182 0 187 (dk_at dksX6_operand_0 12 rfl rfl)
theorem dX6_operand_15 : decode cX6_operand 15 = .ok (.ifCond .eq 73, 3) := dk_153 0 73 (dk_at dksX6_operand_0 15 rfl rfl)
theorem dX6_operand_18 : decode cX6_operand 18 = .ok (.aload_n 0, 1) := dk_42 (dk_at dksX6_operand_0 18 rfl rfl)
theorem dX6_operand_19 : decode cX6_operand 19 = .ok (.getfield 152, 3) := dk_180 0 152 (dk_at dksX6_operand_0 19 rfl rfl)
theorem dX6_operand_22 : decode cX6_operand 22 = .ok (.bipush 40, 2) := dk_16 40 (dk_at dksX6_operand_0 22 rfl rfl)
theorem dX6_operand_24 : decode cX6_operand 24 = .ok (.if_icmp .ne 7, 3) := dk_160 0 7 (dk_at dksX6_operand_1 0 rfl rfl)
theorem dX6_operand_27 : decode cX6_operand 27 = .ok (.iconst 1, 1) := dk_4 (dk_at dksX6_operand_1 3 rfl rfl)
theorem dX6_operand_28 : decode cX6_operand 28 = .ok (.goto 4, 3) := dk_167 0 4 (dk_at dksX6_operand_1 4 rfl rfl)
theorem dX6_operand_31 : decode cX6_operand 31 = .ok (.iconst 0, 1) := dk_3 (dk_at dksX6_operand_1 7 rfl rfl)
theorem dX6_operand_32 : decode cX6_operand 32 = .ok (.istore_n 1, 1) := dk_60 (dk_at dksX6_operand_1 8 rfl rfl)
theorem dX6_operand_33 : decode cX6_operand 33 = .ok (.aload_n 0, 1) := dk_42 (dk_at dksX6_operand_1 9 rfl rfl)
theorem dX6_operand_34 : decode cX6_operand 34 = .ok (.invokevirtual 302, 3) := dk_182 1 46 (dk_at dksX6_operand_1 10 rfl rfl)
theorem dX6_operand_37 : decode cX6_operand 37 = .ok (.aload_n 0, 1) := dk_42 (dk_at dksX6_operand_1 13 rfl rfl)
theorem dX6_operand_38 : decode cX6_operand 38 = .ok (.getfield 72, 3) := dk_180 0 72 (dk_at dksX6_operand_1 14 rfl rfl)
theorem dX6_operand_41 : decode cX6_operand 41 = .ok (.aload_n 0, 1) := dk_42 (dk_at dksX6_operand_1 17 rfl rfl)
theorem dX6_operand_42 : decode cX6_operand 42 = .ok (.getfield 305, 3) := dk_180 1 49 (dk_at dksX6_operand_1 18 rfl rfl)
theorem dX6_operand_45 : decode cX6_operand 45 = .ok (.iload_n 1, 1) := dk_27 (dk_at dksX6_operand_1 21 rfl rfl)
theorem dX6_operand_46 : decode cX6_operand 46 = .ok (.ifCond .eq 7, 3) := dk_153 0 7 (dk_at dksX6_operand_2 0 rfl rfl)
theorem dX6_operand_49 : decode cX6_operand 49 = .ok (.iconst 0, 1) := dk_3 (dk_at dksX6_operand_2 3 rfl rfl)
theorem dX6_operand_50 : decode cX6_operand 50 = .ok (.goto 4, 3) := dk_167 0 4 (dk_at dksX6_operand_2 4 rfl rfl)
theorem dX6_operand_53 : decode cX6_operand 53 = .ok (.iconst 1, 1) := dk_4 (dk_at dksX6_operand_2 7 rfl rfl)
theorem dX6_operand_54 : decode cX6_operand 54 = .ok (.iastore, 1) := dk_79 (dk_at dksX6_operand_2 8 rfl rfl)
theorem dX6_operand_55 : decode cX6_operand 55 = .ok (.aload_n 0, 1) := dk_42 (dk_at dksX6_operand_2 9 rfl rfl)
theorem dX6_operand_56 : decode cX6_operand 56 = .ok (.dup, 1) := dk_89 (dk_at dksX6_operand_2 10 rfl rfl)
theorem dX6_operand_57 : decode cX6_operand 57 = .ok (.getfield 305, 3) := dk_180 1 49 (dk_at dksX6_operand_2 11 rfl rfl)
theorem dX6_operand_60 : decode cX6_operand 60 = .ok (.iconst 1, 1) := dk_4 (dk_at dksX6_operand_2 14 rfl rfl)
theorem dX6_operand_61 : decode cX6_operand 61 = .ok (.iadd, 1) := dk_96 (dk_at dksX6_operand_2 15 rfl rfl)
theorem dX6_operand_62 : decode cX6_operand 62 = .ok (.putfield 305, 3) := dk_181 1 49 (dk_at dksX6_operand_2 16 rfl rfl)
theorem dX6_operand_65 : decode cX6_operand 65 = .ok (.aload_n 0, 1) := dk_42 (dk_at dksX6_operand_2 19 rfl rfl)
theorem dX6_operand_66 : decode cX6_operand 66 = .ok (.dup, 1) := dk_89 (dk_at dksX6_operand_2 20 rfl rfl)
theorem dX6_operand_67 : decode cX6_operand 67 = .ok (.getfield 296, 3) := dk_180 1 40 (dk_at dksX6_operand_2 21 rfl rfl)
theorem dX6_operand_70 : decode cX6_operand 70 = .ok (.iconst 1, 1) := dk_4 (dk_at dksX6_operand_3 0 rfl rfl)
theorem dX6_operand_71 : decode cX6_operand 71 = .ok (.iadd, 1) := dk_96 (dk_at dksX6_operand_3 1 rfl rfl)
theorem dX6_operand_72 : decode cX6_operand 72 = .ok (.putfield 296, 3) := dk_181 1 40 (dk_at dksX6_operand_3 2 rfl rfl)
theorem dX6_operand_75 : decode cX6_operand 75 = .ok (.aload_n 0, 1) := dk_42 (dk_at dksX6_operand_3 5 rfl rfl)
theorem dX6_operand_76 : decode cX6_operand 76 = .ok (.invokevirtual 183, 3) := dk_182 0 183 (dk_at dksX6_operand_3 6 rfl rfl)
theorem dX6_operand_79 : decode cX6_operand 79 = .ok (.ifCond .eq 7, 3) := dk_153 0 7 (dk_at dksX6_operand_3 9 rfl rfl)
theorem dX6_operand_82 : decode cX6_operand 82 = .ok (.aload_n 0, 1) := dk_42 (dk_at dksX6_operand_3 12 rfl rfl)
theorem dX6_operand_83 : decode cX6_operand 83 = .ok (.invokevirtual 193, 3) := dk_182 0 193 (dk_at dksX6_operand_3 13 rfl rfl)
theorem dX6_operand_86 : decode cX6_operand 86 = .ok (.iconst 0, 1) := dk_3 (dk_at dksX6_operand_3 16 rfl rfl)
theorem dX6_operand_87 : decode cX6_operand 87 = .ok (.ireturn, 1) := dk_172 (dk_at dksX6_operand_3 17 rfl rfl)
theorem dX6_operand_88 : decode cX6_operand 88 = .ok (.aload_n 0, 1) := dk_42 (dk_at dksX6_operand_3 18 rfl rfl)
theorem dX6_operand_89 : decode cX6_operand 89 = .ok (.invokevirtual 183, 3) := dk_182 0 183 (dk_at dksX6_operand_3 19 rfl rfl)
theorem dX6_operand_92 : decode cX6_operand 92 = .ok (.ifCond .eq 33, 3) := dk_153 0 33 (dk_at dksX6_operand_4 0 rfl rfl)
theorem dX6_operand_95 : decode cX6_operand 95 = .ok (.aload_n 0, 1) := dk_42 (dk_at dksX6_operand_4 3 rfl rfl)
theorem dX6_operand_96 : decode cX6_operand 96 = .ok (.getfield 155, 3) := dk_180 0 155 (dk_at dksX6_operand_4 4 rfl rfl)
theorem dX6_operand_99 : decode cX6_operand 99 = .ok (.iconst 2, 1) := dk_5 (dk_at dksX6_operand_4 7 rfl rfl)
theorem dX6_operand_100 : decode cX6_operand 100 = .ok (.if_icmp .ne 25, 3) := dk_160 0 25 (dk_at dksX6_operand_4 8 rfl rfl)
theorem dX6_operand_103 : decode cX6_operand 103 = .ok (.aload_n 0, 1) := dk_42 (dk_at dksX6_operand_4 11 rfl rfl)
theorem dX6_operand_104 : decode cX6_operand 104 = .ok (.invokevirtual 302, 3) := dk_182 1 46 (dk_at dksX6_operand_4 12 rfl rfl)
theorem dX6_operand_107 : decode cX6_operand 107 = .ok (.aload_n 0, 1) := dk_42 (dk_at dksX6_operand_4 15 rfl rfl)
theorem dX6_operand_108 : decode cX6_operand 108 = .ok (.aload_n 0, 1) := dk_42 (dk_at dksX6_operand_4 16 rfl rfl)
theorem dX6_operand_109 : decode cX6_operand 109 = .ok (.getfield 235, 3) := dk_180 0 235 (dk_at dksX6_operand_4 17 rfl rfl)
theorem dX6_operand_112 : decode cX6_operand 112 = .ok (.iconst 1, 1) := dk_4 (dk_at dksX6_operand_4 20 rfl rfl)
theorem dX6_operand_113 : decode cX6_operand 113 = .ok (.isub, 1) := dk_100 (dk_at dksX6_operand_4 21 rfl rfl)
theorem dX6_operand_114 : decode cX6_operand 114 = .ok (.aload_n 0, 1) := dk_42 (dk_at dksX6_operand_4 22 rfl rfl)
theorem dX6_operand_115 : decode cX6_operand 115 = .ok (.getfield 152, 3) := dk_180 0 152 (dk_at dksX6_operand_5 0 rfl rfl)
theorem dX6_operand_118 : decode cX6_operand 118 = .ok (.i2l, 1) := dk_133 (dk_at dksX6_operand_5 3 rfl rfl)
theorem dX6_operand_119 : decode cX6_operand 119 = .ok (.invokevirtual 308, 3) := dk_182 1 52 (dk_at dksX6_operand_5 4 rfl rfl)
theorem dX6_operand_122 : decode cX6_operand 122 = .ok (.goto 189, 3) := dk_167 0 189 (dk_at dksX6_operand_5 7 rfl rfl)
theorem dX6_operand_125 : decode cX6_operand 125 = .ok (.aload_n 0, 1) := dk_42 (dk_at dksX6_operand_5 10 rfl rfl)
theorem dX6_operand_126 : decode cX6_operand 126 = .ok (.ldc2_w 181, 3) := dk_20 0 181 (dk_at dksX6_operand_5 11 rfl rfl)
theorem dX6_operand_129 : decode cX6_operand 129 = .ok (.invokevirtual 312, 3) := dk_182 1 56 (dk_at dksX6_operand_5 14 rfl rfl)
theorem dX6_operand_132 : decode cX6_operand 132 = .ok (.ifCond .eq 80, 3) := dk_153 0 80 (dk_at dksX6_operand_5 17 rfl rfl)
theorem dX6_operand_135 : decode cX6_operand 135 = .ok (.aload_n 0, 1) := dk_42 (dk_at dksX6_operand_5 20 rfl rfl)
theorem dX6_operand_136 : decode cX6_operand 136 = .ok (.invokevirtual 302, 3) := dk_182 1 46 (dk_at dksX6_operand_5 21 rfl rfl)
theorem dX6_operand_139 : decode cX6_operand 139 = .ok (.aload_n 0, 1) := dk_42 (dk_at dksX6_operand_6 0 rfl rfl)
theorem dX6_operand_140 : decode cX6_operand 140 = .ok (.invokevirtual 183, 3) := dk_182 0 183 (dk_at dksX6_operand_6 1 rfl rfl)
theorem dX6_operand_143 : decode cX6_operand 143 = .ok (.ifCond .eq 7, 3) := dk_153 0 7 (dk_at dksX6_operand_6 4 rfl rfl)
theorem dX6_operand_146 : decode cX6_operand 146 = .ok (.aload_n 0, 1) := dk_42 (dk_at dksX6_operand_6 7 rfl rfl)
theorem dX6_operand_147 : decode cX6_operand 147 = .ok (.invokevirtual 193, 3) := dk_182 0 193 (dk_at dksX6_operand_6 8 rfl rfl)
theorem dX6_operand_150 : decode cX6_operand 150 = .ok (.aload_n 0, 1) := dk_42 (dk_at dksX6_operand_6 11 rfl rfl)
theorem dX6_operand_151 : decode cX6_operand 151 = .ok (.invokevirtual 183, 3) := dk_182 0 183 (dk_at dksX6_operand_6 12 rfl rfl)
theorem dX6_operand_154 : decode cX6_operand 154 = .ok (.ifCond .eq 16, 3) := dk_153 0 16 (dk_at dksX6_operand_6 15 rfl rfl)
theorem dX6_operand_157 : decode cX6_operand 157 = .ok (.aload_n 0, 1) := dk_42 (dk_at dksX6_operand_6 18 rfl rfl)
theorem dX6_operand_158 : decode cX6_operand 158 = .ok (.getfield 155, 3) := dk_180 0 155 (dk_at dksX6_operand_6 19 rfl rfl)
theorem dX6_operand_161 : decode cX6_operand 161 = .ok (.iconst 2, 1) := dk_5 (dk_at dksX6_operand_6 22 rfl rfl)
theorem dX6_operand_162 : decode cX6_operand 162 = .ok (.if_icmp .eq 8, 3) := dk_159 0 8 (dk_at dksX6_operand_7 0 rfl rfl)
theorem dX6_operand_165 : decode cX6_operand 165 = .ok (.aload_n 0, 1) := dk_42 (dk_at dksX6_operand_7 3 rfl rfl)
theorem dX6_operand_166 : decode cX6_operand 166 = .ok (.iconst 2, 1) := dk_5 (dk_at dksX6_operand_7 4 rfl rfl)
theorem dX6_operand_167 : decode cX6_operand 167 = .ok (.invokevirtual 190, 3) := dk_182 0 190 (dk_at dksX6_operand_7 5 rfl rfl)
theorem dX6_operand_170 : decode cX6_operand 170 = .ok (.aload_n 0, 1) := dk_42 (dk_at dksX6_operand_7 8 rfl rfl)
theorem dX6_operand_171 : decode cX6_operand 171 = .ok (.invokevirtual 183, 3) := dk_182 0 183 (dk_at dksX6_operand_7 9 rfl rfl)
theorem dX6_operand_174 : decode cX6_operand 174 = .ok (.ifCond .eq 19, 3) := dk_153 0 19 (dk_at dksX6_operand_7 12 rfl rfl)
theorem dX6_operand_177 : decode cX6_operand 177 = .ok (.aload_n 0, 1) := dk_42 (dk_at dksX6_operand_7 15 rfl rfl)
theorem dX6_operand_178 : decode cX6_operand 178 = .ok (.getfield 152, 3) := dk_180 0 152 (dk_at dksX6_operand_7 16 rfl rfl)
theorem dX6_operand_181 : decode cX6_operand 181 = .ok (.aload_n 0, 1) := dk_42 (dk_at dksX6_operand_7 19 rfl rfl)
theorem dX6_operand_182 : decode cX6_operand 182 = .ok (.getfield 235, 3) := dk_180 0 235 (dk_at dksX6_operand_7 20 rfl rfl)
theorem dX6_operand_185 : decode cX6_operand 185 = .ok (.if_icmp .lt 8, 3) := dk_161 0 8 (dk_at dksX6_operand_8 0 rfl rfl)
theorem dX6_operand_188 : decode cX6_operand 188 = .ok (.aload_n 0, 1) := dk_42 (dk_at dksX6_operand_8 3 rfl rfl)
theorem dX6_operand_189 : decode cX6_operand 189 = .ok (.iconst 4, 1) := dk_7 (dk_at dksX6_operand_8 4 rfl rfl)
theorem dX6_operand_190 : decode cX6_operand 190 = .ok (.invokevirtual 190, 3) := dk_182 0 190 (dk_at dksX6_operand_8 5 rfl rfl)
theorem dX6_operand_193 : decode cX6_operand 193 = .ok (.aload_n 0, 1) := dk_42 (dk_at dksX6_operand_8 8 rfl rfl)
theorem dX6_operand_194 : decode cX6_operand 194 = .ok (.invokevirtual 183, 3) := dk_182 0 183 (dk_at dksX6_operand_8 9 rfl rfl)
theorem dX6_operand_197 : decode cX6_operand 197 = .ok (.ifCond .eq 114, 3) := dk_153 0 114 (dk_at dksX6_operand_8 12 rfl rfl)
theorem dX6_operand_200 : decode cX6_operand 200 = .ok (.aload_n 0, 1) := dk_42 (dk_at dksX6_operand_8 15 rfl rfl)
theorem dX6_operand_201 : decode cX6_operand 201 = .ok (.aload_n 0, 1) := dk_42 (dk_at dksX6_operand_8 16 rfl rfl)
theorem dX6_operand_202 : decode cX6_operand 202 = .ok (.getfield 152, 3) := dk_180 0 152 (dk_at dksX6_operand_8 17 rfl rfl)
theorem dX6_operand_205 : decode cX6_operand 205 = .ok (.lconst 1, 1) := dk_10 (dk_at dksX6_operand_8 20 rfl rfl)
theorem dX6_operand_206 : decode cX6_operand 206 = .ok (.invokevirtual 308, 3) := dk_182 1 52 (dk_at dksX6_operand_8 21 rfl rfl)
theorem dX6_operand_209 : decode cX6_operand 209 = .ok (.goto 102, 3) := dk_167 0 102 (dk_at dksX6_operand_9 0 rfl rfl)
theorem dX6_operand_212 : decode cX6_operand 212 = .ok (.aload_n 0, 1) := dk_42 (dk_at dksX6_operand_9 3 rfl rfl)
theorem dX6_operand_213 : decode cX6_operand 213 = .ok (.invokevirtual 183, 3) := dk_182 0 183 (dk_at dksX6_operand_9 4 rfl rfl)
theorem dX6_operand_216 : decode cX6_operand 216 = .ok (.ifCond .eq 90, 3) := dk_153 0 90 (dk_at dksX6_operand_9 7 rfl rfl)
theorem dX6_operand_219 : decode cX6_operand 219 = .ok (.aload_n 0, 1) := dk_42 (dk_at dksX6_operand_9 10 rfl rfl)
theorem dX6_operand_220 : decode cX6_operand 220 = .ok (.invokevirtual 316, 3) := dk_182 1 60 (dk_at dksX6_operand_9 11 rfl rfl)
theorem dX6_operand_223 : decode cX6_operand 223 = .ok (.ifCond .eq 83, 3) := dk_153 0 83 (dk_at dksX6_operand_9 14 rfl rfl)
theorem dX6_operand_226 : decode cX6_operand 226 = .ok (.aload_n 0, 1) := dk_42 (dk_at dksX6_operand_9 17 rfl rfl)
theorem dX6_operand_227 : decode cX6_operand 227 = .ok (.invokevirtual 319, 3) := dk_182 1 63 (dk_at dksX6_operand_9 18 rfl rfl)
theorem dX6_operand_230 : decode cX6_operand 230 = .ok (.istore_n 1, 1) := dk_60 (dk_at dksX6_operand_9 21 rfl rfl)
theorem dX6_operand_231 : decode cX6_operand 231 = .ok (.iload_n 1, 1) := dk_27 (dk_at dksX6_operand_9 22 rfl rfl)
theorem dX6_operand_232 : decode cX6_operand 232 = .ok (.iconst (-1), 1) := dk_2 (dk_at dksX6_operand_9 23 rfl rfl)
theorem dX6_operand_233 : decode cX6_operand 233 = .ok (.if_icmp .ne 8, 3) := dk_160 0 8 (dk_at dksX6_operand_10 0 rfl rfl)
theorem dX6_operand_236 : decode cX6_operand 236 = .ok (.aload_n 0, 1) := dk_42 (dk_at dksX6_operand_10 3 rfl rfl)
theorem dX6_operand_237 : decode cX6_operand 237 = .ok (.iconst 3, 1) := dk_6 (dk_at dksX6_operand_10 4 rfl rfl)
theorem dX6_operand_238 : decode cX6_operand 238 = .ok (.invokevirtual 190, 3) := dk_182 0 190 (dk_at dksX6_operand_10 5 rfl rfl)
theorem dX6_operand_241 : decode cX6_operand 241 = .ok (.aload_n 0, 1) := dk_42 (dk_at dksX6_operand_10 8 rfl rfl)
theorem dX6_operand_242 : decode cX6_operand 242 = .ok (.invokevirtual 302, 3) := dk_182 1 46 (dk_at dksX6_operand_10 9 rfl rfl)
theorem dX6_operand_245 : decode cX6_operand 245 = .ok (.aload_n 0, 1) := dk_42 (dk_at dksX6_operand_10 12 rfl rfl)
theorem dX6_operand_246 : decode cX6_operand 246 = .ok (.invokevirtual 183, 3) := dk_182 0 183 (dk_at dksX6_operand_10 13 rfl rfl)
theorem dX6_operand_249 : decode cX6_operand 249 = .ok (.ifCond .eq 54, 3) := dk_153 0 54 (dk_at dksX6_operand_10 16 rfl rfl)
theorem dX6_operand_252 : decode cX6_operand 252 = .ok (.iconst 0, 1) := dk_3 (dk_at dksX6_operand_10 19 rfl rfl)
theorem dX6_operand_253 : decode cX6_operand 253 = .ok (.istore_n 2, 1) := dk_61 (dk_at dksX6_operand_10 20 rfl rfl)
theorem dX6_operand_254 : decode cX6_operand 254 = .ok (.iload_n 2, 1) := dk_28 (dk_at dksX6_operand_10 21 rfl rfl)
theorem dX6_operand_255 : decode cX6_operand 255 = .ok (.aload_n 0, 1) := dk_42 (dk_at dksX6_operand_10 22 rfl rfl)
theorem dX6_operand_256 : decode cX6_operand 256 = .ok (.getfield 235, 3) := dk_180 0 235 (dk_at dksX6_operand_11 0 rfl rfl)
theorem dX6_operand_259 : decode cX6_operand 259 = .ok (.if_icmp .ge 34, 3) := dk_162 0 34 (dk_at dksX6_operand_11 3 rfl rfl)
theorem dX6_operand_262 : decode cX6_operand 262 = .ok (.aload_n 0, 1) := dk_42 (dk_at dksX6_operand_11 6 rfl rfl)
theorem dX6_operand_263 : decode cX6_operand 263 = .ok (.getfield 56, 3) := dk_180 0 56 (dk_at dksX6_operand_11 7 rfl rfl)
theorem dX6_operand_266 : decode cX6_operand 266 = .ok (.bipush 64, 2) := dk_16 64 (dk_at dksX6_operand_11 10 rfl rfl)
theorem dX6_operand_268 : decode cX6_operand 268 = .ok (.aload_n 0, 1) := dk_42 (dk_at dksX6_operand_11 12 rfl rfl)
theorem dX6_operand_269 : decode cX6_operand 269 = .ok (.getfield 268, 3) := dk_180 1 12 (dk_at dksX6_operand_11 13 rfl rfl)
theorem dX6_operand_272 : decode cX6_operand 272 = .ok (.imul, 1) := dk_104 (dk_at dksX6_operand_11 16 rfl rfl)
theorem dX6_operand_273 : decode cX6_operand 273 = .ok (.iload_n 2, 1) := dk_28 (dk_at dksX6_operand_11 17 rfl rfl)
theorem dX6_operand_274 : decode cX6_operand 274 = .ok (.iadd, 1) := dk_96 (dk_at dksX6_operand_11 18 rfl rfl)
theorem dX6_operand_275 : decode cX6_operand 275 = .ok (.aload_n 0, 1) := dk_42 (dk_at dksX6_operand_11 19 rfl rfl)
theorem dX6_operand_276 : decode cX6_operand 276 = .ok (.getfield 78, 3) := dk_180 0 78 (dk_at dksX6_operand_11 20 rfl rfl)
theorem dX6_operand_279 : decode cX6_operand 279 = .ok (.bipush 64, 2) := dk_16 64 (dk_at dksX6_operand_12 0 rfl rfl)
theorem dX6_operand_281 : decode cX6_operand 281 = .ok (.iload_n 1, 1) := dk_27 (dk_at dksX6_operand_12 2 rfl rfl)
theorem dX6_operand_282 : decode cX6_operand 282 = .ok (.imul, 1) := dk_104 (dk_at dksX6_operand_12 3 rfl rfl)
theorem dX6_operand_283 : decode cX6_operand 283 = .ok (.iload_n 2, 1) := dk_28 (dk_at dksX6_operand_12 4 rfl rfl)
theorem dX6_operand_284 : decode cX6_operand 284 = .ok (.iadd, 1) := dk_96 (dk_at dksX6_operand_12 5 rfl rfl)
theorem dX6_operand_285 : decode cX6_operand 285 = .ok (.laload, 1) := dk_47 (dk_at dksX6_operand_12 6 rfl rfl)
theorem dX6_operand_286 : decode cX6_operand 286 = .ok (.lastore, 1) := dk_80 (dk_at dksX6_operand_12 7 rfl rfl)
theorem dX6_operand_287 : decode cX6_operand 287 = .ok (.iinc 2 1, 3) := dk_132 2 1 (dk_at dksX6_operand_12 8 rfl rfl)
theorem dX6_operand_290 : decode cX6_operand 290 = .ok (.goto (-36), 3) := dk_167 255 220 (dk_at dksX6_operand_12 11 rfl rfl)
theorem dX6_operand_293 : decode cX6_operand 293 = .ok (.aload_n 0, 1) := dk_42 (dk_at dksX6_operand_12 14 rfl rfl)
theorem dX6_operand_294 : decode cX6_operand 294 = .ok (.dup, 1) := dk_89 (dk_at dksX6_operand_12 15 rfl rfl)
theorem dX6_operand_295 : decode cX6_operand 295 = .ok (.getfield 268, 3) := dk_180 1 12 (dk_at dksX6_operand_12 16 rfl rfl)
theorem dX6_operand_298 : decode cX6_operand 298 = .ok (.iconst 1, 1) := dk_4 (dk_at dksX6_operand_12 19 rfl rfl)
theorem dX6_operand_299 : decode cX6_operand 299 = .ok (.iadd, 1) := dk_96 (dk_at dksX6_operand_12 20 rfl rfl)
theorem dX6_operand_300 : decode cX6_operand 300 = .ok (.putfield 268, 3) := dk_181 1 12 (dk_at dksX6_operand_12 21 rfl rfl)
theorem dX6_operand_303 : decode cX6_operand 303 = .ok (.goto 8, 3) := dk_167 0 8 (dk_at dksX6_operand_13 0 rfl rfl)
theorem dX6_operand_306 : decode cX6_operand 306 = .ok (.aload_n 0, 1) := dk_42 (dk_at dksX6_operand_13 3 rfl rfl)
theorem dX6_operand_307 : decode cX6_operand 307 = .ok (.iconst 2, 1) := dk_5 (dk_at dksX6_operand_13 4 rfl rfl)
theorem dX6_operand_308 : decode cX6_operand 308 = .ok (.invokevirtual 190, 3) := dk_182 0 190 (dk_at dksX6_operand_13 5 rfl rfl)
theorem dX6_operand_311 : decode cX6_operand 311 = .ok (.aload_n 0, 1) := dk_42 (dk_at dksX6_operand_13 8 rfl rfl)
theorem dX6_operand_312 : decode cX6_operand 312 = .ok (.invokevirtual 183, 3) := dk_182 0 183 (dk_at dksX6_operand_13 9 rfl rfl)
theorem dX6_operand_315 : decode cX6_operand 315 = .ok (.ifCond .eq 7, 3) := dk_153 0 7 (dk_at dksX6_operand_13 12 rfl rfl)
theorem dX6_operand_318 : decode cX6_operand 318 = .ok (.aload_n 0, 1) := dk_42 (dk_at dksX6_operand_13 15 rfl rfl)
theorem dX6_operand_319 : decode cX6_operand 319 = .ok (.invokevirtual 193, 3) := dk_182 0 193 (dk_at dksX6_operand_13 16 rfl rfl)
theorem dX6_operand_322 : decode cX6_operand 322 = .ok (.iconst 1, 1) := dk_4 (dk_at dksX6_operand_13 19 rfl rfl)
theorem dX6_operand_323 : decode cX6_operand 323 = .ok (.ireturn, 1) := dk_172 (dk_at dksX6_operand_13 20 rfl rfl)
abbrev cX6_countsUnit : ByteArray := prog_16_method_50_code
def yX6_countsUnit : MethodName := ⟨RX6, "countsUnit", "()V"⟩
def dkwX6_countsUnit_1 : List UInt8 := [164, 0, 8, 42, 8, 182, 0, 190, 42, 89, 180, 1, 37, 4, 96, 181, 1, 37, 177]
abbrev dktX6_countsUnit_1 : List UInt8 := dkwX6_countsUnit_1 ++ []
def dkwX6_countsUnit_0 : List UInt8 := [42, 182, 0, 183, 153, 0, 26, 42, 180, 1, 37, 16, 30, 159, 0, 12, 42, 180, 1, 40, 16, 6]
abbrev dktX6_countsUnit_0 : List UInt8 := dkwX6_countsUnit_0 ++ dktX6_countsUnit_1
theorem dksX6_countsUnit_0 : cX6_countsUnit.data.toList.drop 0 = dktX6_countsUnit_0 := by decide +kernel
theorem dksX6_countsUnit_1 : cX6_countsUnit.data.toList.drop 22 = dktX6_countsUnit_1 := dk_seg dksX6_countsUnit_0 22 rfl rfl
theorem dX6_countsUnit_0 : decode cX6_countsUnit 0 = .ok (.aload_n 0, 1) := dk_42 (dk_at dksX6_countsUnit_0 0 rfl rfl)
theorem dX6_countsUnit_1 : decode cX6_countsUnit 1 = .ok (.invokevirtual 183, 3) := dk_182 0 183 (dk_at dksX6_countsUnit_0 1 rfl rfl)
theorem dX6_countsUnit_4 : decode cX6_countsUnit 4 = .ok (.ifCond .eq 26, 3) := dk_153 0 26 (dk_at dksX6_countsUnit_0 4 rfl rfl)
theorem dX6_countsUnit_7 : decode cX6_countsUnit 7 = .ok (.aload_n 0, 1) := dk_42 (dk_at dksX6_countsUnit_0 7 rfl rfl)
theorem dX6_countsUnit_8 : decode cX6_countsUnit 8 = .ok (.getfield 293, 3) := dk_180 1 37 (dk_at dksX6_countsUnit_0 8 rfl rfl)
theorem dX6_countsUnit_11 : decode cX6_countsUnit 11 = .ok (.bipush 30, 2) := dk_16 30 (dk_at dksX6_countsUnit_0 11 rfl rfl)
theorem dX6_countsUnit_13 : decode cX6_countsUnit 13 = .ok (.if_icmp .eq 12, 3) := dk_159 0 12 (dk_at dksX6_countsUnit_0 13 rfl rfl)
theorem dX6_countsUnit_16 : decode cX6_countsUnit 16 = .ok (.aload_n 0, 1) := dk_42 (dk_at dksX6_countsUnit_0 16 rfl rfl)
theorem dX6_countsUnit_17 : decode cX6_countsUnit 17 = .ok (.getfield 296, 3) := dk_180 1 40 (dk_at dksX6_countsUnit_0 17 rfl rfl)
theorem dX6_countsUnit_20 : decode cX6_countsUnit 20 = .ok (.bipush 6, 2) := dk_16 6 (dk_at dksX6_countsUnit_0 20 rfl rfl)
theorem dX6_countsUnit_22 : decode cX6_countsUnit 22 = .ok (.if_icmp .le 8, 3) := dk_164 0 8 (dk_at dksX6_countsUnit_1 0 rfl rfl)
theorem dX6_countsUnit_25 : decode cX6_countsUnit 25 = .ok (.aload_n 0, 1) := dk_42 (dk_at dksX6_countsUnit_1 3 rfl rfl)
theorem dX6_countsUnit_26 : decode cX6_countsUnit 26 = .ok (.iconst 5, 1) := dk_8 (dk_at dksX6_countsUnit_1 4 rfl rfl)
theorem dX6_countsUnit_27 : decode cX6_countsUnit 27 = .ok (.invokevirtual 190, 3) := dk_182 0 190 (dk_at dksX6_countsUnit_1 5 rfl rfl)
theorem dX6_countsUnit_30 : decode cX6_countsUnit 30 = .ok (.aload_n 0, 1) := dk_42 (dk_at dksX6_countsUnit_1 8 rfl rfl)
theorem dX6_countsUnit_31 : decode cX6_countsUnit 31 = .ok (.dup, 1) := dk_89 (dk_at dksX6_countsUnit_1 9 rfl rfl)
theorem dX6_countsUnit_32 : decode cX6_countsUnit 32 = .ok (.getfield 293, 3) := dk_180 1 37 (dk_at dksX6_countsUnit_1 10 rfl rfl)
theorem dX6_countsUnit_35 : decode cX6_countsUnit 35 = .ok (.iconst 1, 1) := dk_4 (dk_at dksX6_countsUnit_1 13 rfl rfl)
theorem dX6_countsUnit_36 : decode cX6_countsUnit 36 = .ok (.iadd, 1) := dk_96 (dk_at dksX6_countsUnit_1 14 rfl rfl)
theorem dX6_countsUnit_37 : decode cX6_countsUnit 37 = .ok (.putfield 293, 3) := dk_181 1 37 (dk_at dksX6_countsUnit_1 15 rfl rfl)
theorem dX6_countsUnit_40 : decode cX6_countsUnit 40 = .ok (.return_, 1) := dk_177 (dk_at dksX6_countsUnit_1 18 rfl rfl)
abbrev cX6_lays : ByteArray := prog_16_method_42_code
def yX6_lays : MethodName := ⟨RX6, "lays", "(IJ)V"⟩
def dkwX6_lays_2 : List UInt8 := [180, 1, 12, 4, 96, 181, 1, 12, 42, 182, 1, 23, 177]
abbrev dktX6_lays_2 : List UInt8 := dkwX6_lays_2 ++ []
def dkwX6_lays_1 : List UInt8 := [21, 4, 96, 21, 4, 27, 160, 0, 7, 32, 167, 0, 4, 9, 80, 132, 4, 1, 167, 255, 218, 42, 89]
abbrev dktX6_lays_1 : List UInt8 := dkwX6_lays_1 ++ dktX6_lays_2
def dkwX6_lays_0 : List UInt8 := [3, 54, 4, 21, 4, 42, 180, 0, 235, 162, 0, 35, 42, 180, 0, 56, 16, 64, 42, 180, 1, 12, 104]
abbrev dktX6_lays_0 : List UInt8 := dkwX6_lays_0 ++ dktX6_lays_1
theorem dksX6_lays_0 : cX6_lays.data.toList.drop 0 = dktX6_lays_0 := by decide +kernel
theorem dksX6_lays_1 : cX6_lays.data.toList.drop 23 = dktX6_lays_1 := dk_seg dksX6_lays_0 23 rfl rfl
theorem dksX6_lays_2 : cX6_lays.data.toList.drop 46 = dktX6_lays_2 := dk_seg dksX6_lays_1 23 rfl rfl
theorem dX6_lays_0 : decode cX6_lays 0 = .ok (.iconst 0, 1) := dk_3 (dk_at dksX6_lays_0 0 rfl rfl)
theorem dX6_lays_1 : decode cX6_lays 1 = .ok (.istore 4, 2) := dk_54 4 (dk_at dksX6_lays_0 1 rfl rfl)
theorem dX6_lays_3 : decode cX6_lays 3 = .ok (.iload 4, 2) := dk_21 4 (dk_at dksX6_lays_0 3 rfl rfl)
theorem dX6_lays_5 : decode cX6_lays 5 = .ok (.aload_n 0, 1) := dk_42 (dk_at dksX6_lays_0 5 rfl rfl)
theorem dX6_lays_6 : decode cX6_lays 6 = .ok (.getfield 235, 3) := dk_180 0 235 (dk_at dksX6_lays_0 6 rfl rfl)
theorem dX6_lays_9 : decode cX6_lays 9 = .ok (.if_icmp .ge 35, 3) := dk_162 0 35 (dk_at dksX6_lays_0 9 rfl rfl)
theorem dX6_lays_12 : decode cX6_lays 12 = .ok (.aload_n 0, 1) := dk_42 (dk_at dksX6_lays_0 12 rfl rfl)
theorem dX6_lays_13 : decode cX6_lays 13 = .ok (.getfield 56, 3) := dk_180 0 56 (dk_at dksX6_lays_0 13 rfl rfl)
theorem dX6_lays_16 : decode cX6_lays 16 = .ok (.bipush 64, 2) := dk_16 64 (dk_at dksX6_lays_0 16 rfl rfl)
theorem dX6_lays_18 : decode cX6_lays 18 = .ok (.aload_n 0, 1) := dk_42 (dk_at dksX6_lays_0 18 rfl rfl)
theorem dX6_lays_19 : decode cX6_lays 19 = .ok (.getfield 268, 3) := dk_180 1 12 (dk_at dksX6_lays_0 19 rfl rfl)
theorem dX6_lays_22 : decode cX6_lays 22 = .ok (.imul, 1) := dk_104 (dk_at dksX6_lays_0 22 rfl rfl)
theorem dX6_lays_23 : decode cX6_lays 23 = .ok (.iload 4, 2) := dk_21 4 (dk_at dksX6_lays_1 0 rfl rfl)
theorem dX6_lays_25 : decode cX6_lays 25 = .ok (.iadd, 1) := dk_96 (dk_at dksX6_lays_1 2 rfl rfl)
theorem dX6_lays_26 : decode cX6_lays 26 = .ok (.iload 4, 2) := dk_21 4 (dk_at dksX6_lays_1 3 rfl rfl)
theorem dX6_lays_28 : decode cX6_lays 28 = .ok (.iload_n 1, 1) := dk_27 (dk_at dksX6_lays_1 5 rfl rfl)
theorem dX6_lays_29 : decode cX6_lays 29 = .ok (.if_icmp .ne 7, 3) := dk_160 0 7 (dk_at dksX6_lays_1 6 rfl rfl)
theorem dX6_lays_32 : decode cX6_lays 32 = .ok (.lload_n 2, 1) := dk_32 (dk_at dksX6_lays_1 9 rfl rfl)
theorem dX6_lays_33 : decode cX6_lays 33 = .ok (.goto 4, 3) := dk_167 0 4 (dk_at dksX6_lays_1 10 rfl rfl)
theorem dX6_lays_36 : decode cX6_lays 36 = .ok (.lconst 0, 1) := dk_9 (dk_at dksX6_lays_1 13 rfl rfl)
theorem dX6_lays_37 : decode cX6_lays 37 = .ok (.lastore, 1) := dk_80 (dk_at dksX6_lays_1 14 rfl rfl)
theorem dX6_lays_38 : decode cX6_lays 38 = .ok (.iinc 4 1, 3) := dk_132 4 1 (dk_at dksX6_lays_1 15 rfl rfl)
theorem dX6_lays_41 : decode cX6_lays 41 = .ok (.goto (-38), 3) := dk_167 255 218 (dk_at dksX6_lays_1 18 rfl rfl)
theorem dX6_lays_44 : decode cX6_lays 44 = .ok (.aload_n 0, 1) := dk_42 (dk_at dksX6_lays_1 21 rfl rfl)
theorem dX6_lays_45 : decode cX6_lays 45 = .ok (.dup, 1) := dk_89 (dk_at dksX6_lays_1 22 rfl rfl)
theorem dX6_lays_46 : decode cX6_lays 46 = .ok (.getfield 268, 3) := dk_180 1 12 (dk_at dksX6_lays_2 0 rfl rfl)
theorem dX6_lays_49 : decode cX6_lays 49 = .ok (.iconst 1, 1) := dk_4 (dk_at dksX6_lays_2 3 rfl rfl)
theorem dX6_lays_50 : decode cX6_lays 50 = .ok (.iadd, 1) := dk_96 (dk_at dksX6_lays_2 4 rfl rfl)
theorem dX6_lays_51 : decode cX6_lays 51 = .ok (.putfield 268, 3) := dk_181 1 12 (dk_at dksX6_lays_2 5 rfl rfl)
theorem dX6_lays_54 : decode cX6_lays 54 = .ok (.aload_n 0, 1) := dk_42 (dk_at dksX6_lays_2 8 rfl rfl)
theorem dX6_lays_55 : decode cX6_lays 55 = .ok (.invokevirtual 279, 3) := dk_182 1 23 (dk_at dksX6_lays_2 9 rfl rfl)
theorem dX6_lays_58 : decode cX6_lays 58 = .ok (.return_, 1) := dk_177 (dk_at dksX6_lays_2 12 rfl rfl)
abbrev cX6_looks : ByteArray := prog_16_method_41_code
def yX6_looks : MethodName := ⟨RX6, "looks", "()V"⟩
def dkwX6_looks_2 : List UInt8 := [100, 104, 27, 96, 9, 80, 132, 1, 1, 167, 255, 228, 177]
abbrev dktX6_looks_2 : List UInt8 := dkwX6_looks_2 ++ []
def dkwX6_looks_1 : List UInt8 := [181, 1, 19, 3, 60, 27, 42, 180, 0, 235, 162, 0, 26, 42, 180, 0, 56, 16, 64, 42, 180, 1, 12, 4]
abbrev dktX6_looks_1 : List UInt8 := dkwX6_looks_1 ++ dktX6_looks_2
def dkwX6_looks_0 : List UInt8 := [42, 42, 180, 0, 56, 16, 64, 42, 180, 1, 12, 4, 100, 104, 182, 1, 15, 153, 0, 4, 177, 42, 4]
abbrev dktX6_looks_0 : List UInt8 := dkwX6_looks_0 ++ dktX6_looks_1
theorem dksX6_looks_0 : cX6_looks.data.toList.drop 0 = dktX6_looks_0 := by decide +kernel
theorem dksX6_looks_1 : cX6_looks.data.toList.drop 23 = dktX6_looks_1 := dk_seg dksX6_looks_0 23 rfl rfl
theorem dksX6_looks_2 : cX6_looks.data.toList.drop 47 = dktX6_looks_2 := dk_seg dksX6_looks_1 24 rfl rfl
theorem dX6_looks_0 : decode cX6_looks 0 = .ok (.aload_n 0, 1) := dk_42 (dk_at dksX6_looks_0 0 rfl rfl)
theorem dX6_looks_1 : decode cX6_looks 1 = .ok (.aload_n 0, 1) := dk_42 (dk_at dksX6_looks_0 1 rfl rfl)
theorem dX6_looks_2 : decode cX6_looks 2 = .ok (.getfield 56, 3) := dk_180 0 56 (dk_at dksX6_looks_0 2 rfl rfl)
theorem dX6_looks_5 : decode cX6_looks 5 = .ok (.bipush 64, 2) := dk_16 64 (dk_at dksX6_looks_0 5 rfl rfl)
theorem dX6_looks_7 : decode cX6_looks 7 = .ok (.aload_n 0, 1) := dk_42 (dk_at dksX6_looks_0 7 rfl rfl)
theorem dX6_looks_8 : decode cX6_looks 8 = .ok (.getfield 268, 3) := dk_180 1 12 (dk_at dksX6_looks_0 8 rfl rfl)
theorem dX6_looks_11 : decode cX6_looks 11 = .ok (.iconst 1, 1) := dk_4 (dk_at dksX6_looks_0 11 rfl rfl)
theorem dX6_looks_12 : decode cX6_looks 12 = .ok (.isub, 1) := dk_100 (dk_at dksX6_looks_0 12 rfl rfl)
theorem dX6_looks_13 : decode cX6_looks 13 = .ok (.imul, 1) := dk_104 (dk_at dksX6_looks_0 13 rfl rfl)
theorem dX6_looks_14 : decode cX6_looks 14 = .ok (.invokevirtual 271, 3) := dk_182 1 15 (dk_at dksX6_looks_0 14 rfl rfl)
theorem dX6_looks_17 : decode cX6_looks 17 = .ok (.ifCond .eq 4, 3) := dk_153 0 4 (dk_at dksX6_looks_0 17 rfl rfl)
theorem dX6_looks_20 : decode cX6_looks 20 = .ok (.return_, 1) := dk_177 (dk_at dksX6_looks_0 20 rfl rfl)
theorem dX6_looks_21 : decode cX6_looks 21 = .ok (.aload_n 0, 1) := dk_42 (dk_at dksX6_looks_0 21 rfl rfl)
theorem dX6_looks_22 : decode cX6_looks 22 = .ok (.iconst 1, 1) := dk_4 (dk_at dksX6_looks_0 22 rfl rfl)
theorem dX6_looks_23 : decode cX6_looks 23 = .ok (.putfield 275, 3) := dk_181 1 19 (dk_at dksX6_looks_1 0 rfl rfl)
theorem dX6_looks_26 : decode cX6_looks 26 = .ok (.iconst 0, 1) := dk_3 (dk_at dksX6_looks_1 3 rfl rfl)
theorem dX6_looks_27 : decode cX6_looks 27 = .ok (.istore_n 1, 1) := dk_60 (dk_at dksX6_looks_1 4 rfl rfl)
theorem dX6_looks_28 : decode cX6_looks 28 = .ok (.iload_n 1, 1) := dk_27 (dk_at dksX6_looks_1 5 rfl rfl)
theorem dX6_looks_29 : decode cX6_looks 29 = .ok (.aload_n 0, 1) := dk_42 (dk_at dksX6_looks_1 6 rfl rfl)
theorem dX6_looks_30 : decode cX6_looks 30 = .ok (.getfield 235, 3) := dk_180 0 235 (dk_at dksX6_looks_1 7 rfl rfl)
theorem dX6_looks_33 : decode cX6_looks 33 = .ok (.if_icmp .ge 26, 3) := dk_162 0 26 (dk_at dksX6_looks_1 10 rfl rfl)
theorem dX6_looks_36 : decode cX6_looks 36 = .ok (.aload_n 0, 1) := dk_42 (dk_at dksX6_looks_1 13 rfl rfl)
theorem dX6_looks_37 : decode cX6_looks 37 = .ok (.getfield 56, 3) := dk_180 0 56 (dk_at dksX6_looks_1 14 rfl rfl)
theorem dX6_looks_40 : decode cX6_looks 40 = .ok (.bipush 64, 2) := dk_16 64 (dk_at dksX6_looks_1 17 rfl rfl)
theorem dX6_looks_42 : decode cX6_looks 42 = .ok (.aload_n 0, 1) := dk_42 (dk_at dksX6_looks_1 19 rfl rfl)
theorem dX6_looks_43 : decode cX6_looks 43 = .ok (.getfield 268, 3) := dk_180 1 12 (dk_at dksX6_looks_1 20 rfl rfl)
theorem dX6_looks_46 : decode cX6_looks 46 = .ok (.iconst 1, 1) := dk_4 (dk_at dksX6_looks_1 23 rfl rfl)
theorem dX6_looks_47 : decode cX6_looks 47 = .ok (.isub, 1) := dk_100 (dk_at dksX6_looks_2 0 rfl rfl)
theorem dX6_looks_48 : decode cX6_looks 48 = .ok (.imul, 1) := dk_104 (dk_at dksX6_looks_2 1 rfl rfl)
theorem dX6_looks_49 : decode cX6_looks 49 = .ok (.iload_n 1, 1) := dk_27 (dk_at dksX6_looks_2 2 rfl rfl)
theorem dX6_looks_50 : decode cX6_looks 50 = .ok (.iadd, 1) := dk_96 (dk_at dksX6_looks_2 3 rfl rfl)
theorem dX6_looks_51 : decode cX6_looks 51 = .ok (.lconst 0, 1) := dk_9 (dk_at dksX6_looks_2 4 rfl rfl)
theorem dX6_looks_52 : decode cX6_looks 52 = .ok (.lastore, 1) := dk_80 (dk_at dksX6_looks_2 5 rfl rfl)
theorem dX6_looks_53 : decode cX6_looks 53 = .ok (.iinc 1 1, 3) := dk_132 1 1 (dk_at dksX6_looks_2 6 rfl rfl)
theorem dX6_looks_56 : decode cX6_looks 56 = .ok (.goto (-28), 3) := dk_167 255 228 (dk_at dksX6_looks_2 9 rfl rfl)
theorem dX6_looks_59 : decode cX6_looks 59 = .ok (.return_, 1) := dk_177 (dk_at dksX6_looks_2 12 rfl rfl)
abbrev cX6_isFit : ByteArray := prog_16_method_40_code
def yX6_isFit : MethodName := ⟨RX6, "isFit", "([JI)Z"⟩
def dkwX6_isFit_3 : List UInt8 := [20, 1, 4, 20, 1, 6, 184, 0, 131, 62, 132, 4, 1, 167, 255, 222, 29, 172]
abbrev dktX6_isFit_3 : List UInt8 := dkwX6_isFit_3 ++ []
def dkwX6_isFit_2 : List UInt8 := [3, 54, 4, 21, 4, 42, 180, 0, 235, 162, 0, 31, 29, 153, 0, 27, 42, 43, 28, 21, 4, 182, 1, 8]
abbrev dktX6_isFit_2 : List UInt8 := dkwX6_isFit_2 ++ dktX6_isFit_3
def dkwX6_isFit_1 : List UInt8 := [20, 1, 4, 20, 1, 6, 184, 0, 131, 153, 0, 7, 4, 167, 0, 4, 3, 62, 132, 4, 1, 167, 255, 216]
abbrev dktX6_isFit_1 : List UInt8 := dkwX6_isFit_1 ++ dktX6_isFit_2
def dkwX6_isFit_0 : List UInt8 := [4, 62, 3, 54, 4, 21, 4, 42, 180, 0, 235, 162, 0, 37, 29, 153, 0, 25, 43, 28, 21, 4, 96, 47]
abbrev dktX6_isFit_0 : List UInt8 := dkwX6_isFit_0 ++ dktX6_isFit_1
theorem dksX6_isFit_0 : cX6_isFit.data.toList.drop 0 = dktX6_isFit_0 := by decide +kernel
theorem dksX6_isFit_1 : cX6_isFit.data.toList.drop 24 = dktX6_isFit_1 := dk_seg dksX6_isFit_0 24 rfl rfl
theorem dksX6_isFit_2 : cX6_isFit.data.toList.drop 48 = dktX6_isFit_2 := dk_seg dksX6_isFit_1 24 rfl rfl
theorem dksX6_isFit_3 : cX6_isFit.data.toList.drop 72 = dktX6_isFit_3 := dk_seg dksX6_isFit_2 24 rfl rfl
theorem dX6_isFit_0 : decode cX6_isFit 0 = .ok (.iconst 1, 1) := dk_4 (dk_at dksX6_isFit_0 0 rfl rfl)
theorem dX6_isFit_1 : decode cX6_isFit 1 = .ok (.istore_n 3, 1) := dk_62 (dk_at dksX6_isFit_0 1 rfl rfl)
theorem dX6_isFit_2 : decode cX6_isFit 2 = .ok (.iconst 0, 1) := dk_3 (dk_at dksX6_isFit_0 2 rfl rfl)
theorem dX6_isFit_3 : decode cX6_isFit 3 = .ok (.istore 4, 2) := dk_54 4 (dk_at dksX6_isFit_0 3 rfl rfl)
theorem dX6_isFit_5 : decode cX6_isFit 5 = .ok (.iload 4, 2) := dk_21 4 (dk_at dksX6_isFit_0 5 rfl rfl)
theorem dX6_isFit_7 : decode cX6_isFit 7 = .ok (.aload_n 0, 1) := dk_42 (dk_at dksX6_isFit_0 7 rfl rfl)
theorem dX6_isFit_8 : decode cX6_isFit 8 = .ok (.getfield 235, 3) := dk_180 0 235 (dk_at dksX6_isFit_0 8 rfl rfl)
theorem dX6_isFit_11 : decode cX6_isFit 11 = .ok (.if_icmp .ge 37, 3) := dk_162 0 37 (dk_at dksX6_isFit_0 11 rfl rfl)
theorem dX6_isFit_14 : decode cX6_isFit 14 = .ok (.iload_n 3, 1) := dk_29 (dk_at dksX6_isFit_0 14 rfl rfl)
theorem dX6_isFit_15 : decode cX6_isFit 15 = .ok (.ifCond .eq 25, 3) := dk_153 0 25 (dk_at dksX6_isFit_0 15 rfl rfl)
theorem dX6_isFit_18 : decode cX6_isFit 18 = .ok (.aload_n 1, 1) := dk_43 (dk_at dksX6_isFit_0 18 rfl rfl)
theorem dX6_isFit_19 : decode cX6_isFit 19 = .ok (.iload_n 2, 1) := dk_28 (dk_at dksX6_isFit_0 19 rfl rfl)
theorem dX6_isFit_20 : decode cX6_isFit 20 = .ok (.iload 4, 2) := dk_21 4 (dk_at dksX6_isFit_0 20 rfl rfl)
theorem dX6_isFit_22 : decode cX6_isFit 22 = .ok (.iadd, 1) := dk_96 (dk_at dksX6_isFit_0 22 rfl rfl)
theorem dX6_isFit_23 : decode cX6_isFit 23 = .ok (.laload, 1) := dk_47 (dk_at dksX6_isFit_0 23 rfl rfl)
theorem dX6_isFit_24 : decode cX6_isFit 24 = .ok (.ldc2_w 260, 3) := dk_20 1 4 (dk_at dksX6_isFit_1 0 rfl rfl)
theorem dX6_isFit_27 : decode cX6_isFit 27 = .ok (.ldc2_w 262, 3) := dk_20 1 6 (dk_at dksX6_isFit_1 3 rfl rfl)
theorem dX6_isFit_30 : decode cX6_isFit 30 = .ok (.invokestatic 131, 3) := dk_184 0 131 (dk_at dksX6_isFit_1 6 rfl rfl)
theorem dX6_isFit_33 : decode cX6_isFit 33 = .ok (.ifCond .eq 7, 3) := dk_153 0 7 (dk_at dksX6_isFit_1 9 rfl rfl)
theorem dX6_isFit_36 : decode cX6_isFit 36 = .ok (.iconst 1, 1) := dk_4 (dk_at dksX6_isFit_1 12 rfl rfl)
theorem dX6_isFit_37 : decode cX6_isFit 37 = .ok (.goto 4, 3) := dk_167 0 4 (dk_at dksX6_isFit_1 13 rfl rfl)
theorem dX6_isFit_40 : decode cX6_isFit 40 = .ok (.iconst 0, 1) := dk_3 (dk_at dksX6_isFit_1 16 rfl rfl)
theorem dX6_isFit_41 : decode cX6_isFit 41 = .ok (.istore_n 3, 1) := dk_62 (dk_at dksX6_isFit_1 17 rfl rfl)
theorem dX6_isFit_42 : decode cX6_isFit 42 = .ok (.iinc 4 1, 3) := dk_132 4 1 (dk_at dksX6_isFit_1 18 rfl rfl)
theorem dX6_isFit_45 : decode cX6_isFit 45 = .ok (.goto (-40), 3) := dk_167 255 216 (dk_at dksX6_isFit_1 21 rfl rfl)
theorem dX6_isFit_48 : decode cX6_isFit 48 = .ok (.iconst 0, 1) := dk_3 (dk_at dksX6_isFit_2 0 rfl rfl)
theorem dX6_isFit_49 : decode cX6_isFit 49 = .ok (.istore 4, 2) := dk_54 4 (dk_at dksX6_isFit_2 1 rfl rfl)
theorem dX6_isFit_51 : decode cX6_isFit 51 = .ok (.iload 4, 2) := dk_21 4 (dk_at dksX6_isFit_2 3 rfl rfl)
theorem dX6_isFit_53 : decode cX6_isFit 53 = .ok (.aload_n 0, 1) := dk_42 (dk_at dksX6_isFit_2 5 rfl rfl)
theorem dX6_isFit_54 : decode cX6_isFit 54 = .ok (.getfield 235, 3) := dk_180 0 235 (dk_at dksX6_isFit_2 6 rfl rfl)
theorem dX6_isFit_57 : decode cX6_isFit 57 = .ok (.if_icmp .ge 31, 3) := dk_162 0 31 (dk_at dksX6_isFit_2 9 rfl rfl)
theorem dX6_isFit_60 : decode cX6_isFit 60 = .ok (.iload_n 3, 1) := dk_29 (dk_at dksX6_isFit_2 12 rfl rfl)
theorem dX6_isFit_61 : decode cX6_isFit 61 = .ok (.ifCond .eq 27, 3) := dk_153 0 27 (dk_at dksX6_isFit_2 13 rfl rfl)
theorem dX6_isFit_64 : decode cX6_isFit 64 = .ok (.aload_n 0, 1) := dk_42 (dk_at dksX6_isFit_2 16 rfl rfl)
theorem dX6_isFit_65 : decode cX6_isFit 65 = .ok (.aload_n 1, 1) := dk_43 (dk_at dksX6_isFit_2 17 rfl rfl)
theorem dX6_isFit_66 : decode cX6_isFit 66 = .ok (.iload_n 2, 1) := dk_28 (dk_at dksX6_isFit_2 18 rfl rfl)
theorem dX6_isFit_67 : decode cX6_isFit 67 = .ok (.iload 4, 2) := dk_21 4 (dk_at dksX6_isFit_2 19 rfl rfl)
theorem dX6_isFit_69 : decode cX6_isFit 69 = .ok (.invokevirtual 264, 3) := dk_182 1 8 (dk_at dksX6_isFit_2 21 rfl rfl)
theorem dX6_isFit_72 : decode cX6_isFit 72 = .ok (.ldc2_w 260, 3) := dk_20 1 4 (dk_at dksX6_isFit_3 0 rfl rfl)
theorem dX6_isFit_75 : decode cX6_isFit 75 = .ok (.ldc2_w 262, 3) := dk_20 1 6 (dk_at dksX6_isFit_3 3 rfl rfl)
theorem dX6_isFit_78 : decode cX6_isFit 78 = .ok (.invokestatic 131, 3) := dk_184 0 131 (dk_at dksX6_isFit_3 6 rfl rfl)
theorem dX6_isFit_81 : decode cX6_isFit 81 = .ok (.istore_n 3, 1) := dk_62 (dk_at dksX6_isFit_3 9 rfl rfl)
theorem dX6_isFit_82 : decode cX6_isFit 82 = .ok (.iinc 4 1, 3) := dk_132 4 1 (dk_at dksX6_isFit_3 10 rfl rfl)
theorem dX6_isFit_85 : decode cX6_isFit 85 = .ok (.goto (-34), 3) := dk_167 255 222 (dk_at dksX6_isFit_3 13 rfl rfl)
theorem dX6_isFit_88 : decode cX6_isFit 88 = .ok (.iload_n 3, 1) := dk_29 (dk_at dksX6_isFit_3 16 rfl rfl)
theorem dX6_isFit_89 : decode cX6_isFit 89 = .ok (.ireturn, 1) := dk_172 (dk_at dksX6_isFit_3 17 rfl rfl)
abbrev cX6_markAt : ByteArray := prog_16_method_39_code
def yX6_markAt : MethodName := ⟨RX6, "markAt", "([JII)J"⟩
def dkwX6_markAt_2 : List UInt8 := [173]
abbrev dktX6_markAt_2 : List UInt8 := dkwX6_markAt_2 ++ []
def dkwX6_markAt_1 : List UInt8 := [180, 0, 50, 16, 64, 21, 6, 104, 29, 96, 46, 133, 105, 97, 55, 4, 132, 6, 1, 167, 255, 219, 22, 4]
abbrev dktX6_markAt_1 : List UInt8 := dkwX6_markAt_1 ++ dktX6_markAt_2
def dkwX6_markAt_0 : List UInt8 := [9, 55, 4, 3, 54, 6, 21, 6, 42, 180, 0, 235, 162, 0, 34, 22, 4, 43, 28, 21, 6, 96, 47, 42]
abbrev dktX6_markAt_0 : List UInt8 := dkwX6_markAt_0 ++ dktX6_markAt_1
theorem dksX6_markAt_0 : cX6_markAt.data.toList.drop 0 = dktX6_markAt_0 := by decide +kernel
theorem dksX6_markAt_1 : cX6_markAt.data.toList.drop 24 = dktX6_markAt_1 := dk_seg dksX6_markAt_0 24 rfl rfl
theorem dksX6_markAt_2 : cX6_markAt.data.toList.drop 48 = dktX6_markAt_2 := dk_seg dksX6_markAt_1 24 rfl rfl
theorem dX6_markAt_0 : decode cX6_markAt 0 = .ok (.lconst 0, 1) := dk_9 (dk_at dksX6_markAt_0 0 rfl rfl)
theorem dX6_markAt_1 : decode cX6_markAt 1 = .ok (.lstore 4, 2) := dk_55 4 (dk_at dksX6_markAt_0 1 rfl rfl)
theorem dX6_markAt_3 : decode cX6_markAt 3 = .ok (.iconst 0, 1) := dk_3 (dk_at dksX6_markAt_0 3 rfl rfl)
theorem dX6_markAt_4 : decode cX6_markAt 4 = .ok (.istore 6, 2) := dk_54 6 (dk_at dksX6_markAt_0 4 rfl rfl)
theorem dX6_markAt_6 : decode cX6_markAt 6 = .ok (.iload 6, 2) := dk_21 6 (dk_at dksX6_markAt_0 6 rfl rfl)
theorem dX6_markAt_8 : decode cX6_markAt 8 = .ok (.aload_n 0, 1) := dk_42 (dk_at dksX6_markAt_0 8 rfl rfl)
theorem dX6_markAt_9 : decode cX6_markAt 9 = .ok (.getfield 235, 3) := dk_180 0 235 (dk_at dksX6_markAt_0 9 rfl rfl)
theorem dX6_markAt_12 : decode cX6_markAt 12 = .ok (.if_icmp .ge 34, 3) := dk_162 0 34 (dk_at dksX6_markAt_0 12 rfl rfl)
theorem dX6_markAt_15 : decode cX6_markAt 15 = .ok (.lload 4, 2) := dk_22 4 (dk_at dksX6_markAt_0 15 rfl rfl)
theorem dX6_markAt_17 : decode cX6_markAt 17 = .ok (.aload_n 1, 1) := dk_43 (dk_at dksX6_markAt_0 17 rfl rfl)
theorem dX6_markAt_18 : decode cX6_markAt 18 = .ok (.iload_n 2, 1) := dk_28 (dk_at dksX6_markAt_0 18 rfl rfl)
theorem dX6_markAt_19 : decode cX6_markAt 19 = .ok (.iload 6, 2) := dk_21 6 (dk_at dksX6_markAt_0 19 rfl rfl)
theorem dX6_markAt_21 : decode cX6_markAt 21 = .ok (.iadd, 1) := dk_96 (dk_at dksX6_markAt_0 21 rfl rfl)
theorem dX6_markAt_22 : decode cX6_markAt 22 = .ok (.laload, 1) := dk_47 (dk_at dksX6_markAt_0 22 rfl rfl)
theorem dX6_markAt_23 : decode cX6_markAt 23 = .ok (.aload_n 0, 1) := dk_42 (dk_at dksX6_markAt_0 23 rfl rfl)
theorem dX6_markAt_24 : decode cX6_markAt 24 = .ok (.getfield 50, 3) := dk_180 0 50 (dk_at dksX6_markAt_1 0 rfl rfl)
theorem dX6_markAt_27 : decode cX6_markAt 27 = .ok (.bipush 64, 2) := dk_16 64 (dk_at dksX6_markAt_1 3 rfl rfl)
theorem dX6_markAt_29 : decode cX6_markAt 29 = .ok (.iload 6, 2) := dk_21 6 (dk_at dksX6_markAt_1 5 rfl rfl)
theorem dX6_markAt_31 : decode cX6_markAt 31 = .ok (.imul, 1) := dk_104 (dk_at dksX6_markAt_1 7 rfl rfl)
theorem dX6_markAt_32 : decode cX6_markAt 32 = .ok (.iload_n 3, 1) := dk_29 (dk_at dksX6_markAt_1 8 rfl rfl)
theorem dX6_markAt_33 : decode cX6_markAt 33 = .ok (.iadd, 1) := dk_96 (dk_at dksX6_markAt_1 9 rfl rfl)
theorem dX6_markAt_34 : decode cX6_markAt 34 = .ok (.iaload, 1) := dk_46 (dk_at dksX6_markAt_1 10 rfl rfl)
theorem dX6_markAt_35 : decode cX6_markAt 35 = .ok (.i2l, 1) := dk_133 (dk_at dksX6_markAt_1 11 rfl rfl)
theorem dX6_markAt_36 : decode cX6_markAt 36 = .ok (.lmul, 1) := dk_105 (dk_at dksX6_markAt_1 12 rfl rfl)
theorem dX6_markAt_37 : decode cX6_markAt 37 = .ok (.ladd, 1) := dk_97 (dk_at dksX6_markAt_1 13 rfl rfl)
theorem dX6_markAt_38 : decode cX6_markAt 38 = .ok (.lstore 4, 2) := dk_55 4 (dk_at dksX6_markAt_1 14 rfl rfl)
theorem dX6_markAt_40 : decode cX6_markAt 40 = .ok (.iinc 6 1, 3) := dk_132 6 1 (dk_at dksX6_markAt_1 16 rfl rfl)
theorem dX6_markAt_43 : decode cX6_markAt 43 = .ok (.goto (-37), 3) := dk_167 255 219 (dk_at dksX6_markAt_1 19 rfl rfl)
theorem dX6_markAt_46 : decode cX6_markAt 46 = .ok (.lload 4, 2) := dk_22 4 (dk_at dksX6_markAt_1 22 rfl rfl)
theorem dX6_markAt_48 : decode cX6_markAt 48 = .ok (.lreturn, 1) := dk_173 (dk_at dksX6_markAt_2 0 rfl rfl)
abbrev cX6_closes : ByteArray := prog_16_method_53_code
def yX6_closes : MethodName := ⟨RX6, "closes", "()V"⟩
def dkwX6_closes_3 : List UInt8 := [180, 1, 49, 4, 100, 181, 1, 49, 42, 89, 180, 1, 40, 4, 100, 181, 1, 40, 167, 255, 203, 177]
abbrev dktX6_closes_3 : List UInt8 := dkwX6_closes_3 ++ []
def dkwX6_closes_2 : List UInt8 := [158, 0, 45, 42, 180, 0, 72, 42, 180, 1, 49, 4, 100, 46, 4, 160, 0, 30, 42, 182, 1, 72, 42, 89]
abbrev dktX6_closes_2 : List UInt8 := dkwX6_closes_2 ++ dktX6_closes_3
def dkwX6_closes_1 : List UInt8 := [182, 0, 183, 153, 0, 8, 42, 27, 182, 1, 69, 42, 182, 0, 183, 153, 0, 52, 42, 180, 1, 49]
abbrev dktX6_closes_1 : List UInt8 := dkwX6_closes_1 ++ dktX6_closes_2
def dkwX6_closes_0 : List UInt8 := [42, 16, 94, 182, 0, 187, 153, 0, 27, 42, 182, 0, 193, 42, 3, 16, 9, 182, 1, 66, 60, 42]
abbrev dktX6_closes_0 : List UInt8 := dkwX6_closes_0 ++ dktX6_closes_1
theorem dksX6_closes_0 : cX6_closes.data.toList.drop 0 = dktX6_closes_0 := by decide +kernel
theorem dksX6_closes_1 : cX6_closes.data.toList.drop 22 = dktX6_closes_1 := dk_seg dksX6_closes_0 22 rfl rfl
theorem dksX6_closes_2 : cX6_closes.data.toList.drop 44 = dktX6_closes_2 := dk_seg dksX6_closes_1 22 rfl rfl
theorem dksX6_closes_3 : cX6_closes.data.toList.drop 68 = dktX6_closes_3 := dk_seg dksX6_closes_2 24 rfl rfl
theorem dX6_closes_0 : decode cX6_closes 0 = .ok (.aload_n 0, 1) := dk_42 (dk_at dksX6_closes_0 0 rfl rfl)
theorem dX6_closes_1 : decode cX6_closes 1 = .ok (.bipush 94, 2) := dk_16 94 (dk_at dksX6_closes_0 1 rfl rfl)
theorem dX6_closes_3 : decode cX6_closes 3 = .ok (.invokevirtual 187, 3) := dk_182 0 187 (dk_at dksX6_closes_0 3 rfl rfl)
theorem dX6_closes_6 : decode cX6_closes 6 = .ok (.ifCond .eq 27, 3) := dk_153 0 27 (dk_at dksX6_closes_0 6 rfl rfl)
theorem dX6_closes_9 : decode cX6_closes 9 = .ok (.aload_n 0, 1) := dk_42 (dk_at dksX6_closes_0 9 rfl rfl)
theorem dX6_closes_10 : decode cX6_closes 10 = .ok (.invokevirtual 193, 3) := dk_182 0 193 (dk_at dksX6_closes_0 10 rfl rfl)
theorem dX6_closes_13 : decode cX6_closes 13 = .ok (.aload_n 0, 1) := dk_42 (dk_at dksX6_closes_0 13 rfl rfl)
theorem dX6_closes_14 : decode cX6_closes 14 = .ok (.iconst 0, 1) := dk_3 (dk_at dksX6_closes_0 14 rfl rfl)
theorem dX6_closes_15 : decode cX6_closes 15 = .ok (.bipush 9, 2) := dk_16 9 (dk_at dksX6_closes_0 15 rfl rfl)
theorem dX6_closes_17 : decode cX6_closes 17 = .ok (.invokevirtual 322, 3) := dk_182 1 66 (dk_at dksX6_closes_0 17 rfl rfl)
theorem dX6_closes_20 : decode cX6_closes 20 = .ok (.istore_n 1, 1) := dk_60 (dk_at dksX6_closes_0 20 rfl rfl)
theorem dX6_closes_21 : decode cX6_closes 21 = .ok (.aload_n 0, 1) := dk_42 (dk_at dksX6_closes_0 21 rfl rfl)
theorem dX6_closes_22 : decode cX6_closes 22 = .ok (.invokevirtual 183, 3) := dk_182 0 183 (dk_at dksX6_closes_1 0 rfl rfl)
theorem dX6_closes_25 : decode cX6_closes 25 = .ok (.ifCond .eq 8, 3) := dk_153 0 8 (dk_at dksX6_closes_1 3 rfl rfl)
theorem dX6_closes_28 : decode cX6_closes 28 = .ok (.aload_n 0, 1) := dk_42 (dk_at dksX6_closes_1 6 rfl rfl)
theorem dX6_closes_29 : decode cX6_closes 29 = .ok (.iload_n 1, 1) := dk_27 (dk_at dksX6_closes_1 7 rfl rfl)
theorem dX6_closes_30 : decode cX6_closes 30 = .ok (.invokevirtual 325, 3) := dk_182 1 69 (dk_at dksX6_closes_1 8 rfl rfl)
theorem dX6_closes_33 : decode cX6_closes 33 = .ok (.aload_n 0, 1) := dk_42 (dk_at dksX6_closes_1 11 rfl rfl)
theorem dX6_closes_34 : decode cX6_closes 34 = .ok (.invokevirtual 183, 3) := dk_182 0 183 (dk_at dksX6_closes_1 12 rfl rfl)
theorem dX6_closes_37 : decode cX6_closes 37 = .ok (.ifCond .eq 52, 3) := dk_153 0 52 (dk_at dksX6_closes_1 15 rfl rfl)
theorem dX6_closes_40 : decode cX6_closes 40 = .ok (.aload_n 0, 1) := dk_42 (dk_at dksX6_closes_1 18 rfl rfl)
theorem dX6_closes_41 : decode cX6_closes 41 = .ok (.getfield 305, 3) := dk_180 1 49 (dk_at dksX6_closes_1 19 rfl rfl)
theorem dX6_closes_44 : decode cX6_closes 44 = .ok (.ifCond .le 45, 3) := dk_158 0 45 (dk_at dksX6_closes_2 0 rfl rfl)
theorem dX6_closes_47 : decode cX6_closes 47 = .ok (.aload_n 0, 1) := dk_42 (dk_at dksX6_closes_2 3 rfl rfl)
theorem dX6_closes_48 : decode cX6_closes 48 = .ok (.getfield 72, 3) := dk_180 0 72 (dk_at dksX6_closes_2 4 rfl rfl)
theorem dX6_closes_51 : decode cX6_closes 51 = .ok (.aload_n 0, 1) := dk_42 (dk_at dksX6_closes_2 7 rfl rfl)
theorem dX6_closes_52 : decode cX6_closes 52 = .ok (.getfield 305, 3) := dk_180 1 49 (dk_at dksX6_closes_2 8 rfl rfl)
theorem dX6_closes_55 : decode cX6_closes 55 = .ok (.iconst 1, 1) := dk_4 (dk_at dksX6_closes_2 11 rfl rfl)
theorem dX6_closes_56 : decode cX6_closes 56 = .ok (.isub, 1) := dk_100 (dk_at dksX6_closes_2 12 rfl rfl)
theorem dX6_closes_57 : decode cX6_closes 57 = .ok (.iaload, 1) := dk_46 (dk_at dksX6_closes_2 13 rfl rfl)
theorem dX6_closes_58 : decode cX6_closes 58 = .ok (.iconst 1, 1) := dk_4 (dk_at dksX6_closes_2 14 rfl rfl)
theorem dX6_closes_59 : decode cX6_closes 59 = .ok (.if_icmp .ne 30, 3) := dk_160 0 30 (dk_at dksX6_closes_2 15 rfl rfl)
theorem dX6_closes_62 : decode cX6_closes 62 = .ok (.aload_n 0, 1) := dk_42 (dk_at dksX6_closes_2 18 rfl rfl)
theorem dX6_closes_63 : decode cX6_closes 63 = .ok (.invokevirtual 328, 3) := dk_182 1 72 (dk_at dksX6_closes_2 19 rfl rfl)
theorem dX6_closes_66 : decode cX6_closes 66 = .ok (.aload_n 0, 1) := dk_42 (dk_at dksX6_closes_2 22 rfl rfl)
theorem dX6_closes_67 : decode cX6_closes 67 = .ok (.dup, 1) := dk_89 (dk_at dksX6_closes_2 23 rfl rfl)
theorem dX6_closes_68 : decode cX6_closes 68 = .ok (.getfield 305, 3) := dk_180 1 49 (dk_at dksX6_closes_3 0 rfl rfl)
theorem dX6_closes_71 : decode cX6_closes 71 = .ok (.iconst 1, 1) := dk_4 (dk_at dksX6_closes_3 3 rfl rfl)
theorem dX6_closes_72 : decode cX6_closes 72 = .ok (.isub, 1) := dk_100 (dk_at dksX6_closes_3 4 rfl rfl)
theorem dX6_closes_73 : decode cX6_closes 73 = .ok (.putfield 305, 3) := dk_181 1 49 (dk_at dksX6_closes_3 5 rfl rfl)
theorem dX6_closes_76 : decode cX6_closes 76 = .ok (.aload_n 0, 1) := dk_42 (dk_at dksX6_closes_3 8 rfl rfl)
theorem dX6_closes_77 : decode cX6_closes 77 = .ok (.dup, 1) := dk_89 (dk_at dksX6_closes_3 9 rfl rfl)
theorem dX6_closes_78 : decode cX6_closes 78 = .ok (.getfield 296, 3) := dk_180 1 40 (dk_at dksX6_closes_3 10 rfl rfl)
theorem dX6_closes_81 : decode cX6_closes 81 = .ok (.iconst 1, 1) := dk_4 (dk_at dksX6_closes_3 13 rfl rfl)
theorem dX6_closes_82 : decode cX6_closes 82 = .ok (.isub, 1) := dk_100 (dk_at dksX6_closes_3 14 rfl rfl)
theorem dX6_closes_83 : decode cX6_closes 83 = .ok (.putfield 296, 3) := dk_181 1 40 (dk_at dksX6_closes_3 15 rfl rfl)
theorem dX6_closes_86 : decode cX6_closes 86 = .ok (.goto (-53), 3) := dk_167 255 203 (dk_at dksX6_closes_3 18 rfl rfl)
theorem dX6_closes_89 : decode cX6_closes 89 = .ok (.return_, 1) := dk_177 (dk_at dksX6_closes_3 21 rfl rfl)
abbrev cX6_powers : ByteArray := prog_16_method_48_code
def yX6_powers : MethodName := ⟨RX6, "powers", "(I)V"⟩
def dkwX6_powers_4 : List UInt8 := [42, 180, 1, 12, 4, 100, 104, 182, 1, 33, 177]
abbrev dktX6_powers_4 : List UInt8 := dkwX6_powers_4 ++ []
def dkwX6_powers_3 : List UInt8 := [182, 1, 23, 132, 2, 1, 167, 255, 219, 27, 154, 0, 24, 42, 42, 180, 0, 60, 42, 180, 0, 56, 16, 64]
abbrev dktX6_powers_3 : List UInt8 := dkwX6_powers_3 ++ dktX6_powers_4
def dkwX6_powers_2 : List UInt8 := [42, 42, 180, 0, 60, 42, 180, 0, 56, 16, 64, 42, 180, 1, 12, 4, 100, 104, 182, 1, 33, 42]
abbrev dktX6_powers_2 : List UInt8 := dkwX6_powers_2 ++ dktX6_powers_3
def dkwX6_powers_1 : List UInt8 := [42, 180, 0, 60, 28, 10, 80, 132, 2, 1, 167, 255, 238, 3, 61, 28, 27, 162, 0, 38, 42, 182, 1, 30]
abbrev dktX6_powers_1 : List UInt8 := dkwX6_powers_1 ++ dktX6_powers_2
def dkwX6_powers_0 : List UInt8 := [42, 42, 180, 1, 12, 4, 100, 42, 180, 0, 63, 182, 1, 26, 3, 61, 28, 42, 180, 0, 235, 162, 0, 16]
abbrev dktX6_powers_0 : List UInt8 := dkwX6_powers_0 ++ dktX6_powers_1
theorem dksX6_powers_0 : cX6_powers.data.toList.drop 0 = dktX6_powers_0 := by decide +kernel
theorem dksX6_powers_1 : cX6_powers.data.toList.drop 24 = dktX6_powers_1 := dk_seg dksX6_powers_0 24 rfl rfl
theorem dksX6_powers_2 : cX6_powers.data.toList.drop 48 = dktX6_powers_2 := dk_seg dksX6_powers_1 24 rfl rfl
theorem dksX6_powers_3 : cX6_powers.data.toList.drop 70 = dktX6_powers_3 := dk_seg dksX6_powers_2 22 rfl rfl
theorem dksX6_powers_4 : cX6_powers.data.toList.drop 94 = dktX6_powers_4 := dk_seg dksX6_powers_3 24 rfl rfl
theorem dX6_powers_0 : decode cX6_powers 0 = .ok (.aload_n 0, 1) := dk_42 (dk_at dksX6_powers_0 0 rfl rfl)
theorem dX6_powers_1 : decode cX6_powers 1 = .ok (.aload_n 0, 1) := dk_42 (dk_at dksX6_powers_0 1 rfl rfl)
theorem dX6_powers_2 : decode cX6_powers 2 = .ok (.getfield 268, 3) := dk_180 1 12 (dk_at dksX6_powers_0 2 rfl rfl)
theorem dX6_powers_5 : decode cX6_powers 5 = .ok (.iconst 1, 1) := dk_4 (dk_at dksX6_powers_0 5 rfl rfl)
theorem dX6_powers_6 : decode cX6_powers 6 = .ok (.isub, 1) := dk_100 (dk_at dksX6_powers_0 6 rfl rfl)
theorem dX6_powers_7 : decode cX6_powers 7 = .ok (.aload_n 0, 1) := dk_42 (dk_at dksX6_powers_0 7 rfl rfl)
theorem dX6_powers_8 : decode cX6_powers 8 = .ok (.getfield 63, 3) := dk_180 0 63 (dk_at dksX6_powers_0 8 rfl rfl)
theorem dX6_powers_11 : decode cX6_powers 11 = .ok (.invokevirtual 282, 3) := dk_182 1 26 (dk_at dksX6_powers_0 11 rfl rfl)
theorem dX6_powers_14 : decode cX6_powers 14 = .ok (.iconst 0, 1) := dk_3 (dk_at dksX6_powers_0 14 rfl rfl)
theorem dX6_powers_15 : decode cX6_powers 15 = .ok (.istore_n 2, 1) := dk_61 (dk_at dksX6_powers_0 15 rfl rfl)
theorem dX6_powers_16 : decode cX6_powers 16 = .ok (.iload_n 2, 1) := dk_28 (dk_at dksX6_powers_0 16 rfl rfl)
theorem dX6_powers_17 : decode cX6_powers 17 = .ok (.aload_n 0, 1) := dk_42 (dk_at dksX6_powers_0 17 rfl rfl)
theorem dX6_powers_18 : decode cX6_powers 18 = .ok (.getfield 235, 3) := dk_180 0 235 (dk_at dksX6_powers_0 18 rfl rfl)
theorem dX6_powers_21 : decode cX6_powers 21 = .ok (.if_icmp .ge 16, 3) := dk_162 0 16 (dk_at dksX6_powers_0 21 rfl rfl)
theorem dX6_powers_24 : decode cX6_powers 24 = .ok (.aload_n 0, 1) := dk_42 (dk_at dksX6_powers_1 0 rfl rfl)
theorem dX6_powers_25 : decode cX6_powers 25 = .ok (.getfield 60, 3) := dk_180 0 60 (dk_at dksX6_powers_1 1 rfl rfl)
theorem dX6_powers_28 : decode cX6_powers 28 = .ok (.iload_n 2, 1) := dk_28 (dk_at dksX6_powers_1 4 rfl rfl)
theorem dX6_powers_29 : decode cX6_powers 29 = .ok (.lconst 1, 1) := dk_10 (dk_at dksX6_powers_1 5 rfl rfl)
theorem dX6_powers_30 : decode cX6_powers 30 = .ok (.lastore, 1) := dk_80 (dk_at dksX6_powers_1 6 rfl rfl)
theorem dX6_powers_31 : decode cX6_powers 31 = .ok (.iinc 2 1, 3) := dk_132 2 1 (dk_at dksX6_powers_1 7 rfl rfl)
theorem dX6_powers_34 : decode cX6_powers 34 = .ok (.goto (-18), 3) := dk_167 255 238 (dk_at dksX6_powers_1 10 rfl rfl)
theorem dX6_powers_37 : decode cX6_powers 37 = .ok (.iconst 0, 1) := dk_3 (dk_at dksX6_powers_1 13 rfl rfl)
theorem dX6_powers_38 : decode cX6_powers 38 = .ok (.istore_n 2, 1) := dk_61 (dk_at dksX6_powers_1 14 rfl rfl)
theorem dX6_powers_39 : decode cX6_powers 39 = .ok (.iload_n 2, 1) := dk_28 (dk_at dksX6_powers_1 15 rfl rfl)
theorem dX6_powers_40 : decode cX6_powers 40 = .ok (.iload_n 1, 1) := dk_27 (dk_at dksX6_powers_1 16 rfl rfl)
theorem dX6_powers_41 : decode cX6_powers 41 = .ok (.if_icmp .ge 38, 3) := dk_162 0 38 (dk_at dksX6_powers_1 17 rfl rfl)
theorem dX6_powers_44 : decode cX6_powers 44 = .ok (.aload_n 0, 1) := dk_42 (dk_at dksX6_powers_1 20 rfl rfl)
theorem dX6_powers_45 : decode cX6_powers 45 = .ok (.invokevirtual 286, 3) := dk_182 1 30 (dk_at dksX6_powers_1 21 rfl rfl)
theorem dX6_powers_48 : decode cX6_powers 48 = .ok (.aload_n 0, 1) := dk_42 (dk_at dksX6_powers_2 0 rfl rfl)
theorem dX6_powers_49 : decode cX6_powers 49 = .ok (.aload_n 0, 1) := dk_42 (dk_at dksX6_powers_2 1 rfl rfl)
theorem dX6_powers_50 : decode cX6_powers 50 = .ok (.getfield 60, 3) := dk_180 0 60 (dk_at dksX6_powers_2 2 rfl rfl)
theorem dX6_powers_53 : decode cX6_powers 53 = .ok (.aload_n 0, 1) := dk_42 (dk_at dksX6_powers_2 5 rfl rfl)
theorem dX6_powers_54 : decode cX6_powers 54 = .ok (.getfield 56, 3) := dk_180 0 56 (dk_at dksX6_powers_2 6 rfl rfl)
theorem dX6_powers_57 : decode cX6_powers 57 = .ok (.bipush 64, 2) := dk_16 64 (dk_at dksX6_powers_2 9 rfl rfl)
theorem dX6_powers_59 : decode cX6_powers 59 = .ok (.aload_n 0, 1) := dk_42 (dk_at dksX6_powers_2 11 rfl rfl)
theorem dX6_powers_60 : decode cX6_powers 60 = .ok (.getfield 268, 3) := dk_180 1 12 (dk_at dksX6_powers_2 12 rfl rfl)
theorem dX6_powers_63 : decode cX6_powers 63 = .ok (.iconst 1, 1) := dk_4 (dk_at dksX6_powers_2 15 rfl rfl)
theorem dX6_powers_64 : decode cX6_powers 64 = .ok (.isub, 1) := dk_100 (dk_at dksX6_powers_2 16 rfl rfl)
theorem dX6_powers_65 : decode cX6_powers 65 = .ok (.imul, 1) := dk_104 (dk_at dksX6_powers_2 17 rfl rfl)
theorem dX6_powers_66 : decode cX6_powers 66 = .ok (.invokevirtual 289, 3) := dk_182 1 33 (dk_at dksX6_powers_2 18 rfl rfl)
theorem dX6_powers_69 : decode cX6_powers 69 = .ok (.aload_n 0, 1) := dk_42 (dk_at dksX6_powers_2 21 rfl rfl)
theorem dX6_powers_70 : decode cX6_powers 70 = .ok (.invokevirtual 279, 3) := dk_182 1 23 (dk_at dksX6_powers_3 0 rfl rfl)
theorem dX6_powers_73 : decode cX6_powers 73 = .ok (.iinc 2 1, 3) := dk_132 2 1 (dk_at dksX6_powers_3 3 rfl rfl)
theorem dX6_powers_76 : decode cX6_powers 76 = .ok (.goto (-37), 3) := dk_167 255 219 (dk_at dksX6_powers_3 6 rfl rfl)
theorem dX6_powers_79 : decode cX6_powers 79 = .ok (.iload_n 1, 1) := dk_27 (dk_at dksX6_powers_3 9 rfl rfl)
theorem dX6_powers_80 : decode cX6_powers 80 = .ok (.ifCond .ne 24, 3) := dk_154 0 24 (dk_at dksX6_powers_3 10 rfl rfl)
theorem dX6_powers_83 : decode cX6_powers 83 = .ok (.aload_n 0, 1) := dk_42 (dk_at dksX6_powers_3 13 rfl rfl)
theorem dX6_powers_84 : decode cX6_powers 84 = .ok (.aload_n 0, 1) := dk_42 (dk_at dksX6_powers_3 14 rfl rfl)
theorem dX6_powers_85 : decode cX6_powers 85 = .ok (.getfield 60, 3) := dk_180 0 60 (dk_at dksX6_powers_3 15 rfl rfl)
theorem dX6_powers_88 : decode cX6_powers 88 = .ok (.aload_n 0, 1) := dk_42 (dk_at dksX6_powers_3 18 rfl rfl)
theorem dX6_powers_89 : decode cX6_powers 89 = .ok (.getfield 56, 3) := dk_180 0 56 (dk_at dksX6_powers_3 19 rfl rfl)
theorem dX6_powers_92 : decode cX6_powers 92 = .ok (.bipush 64, 2) := dk_16 64 (dk_at dksX6_powers_3 22 rfl rfl)
theorem dX6_powers_94 : decode cX6_powers 94 = .ok (.aload_n 0, 1) := dk_42 (dk_at dksX6_powers_4 0 rfl rfl)
theorem dX6_powers_95 : decode cX6_powers 95 = .ok (.getfield 268, 3) := dk_180 1 12 (dk_at dksX6_powers_4 1 rfl rfl)
theorem dX6_powers_98 : decode cX6_powers 98 = .ok (.iconst 1, 1) := dk_4 (dk_at dksX6_powers_4 4 rfl rfl)
theorem dX6_powers_99 : decode cX6_powers 99 = .ok (.isub, 1) := dk_100 (dk_at dksX6_powers_4 5 rfl rfl)
theorem dX6_powers_100 : decode cX6_powers 100 = .ok (.imul, 1) := dk_104 (dk_at dksX6_powers_4 6 rfl rfl)
theorem dX6_powers_101 : decode cX6_powers 101 = .ok (.invokevirtual 289, 3) := dk_182 1 33 (dk_at dksX6_powers_4 7 rfl rfl)
theorem dX6_powers_104 : decode cX6_powers 104 = .ok (.return_, 1) := dk_177 (dk_at dksX6_powers_4 10 rfl rfl)
abbrev cX6_marksOf : ByteArray := prog_16_method_45_code
def yX6_marksOf : MethodName := ⟨RX6, "marksOf", "(I[J)V"⟩
def dkwX6_marksOf_1 : List UInt8 := [182, 1, 8, 80, 132, 3, 1, 167, 255, 229, 177]
abbrev dktX6_marksOf_1 : List UInt8 := dkwX6_marksOf_1 ++ []
def dkwX6_marksOf_0 : List UInt8 := [3, 62, 29, 42, 180, 0, 235, 162, 0, 25, 44, 29, 42, 42, 180, 0, 56, 16, 64, 27, 104, 29]
abbrev dktX6_marksOf_0 : List UInt8 := dkwX6_marksOf_0 ++ dktX6_marksOf_1
theorem dksX6_marksOf_0 : cX6_marksOf.data.toList.drop 0 = dktX6_marksOf_0 := by decide +kernel
theorem dksX6_marksOf_1 : cX6_marksOf.data.toList.drop 22 = dktX6_marksOf_1 := dk_seg dksX6_marksOf_0 22 rfl rfl
theorem dX6_marksOf_0 : decode cX6_marksOf 0 = .ok (.iconst 0, 1) := dk_3 (dk_at dksX6_marksOf_0 0 rfl rfl)
theorem dX6_marksOf_1 : decode cX6_marksOf 1 = .ok (.istore_n 3, 1) := dk_62 (dk_at dksX6_marksOf_0 1 rfl rfl)
theorem dX6_marksOf_2 : decode cX6_marksOf 2 = .ok (.iload_n 3, 1) := dk_29 (dk_at dksX6_marksOf_0 2 rfl rfl)
theorem dX6_marksOf_3 : decode cX6_marksOf 3 = .ok (.aload_n 0, 1) := dk_42 (dk_at dksX6_marksOf_0 3 rfl rfl)
theorem dX6_marksOf_4 : decode cX6_marksOf 4 = .ok (.getfield 235, 3) := dk_180 0 235 (dk_at dksX6_marksOf_0 4 rfl rfl)
theorem dX6_marksOf_7 : decode cX6_marksOf 7 = .ok (.if_icmp .ge 25, 3) := dk_162 0 25 (dk_at dksX6_marksOf_0 7 rfl rfl)
theorem dX6_marksOf_10 : decode cX6_marksOf 10 = .ok (.aload_n 2, 1) := dk_44 (dk_at dksX6_marksOf_0 10 rfl rfl)
theorem dX6_marksOf_11 : decode cX6_marksOf 11 = .ok (.iload_n 3, 1) := dk_29 (dk_at dksX6_marksOf_0 11 rfl rfl)
theorem dX6_marksOf_12 : decode cX6_marksOf 12 = .ok (.aload_n 0, 1) := dk_42 (dk_at dksX6_marksOf_0 12 rfl rfl)
theorem dX6_marksOf_13 : decode cX6_marksOf 13 = .ok (.aload_n 0, 1) := dk_42 (dk_at dksX6_marksOf_0 13 rfl rfl)
theorem dX6_marksOf_14 : decode cX6_marksOf 14 = .ok (.getfield 56, 3) := dk_180 0 56 (dk_at dksX6_marksOf_0 14 rfl rfl)
theorem dX6_marksOf_17 : decode cX6_marksOf 17 = .ok (.bipush 64, 2) := dk_16 64 (dk_at dksX6_marksOf_0 17 rfl rfl)
theorem dX6_marksOf_19 : decode cX6_marksOf 19 = .ok (.iload_n 1, 1) := dk_27 (dk_at dksX6_marksOf_0 19 rfl rfl)
theorem dX6_marksOf_20 : decode cX6_marksOf 20 = .ok (.imul, 1) := dk_104 (dk_at dksX6_marksOf_0 20 rfl rfl)
theorem dX6_marksOf_21 : decode cX6_marksOf 21 = .ok (.iload_n 3, 1) := dk_29 (dk_at dksX6_marksOf_0 21 rfl rfl)
theorem dX6_marksOf_22 : decode cX6_marksOf 22 = .ok (.invokevirtual 264, 3) := dk_182 1 8 (dk_at dksX6_marksOf_1 0 rfl rfl)
theorem dX6_marksOf_25 : decode cX6_marksOf 25 = .ok (.lastore, 1) := dk_80 (dk_at dksX6_marksOf_1 3 rfl rfl)
theorem dX6_marksOf_26 : decode cX6_marksOf 26 = .ok (.iinc 3 1, 3) := dk_132 3 1 (dk_at dksX6_marksOf_1 4 rfl rfl)
theorem dX6_marksOf_29 : decode cX6_marksOf 29 = .ok (.goto (-27), 3) := dk_167 255 229 (dk_at dksX6_marksOf_1 7 rfl rfl)
theorem dX6_marksOf_32 : decode cX6_marksOf 32 = .ok (.return_, 1) := dk_177 (dk_at dksX6_marksOf_1 10 rfl rfl)
abbrev cX6_multiplies : ByteArray := prog_16_method_44_code
def yX6_multiplies : MethodName := ⟨RX6, "multiplies", "()V"⟩
def dkwX6_multiplies_5 : List UInt8 := [80, 132, 1, 1, 167, 255, 136, 177]
abbrev dktX6_multiplies_5 : List UInt8 := dkwX6_multiplies_5 ++ []
def dkwX6_multiplies_4 : List UInt8 := [42, 180, 1, 19, 153, 0, 7, 9, 167, 0, 16, 42, 180, 0, 60, 27, 47, 42, 180, 0, 63, 27, 47, 105]
abbrev dktX6_multiplies_4 : List UInt8 := dkwX6_multiplies_4 ++ dktX6_multiplies_5
def dkwX6_multiplies_3 : List UInt8 := [158, 0, 19, 22, 4, 20, 1, 6, 32, 109, 148, 158, 0, 8, 42, 4, 181, 1, 19, 42, 180, 0, 60, 27]
abbrev dktX6_multiplies_3 : List UInt8 := dkwX6_multiplies_3 ++ dktX6_multiplies_4
def dkwX6_multiplies_2 : List UInt8 := [156, 0, 13, 42, 180, 0, 63, 27, 47, 117, 167, 0, 9, 42, 180, 0, 63, 27, 47, 55, 4, 32, 9, 148]
abbrev dktX6_multiplies_2 : List UInt8 := dkwX6_multiplies_2 ++ dktX6_multiplies_3
def dkwX6_multiplies_1 : List UInt8 := [180, 0, 60, 27, 47, 117, 167, 0, 9, 42, 180, 0, 60, 27, 47, 65, 42, 180, 0, 63, 27, 47, 9, 148]
abbrev dktX6_multiplies_1 : List UInt8 := dkwX6_multiplies_1 ++ dktX6_multiplies_2
def dkwX6_multiplies_0 : List UInt8 := [3, 60, 27, 42, 180, 0, 235, 162, 0, 118, 42, 180, 0, 60, 27, 47, 9, 148, 156, 0, 13, 42]
abbrev dktX6_multiplies_0 : List UInt8 := dkwX6_multiplies_0 ++ dktX6_multiplies_1
theorem dksX6_multiplies_0 : cX6_multiplies.data.toList.drop 0 = dktX6_multiplies_0 := by decide +kernel
theorem dksX6_multiplies_1 : cX6_multiplies.data.toList.drop 22 = dktX6_multiplies_1 := dk_seg dksX6_multiplies_0 22 rfl rfl
theorem dksX6_multiplies_2 : cX6_multiplies.data.toList.drop 46 = dktX6_multiplies_2 := dk_seg dksX6_multiplies_1 24 rfl rfl
theorem dksX6_multiplies_3 : cX6_multiplies.data.toList.drop 70 = dktX6_multiplies_3 := dk_seg dksX6_multiplies_2 24 rfl rfl
theorem dksX6_multiplies_4 : cX6_multiplies.data.toList.drop 94 = dktX6_multiplies_4 := dk_seg dksX6_multiplies_3 24 rfl rfl
theorem dksX6_multiplies_5 : cX6_multiplies.data.toList.drop 118 = dktX6_multiplies_5 := dk_seg dksX6_multiplies_4 24 rfl rfl
theorem dX6_multiplies_0 : decode cX6_multiplies 0 = .ok (.iconst 0, 1) := dk_3 (dk_at dksX6_multiplies_0 0 rfl rfl)
theorem dX6_multiplies_1 : decode cX6_multiplies 1 = .ok (.istore_n 1, 1) := dk_60 (dk_at dksX6_multiplies_0 1 rfl rfl)
theorem dX6_multiplies_2 : decode cX6_multiplies 2 = .ok (.iload_n 1, 1) := dk_27 (dk_at dksX6_multiplies_0 2 rfl rfl)
theorem dX6_multiplies_3 : decode cX6_multiplies 3 = .ok (.aload_n 0, 1) := dk_42 (dk_at dksX6_multiplies_0 3 rfl rfl)
theorem dX6_multiplies_4 : decode cX6_multiplies 4 = .ok (.getfield 235, 3) := dk_180 0 235 (dk_at dksX6_multiplies_0 4 rfl rfl)
theorem dX6_multiplies_7 : decode cX6_multiplies 7 = .ok (.if_icmp .ge 118, 3) := dk_162 0 118 (dk_at dksX6_multiplies_0 7 rfl rfl)
theorem dX6_multiplies_10 : decode cX6_multiplies 10 = .ok (.aload_n 0, 1) := dk_42 (dk_at dksX6_multiplies_0 10 rfl rfl)
theorem dX6_multiplies_11 : decode cX6_multiplies 11 = .ok (.getfield 60, 3) := dk_180 0 60 (dk_at dksX6_multiplies_0 11 rfl rfl)
theorem dX6_multiplies_14 : decode cX6_multiplies 14 = .ok (.iload_n 1, 1) := dk_27 (dk_at dksX6_multiplies_0 14 rfl rfl)
theorem dX6_multiplies_15 : decode cX6_multiplies 15 = .ok (.laload, 1) := dk_47 (dk_at dksX6_multiplies_0 15 rfl rfl)
theorem dX6_multiplies_16 : decode cX6_multiplies 16 = .ok (.lconst 0, 1) := dk_9 (dk_at dksX6_multiplies_0 16 rfl rfl)
theorem dX6_multiplies_17 : decode cX6_multiplies 17 = .ok (.lcmp, 1) := dk_148 (dk_at dksX6_multiplies_0 17 rfl rfl)
theorem dX6_multiplies_18 : decode cX6_multiplies 18 = .ok (.ifCond .ge 13, 3) := dk_156 0 13 (dk_at dksX6_multiplies_0 18 rfl rfl)
theorem dX6_multiplies_21 : decode cX6_multiplies 21 = .ok (.aload_n 0, 1) := dk_42 (dk_at dksX6_multiplies_0 21 rfl rfl)
theorem dX6_multiplies_22 : decode cX6_multiplies 22 = .ok (.getfield 60, 3) := dk_180 0 60 (dk_at dksX6_multiplies_1 0 rfl rfl)
theorem dX6_multiplies_25 : decode cX6_multiplies 25 = .ok (.iload_n 1, 1) := dk_27 (dk_at dksX6_multiplies_1 3 rfl rfl)
theorem dX6_multiplies_26 : decode cX6_multiplies 26 = .ok (.laload, 1) := dk_47 (dk_at dksX6_multiplies_1 4 rfl rfl)
theorem dX6_multiplies_27 : decode cX6_multiplies 27 = .ok (.lneg, 1) := dk_117 (dk_at dksX6_multiplies_1 5 rfl rfl)
theorem dX6_multiplies_28 : decode cX6_multiplies 28 = .ok (.goto 9, 3) := dk_167 0 9 (dk_at dksX6_multiplies_1 6 rfl rfl)
theorem dX6_multiplies_31 : decode cX6_multiplies 31 = .ok (.aload_n 0, 1) := dk_42 (dk_at dksX6_multiplies_1 9 rfl rfl)
theorem dX6_multiplies_32 : decode cX6_multiplies 32 = .ok (.getfield 60, 3) := dk_180 0 60 (dk_at dksX6_multiplies_1 10 rfl rfl)
theorem dX6_multiplies_35 : decode cX6_multiplies 35 = .ok (.iload_n 1, 1) := dk_27 (dk_at dksX6_multiplies_1 13 rfl rfl)
theorem dX6_multiplies_36 : decode cX6_multiplies 36 = .ok (.laload, 1) := dk_47 (dk_at dksX6_multiplies_1 14 rfl rfl)
theorem dX6_multiplies_37 : decode cX6_multiplies 37 = .ok (.lstore_n 2, 1) := dk_65 (dk_at dksX6_multiplies_1 15 rfl rfl)
theorem dX6_multiplies_38 : decode cX6_multiplies 38 = .ok (.aload_n 0, 1) := dk_42 (dk_at dksX6_multiplies_1 16 rfl rfl)
theorem dX6_multiplies_39 : decode cX6_multiplies 39 = .ok (.getfield 63, 3) := dk_180 0 63 (dk_at dksX6_multiplies_1 17 rfl rfl)
theorem dX6_multiplies_42 : decode cX6_multiplies 42 = .ok (.iload_n 1, 1) := dk_27 (dk_at dksX6_multiplies_1 20 rfl rfl)
theorem dX6_multiplies_43 : decode cX6_multiplies 43 = .ok (.laload, 1) := dk_47 (dk_at dksX6_multiplies_1 21 rfl rfl)
theorem dX6_multiplies_44 : decode cX6_multiplies 44 = .ok (.lconst 0, 1) := dk_9 (dk_at dksX6_multiplies_1 22 rfl rfl)
theorem dX6_multiplies_45 : decode cX6_multiplies 45 = .ok (.lcmp, 1) := dk_148 (dk_at dksX6_multiplies_1 23 rfl rfl)
theorem dX6_multiplies_46 : decode cX6_multiplies 46 = .ok (.ifCond .ge 13, 3) := dk_156 0 13 (dk_at dksX6_multiplies_2 0 rfl rfl)
theorem dX6_multiplies_49 : decode cX6_multiplies 49 = .ok (.aload_n 0, 1) := dk_42 (dk_at dksX6_multiplies_2 3 rfl rfl)
theorem dX6_multiplies_50 : decode cX6_multiplies 50 = .ok (.getfield 63, 3) := dk_180 0 63 (dk_at dksX6_multiplies_2 4 rfl rfl)
theorem dX6_multiplies_53 : decode cX6_multiplies 53 = .ok (.iload_n 1, 1) := dk_27 (dk_at dksX6_multiplies_2 7 rfl rfl)
theorem dX6_multiplies_54 : decode cX6_multiplies 54 = .ok (.laload, 1) := dk_47 (dk_at dksX6_multiplies_2 8 rfl rfl)
theorem dX6_multiplies_55 : decode cX6_multiplies 55 = .ok (.lneg, 1) := dk_117 (dk_at dksX6_multiplies_2 9 rfl rfl)
theorem dX6_multiplies_56 : decode cX6_multiplies 56 = .ok (.goto 9, 3) := dk_167 0 9 (dk_at dksX6_multiplies_2 10 rfl rfl)
theorem dX6_multiplies_59 : decode cX6_multiplies 59 = .ok (.aload_n 0, 1) := dk_42 (dk_at dksX6_multiplies_2 13 rfl rfl)
theorem dX6_multiplies_60 : decode cX6_multiplies 60 = .ok (.getfield 63, 3) := dk_180 0 63 (dk_at dksX6_multiplies_2 14 rfl rfl)
theorem dX6_multiplies_63 : decode cX6_multiplies 63 = .ok (.iload_n 1, 1) := dk_27 (dk_at dksX6_multiplies_2 17 rfl rfl)
theorem dX6_multiplies_64 : decode cX6_multiplies 64 = .ok (.laload, 1) := dk_47 (dk_at dksX6_multiplies_2 18 rfl rfl)
theorem dX6_multiplies_65 : decode cX6_multiplies 65 = .ok (.lstore 4, 2) := dk_55 4 (dk_at dksX6_multiplies_2 19 rfl rfl)
theorem dX6_multiplies_67 : decode cX6_multiplies 67 = .ok (.lload_n 2, 1) := dk_32 (dk_at dksX6_multiplies_2 21 rfl rfl)
theorem dX6_multiplies_68 : decode cX6_multiplies 68 = .ok (.lconst 0, 1) := dk_9 (dk_at dksX6_multiplies_2 22 rfl rfl)
theorem dX6_multiplies_69 : decode cX6_multiplies 69 = .ok (.lcmp, 1) := dk_148 (dk_at dksX6_multiplies_2 23 rfl rfl)
theorem dX6_multiplies_70 : decode cX6_multiplies 70 = .ok (.ifCond .le 19, 3) := dk_158 0 19 (dk_at dksX6_multiplies_3 0 rfl rfl)
theorem dX6_multiplies_73 : decode cX6_multiplies 73 = .ok (.lload 4, 2) := dk_22 4 (dk_at dksX6_multiplies_3 3 rfl rfl)
theorem dX6_multiplies_75 : decode cX6_multiplies 75 = .ok (.ldc2_w 262, 3) := dk_20 1 6 (dk_at dksX6_multiplies_3 5 rfl rfl)
theorem dX6_multiplies_78 : decode cX6_multiplies 78 = .ok (.lload_n 2, 1) := dk_32 (dk_at dksX6_multiplies_3 8 rfl rfl)
theorem dX6_multiplies_79 : decode cX6_multiplies 79 = .ok (.ldiv, 1) := dk_109 (dk_at dksX6_multiplies_3 9 rfl rfl)
theorem dX6_multiplies_80 : decode cX6_multiplies 80 = .ok (.lcmp, 1) := dk_148 (dk_at dksX6_multiplies_3 10 rfl rfl)
theorem dX6_multiplies_81 : decode cX6_multiplies 81 = .ok (.ifCond .le 8, 3) := dk_158 0 8 (dk_at dksX6_multiplies_3 11 rfl rfl)
theorem dX6_multiplies_84 : decode cX6_multiplies 84 = .ok (.aload_n 0, 1) := dk_42 (dk_at dksX6_multiplies_3 14 rfl rfl)
theorem dX6_multiplies_85 : decode cX6_multiplies 85 = .ok (.iconst 1, 1) := dk_4 (dk_at dksX6_multiplies_3 15 rfl rfl)
theorem dX6_multiplies_86 : decode cX6_multiplies 86 = .ok (.putfield 275, 3) := dk_181 1 19 (dk_at dksX6_multiplies_3 16 rfl rfl)
theorem dX6_multiplies_89 : decode cX6_multiplies 89 = .ok (.aload_n 0, 1) := dk_42 (dk_at dksX6_multiplies_3 19 rfl rfl)
theorem dX6_multiplies_90 : decode cX6_multiplies 90 = .ok (.getfield 60, 3) := dk_180 0 60 (dk_at dksX6_multiplies_3 20 rfl rfl)
theorem dX6_multiplies_93 : decode cX6_multiplies 93 = .ok (.iload_n 1, 1) := dk_27 (dk_at dksX6_multiplies_3 23 rfl rfl)
theorem dX6_multiplies_94 : decode cX6_multiplies 94 = .ok (.aload_n 0, 1) := dk_42 (dk_at dksX6_multiplies_4 0 rfl rfl)
theorem dX6_multiplies_95 : decode cX6_multiplies 95 = .ok (.getfield 275, 3) := dk_180 1 19 (dk_at dksX6_multiplies_4 1 rfl rfl)
theorem dX6_multiplies_98 : decode cX6_multiplies 98 = .ok (.ifCond .eq 7, 3) := dk_153 0 7 (dk_at dksX6_multiplies_4 4 rfl rfl)
theorem dX6_multiplies_101 : decode cX6_multiplies 101 = .ok (.lconst 0, 1) := dk_9 (dk_at dksX6_multiplies_4 7 rfl rfl)
theorem dX6_multiplies_102 : decode cX6_multiplies 102 = .ok (.goto 16, 3) := dk_167 0 16 (dk_at dksX6_multiplies_4 8 rfl rfl)
theorem dX6_multiplies_105 : decode cX6_multiplies 105 = .ok (.aload_n 0, 1) := dk_42 (dk_at dksX6_multiplies_4 11 rfl rfl)
theorem dX6_multiplies_106 : decode cX6_multiplies 106 = .ok (.getfield 60, 3) := dk_180 0 60 (dk_at dksX6_multiplies_4 12 rfl rfl)
theorem dX6_multiplies_109 : decode cX6_multiplies 109 = .ok (.iload_n 1, 1) := dk_27 (dk_at dksX6_multiplies_4 15 rfl rfl)
theorem dX6_multiplies_110 : decode cX6_multiplies 110 = .ok (.laload, 1) := dk_47 (dk_at dksX6_multiplies_4 16 rfl rfl)
theorem dX6_multiplies_111 : decode cX6_multiplies 111 = .ok (.aload_n 0, 1) := dk_42 (dk_at dksX6_multiplies_4 17 rfl rfl)
theorem dX6_multiplies_112 : decode cX6_multiplies 112 = .ok (.getfield 63, 3) := dk_180 0 63 (dk_at dksX6_multiplies_4 18 rfl rfl)
theorem dX6_multiplies_115 : decode cX6_multiplies 115 = .ok (.iload_n 1, 1) := dk_27 (dk_at dksX6_multiplies_4 21 rfl rfl)
theorem dX6_multiplies_116 : decode cX6_multiplies 116 = .ok (.laload, 1) := dk_47 (dk_at dksX6_multiplies_4 22 rfl rfl)
theorem dX6_multiplies_117 : decode cX6_multiplies 117 = .ok (.lmul, 1) := dk_105 (dk_at dksX6_multiplies_4 23 rfl rfl)
theorem dX6_multiplies_118 : decode cX6_multiplies 118 = .ok (.lastore, 1) := dk_80 (dk_at dksX6_multiplies_5 0 rfl rfl)
theorem dX6_multiplies_119 : decode cX6_multiplies 119 = .ok (.iinc 1 1, 3) := dk_132 1 1 (dk_at dksX6_multiplies_5 1 rfl rfl)
theorem dX6_multiplies_122 : decode cX6_multiplies 122 = .ok (.goto (-120), 3) := dk_167 255 136 (dk_at dksX6_multiplies_5 4 rfl rfl)
theorem dX6_multiplies_125 : decode cX6_multiplies 125 = .ok (.return_, 1) := dk_177 (dk_at dksX6_multiplies_5 7 rfl rfl)
abbrev cX6_numbers : ByteArray := prog_16_method_43_code
def yX6_numbers : MethodName := ⟨RX6, "numbers", "([J[JI)V"⟩
def dkwX6_numbers_4 : List UInt8 := [167, 255, 172, 177]
abbrev dktX6_numbers_4 : List UInt8 := dkwX6_numbers_4 ++ []
def dkwX6_numbers_3 : List UInt8 := [96, 22, 5, 42, 180, 0, 50, 16, 64, 21, 4, 104, 21, 4, 96, 46, 133, 109, 80, 132, 4, 255]
abbrev dktX6_numbers_3 : List UInt8 := dkwX6_numbers_3 ++ dktX6_numbers_4
def dkwX6_numbers_2 : List UInt8 := [16, 64, 21, 7, 104, 21, 4, 96, 46, 133, 105, 101, 55, 5, 132, 7, 1, 167, 255, 218, 44, 29, 21, 4]
abbrev dktX6_numbers_2 : List UInt8 := dkwX6_numbers_2 ++ dktX6_numbers_3
def dkwX6_numbers_1 : List UInt8 := [54, 7, 21, 7, 42, 180, 0, 235, 162, 0, 35, 22, 5, 44, 29, 21, 7, 96, 47, 42, 180, 0, 50]
abbrev dktX6_numbers_1 : List UInt8 := dkwX6_numbers_1 ++ dktX6_numbers_2
def dkwX6_numbers_0 : List UInt8 := [42, 180, 0, 235, 4, 100, 54, 4, 21, 4, 155, 0, 85, 43, 21, 4, 47, 55, 5, 21, 4, 4, 96]
abbrev dktX6_numbers_0 : List UInt8 := dkwX6_numbers_0 ++ dktX6_numbers_1
theorem dksX6_numbers_0 : cX6_numbers.data.toList.drop 0 = dktX6_numbers_0 := by decide +kernel
theorem dksX6_numbers_1 : cX6_numbers.data.toList.drop 23 = dktX6_numbers_1 := dk_seg dksX6_numbers_0 23 rfl rfl
theorem dksX6_numbers_2 : cX6_numbers.data.toList.drop 46 = dktX6_numbers_2 := dk_seg dksX6_numbers_1 23 rfl rfl
theorem dksX6_numbers_3 : cX6_numbers.data.toList.drop 70 = dktX6_numbers_3 := dk_seg dksX6_numbers_2 24 rfl rfl
theorem dksX6_numbers_4 : cX6_numbers.data.toList.drop 92 = dktX6_numbers_4 := dk_seg dksX6_numbers_3 22 rfl rfl
theorem dX6_numbers_0 : decode cX6_numbers 0 = .ok (.aload_n 0, 1) := dk_42 (dk_at dksX6_numbers_0 0 rfl rfl)
theorem dX6_numbers_1 : decode cX6_numbers 1 = .ok (.getfield 235, 3) := dk_180 0 235 (dk_at dksX6_numbers_0 1 rfl rfl)
theorem dX6_numbers_4 : decode cX6_numbers 4 = .ok (.iconst 1, 1) := dk_4 (dk_at dksX6_numbers_0 4 rfl rfl)
theorem dX6_numbers_5 : decode cX6_numbers 5 = .ok (.isub, 1) := dk_100 (dk_at dksX6_numbers_0 5 rfl rfl)
theorem dX6_numbers_6 : decode cX6_numbers 6 = .ok (.istore 4, 2) := dk_54 4 (dk_at dksX6_numbers_0 6 rfl rfl)
theorem dX6_numbers_8 : decode cX6_numbers 8 = .ok (.iload 4, 2) := dk_21 4 (dk_at dksX6_numbers_0 8 rfl rfl)
theorem dX6_numbers_10 : decode cX6_numbers 10 = .ok (.ifCond .lt 85, 3) := dk_155 0 85 (dk_at dksX6_numbers_0 10 rfl rfl)
theorem dX6_numbers_13 : decode cX6_numbers 13 = .ok (.aload_n 1, 1) := dk_43 (dk_at dksX6_numbers_0 13 rfl rfl)
theorem dX6_numbers_14 : decode cX6_numbers 14 = .ok (.iload 4, 2) := dk_21 4 (dk_at dksX6_numbers_0 14 rfl rfl)
theorem dX6_numbers_16 : decode cX6_numbers 16 = .ok (.laload, 1) := dk_47 (dk_at dksX6_numbers_0 16 rfl rfl)
theorem dX6_numbers_17 : decode cX6_numbers 17 = .ok (.lstore 5, 2) := dk_55 5 (dk_at dksX6_numbers_0 17 rfl rfl)
theorem dX6_numbers_19 : decode cX6_numbers 19 = .ok (.iload 4, 2) := dk_21 4 (dk_at dksX6_numbers_0 19 rfl rfl)
theorem dX6_numbers_21 : decode cX6_numbers 21 = .ok (.iconst 1, 1) := dk_4 (dk_at dksX6_numbers_0 21 rfl rfl)
theorem dX6_numbers_22 : decode cX6_numbers 22 = .ok (.iadd, 1) := dk_96 (dk_at dksX6_numbers_0 22 rfl rfl)
theorem dX6_numbers_23 : decode cX6_numbers 23 = .ok (.istore 7, 2) := dk_54 7 (dk_at dksX6_numbers_1 0 rfl rfl)
theorem dX6_numbers_25 : decode cX6_numbers 25 = .ok (.iload 7, 2) := dk_21 7 (dk_at dksX6_numbers_1 2 rfl rfl)
theorem dX6_numbers_27 : decode cX6_numbers 27 = .ok (.aload_n 0, 1) := dk_42 (dk_at dksX6_numbers_1 4 rfl rfl)
theorem dX6_numbers_28 : decode cX6_numbers 28 = .ok (.getfield 235, 3) := dk_180 0 235 (dk_at dksX6_numbers_1 5 rfl rfl)
theorem dX6_numbers_31 : decode cX6_numbers 31 = .ok (.if_icmp .ge 35, 3) := dk_162 0 35 (dk_at dksX6_numbers_1 8 rfl rfl)
theorem dX6_numbers_34 : decode cX6_numbers 34 = .ok (.lload 5, 2) := dk_22 5 (dk_at dksX6_numbers_1 11 rfl rfl)
theorem dX6_numbers_36 : decode cX6_numbers 36 = .ok (.aload_n 2, 1) := dk_44 (dk_at dksX6_numbers_1 13 rfl rfl)
theorem dX6_numbers_37 : decode cX6_numbers 37 = .ok (.iload_n 3, 1) := dk_29 (dk_at dksX6_numbers_1 14 rfl rfl)
theorem dX6_numbers_38 : decode cX6_numbers 38 = .ok (.iload 7, 2) := dk_21 7 (dk_at dksX6_numbers_1 15 rfl rfl)
theorem dX6_numbers_40 : decode cX6_numbers 40 = .ok (.iadd, 1) := dk_96 (dk_at dksX6_numbers_1 17 rfl rfl)
theorem dX6_numbers_41 : decode cX6_numbers 41 = .ok (.laload, 1) := dk_47 (dk_at dksX6_numbers_1 18 rfl rfl)
theorem dX6_numbers_42 : decode cX6_numbers 42 = .ok (.aload_n 0, 1) := dk_42 (dk_at dksX6_numbers_1 19 rfl rfl)
theorem dX6_numbers_43 : decode cX6_numbers 43 = .ok (.getfield 50, 3) := dk_180 0 50 (dk_at dksX6_numbers_1 20 rfl rfl)
theorem dX6_numbers_46 : decode cX6_numbers 46 = .ok (.bipush 64, 2) := dk_16 64 (dk_at dksX6_numbers_2 0 rfl rfl)
theorem dX6_numbers_48 : decode cX6_numbers 48 = .ok (.iload 7, 2) := dk_21 7 (dk_at dksX6_numbers_2 2 rfl rfl)
theorem dX6_numbers_50 : decode cX6_numbers 50 = .ok (.imul, 1) := dk_104 (dk_at dksX6_numbers_2 4 rfl rfl)
theorem dX6_numbers_51 : decode cX6_numbers 51 = .ok (.iload 4, 2) := dk_21 4 (dk_at dksX6_numbers_2 5 rfl rfl)
theorem dX6_numbers_53 : decode cX6_numbers 53 = .ok (.iadd, 1) := dk_96 (dk_at dksX6_numbers_2 7 rfl rfl)
theorem dX6_numbers_54 : decode cX6_numbers 54 = .ok (.iaload, 1) := dk_46 (dk_at dksX6_numbers_2 8 rfl rfl)
theorem dX6_numbers_55 : decode cX6_numbers 55 = .ok (.i2l, 1) := dk_133 (dk_at dksX6_numbers_2 9 rfl rfl)
theorem dX6_numbers_56 : decode cX6_numbers 56 = .ok (.lmul, 1) := dk_105 (dk_at dksX6_numbers_2 10 rfl rfl)
theorem dX6_numbers_57 : decode cX6_numbers 57 = .ok (.lsub, 1) := dk_101 (dk_at dksX6_numbers_2 11 rfl rfl)
theorem dX6_numbers_58 : decode cX6_numbers 58 = .ok (.lstore 5, 2) := dk_55 5 (dk_at dksX6_numbers_2 12 rfl rfl)
theorem dX6_numbers_60 : decode cX6_numbers 60 = .ok (.iinc 7 1, 3) := dk_132 7 1 (dk_at dksX6_numbers_2 14 rfl rfl)
theorem dX6_numbers_63 : decode cX6_numbers 63 = .ok (.goto (-38), 3) := dk_167 255 218 (dk_at dksX6_numbers_2 17 rfl rfl)
theorem dX6_numbers_66 : decode cX6_numbers 66 = .ok (.aload_n 2, 1) := dk_44 (dk_at dksX6_numbers_2 20 rfl rfl)
theorem dX6_numbers_67 : decode cX6_numbers 67 = .ok (.iload_n 3, 1) := dk_29 (dk_at dksX6_numbers_2 21 rfl rfl)
theorem dX6_numbers_68 : decode cX6_numbers 68 = .ok (.iload 4, 2) := dk_21 4 (dk_at dksX6_numbers_2 22 rfl rfl)
theorem dX6_numbers_70 : decode cX6_numbers 70 = .ok (.iadd, 1) := dk_96 (dk_at dksX6_numbers_3 0 rfl rfl)
theorem dX6_numbers_71 : decode cX6_numbers 71 = .ok (.lload 5, 2) := dk_22 5 (dk_at dksX6_numbers_3 1 rfl rfl)
theorem dX6_numbers_73 : decode cX6_numbers 73 = .ok (.aload_n 0, 1) := dk_42 (dk_at dksX6_numbers_3 3 rfl rfl)
theorem dX6_numbers_74 : decode cX6_numbers 74 = .ok (.getfield 50, 3) := dk_180 0 50 (dk_at dksX6_numbers_3 4 rfl rfl)
theorem dX6_numbers_77 : decode cX6_numbers 77 = .ok (.bipush 64, 2) := dk_16 64 (dk_at dksX6_numbers_3 7 rfl rfl)
theorem dX6_numbers_79 : decode cX6_numbers 79 = .ok (.iload 4, 2) := dk_21 4 (dk_at dksX6_numbers_3 9 rfl rfl)
theorem dX6_numbers_81 : decode cX6_numbers 81 = .ok (.imul, 1) := dk_104 (dk_at dksX6_numbers_3 11 rfl rfl)
theorem dX6_numbers_82 : decode cX6_numbers 82 = .ok (.iload 4, 2) := dk_21 4 (dk_at dksX6_numbers_3 12 rfl rfl)
theorem dX6_numbers_84 : decode cX6_numbers 84 = .ok (.iadd, 1) := dk_96 (dk_at dksX6_numbers_3 14 rfl rfl)
theorem dX6_numbers_85 : decode cX6_numbers 85 = .ok (.iaload, 1) := dk_46 (dk_at dksX6_numbers_3 15 rfl rfl)
theorem dX6_numbers_86 : decode cX6_numbers 86 = .ok (.i2l, 1) := dk_133 (dk_at dksX6_numbers_3 16 rfl rfl)
theorem dX6_numbers_87 : decode cX6_numbers 87 = .ok (.ldiv, 1) := dk_109 (dk_at dksX6_numbers_3 17 rfl rfl)
theorem dX6_numbers_88 : decode cX6_numbers 88 = .ok (.lastore, 1) := dk_80 (dk_at dksX6_numbers_3 18 rfl rfl)
theorem dX6_numbers_89 : decode cX6_numbers 89 = .ok (.iinc 4 (-1), 3) := dk_132 4 255 (dk_at dksX6_numbers_3 19 rfl rfl)
theorem dX6_numbers_92 : decode cX6_numbers 92 = .ok (.goto (-84), 3) := dk_167 255 172 (dk_at dksX6_numbers_4 0 rfl rfl)
theorem dX6_numbers_95 : decode cX6_numbers 95 = .ok (.return_, 1) := dk_177 (dk_at dksX6_numbers_4 3 rfl rfl)
abbrev cX6_negates : ByteArray := prog_16_method_49_code
def yX6_negates : MethodName := ⟨RX6, "negates", "()V"⟩
def dkwX6_negates_2 : List UInt8 := [167, 255, 212, 177]
abbrev dktX6_negates_2 : List UInt8 := dkwX6_negates_2 ++ []
def dkwX6_negates_1 : List UInt8 := [96, 42, 180, 0, 56, 16, 64, 42, 180, 1, 12, 4, 100, 104, 27, 96, 47, 117, 80, 132, 1, 1]
abbrev dktX6_negates_1 : List UInt8 := dkwX6_negates_1 ++ dktX6_negates_2
def dkwX6_negates_0 : List UInt8 := [3, 60, 27, 42, 180, 0, 235, 162, 0, 42, 42, 180, 0, 56, 16, 64, 42, 180, 1, 12, 4, 100, 104, 27]
abbrev dktX6_negates_0 : List UInt8 := dkwX6_negates_0 ++ dktX6_negates_1
theorem dksX6_negates_0 : cX6_negates.data.toList.drop 0 = dktX6_negates_0 := by decide +kernel
theorem dksX6_negates_1 : cX6_negates.data.toList.drop 24 = dktX6_negates_1 := dk_seg dksX6_negates_0 24 rfl rfl
theorem dksX6_negates_2 : cX6_negates.data.toList.drop 46 = dktX6_negates_2 := dk_seg dksX6_negates_1 22 rfl rfl
theorem dX6_negates_0 : decode cX6_negates 0 = .ok (.iconst 0, 1) := dk_3 (dk_at dksX6_negates_0 0 rfl rfl)
theorem dX6_negates_1 : decode cX6_negates 1 = .ok (.istore_n 1, 1) := dk_60 (dk_at dksX6_negates_0 1 rfl rfl)
theorem dX6_negates_2 : decode cX6_negates 2 = .ok (.iload_n 1, 1) := dk_27 (dk_at dksX6_negates_0 2 rfl rfl)
theorem dX6_negates_3 : decode cX6_negates 3 = .ok (.aload_n 0, 1) := dk_42 (dk_at dksX6_negates_0 3 rfl rfl)
theorem dX6_negates_4 : decode cX6_negates 4 = .ok (.getfield 235, 3) := dk_180 0 235 (dk_at dksX6_negates_0 4 rfl rfl)
theorem dX6_negates_7 : decode cX6_negates 7 = .ok (.if_icmp .ge 42, 3) := dk_162 0 42 (dk_at dksX6_negates_0 7 rfl rfl)
theorem dX6_negates_10 : decode cX6_negates 10 = .ok (.aload_n 0, 1) := dk_42 (dk_at dksX6_negates_0 10 rfl rfl)
theorem dX6_negates_11 : decode cX6_negates 11 = .ok (.getfield 56, 3) := dk_180 0 56 (dk_at dksX6_negates_0 11 rfl rfl)
theorem dX6_negates_14 : decode cX6_negates 14 = .ok (.bipush 64, 2) := dk_16 64 (dk_at dksX6_negates_0 14 rfl rfl)
theorem dX6_negates_16 : decode cX6_negates 16 = .ok (.aload_n 0, 1) := dk_42 (dk_at dksX6_negates_0 16 rfl rfl)
theorem dX6_negates_17 : decode cX6_negates 17 = .ok (.getfield 268, 3) := dk_180 1 12 (dk_at dksX6_negates_0 17 rfl rfl)
theorem dX6_negates_20 : decode cX6_negates 20 = .ok (.iconst 1, 1) := dk_4 (dk_at dksX6_negates_0 20 rfl rfl)
theorem dX6_negates_21 : decode cX6_negates 21 = .ok (.isub, 1) := dk_100 (dk_at dksX6_negates_0 21 rfl rfl)
theorem dX6_negates_22 : decode cX6_negates 22 = .ok (.imul, 1) := dk_104 (dk_at dksX6_negates_0 22 rfl rfl)
theorem dX6_negates_23 : decode cX6_negates 23 = .ok (.iload_n 1, 1) := dk_27 (dk_at dksX6_negates_0 23 rfl rfl)
theorem dX6_negates_24 : decode cX6_negates 24 = .ok (.iadd, 1) := dk_96 (dk_at dksX6_negates_1 0 rfl rfl)
theorem dX6_negates_25 : decode cX6_negates 25 = .ok (.aload_n 0, 1) := dk_42 (dk_at dksX6_negates_1 1 rfl rfl)
theorem dX6_negates_26 : decode cX6_negates 26 = .ok (.getfield 56, 3) := dk_180 0 56 (dk_at dksX6_negates_1 2 rfl rfl)
theorem dX6_negates_29 : decode cX6_negates 29 = .ok (.bipush 64, 2) := dk_16 64 (dk_at dksX6_negates_1 5 rfl rfl)
theorem dX6_negates_31 : decode cX6_negates 31 = .ok (.aload_n 0, 1) := dk_42 (dk_at dksX6_negates_1 7 rfl rfl)
theorem dX6_negates_32 : decode cX6_negates 32 = .ok (.getfield 268, 3) := dk_180 1 12 (dk_at dksX6_negates_1 8 rfl rfl)
theorem dX6_negates_35 : decode cX6_negates 35 = .ok (.iconst 1, 1) := dk_4 (dk_at dksX6_negates_1 11 rfl rfl)
theorem dX6_negates_36 : decode cX6_negates 36 = .ok (.isub, 1) := dk_100 (dk_at dksX6_negates_1 12 rfl rfl)
theorem dX6_negates_37 : decode cX6_negates 37 = .ok (.imul, 1) := dk_104 (dk_at dksX6_negates_1 13 rfl rfl)
theorem dX6_negates_38 : decode cX6_negates 38 = .ok (.iload_n 1, 1) := dk_27 (dk_at dksX6_negates_1 14 rfl rfl)
theorem dX6_negates_39 : decode cX6_negates 39 = .ok (.iadd, 1) := dk_96 (dk_at dksX6_negates_1 15 rfl rfl)
theorem dX6_negates_40 : decode cX6_negates 40 = .ok (.laload, 1) := dk_47 (dk_at dksX6_negates_1 16 rfl rfl)
theorem dX6_negates_41 : decode cX6_negates 41 = .ok (.lneg, 1) := dk_117 (dk_at dksX6_negates_1 17 rfl rfl)
theorem dX6_negates_42 : decode cX6_negates 42 = .ok (.lastore, 1) := dk_80 (dk_at dksX6_negates_1 18 rfl rfl)
theorem dX6_negates_43 : decode cX6_negates 43 = .ok (.iinc 1 1, 3) := dk_132 1 1 (dk_at dksX6_negates_1 19 rfl rfl)
theorem dX6_negates_46 : decode cX6_negates 46 = .ok (.goto (-44), 3) := dk_167 255 212 (dk_at dksX6_negates_2 0 rfl rfl)
theorem dX6_negates_49 : decode cX6_negates 49 = .ok (.return_, 1) := dk_177 (dk_at dksX6_negates_2 3 rfl rfl)
abbrev cX6_goesOn : ByteArray := prog_16_method_56_code
def yX6_goesOn : MethodName := ⟨RX6, "goesOn", "()Z"⟩
def dkwX6_goesOn_2 : List UInt8 := [167, 0, 4, 6, 182, 1, 84, 4, 172, 3, 172]
abbrev dktX6_goesOn_2 : List UInt8 := dkwX6_goesOn_2 ++ []
def dkwX6_goesOn_1 : List UInt8 := [154, 0, 12, 42, 16, 45, 182, 0, 187, 153, 0, 23, 42, 42, 180, 0, 152, 16, 43, 160, 0, 7, 5]
abbrev dktX6_goesOn_1 : List UInt8 := dkwX6_goesOn_1 ++ dktX6_goesOn_2
def dkwX6_goesOn_0 : List UInt8 := [42, 16, 42, 182, 0, 187, 153, 0, 10, 42, 7, 182, 1, 84, 4, 172, 42, 16, 43, 182, 0, 187]
abbrev dktX6_goesOn_0 : List UInt8 := dkwX6_goesOn_0 ++ dktX6_goesOn_1
theorem dksX6_goesOn_0 : cX6_goesOn.data.toList.drop 0 = dktX6_goesOn_0 := by decide +kernel
theorem dksX6_goesOn_1 : cX6_goesOn.data.toList.drop 22 = dktX6_goesOn_1 := dk_seg dksX6_goesOn_0 22 rfl rfl
theorem dksX6_goesOn_2 : cX6_goesOn.data.toList.drop 45 = dktX6_goesOn_2 := dk_seg dksX6_goesOn_1 23 rfl rfl
theorem dX6_goesOn_0 : decode cX6_goesOn 0 = .ok (.aload_n 0, 1) := dk_42 (dk_at dksX6_goesOn_0 0 rfl rfl)
theorem dX6_goesOn_1 : decode cX6_goesOn 1 = .ok (.bipush 42, 2) := dk_16 42 (dk_at dksX6_goesOn_0 1 rfl rfl)
theorem dX6_goesOn_3 : decode cX6_goesOn 3 = .ok (.invokevirtual 187, 3) := dk_182 0 187 (dk_at dksX6_goesOn_0 3 rfl rfl)
theorem dX6_goesOn_6 : decode cX6_goesOn 6 = .ok (.ifCond .eq 10, 3) := dk_153 0 10 (dk_at dksX6_goesOn_0 6 rfl rfl)
theorem dX6_goesOn_9 : decode cX6_goesOn 9 = .ok (.aload_n 0, 1) := dk_42 (dk_at dksX6_goesOn_0 9 rfl rfl)
theorem dX6_goesOn_10 : decode cX6_goesOn 10 = .ok (.iconst 4, 1) := dk_7 (dk_at dksX6_goesOn_0 10 rfl rfl)
theorem dX6_goesOn_11 : decode cX6_goesOn 11 = .ok (.invokevirtual 340, 3) := dk_182 1 84 (dk_at dksX6_goesOn_0 11 rfl rfl)
theorem dX6_goesOn_14 : decode cX6_goesOn 14 = .ok (.iconst 1, 1) := dk_4 (dk_at dksX6_goesOn_0 14 rfl rfl)
theorem dX6_goesOn_15 : decode cX6_goesOn 15 = .ok (.ireturn, 1) := dk_172 (dk_at dksX6_goesOn_0 15 rfl rfl)
theorem dX6_goesOn_16 : decode cX6_goesOn 16 = .ok (.aload_n 0, 1) := dk_42 (dk_at dksX6_goesOn_0 16 rfl rfl)
theorem dX6_goesOn_17 : decode cX6_goesOn 17 = .ok (.bipush 43, 2) := dk_16 43 (dk_at dksX6_goesOn_0 17 rfl rfl)
theorem dX6_goesOn_19 : decode cX6_goesOn 19 = .ok (.invokevirtual 187, 3) := dk_182 0 187 (dk_at dksX6_goesOn_0 19 rfl rfl)
theorem dX6_goesOn_22 : decode cX6_goesOn 22 = .ok (.ifCond .ne 12, 3) := dk_154 0 12 (dk_at dksX6_goesOn_1 0 rfl rfl)
theorem dX6_goesOn_25 : decode cX6_goesOn 25 = .ok (.aload_n 0, 1) := dk_42 (dk_at dksX6_goesOn_1 3 rfl rfl)
theorem dX6_goesOn_26 : decode cX6_goesOn 26 = .ok (.bipush 45, 2) := dk_16 45 (dk_at dksX6_goesOn_1 4 rfl rfl)
theorem dX6_goesOn_28 : decode cX6_goesOn 28 = .ok (.invokevirtual 187, 3) := dk_182 0 187 (dk_at dksX6_goesOn_1 6 rfl rfl)
theorem dX6_goesOn_31 : decode cX6_goesOn 31 = .ok (.ifCond .eq 23, 3) := dk_153 0 23 (dk_at dksX6_goesOn_1 9 rfl rfl)
theorem dX6_goesOn_34 : decode cX6_goesOn 34 = .ok (.aload_n 0, 1) := dk_42 (dk_at dksX6_goesOn_1 12 rfl rfl)
theorem dX6_goesOn_35 : decode cX6_goesOn 35 = .ok (.aload_n 0, 1) := dk_42 (dk_at dksX6_goesOn_1 13 rfl rfl)
theorem dX6_goesOn_36 : decode cX6_goesOn 36 = .ok (.getfield 152, 3) := dk_180 0 152 (dk_at dksX6_goesOn_1 14 rfl rfl)
theorem dX6_goesOn_39 : decode cX6_goesOn 39 = .ok (.bipush 43, 2) := dk_16 43 (dk_at dksX6_goesOn_1 17 rfl rfl)
theorem dX6_goesOn_41 : decode cX6_goesOn 41 = .ok (.if_icmp .ne 7, 3) := dk_160 0 7 (dk_at dksX6_goesOn_1 19 rfl rfl)
theorem dX6_goesOn_44 : decode cX6_goesOn 44 = .ok (.iconst 2, 1) := dk_5 (dk_at dksX6_goesOn_1 22 rfl rfl)
theorem dX6_goesOn_45 : decode cX6_goesOn 45 = .ok (.goto 4, 3) := dk_167 0 4 (dk_at dksX6_goesOn_2 0 rfl rfl)
theorem dX6_goesOn_48 : decode cX6_goesOn 48 = .ok (.iconst 3, 1) := dk_6 (dk_at dksX6_goesOn_2 3 rfl rfl)
theorem dX6_goesOn_49 : decode cX6_goesOn 49 = .ok (.invokevirtual 340, 3) := dk_182 1 84 (dk_at dksX6_goesOn_2 4 rfl rfl)
theorem dX6_goesOn_52 : decode cX6_goesOn 52 = .ok (.iconst 1, 1) := dk_4 (dk_at dksX6_goesOn_2 7 rfl rfl)
theorem dX6_goesOn_53 : decode cX6_goesOn 53 = .ok (.ireturn, 1) := dk_172 (dk_at dksX6_goesOn_2 8 rfl rfl)
theorem dX6_goesOn_54 : decode cX6_goesOn 54 = .ok (.iconst 0, 1) := dk_3 (dk_at dksX6_goesOn_2 9 rfl rfl)
theorem dX6_goesOn_55 : decode cX6_goesOn 55 = .ok (.ireturn, 1) := dk_172 (dk_at dksX6_goesOn_2 10 rfl rfl)
abbrev cX6_waitsFor : ByteArray := prog_16_method_55_code
def yX6_waitsFor : MethodName := ⟨RX6, "waitsFor", "(I)V"⟩
def dkwX6_waitsFor_1 : List UInt8 := [42, 89, 180, 1, 49, 4, 96, 181, 1, 49, 42, 182, 0, 193, 177]
abbrev dktX6_waitsFor_1 : List UInt8 := dkwX6_waitsFor_1 ++ []
def dkwX6_waitsFor_0 : List UInt8 := [42, 27, 7, 160, 0, 7, 7, 167, 0, 4, 5, 182, 1, 81, 42, 180, 0, 72, 42, 180, 1, 49, 27, 79]
abbrev dktX6_waitsFor_0 : List UInt8 := dkwX6_waitsFor_0 ++ dktX6_waitsFor_1
theorem dksX6_waitsFor_0 : cX6_waitsFor.data.toList.drop 0 = dktX6_waitsFor_0 := by decide +kernel
theorem dksX6_waitsFor_1 : cX6_waitsFor.data.toList.drop 24 = dktX6_waitsFor_1 := dk_seg dksX6_waitsFor_0 24 rfl rfl
theorem dX6_waitsFor_0 : decode cX6_waitsFor 0 = .ok (.aload_n 0, 1) := dk_42 (dk_at dksX6_waitsFor_0 0 rfl rfl)
theorem dX6_waitsFor_1 : decode cX6_waitsFor 1 = .ok (.iload_n 1, 1) := dk_27 (dk_at dksX6_waitsFor_0 1 rfl rfl)
theorem dX6_waitsFor_2 : decode cX6_waitsFor 2 = .ok (.iconst 4, 1) := dk_7 (dk_at dksX6_waitsFor_0 2 rfl rfl)
theorem dX6_waitsFor_3 : decode cX6_waitsFor 3 = .ok (.if_icmp .ne 7, 3) := dk_160 0 7 (dk_at dksX6_waitsFor_0 3 rfl rfl)
theorem dX6_waitsFor_6 : decode cX6_waitsFor 6 = .ok (.iconst 4, 1) := dk_7 (dk_at dksX6_waitsFor_0 6 rfl rfl)
theorem dX6_waitsFor_7 : decode cX6_waitsFor 7 = .ok (.goto 4, 3) := dk_167 0 4 (dk_at dksX6_waitsFor_0 7 rfl rfl)
theorem dX6_waitsFor_10 : decode cX6_waitsFor 10 = .ok (.iconst 2, 1) := dk_5 (dk_at dksX6_waitsFor_0 10 rfl rfl)
theorem dX6_waitsFor_11 : decode cX6_waitsFor 11 = .ok (.invokevirtual 337, 3) := dk_182 1 81 (dk_at dksX6_waitsFor_0 11 rfl rfl)
theorem dX6_waitsFor_14 : decode cX6_waitsFor 14 = .ok (.aload_n 0, 1) := dk_42 (dk_at dksX6_waitsFor_0 14 rfl rfl)
theorem dX6_waitsFor_15 : decode cX6_waitsFor 15 = .ok (.getfield 72, 3) := dk_180 0 72 (dk_at dksX6_waitsFor_0 15 rfl rfl)
theorem dX6_waitsFor_18 : decode cX6_waitsFor 18 = .ok (.aload_n 0, 1) := dk_42 (dk_at dksX6_waitsFor_0 18 rfl rfl)
theorem dX6_waitsFor_19 : decode cX6_waitsFor 19 = .ok (.getfield 305, 3) := dk_180 1 49 (dk_at dksX6_waitsFor_0 19 rfl rfl)
theorem dX6_waitsFor_22 : decode cX6_waitsFor 22 = .ok (.iload_n 1, 1) := dk_27 (dk_at dksX6_waitsFor_0 22 rfl rfl)
theorem dX6_waitsFor_23 : decode cX6_waitsFor 23 = .ok (.iastore, 1) := dk_79 (dk_at dksX6_waitsFor_0 23 rfl rfl)
theorem dX6_waitsFor_24 : decode cX6_waitsFor 24 = .ok (.aload_n 0, 1) := dk_42 (dk_at dksX6_waitsFor_1 0 rfl rfl)
theorem dX6_waitsFor_25 : decode cX6_waitsFor 25 = .ok (.dup, 1) := dk_89 (dk_at dksX6_waitsFor_1 1 rfl rfl)
theorem dX6_waitsFor_26 : decode cX6_waitsFor 26 = .ok (.getfield 305, 3) := dk_180 1 49 (dk_at dksX6_waitsFor_1 2 rfl rfl)
theorem dX6_waitsFor_29 : decode cX6_waitsFor 29 = .ok (.iconst 1, 1) := dk_4 (dk_at dksX6_waitsFor_1 5 rfl rfl)
theorem dX6_waitsFor_30 : decode cX6_waitsFor 30 = .ok (.iadd, 1) := dk_96 (dk_at dksX6_waitsFor_1 6 rfl rfl)
theorem dX6_waitsFor_31 : decode cX6_waitsFor 31 = .ok (.putfield 305, 3) := dk_181 1 49 (dk_at dksX6_waitsFor_1 7 rfl rfl)
theorem dX6_waitsFor_34 : decode cX6_waitsFor 34 = .ok (.aload_n 0, 1) := dk_42 (dk_at dksX6_waitsFor_1 10 rfl rfl)
theorem dX6_waitsFor_35 : decode cX6_waitsFor 35 = .ok (.invokevirtual 193, 3) := dk_182 0 193 (dk_at dksX6_waitsFor_1 11 rfl rfl)
theorem dX6_waitsFor_38 : decode cX6_waitsFor 38 = .ok (.return_, 1) := dk_177 (dk_at dksX6_waitsFor_1 14 rfl rfl)
abbrev cX6_works : ByteArray := prog_16_method_54_code
def yX6_works : MethodName := ⟨RX6, "works", "(I)V"⟩
def dkwX6_works_3 : List UInt8 := [167, 255, 186, 177]
abbrev dktX6_works_3 : List UInt8 := dkwX6_works_3 ++ []
def dkwX6_works_2 : List UInt8 := [160, 0, 10, 42, 182, 1, 75, 167, 0, 17, 42, 28, 5, 160, 0, 7, 4, 167, 0, 4, 2, 182, 1, 78]
abbrev dktX6_works_2 : List UInt8 := dkwX6_works_2 ++ dktX6_works_3
def dkwX6_works_1 : List UInt8 := [180, 0, 72, 42, 180, 1, 49, 4, 100, 46, 61, 42, 89, 180, 1, 49, 4, 100, 181, 1, 49, 28, 7]
abbrev dktX6_works_1 : List UInt8 := dkwX6_works_1 ++ dktX6_works_2
def dkwX6_works_0 : List UInt8 := [42, 180, 1, 49, 158, 0, 69, 42, 180, 0, 72, 42, 180, 1, 49, 4, 100, 46, 27, 161, 0, 54, 42]
abbrev dktX6_works_0 : List UInt8 := dkwX6_works_0 ++ dktX6_works_1
theorem dksX6_works_0 : cX6_works.data.toList.drop 0 = dktX6_works_0 := by decide +kernel
theorem dksX6_works_1 : cX6_works.data.toList.drop 23 = dktX6_works_1 := dk_seg dksX6_works_0 23 rfl rfl
theorem dksX6_works_2 : cX6_works.data.toList.drop 46 = dktX6_works_2 := dk_seg dksX6_works_1 23 rfl rfl
theorem dksX6_works_3 : cX6_works.data.toList.drop 70 = dktX6_works_3 := dk_seg dksX6_works_2 24 rfl rfl
theorem dX6_works_0 : decode cX6_works 0 = .ok (.aload_n 0, 1) := dk_42 (dk_at dksX6_works_0 0 rfl rfl)
theorem dX6_works_1 : decode cX6_works 1 = .ok (.getfield 305, 3) := dk_180 1 49 (dk_at dksX6_works_0 1 rfl rfl)
theorem dX6_works_4 : decode cX6_works 4 = .ok (.ifCond .le 69, 3) := dk_158 0 69 (dk_at dksX6_works_0 4 rfl rfl)
theorem dX6_works_7 : decode cX6_works 7 = .ok (.aload_n 0, 1) := dk_42 (dk_at dksX6_works_0 7 rfl rfl)
theorem dX6_works_8 : decode cX6_works 8 = .ok (.getfield 72, 3) := dk_180 0 72 (dk_at dksX6_works_0 8 rfl rfl)
theorem dX6_works_11 : decode cX6_works 11 = .ok (.aload_n 0, 1) := dk_42 (dk_at dksX6_works_0 11 rfl rfl)
theorem dX6_works_12 : decode cX6_works 12 = .ok (.getfield 305, 3) := dk_180 1 49 (dk_at dksX6_works_0 12 rfl rfl)
theorem dX6_works_15 : decode cX6_works 15 = .ok (.iconst 1, 1) := dk_4 (dk_at dksX6_works_0 15 rfl rfl)
theorem dX6_works_16 : decode cX6_works 16 = .ok (.isub, 1) := dk_100 (dk_at dksX6_works_0 16 rfl rfl)
theorem dX6_works_17 : decode cX6_works 17 = .ok (.iaload, 1) := dk_46 (dk_at dksX6_works_0 17 rfl rfl)
theorem dX6_works_18 : decode cX6_works 18 = .ok (.iload_n 1, 1) := dk_27 (dk_at dksX6_works_0 18 rfl rfl)
theorem dX6_works_19 : decode cX6_works 19 = .ok (.if_icmp .lt 54, 3) := dk_161 0 54 (dk_at dksX6_works_0 19 rfl rfl)
theorem dX6_works_22 : decode cX6_works 22 = .ok (.aload_n 0, 1) := dk_42 (dk_at dksX6_works_0 22 rfl rfl)
theorem dX6_works_23 : decode cX6_works 23 = .ok (.getfield 72, 3) := dk_180 0 72 (dk_at dksX6_works_1 0 rfl rfl)
theorem dX6_works_26 : decode cX6_works 26 = .ok (.aload_n 0, 1) := dk_42 (dk_at dksX6_works_1 3 rfl rfl)
theorem dX6_works_27 : decode cX6_works 27 = .ok (.getfield 305, 3) := dk_180 1 49 (dk_at dksX6_works_1 4 rfl rfl)
theorem dX6_works_30 : decode cX6_works 30 = .ok (.iconst 1, 1) := dk_4 (dk_at dksX6_works_1 7 rfl rfl)
theorem dX6_works_31 : decode cX6_works 31 = .ok (.isub, 1) := dk_100 (dk_at dksX6_works_1 8 rfl rfl)
theorem dX6_works_32 : decode cX6_works 32 = .ok (.iaload, 1) := dk_46 (dk_at dksX6_works_1 9 rfl rfl)
theorem dX6_works_33 : decode cX6_works 33 = .ok (.istore_n 2, 1) := dk_61 (dk_at dksX6_works_1 10 rfl rfl)
theorem dX6_works_34 : decode cX6_works 34 = .ok (.aload_n 0, 1) := dk_42 (dk_at dksX6_works_1 11 rfl rfl)
theorem dX6_works_35 : decode cX6_works 35 = .ok (.dup, 1) := dk_89 (dk_at dksX6_works_1 12 rfl rfl)
theorem dX6_works_36 : decode cX6_works 36 = .ok (.getfield 305, 3) := dk_180 1 49 (dk_at dksX6_works_1 13 rfl rfl)
theorem dX6_works_39 : decode cX6_works 39 = .ok (.iconst 1, 1) := dk_4 (dk_at dksX6_works_1 16 rfl rfl)
theorem dX6_works_40 : decode cX6_works 40 = .ok (.isub, 1) := dk_100 (dk_at dksX6_works_1 17 rfl rfl)
theorem dX6_works_41 : decode cX6_works 41 = .ok (.putfield 305, 3) := dk_181 1 49 (dk_at dksX6_works_1 18 rfl rfl)
theorem dX6_works_44 : decode cX6_works 44 = .ok (.iload_n 2, 1) := dk_28 (dk_at dksX6_works_1 21 rfl rfl)
theorem dX6_works_45 : decode cX6_works 45 = .ok (.iconst 4, 1) := dk_7 (dk_at dksX6_works_1 22 rfl rfl)
theorem dX6_works_46 : decode cX6_works 46 = .ok (.if_icmp .ne 10, 3) := dk_160 0 10 (dk_at dksX6_works_2 0 rfl rfl)
theorem dX6_works_49 : decode cX6_works 49 = .ok (.aload_n 0, 1) := dk_42 (dk_at dksX6_works_2 3 rfl rfl)
theorem dX6_works_50 : decode cX6_works 50 = .ok (.invokevirtual 331, 3) := dk_182 1 75 (dk_at dksX6_works_2 4 rfl rfl)
theorem dX6_works_53 : decode cX6_works 53 = .ok (.goto 17, 3) := dk_167 0 17 (dk_at dksX6_works_2 7 rfl rfl)
theorem dX6_works_56 : decode cX6_works 56 = .ok (.aload_n 0, 1) := dk_42 (dk_at dksX6_works_2 10 rfl rfl)
theorem dX6_works_57 : decode cX6_works 57 = .ok (.iload_n 2, 1) := dk_28 (dk_at dksX6_works_2 11 rfl rfl)
theorem dX6_works_58 : decode cX6_works 58 = .ok (.iconst 2, 1) := dk_5 (dk_at dksX6_works_2 12 rfl rfl)
theorem dX6_works_59 : decode cX6_works 59 = .ok (.if_icmp .ne 7, 3) := dk_160 0 7 (dk_at dksX6_works_2 13 rfl rfl)
theorem dX6_works_62 : decode cX6_works 62 = .ok (.iconst 1, 1) := dk_4 (dk_at dksX6_works_2 16 rfl rfl)
theorem dX6_works_63 : decode cX6_works 63 = .ok (.goto 4, 3) := dk_167 0 4 (dk_at dksX6_works_2 17 rfl rfl)
theorem dX6_works_66 : decode cX6_works 66 = .ok (.iconst (-1), 1) := dk_2 (dk_at dksX6_works_2 20 rfl rfl)
theorem dX6_works_67 : decode cX6_works 67 = .ok (.invokevirtual 334, 3) := dk_182 1 78 (dk_at dksX6_works_2 21 rfl rfl)
theorem dX6_works_70 : decode cX6_works 70 = .ok (.goto (-70), 3) := dk_167 255 186 (dk_at dksX6_works_3 0 rfl rfl)
theorem dX6_works_73 : decode cX6_works 73 = .ok (.return_, 1) := dk_177 (dk_at dksX6_works_3 3 rfl rfl)
abbrev cX6_timesTwo : ByteArray := prog_16_method_47_code
def yX6_timesTwo : MethodName := ⟨RX6, "timesTwo", "()V"⟩
def dkwX6_timesTwo_2 : List UInt8 := [180, 0, 60, 42, 180, 0, 56, 16, 64, 42, 180, 1, 12, 4, 100, 104, 182, 1, 33, 42, 182, 1, 23, 177]
abbrev dktX6_timesTwo_2 : List UInt8 := dkwX6_timesTwo_2 ++ []
def dkwX6_timesTwo_1 : List UInt8 := [180, 0, 63, 182, 1, 26, 42, 182, 1, 30, 42, 89, 180, 1, 12, 4, 100, 181, 1, 12, 42, 42]
abbrev dktX6_timesTwo_1 : List UInt8 := dkwX6_timesTwo_1 ++ dktX6_timesTwo_2
def dkwX6_timesTwo_0 : List UInt8 := [42, 42, 180, 1, 12, 5, 100, 42, 180, 0, 60, 182, 1, 26, 42, 42, 180, 1, 12, 4, 100, 42]
abbrev dktX6_timesTwo_0 : List UInt8 := dkwX6_timesTwo_0 ++ dktX6_timesTwo_1
theorem dksX6_timesTwo_0 : cX6_timesTwo.data.toList.drop 0 = dktX6_timesTwo_0 := by decide +kernel
theorem dksX6_timesTwo_1 : cX6_timesTwo.data.toList.drop 22 = dktX6_timesTwo_1 := dk_seg dksX6_timesTwo_0 22 rfl rfl
theorem dksX6_timesTwo_2 : cX6_timesTwo.data.toList.drop 44 = dktX6_timesTwo_2 := dk_seg dksX6_timesTwo_1 22 rfl rfl
theorem dX6_timesTwo_0 : decode cX6_timesTwo 0 = .ok (.aload_n 0, 1) := dk_42 (dk_at dksX6_timesTwo_0 0 rfl rfl)
theorem dX6_timesTwo_1 : decode cX6_timesTwo 1 = .ok (.aload_n 0, 1) := dk_42 (dk_at dksX6_timesTwo_0 1 rfl rfl)
theorem dX6_timesTwo_2 : decode cX6_timesTwo 2 = .ok (.getfield 268, 3) := dk_180 1 12 (dk_at dksX6_timesTwo_0 2 rfl rfl)
theorem dX6_timesTwo_5 : decode cX6_timesTwo 5 = .ok (.iconst 2, 1) := dk_5 (dk_at dksX6_timesTwo_0 5 rfl rfl)
theorem dX6_timesTwo_6 : decode cX6_timesTwo 6 = .ok (.isub, 1) := dk_100 (dk_at dksX6_timesTwo_0 6 rfl rfl)
theorem dX6_timesTwo_7 : decode cX6_timesTwo 7 = .ok (.aload_n 0, 1) := dk_42 (dk_at dksX6_timesTwo_0 7 rfl rfl)
theorem dX6_timesTwo_8 : decode cX6_timesTwo 8 = .ok (.getfield 60, 3) := dk_180 0 60 (dk_at dksX6_timesTwo_0 8 rfl rfl)
theorem dX6_timesTwo_11 : decode cX6_timesTwo 11 = .ok (.invokevirtual 282, 3) := dk_182 1 26 (dk_at dksX6_timesTwo_0 11 rfl rfl)
theorem dX6_timesTwo_14 : decode cX6_timesTwo 14 = .ok (.aload_n 0, 1) := dk_42 (dk_at dksX6_timesTwo_0 14 rfl rfl)
theorem dX6_timesTwo_15 : decode cX6_timesTwo 15 = .ok (.aload_n 0, 1) := dk_42 (dk_at dksX6_timesTwo_0 15 rfl rfl)
theorem dX6_timesTwo_16 : decode cX6_timesTwo 16 = .ok (.getfield 268, 3) := dk_180 1 12 (dk_at dksX6_timesTwo_0 16 rfl rfl)
theorem dX6_timesTwo_19 : decode cX6_timesTwo 19 = .ok (.iconst 1, 1) := dk_4 (dk_at dksX6_timesTwo_0 19 rfl rfl)
theorem dX6_timesTwo_20 : decode cX6_timesTwo 20 = .ok (.isub, 1) := dk_100 (dk_at dksX6_timesTwo_0 20 rfl rfl)
theorem dX6_timesTwo_21 : decode cX6_timesTwo 21 = .ok (.aload_n 0, 1) := dk_42 (dk_at dksX6_timesTwo_0 21 rfl rfl)
theorem dX6_timesTwo_22 : decode cX6_timesTwo 22 = .ok (.getfield 63, 3) := dk_180 0 63 (dk_at dksX6_timesTwo_1 0 rfl rfl)
theorem dX6_timesTwo_25 : decode cX6_timesTwo 25 = .ok (.invokevirtual 282, 3) := dk_182 1 26 (dk_at dksX6_timesTwo_1 3 rfl rfl)
theorem dX6_timesTwo_28 : decode cX6_timesTwo 28 = .ok (.aload_n 0, 1) := dk_42 (dk_at dksX6_timesTwo_1 6 rfl rfl)
theorem dX6_timesTwo_29 : decode cX6_timesTwo 29 = .ok (.invokevirtual 286, 3) := dk_182 1 30 (dk_at dksX6_timesTwo_1 7 rfl rfl)
theorem dX6_timesTwo_32 : decode cX6_timesTwo 32 = .ok (.aload_n 0, 1) := dk_42 (dk_at dksX6_timesTwo_1 10 rfl rfl)
theorem dX6_timesTwo_33 : decode cX6_timesTwo 33 = .ok (.dup, 1) := dk_89 (dk_at dksX6_timesTwo_1 11 rfl rfl)
theorem dX6_timesTwo_34 : decode cX6_timesTwo 34 = .ok (.getfield 268, 3) := dk_180 1 12 (dk_at dksX6_timesTwo_1 12 rfl rfl)
theorem dX6_timesTwo_37 : decode cX6_timesTwo 37 = .ok (.iconst 1, 1) := dk_4 (dk_at dksX6_timesTwo_1 15 rfl rfl)
theorem dX6_timesTwo_38 : decode cX6_timesTwo 38 = .ok (.isub, 1) := dk_100 (dk_at dksX6_timesTwo_1 16 rfl rfl)
theorem dX6_timesTwo_39 : decode cX6_timesTwo 39 = .ok (.putfield 268, 3) := dk_181 1 12 (dk_at dksX6_timesTwo_1 17 rfl rfl)
theorem dX6_timesTwo_42 : decode cX6_timesTwo 42 = .ok (.aload_n 0, 1) := dk_42 (dk_at dksX6_timesTwo_1 20 rfl rfl)
theorem dX6_timesTwo_43 : decode cX6_timesTwo 43 = .ok (.aload_n 0, 1) := dk_42 (dk_at dksX6_timesTwo_1 21 rfl rfl)
theorem dX6_timesTwo_44 : decode cX6_timesTwo 44 = .ok (.getfield 60, 3) := dk_180 0 60 (dk_at dksX6_timesTwo_2 0 rfl rfl)
theorem dX6_timesTwo_47 : decode cX6_timesTwo 47 = .ok (.aload_n 0, 1) := dk_42 (dk_at dksX6_timesTwo_2 3 rfl rfl)
theorem dX6_timesTwo_48 : decode cX6_timesTwo 48 = .ok (.getfield 56, 3) := dk_180 0 56 (dk_at dksX6_timesTwo_2 4 rfl rfl)
theorem dX6_timesTwo_51 : decode cX6_timesTwo 51 = .ok (.bipush 64, 2) := dk_16 64 (dk_at dksX6_timesTwo_2 7 rfl rfl)
theorem dX6_timesTwo_53 : decode cX6_timesTwo 53 = .ok (.aload_n 0, 1) := dk_42 (dk_at dksX6_timesTwo_2 9 rfl rfl)
theorem dX6_timesTwo_54 : decode cX6_timesTwo 54 = .ok (.getfield 268, 3) := dk_180 1 12 (dk_at dksX6_timesTwo_2 10 rfl rfl)
theorem dX6_timesTwo_57 : decode cX6_timesTwo 57 = .ok (.iconst 1, 1) := dk_4 (dk_at dksX6_timesTwo_2 13 rfl rfl)
theorem dX6_timesTwo_58 : decode cX6_timesTwo 58 = .ok (.isub, 1) := dk_100 (dk_at dksX6_timesTwo_2 14 rfl rfl)
theorem dX6_timesTwo_59 : decode cX6_timesTwo 59 = .ok (.imul, 1) := dk_104 (dk_at dksX6_timesTwo_2 15 rfl rfl)
theorem dX6_timesTwo_60 : decode cX6_timesTwo 60 = .ok (.invokevirtual 289, 3) := dk_182 1 33 (dk_at dksX6_timesTwo_2 16 rfl rfl)
theorem dX6_timesTwo_63 : decode cX6_timesTwo 63 = .ok (.aload_n 0, 1) := dk_42 (dk_at dksX6_timesTwo_2 19 rfl rfl)
theorem dX6_timesTwo_64 : decode cX6_timesTwo 64 = .ok (.invokevirtual 279, 3) := dk_182 1 23 (dk_at dksX6_timesTwo_2 20 rfl rfl)
theorem dX6_timesTwo_67 : decode cX6_timesTwo 67 = .ok (.return_, 1) := dk_177 (dk_at dksX6_timesTwo_2 23 rfl rfl)
abbrev cX6_adds : ByteArray := prog_16_method_46_code
def yX6_adds : MethodName := ⟨RX6, "adds", "(I)V"⟩
def dkwX6_adds_2 : List UInt8 := [132, 2, 1, 167, 255, 207, 42, 89, 180, 1, 12, 4, 100, 181, 1, 12, 42, 182, 1, 23, 177]
abbrev dktX6_adds_2 : List UInt8 := dkwX6_adds_2 ++ []
def dkwX6_adds_1 : List UInt8 := [96, 92, 47, 27, 133, 42, 180, 0, 56, 16, 64, 42, 180, 1, 12, 4, 100, 104, 28, 96, 47, 105, 97, 80]
abbrev dktX6_adds_1 : List UInt8 := dkwX6_adds_1 ++ dktX6_adds_2
def dkwX6_adds_0 : List UInt8 := [3, 61, 28, 42, 180, 0, 235, 162, 0, 47, 42, 180, 0, 56, 16, 64, 42, 180, 1, 12, 5, 100, 104, 28]
abbrev dktX6_adds_0 : List UInt8 := dkwX6_adds_0 ++ dktX6_adds_1
theorem dksX6_adds_0 : cX6_adds.data.toList.drop 0 = dktX6_adds_0 := by decide +kernel
theorem dksX6_adds_1 : cX6_adds.data.toList.drop 24 = dktX6_adds_1 := dk_seg dksX6_adds_0 24 rfl rfl
theorem dksX6_adds_2 : cX6_adds.data.toList.drop 48 = dktX6_adds_2 := dk_seg dksX6_adds_1 24 rfl rfl
theorem dX6_adds_0 : decode cX6_adds 0 = .ok (.iconst 0, 1) := dk_3 (dk_at dksX6_adds_0 0 rfl rfl)
theorem dX6_adds_1 : decode cX6_adds 1 = .ok (.istore_n 2, 1) := dk_61 (dk_at dksX6_adds_0 1 rfl rfl)
theorem dX6_adds_2 : decode cX6_adds 2 = .ok (.iload_n 2, 1) := dk_28 (dk_at dksX6_adds_0 2 rfl rfl)
theorem dX6_adds_3 : decode cX6_adds 3 = .ok (.aload_n 0, 1) := dk_42 (dk_at dksX6_adds_0 3 rfl rfl)
theorem dX6_adds_4 : decode cX6_adds 4 = .ok (.getfield 235, 3) := dk_180 0 235 (dk_at dksX6_adds_0 4 rfl rfl)
theorem dX6_adds_7 : decode cX6_adds 7 = .ok (.if_icmp .ge 47, 3) := dk_162 0 47 (dk_at dksX6_adds_0 7 rfl rfl)
theorem dX6_adds_10 : decode cX6_adds 10 = .ok (.aload_n 0, 1) := dk_42 (dk_at dksX6_adds_0 10 rfl rfl)
theorem dX6_adds_11 : decode cX6_adds 11 = .ok (.getfield 56, 3) := dk_180 0 56 (dk_at dksX6_adds_0 11 rfl rfl)
theorem dX6_adds_14 : decode cX6_adds 14 = .ok (.bipush 64, 2) := dk_16 64 (dk_at dksX6_adds_0 14 rfl rfl)
theorem dX6_adds_16 : decode cX6_adds 16 = .ok (.aload_n 0, 1) := dk_42 (dk_at dksX6_adds_0 16 rfl rfl)
theorem dX6_adds_17 : decode cX6_adds 17 = .ok (.getfield 268, 3) := dk_180 1 12 (dk_at dksX6_adds_0 17 rfl rfl)
theorem dX6_adds_20 : decode cX6_adds 20 = .ok (.iconst 2, 1) := dk_5 (dk_at dksX6_adds_0 20 rfl rfl)
theorem dX6_adds_21 : decode cX6_adds 21 = .ok (.isub, 1) := dk_100 (dk_at dksX6_adds_0 21 rfl rfl)
theorem dX6_adds_22 : decode cX6_adds 22 = .ok (.imul, 1) := dk_104 (dk_at dksX6_adds_0 22 rfl rfl)
theorem dX6_adds_23 : decode cX6_adds 23 = .ok (.iload_n 2, 1) := dk_28 (dk_at dksX6_adds_0 23 rfl rfl)
theorem dX6_adds_24 : decode cX6_adds 24 = .ok (.iadd, 1) := dk_96 (dk_at dksX6_adds_1 0 rfl rfl)
theorem dX6_adds_25 : decode cX6_adds 25 = .ok (.dup2, 1) := dk_92 (dk_at dksX6_adds_1 1 rfl rfl)
theorem dX6_adds_26 : decode cX6_adds 26 = .ok (.laload, 1) := dk_47 (dk_at dksX6_adds_1 2 rfl rfl)
theorem dX6_adds_27 : decode cX6_adds 27 = .ok (.iload_n 1, 1) := dk_27 (dk_at dksX6_adds_1 3 rfl rfl)
theorem dX6_adds_28 : decode cX6_adds 28 = .ok (.i2l, 1) := dk_133 (dk_at dksX6_adds_1 4 rfl rfl)
theorem dX6_adds_29 : decode cX6_adds 29 = .ok (.aload_n 0, 1) := dk_42 (dk_at dksX6_adds_1 5 rfl rfl)
theorem dX6_adds_30 : decode cX6_adds 30 = .ok (.getfield 56, 3) := dk_180 0 56 (dk_at dksX6_adds_1 6 rfl rfl)
theorem dX6_adds_33 : decode cX6_adds 33 = .ok (.bipush 64, 2) := dk_16 64 (dk_at dksX6_adds_1 9 rfl rfl)
theorem dX6_adds_35 : decode cX6_adds 35 = .ok (.aload_n 0, 1) := dk_42 (dk_at dksX6_adds_1 11 rfl rfl)
theorem dX6_adds_36 : decode cX6_adds 36 = .ok (.getfield 268, 3) := dk_180 1 12 (dk_at dksX6_adds_1 12 rfl rfl)
theorem dX6_adds_39 : decode cX6_adds 39 = .ok (.iconst 1, 1) := dk_4 (dk_at dksX6_adds_1 15 rfl rfl)
theorem dX6_adds_40 : decode cX6_adds 40 = .ok (.isub, 1) := dk_100 (dk_at dksX6_adds_1 16 rfl rfl)
theorem dX6_adds_41 : decode cX6_adds 41 = .ok (.imul, 1) := dk_104 (dk_at dksX6_adds_1 17 rfl rfl)
theorem dX6_adds_42 : decode cX6_adds 42 = .ok (.iload_n 2, 1) := dk_28 (dk_at dksX6_adds_1 18 rfl rfl)
theorem dX6_adds_43 : decode cX6_adds 43 = .ok (.iadd, 1) := dk_96 (dk_at dksX6_adds_1 19 rfl rfl)
theorem dX6_adds_44 : decode cX6_adds 44 = .ok (.laload, 1) := dk_47 (dk_at dksX6_adds_1 20 rfl rfl)
theorem dX6_adds_45 : decode cX6_adds 45 = .ok (.lmul, 1) := dk_105 (dk_at dksX6_adds_1 21 rfl rfl)
theorem dX6_adds_46 : decode cX6_adds 46 = .ok (.ladd, 1) := dk_97 (dk_at dksX6_adds_1 22 rfl rfl)
theorem dX6_adds_47 : decode cX6_adds 47 = .ok (.lastore, 1) := dk_80 (dk_at dksX6_adds_1 23 rfl rfl)
theorem dX6_adds_48 : decode cX6_adds 48 = .ok (.iinc 2 1, 3) := dk_132 2 1 (dk_at dksX6_adds_2 0 rfl rfl)
theorem dX6_adds_51 : decode cX6_adds 51 = .ok (.goto (-49), 3) := dk_167 255 207 (dk_at dksX6_adds_2 3 rfl rfl)
theorem dX6_adds_54 : decode cX6_adds 54 = .ok (.aload_n 0, 1) := dk_42 (dk_at dksX6_adds_2 6 rfl rfl)
theorem dX6_adds_55 : decode cX6_adds 55 = .ok (.dup, 1) := dk_89 (dk_at dksX6_adds_2 7 rfl rfl)
theorem dX6_adds_56 : decode cX6_adds 56 = .ok (.getfield 268, 3) := dk_180 1 12 (dk_at dksX6_adds_2 8 rfl rfl)
theorem dX6_adds_59 : decode cX6_adds 59 = .ok (.iconst 1, 1) := dk_4 (dk_at dksX6_adds_2 11 rfl rfl)
theorem dX6_adds_60 : decode cX6_adds 60 = .ok (.isub, 1) := dk_100 (dk_at dksX6_adds_2 12 rfl rfl)
theorem dX6_adds_61 : decode cX6_adds 61 = .ok (.putfield 268, 3) := dk_181 1 12 (dk_at dksX6_adds_2 13 rfl rfl)
theorem dX6_adds_64 : decode cX6_adds 64 = .ok (.aload_n 0, 1) := dk_42 (dk_at dksX6_adds_2 16 rfl rfl)
theorem dX6_adds_65 : decode cX6_adds 65 = .ok (.invokevirtual 279, 3) := dk_182 1 23 (dk_at dksX6_adds_2 17 rfl rfl)
theorem dX6_adds_68 : decode cX6_adds 68 = .ok (.return_, 1) := dk_177 (dk_at dksX6_adds_2 20 rfl rfl)
abbrev cX6_isOpen : ByteArray := prog_16_method_57_code
def yX6_isOpen : MethodName := ⟨RX6, "isOpen", "()Z"⟩
def dkwX6_isOpen_1 : List UInt8 := [167, 255, 234, 3, 172]
abbrev dktX6_isOpen_1 : List UInt8 := dkwX6_isOpen_1 ++ []
def dkwX6_isOpen_0 : List UInt8 := [3, 60, 27, 42, 180, 1, 49, 162, 0, 20, 42, 180, 0, 72, 27, 46, 154, 0, 5, 4, 172, 132, 1, 1]
abbrev dktX6_isOpen_0 : List UInt8 := dkwX6_isOpen_0 ++ dktX6_isOpen_1
theorem dksX6_isOpen_0 : cX6_isOpen.data.toList.drop 0 = dktX6_isOpen_0 := by decide +kernel
theorem dksX6_isOpen_1 : cX6_isOpen.data.toList.drop 24 = dktX6_isOpen_1 := dk_seg dksX6_isOpen_0 24 rfl rfl
theorem dX6_isOpen_0 : decode cX6_isOpen 0 = .ok (.iconst 0, 1) := dk_3 (dk_at dksX6_isOpen_0 0 rfl rfl)
theorem dX6_isOpen_1 : decode cX6_isOpen 1 = .ok (.istore_n 1, 1) := dk_60 (dk_at dksX6_isOpen_0 1 rfl rfl)
theorem dX6_isOpen_2 : decode cX6_isOpen 2 = .ok (.iload_n 1, 1) := dk_27 (dk_at dksX6_isOpen_0 2 rfl rfl)
theorem dX6_isOpen_3 : decode cX6_isOpen 3 = .ok (.aload_n 0, 1) := dk_42 (dk_at dksX6_isOpen_0 3 rfl rfl)
theorem dX6_isOpen_4 : decode cX6_isOpen 4 = .ok (.getfield 305, 3) := dk_180 1 49 (dk_at dksX6_isOpen_0 4 rfl rfl)
theorem dX6_isOpen_7 : decode cX6_isOpen 7 = .ok (.if_icmp .ge 20, 3) := dk_162 0 20 (dk_at dksX6_isOpen_0 7 rfl rfl)
theorem dX6_isOpen_10 : decode cX6_isOpen 10 = .ok (.aload_n 0, 1) := dk_42 (dk_at dksX6_isOpen_0 10 rfl rfl)
theorem dX6_isOpen_11 : decode cX6_isOpen 11 = .ok (.getfield 72, 3) := dk_180 0 72 (dk_at dksX6_isOpen_0 11 rfl rfl)
theorem dX6_isOpen_14 : decode cX6_isOpen 14 = .ok (.iload_n 1, 1) := dk_27 (dk_at dksX6_isOpen_0 14 rfl rfl)
theorem dX6_isOpen_15 : decode cX6_isOpen 15 = .ok (.iaload, 1) := dk_46 (dk_at dksX6_isOpen_0 15 rfl rfl)
theorem dX6_isOpen_16 : decode cX6_isOpen 16 = .ok (.ifCond .ne 5, 3) := dk_154 0 5 (dk_at dksX6_isOpen_0 16 rfl rfl)
theorem dX6_isOpen_19 : decode cX6_isOpen 19 = .ok (.iconst 1, 1) := dk_4 (dk_at dksX6_isOpen_0 19 rfl rfl)
theorem dX6_isOpen_20 : decode cX6_isOpen 20 = .ok (.ireturn, 1) := dk_172 (dk_at dksX6_isOpen_0 20 rfl rfl)
theorem dX6_isOpen_21 : decode cX6_isOpen 21 = .ok (.iinc 1 1, 3) := dk_132 1 1 (dk_at dksX6_isOpen_0 21 rfl rfl)
theorem dX6_isOpen_24 : decode cX6_isOpen 24 = .ok (.goto (-22), 3) := dk_167 255 234 (dk_at dksX6_isOpen_1 0 rfl rfl)
theorem dX6_isOpen_27 : decode cX6_isOpen 27 = .ok (.iconst 0, 1) := dk_3 (dk_at dksX6_isOpen_1 3 rfl rfl)
theorem dX6_isOpen_28 : decode cX6_isOpen 28 = .ok (.ireturn, 1) := dk_172 (dk_at dksX6_isOpen_1 4 rfl rfl)
abbrev cX6_tells : ByteArray := prog_16_method_64_code
def yX6_tells : MethodName := ⟨RX6, "tells", "()V"⟩
def dkwX6_tells_0 : List UInt8 := [42, 42, 180, 0, 172, 181, 1, 123, 42, 42, 180, 0, 13, 181, 0, 17, 177]
abbrev dktX6_tells_0 : List UInt8 := dkwX6_tells_0 ++ []
theorem dksX6_tells_0 : cX6_tells.data.toList.drop 0 = dktX6_tells_0 := by decide +kernel
theorem dX6_tells_0 : decode cX6_tells 0 = .ok (.aload_n 0, 1) := dk_42 (dk_at dksX6_tells_0 0 rfl rfl)
theorem dX6_tells_1 : decode cX6_tells 1 = .ok (.aload_n 0, 1) := dk_42 (dk_at dksX6_tells_0 1 rfl rfl)
theorem dX6_tells_2 : decode cX6_tells 2 = .ok (.getfield 172, 3) := dk_180 0 172 (dk_at dksX6_tells_0 2 rfl rfl)
theorem dX6_tells_5 : decode cX6_tells 5 = .ok (.putfield 379, 3) := dk_181 1 123 (dk_at dksX6_tells_0 5 rfl rfl)
theorem dX6_tells_8 : decode cX6_tells 8 = .ok (.aload_n 0, 1) := dk_42 (dk_at dksX6_tells_0 8 rfl rfl)
theorem dX6_tells_9 : decode cX6_tells 9 = .ok (.aload_n 0, 1) := dk_42 (dk_at dksX6_tells_0 9 rfl rfl)
theorem dX6_tells_10 : decode cX6_tells 10 = .ok (.getfield 13, 3) := dk_180 0 13 (dk_at dksX6_tells_0 10 rfl rfl)
theorem dX6_tells_13 : decode cX6_tells 13 = .ok (.putfield 17, 3) := dk_181 0 17 (dk_at dksX6_tells_0 13 rfl rfl)
theorem dX6_tells_16 : decode cX6_tells 16 = .ok (.return_, 1) := dk_177 (dk_at dksX6_tells_0 16 rfl rfl)
abbrev cX6_goesBack : ByteArray := prog_16_method_66_code
def yX6_goesBack : MethodName := ⟨RX6, "goesBack", "()V"⟩
def dkwX6_goesBack_4 : List UInt8 := [27, 47, 80, 132, 1, 1, 167, 255, 234, 42, 182, 0, 118, 42, 3, 181, 1, 138, 177]
abbrev dktX6_goesBack_4 : List UInt8 := dkwX6_goesBack_4 ++ []
def dkwX6_goesBack_3 : List UInt8 := [132, 1, 1, 167, 255, 235, 3, 60, 27, 17, 2, 0, 162, 0, 21, 42, 180, 0, 78, 27, 42, 180, 0, 84]
abbrev dktX6_goesBack_3 : List UInt8 := dkwX6_goesBack_3 ++ dktX6_goesBack_4
def dkwX6_goesBack_2 : List UInt8 := [167, 255, 235, 3, 60, 27, 16, 8, 162, 0, 21, 42, 180, 0, 75, 27, 42, 180, 0, 81, 27, 47, 80]
abbrev dktX6_goesBack_2 : List UInt8 := dkwX6_goesBack_2 ++ dktX6_goesBack_3
def dkwX6_goesBack_1 : List UInt8 := [3, 60, 27, 16, 24, 162, 0, 21, 42, 180, 0, 20, 27, 42, 180, 0, 23, 27, 46, 79, 132, 1, 1]
abbrev dktX6_goesBack_1 : List UInt8 := dkwX6_goesBack_1 ++ dktX6_goesBack_2
def dkwX6_goesBack_0 : List UInt8 := [42, 42, 180, 1, 126, 181, 0, 115, 42, 42, 180, 1, 129, 181, 0, 199, 42, 42, 180, 1, 132, 181, 1, 43]
abbrev dktX6_goesBack_0 : List UInt8 := dkwX6_goesBack_0 ++ dktX6_goesBack_1
theorem dksX6_goesBack_0 : cX6_goesBack.data.toList.drop 0 = dktX6_goesBack_0 := by decide +kernel
theorem dksX6_goesBack_1 : cX6_goesBack.data.toList.drop 24 = dktX6_goesBack_1 := dk_seg dksX6_goesBack_0 24 rfl rfl
theorem dksX6_goesBack_2 : cX6_goesBack.data.toList.drop 47 = dktX6_goesBack_2 := dk_seg dksX6_goesBack_1 23 rfl rfl
theorem dksX6_goesBack_3 : cX6_goesBack.data.toList.drop 70 = dktX6_goesBack_3 := dk_seg dksX6_goesBack_2 23 rfl rfl
theorem dksX6_goesBack_4 : cX6_goesBack.data.toList.drop 94 = dktX6_goesBack_4 := dk_seg dksX6_goesBack_3 24 rfl rfl
theorem dX6_goesBack_0 : decode cX6_goesBack 0 = .ok (.aload_n 0, 1) := dk_42 (dk_at dksX6_goesBack_0 0 rfl rfl)
theorem dX6_goesBack_1 : decode cX6_goesBack 1 = .ok (.aload_n 0, 1) := dk_42 (dk_at dksX6_goesBack_0 1 rfl rfl)
theorem dX6_goesBack_2 : decode cX6_goesBack 2 = .ok (.getfield 382, 3) := dk_180 1 126 (dk_at dksX6_goesBack_0 2 rfl rfl)
theorem dX6_goesBack_5 : decode cX6_goesBack 5 = .ok (.putfield 115, 3) := dk_181 0 115 (dk_at dksX6_goesBack_0 5 rfl rfl)
theorem dX6_goesBack_8 : decode cX6_goesBack 8 = .ok (.aload_n 0, 1) := dk_42 (dk_at dksX6_goesBack_0 8 rfl rfl)
theorem dX6_goesBack_9 : decode cX6_goesBack 9 = .ok (.aload_n 0, 1) := dk_42 (dk_at dksX6_goesBack_0 9 rfl rfl)
theorem dX6_goesBack_10 : decode cX6_goesBack 10 = .ok (.getfield 385, 3) := dk_180 1 129 (dk_at dksX6_goesBack_0 10 rfl rfl)
theorem dX6_goesBack_13 : decode cX6_goesBack 13 = .ok (.putfield 199, 3) := dk_181 0 199 (dk_at dksX6_goesBack_0 13 rfl rfl)
theorem dX6_goesBack_16 : decode cX6_goesBack 16 = .ok (.aload_n 0, 1) := dk_42 (dk_at dksX6_goesBack_0 16 rfl rfl)
theorem dX6_goesBack_17 : decode cX6_goesBack 17 = .ok (.aload_n 0, 1) := dk_42 (dk_at dksX6_goesBack_0 17 rfl rfl)
theorem dX6_goesBack_18 : decode cX6_goesBack 18 = .ok (.getfield 388, 3) := dk_180 1 132 (dk_at dksX6_goesBack_0 18 rfl rfl)
theorem dX6_goesBack_21 : decode cX6_goesBack 21 = .ok (.putfield 299, 3) := dk_181 1 43 (dk_at dksX6_goesBack_0 21 rfl rfl)
theorem dX6_goesBack_24 : decode cX6_goesBack 24 = .ok (.iconst 0, 1) := dk_3 (dk_at dksX6_goesBack_1 0 rfl rfl)
theorem dX6_goesBack_25 : decode cX6_goesBack 25 = .ok (.istore_n 1, 1) := dk_60 (dk_at dksX6_goesBack_1 1 rfl rfl)
theorem dX6_goesBack_26 : decode cX6_goesBack 26 = .ok (.iload_n 1, 1) := dk_27 (dk_at dksX6_goesBack_1 2 rfl rfl)
theorem dX6_goesBack_27 : decode cX6_goesBack 27 = .ok (.bipush 24, 2) := dk_16 24 (dk_at dksX6_goesBack_1 3 rfl rfl)
theorem dX6_goesBack_29 : decode cX6_goesBack 29 = .ok (.if_icmp .ge 21, 3) := dk_162 0 21 (dk_at dksX6_goesBack_1 5 rfl rfl)
theorem dX6_goesBack_32 : decode cX6_goesBack 32 = .ok (.aload_n 0, 1) := dk_42 (dk_at dksX6_goesBack_1 8 rfl rfl)
theorem dX6_goesBack_33 : decode cX6_goesBack 33 = .ok (.getfield 20, 3) := dk_180 0 20 (dk_at dksX6_goesBack_1 9 rfl rfl)
theorem dX6_goesBack_36 : decode cX6_goesBack 36 = .ok (.iload_n 1, 1) := dk_27 (dk_at dksX6_goesBack_1 12 rfl rfl)
theorem dX6_goesBack_37 : decode cX6_goesBack 37 = .ok (.aload_n 0, 1) := dk_42 (dk_at dksX6_goesBack_1 13 rfl rfl)
theorem dX6_goesBack_38 : decode cX6_goesBack 38 = .ok (.getfield 23, 3) := dk_180 0 23 (dk_at dksX6_goesBack_1 14 rfl rfl)
theorem dX6_goesBack_41 : decode cX6_goesBack 41 = .ok (.iload_n 1, 1) := dk_27 (dk_at dksX6_goesBack_1 17 rfl rfl)
theorem dX6_goesBack_42 : decode cX6_goesBack 42 = .ok (.iaload, 1) := dk_46 (dk_at dksX6_goesBack_1 18 rfl rfl)
theorem dX6_goesBack_43 : decode cX6_goesBack 43 = .ok (.iastore, 1) := dk_79 (dk_at dksX6_goesBack_1 19 rfl rfl)
theorem dX6_goesBack_44 : decode cX6_goesBack 44 = .ok (.iinc 1 1, 3) := dk_132 1 1 (dk_at dksX6_goesBack_1 20 rfl rfl)
theorem dX6_goesBack_47 : decode cX6_goesBack 47 = .ok (.goto (-21), 3) := dk_167 255 235 (dk_at dksX6_goesBack_2 0 rfl rfl)
theorem dX6_goesBack_50 : decode cX6_goesBack 50 = .ok (.iconst 0, 1) := dk_3 (dk_at dksX6_goesBack_2 3 rfl rfl)
theorem dX6_goesBack_51 : decode cX6_goesBack 51 = .ok (.istore_n 1, 1) := dk_60 (dk_at dksX6_goesBack_2 4 rfl rfl)
theorem dX6_goesBack_52 : decode cX6_goesBack 52 = .ok (.iload_n 1, 1) := dk_27 (dk_at dksX6_goesBack_2 5 rfl rfl)
theorem dX6_goesBack_53 : decode cX6_goesBack 53 = .ok (.bipush 8, 2) := dk_16 8 (dk_at dksX6_goesBack_2 6 rfl rfl)
theorem dX6_goesBack_55 : decode cX6_goesBack 55 = .ok (.if_icmp .ge 21, 3) := dk_162 0 21 (dk_at dksX6_goesBack_2 8 rfl rfl)
theorem dX6_goesBack_58 : decode cX6_goesBack 58 = .ok (.aload_n 0, 1) := dk_42 (dk_at dksX6_goesBack_2 11 rfl rfl)
theorem dX6_goesBack_59 : decode cX6_goesBack 59 = .ok (.getfield 75, 3) := dk_180 0 75 (dk_at dksX6_goesBack_2 12 rfl rfl)
theorem dX6_goesBack_62 : decode cX6_goesBack 62 = .ok (.iload_n 1, 1) := dk_27 (dk_at dksX6_goesBack_2 15 rfl rfl)
theorem dX6_goesBack_63 : decode cX6_goesBack 63 = .ok (.aload_n 0, 1) := dk_42 (dk_at dksX6_goesBack_2 16 rfl rfl)
theorem dX6_goesBack_64 : decode cX6_goesBack 64 = .ok (.getfield 81, 3) := dk_180 0 81 (dk_at dksX6_goesBack_2 17 rfl rfl)
theorem dX6_goesBack_67 : decode cX6_goesBack 67 = .ok (.iload_n 1, 1) := dk_27 (dk_at dksX6_goesBack_2 20 rfl rfl)
theorem dX6_goesBack_68 : decode cX6_goesBack 68 = .ok (.laload, 1) := dk_47 (dk_at dksX6_goesBack_2 21 rfl rfl)
theorem dX6_goesBack_69 : decode cX6_goesBack 69 = .ok (.lastore, 1) := dk_80 (dk_at dksX6_goesBack_2 22 rfl rfl)
theorem dX6_goesBack_70 : decode cX6_goesBack 70 = .ok (.iinc 1 1, 3) := dk_132 1 1 (dk_at dksX6_goesBack_3 0 rfl rfl)
theorem dX6_goesBack_73 : decode cX6_goesBack 73 = .ok (.goto (-21), 3) := dk_167 255 235 (dk_at dksX6_goesBack_3 3 rfl rfl)
theorem dX6_goesBack_76 : decode cX6_goesBack 76 = .ok (.iconst 0, 1) := dk_3 (dk_at dksX6_goesBack_3 6 rfl rfl)
theorem dX6_goesBack_77 : decode cX6_goesBack 77 = .ok (.istore_n 1, 1) := dk_60 (dk_at dksX6_goesBack_3 7 rfl rfl)
theorem dX6_goesBack_78 : decode cX6_goesBack 78 = .ok (.iload_n 1, 1) := dk_27 (dk_at dksX6_goesBack_3 8 rfl rfl)
theorem dX6_goesBack_79 : decode cX6_goesBack 79 = .ok (.sipush 512, 3) := dk_17 2 0 (dk_at dksX6_goesBack_3 9 rfl rfl)
theorem dX6_goesBack_82 : decode cX6_goesBack 82 = .ok (.if_icmp .ge 21, 3) := dk_162 0 21 (dk_at dksX6_goesBack_3 12 rfl rfl)
theorem dX6_goesBack_85 : decode cX6_goesBack 85 = .ok (.aload_n 0, 1) := dk_42 (dk_at dksX6_goesBack_3 15 rfl rfl)
theorem dX6_goesBack_86 : decode cX6_goesBack 86 = .ok (.getfield 78, 3) := dk_180 0 78 (dk_at dksX6_goesBack_3 16 rfl rfl)
theorem dX6_goesBack_89 : decode cX6_goesBack 89 = .ok (.iload_n 1, 1) := dk_27 (dk_at dksX6_goesBack_3 19 rfl rfl)
theorem dX6_goesBack_90 : decode cX6_goesBack 90 = .ok (.aload_n 0, 1) := dk_42 (dk_at dksX6_goesBack_3 20 rfl rfl)
theorem dX6_goesBack_91 : decode cX6_goesBack 91 = .ok (.getfield 84, 3) := dk_180 0 84 (dk_at dksX6_goesBack_3 21 rfl rfl)
theorem dX6_goesBack_94 : decode cX6_goesBack 94 = .ok (.iload_n 1, 1) := dk_27 (dk_at dksX6_goesBack_4 0 rfl rfl)
theorem dX6_goesBack_95 : decode cX6_goesBack 95 = .ok (.laload, 1) := dk_47 (dk_at dksX6_goesBack_4 1 rfl rfl)
theorem dX6_goesBack_96 : decode cX6_goesBack 96 = .ok (.lastore, 1) := dk_80 (dk_at dksX6_goesBack_4 2 rfl rfl)
theorem dX6_goesBack_97 : decode cX6_goesBack 97 = .ok (.iinc 1 1, 3) := dk_132 1 1 (dk_at dksX6_goesBack_4 3 rfl rfl)
theorem dX6_goesBack_100 : decode cX6_goesBack 100 = .ok (.goto (-22), 3) := dk_167 255 234 (dk_at dksX6_goesBack_4 6 rfl rfl)
theorem dX6_goesBack_103 : decode cX6_goesBack 103 = .ok (.aload_n 0, 1) := dk_42 (dk_at dksX6_goesBack_4 9 rfl rfl)
theorem dX6_goesBack_104 : decode cX6_goesBack 104 = .ok (.invokevirtual 118, 3) := dk_182 0 118 (dk_at dksX6_goesBack_4 10 rfl rfl)
theorem dX6_goesBack_107 : decode cX6_goesBack 107 = .ok (.aload_n 0, 1) := dk_42 (dk_at dksX6_goesBack_4 13 rfl rfl)
theorem dX6_goesBack_108 : decode cX6_goesBack 108 = .ok (.iconst 0, 1) := dk_3 (dk_at dksX6_goesBack_4 14 rfl rfl)
theorem dX6_goesBack_109 : decode cX6_goesBack 109 = .ok (.putfield 394, 3) := dk_181 1 138 (dk_at dksX6_goesBack_4 15 rfl rfl)
theorem dX6_goesBack_112 : decode cX6_goesBack 112 = .ok (.return_, 1) := dk_177 (dk_at dksX6_goesBack_4 18 rfl rfl)
abbrev cX6_fault : ByteArray := prog_16_method_67_code
def yX6_fault : MethodName := ⟨RX6, "fault", "(I)I"⟩
def dkwX6_fault_1 : List UInt8 := [172]
abbrev dktX6_fault_1 : List UInt8 := dkwX6_fault_1 ++ []
def dkwX6_fault_0 : List UInt8 := [27, 154, 0, 10, 42, 180, 1, 123, 167, 0, 16, 27, 4, 160, 0, 10, 42, 180, 0, 17, 167, 0, 4, 2]
abbrev dktX6_fault_0 : List UInt8 := dkwX6_fault_0 ++ dktX6_fault_1
theorem dksX6_fault_0 : cX6_fault.data.toList.drop 0 = dktX6_fault_0 := by decide +kernel
theorem dksX6_fault_1 : cX6_fault.data.toList.drop 24 = dktX6_fault_1 := dk_seg dksX6_fault_0 24 rfl rfl
theorem dX6_fault_0 : decode cX6_fault 0 = .ok (.iload_n 1, 1) := dk_27 (dk_at dksX6_fault_0 0 rfl rfl)
theorem dX6_fault_1 : decode cX6_fault 1 = .ok (.ifCond .ne 10, 3) := dk_154 0 10 (dk_at dksX6_fault_0 1 rfl rfl)
theorem dX6_fault_4 : decode cX6_fault 4 = .ok (.aload_n 0, 1) := dk_42 (dk_at dksX6_fault_0 4 rfl rfl)
theorem dX6_fault_5 : decode cX6_fault 5 = .ok (.getfield 379, 3) := dk_180 1 123 (dk_at dksX6_fault_0 5 rfl rfl)
theorem dX6_fault_8 : decode cX6_fault 8 = .ok (.goto 16, 3) := dk_167 0 16 (dk_at dksX6_fault_0 8 rfl rfl)
theorem dX6_fault_11 : decode cX6_fault 11 = .ok (.iload_n 1, 1) := dk_27 (dk_at dksX6_fault_0 11 rfl rfl)
theorem dX6_fault_12 : decode cX6_fault 12 = .ok (.iconst 1, 1) := dk_4 (dk_at dksX6_fault_0 12 rfl rfl)
theorem dX6_fault_13 : decode cX6_fault 13 = .ok (.if_icmp .ne 10, 3) := dk_160 0 10 (dk_at dksX6_fault_0 13 rfl rfl)
theorem dX6_fault_16 : decode cX6_fault 16 = .ok (.aload_n 0, 1) := dk_42 (dk_at dksX6_fault_0 16 rfl rfl)
theorem dX6_fault_17 : decode cX6_fault 17 = .ok (.getfield 17, 3) := dk_180 0 17 (dk_at dksX6_fault_0 17 rfl rfl)
theorem dX6_fault_20 : decode cX6_fault 20 = .ok (.goto 4, 3) := dk_167 0 4 (dk_at dksX6_fault_0 20 rfl rfl)
theorem dX6_fault_23 : decode cX6_fault 23 = .ok (.iconst (-1), 1) := dk_2 (dk_at dksX6_fault_0 23 rfl rfl)
theorem dX6_fault_24 : decode cX6_fault 24 = .ok (.ireturn, 1) := dk_172 (dk_at dksX6_fault_1 0 rfl rfl)
abbrev cX6_about : ByteArray := prog_16_method_68_code
def yX6_about : MethodName := ⟨RX6, "about", "(I)I"⟩
def dkwX6_about_4 : List UInt8 := [180, 1, 135, 172, 42, 180, 0, 124, 172, 2, 172]
abbrev dktX6_about_4 : List UInt8 := dkwX6_about_4 ++ []
def dkwX6_about_3 : List UInt8 := [172, 42, 180, 0, 235, 172, 42, 4, 42, 180, 0, 196, 120, 4, 100, 182, 1, 141, 184, 1, 0, 172, 42]
abbrev dktX6_about_3 : List UInt8 := dkwX6_about_3 ++ dktX6_about_4
def dkwX6_about_2 : List UInt8 := [42, 180, 1, 126, 172, 42, 180, 1, 129, 172, 42, 180, 1, 132, 172, 42, 180, 0, 196, 172, 42, 180, 0, 220]
abbrev dktX6_about_2 : List UInt8 := dkwX6_about_2 ++ dktX6_about_3
def dkwX6_about_1 : List UInt8 := [170, 0, 0, 0, 0, 0, 107, 0, 0, 0, 0, 0, 0, 0, 8, 0, 0, 0, 51, 0, 0, 0, 56, 0, 0, 0, 61, 0, 0, 0, 66, 0, 0, 0, 71, 0, 0, 0, 76, 0, 0, 0, 81, 0, 0, 0, 97, 0, 0, 0, 102]
abbrev dktX6_about_1 : List UInt8 := dkwX6_about_1 ++ dktX6_about_2
def dkwX6_about_0 : List UInt8 := [27]
abbrev dktX6_about_0 : List UInt8 := dkwX6_about_0 ++ dktX6_about_1
theorem dksX6_about_0 : cX6_about.data.toList.drop 0 = dktX6_about_0 := by decide +kernel
theorem dksX6_about_1 : cX6_about.data.toList.drop 1 = dktX6_about_1 := dk_seg dksX6_about_0 1 rfl rfl
theorem dksX6_about_2 : cX6_about.data.toList.drop 52 = dktX6_about_2 := dk_seg dksX6_about_1 51 rfl rfl
theorem dksX6_about_3 : cX6_about.data.toList.drop 76 = dktX6_about_3 := dk_seg dksX6_about_2 24 rfl rfl
theorem dksX6_about_4 : cX6_about.data.toList.drop 99 = dktX6_about_4 := dk_seg dksX6_about_3 23 rfl rfl
theorem dX6_about_0 : decode cX6_about 0 = .ok (.iload_n 1, 1) := dk_27 (dk_at dksX6_about_0 0 rfl rfl)
theorem dX6_about_1 : decode cX6_about 1 = .ok (.tableswitch 107 0 8 #[51, 56, 61, 66, 71, 76, 81, 97, 102], 51) := by decide +kernel
theorem dX6_about_52 : decode cX6_about 52 = .ok (.aload_n 0, 1) := dk_42 (dk_at dksX6_about_2 0 rfl rfl)
theorem dX6_about_53 : decode cX6_about 53 = .ok (.getfield 382, 3) := dk_180 1 126 (dk_at dksX6_about_2 1 rfl rfl)
theorem dX6_about_56 : decode cX6_about 56 = .ok (.ireturn, 1) := dk_172 (dk_at dksX6_about_2 4 rfl rfl)
theorem dX6_about_57 : decode cX6_about 57 = .ok (.aload_n 0, 1) := dk_42 (dk_at dksX6_about_2 5 rfl rfl)
theorem dX6_about_58 : decode cX6_about 58 = .ok (.getfield 385, 3) := dk_180 1 129 (dk_at dksX6_about_2 6 rfl rfl)
theorem dX6_about_61 : decode cX6_about 61 = .ok (.ireturn, 1) := dk_172 (dk_at dksX6_about_2 9 rfl rfl)
theorem dX6_about_62 : decode cX6_about 62 = .ok (.aload_n 0, 1) := dk_42 (dk_at dksX6_about_2 10 rfl rfl)
theorem dX6_about_63 : decode cX6_about 63 = .ok (.getfield 388, 3) := dk_180 1 132 (dk_at dksX6_about_2 11 rfl rfl)
theorem dX6_about_66 : decode cX6_about 66 = .ok (.ireturn, 1) := dk_172 (dk_at dksX6_about_2 14 rfl rfl)
theorem dX6_about_67 : decode cX6_about 67 = .ok (.aload_n 0, 1) := dk_42 (dk_at dksX6_about_2 15 rfl rfl)
theorem dX6_about_68 : decode cX6_about 68 = .ok (.getfield 196, 3) := dk_180 0 196 (dk_at dksX6_about_2 16 rfl rfl)
theorem dX6_about_71 : decode cX6_about 71 = .ok (.ireturn, 1) := dk_172 (dk_at dksX6_about_2 19 rfl rfl)
theorem dX6_about_72 : decode cX6_about 72 = .ok (.aload_n 0, 1) := dk_42 (dk_at dksX6_about_2 20 rfl rfl)
theorem dX6_about_73 : decode cX6_about 73 = .ok (.getfield 220, 3) := dk_180 0 220 (dk_at dksX6_about_2 21 rfl rfl)
theorem dX6_about_76 : decode cX6_about 76 = .ok (.ireturn, 1) := dk_172 (dk_at dksX6_about_3 0 rfl rfl)
theorem dX6_about_77 : decode cX6_about 77 = .ok (.aload_n 0, 1) := dk_42 (dk_at dksX6_about_3 1 rfl rfl)
theorem dX6_about_78 : decode cX6_about 78 = .ok (.getfield 235, 3) := dk_180 0 235 (dk_at dksX6_about_3 2 rfl rfl)
theorem dX6_about_81 : decode cX6_about 81 = .ok (.ireturn, 1) := dk_172 (dk_at dksX6_about_3 5 rfl rfl)
theorem dX6_about_82 : decode cX6_about 82 = .ok (.aload_n 0, 1) := dk_42 (dk_at dksX6_about_3 6 rfl rfl)
theorem dX6_about_83 : decode cX6_about 83 = .ok (.iconst 1, 1) := dk_4 (dk_at dksX6_about_3 7 rfl rfl)
theorem dX6_about_84 : decode cX6_about 84 = .ok (.aload_n 0, 1) := dk_42 (dk_at dksX6_about_3 8 rfl rfl)
theorem dX6_about_85 : decode cX6_about 85 = .ok (.getfield 196, 3) := dk_180 0 196 (dk_at dksX6_about_3 9 rfl rfl)
theorem dX6_about_88 : decode cX6_about 88 = .ok (.ishl, 1) := dk_120 (dk_at dksX6_about_3 12 rfl rfl)
theorem dX6_about_89 : decode cX6_about 89 = .ok (.iconst 1, 1) := dk_4 (dk_at dksX6_about_3 13 rfl rfl)
theorem dX6_about_90 : decode cX6_about 90 = .ok (.isub, 1) := dk_100 (dk_at dksX6_about_3 14 rfl rfl)
theorem dX6_about_91 : decode cX6_about 91 = .ok (.invokevirtual 397, 3) := dk_182 1 141 (dk_at dksX6_about_3 15 rfl rfl)
theorem dX6_about_94 : decode cX6_about 94 = .ok (.invokestatic 256, 3) := dk_184 1 0 (dk_at dksX6_about_3 18 rfl rfl)
theorem dX6_about_97 : decode cX6_about 97 = .ok (.ireturn, 1) := dk_172 (dk_at dksX6_about_3 21 rfl rfl)
theorem dX6_about_98 : decode cX6_about 98 = .ok (.aload_n 0, 1) := dk_42 (dk_at dksX6_about_3 22 rfl rfl)
theorem dX6_about_99 : decode cX6_about 99 = .ok (.getfield 391, 3) := dk_180 1 135 (dk_at dksX6_about_4 0 rfl rfl)
theorem dX6_about_102 : decode cX6_about 102 = .ok (.ireturn, 1) := dk_172 (dk_at dksX6_about_4 3 rfl rfl)
theorem dX6_about_103 : decode cX6_about 103 = .ok (.aload_n 0, 1) := dk_42 (dk_at dksX6_about_4 4 rfl rfl)
theorem dX6_about_104 : decode cX6_about 104 = .ok (.getfield 124, 3) := dk_180 0 124 (dk_at dksX6_about_4 5 rfl rfl)
theorem dX6_about_107 : decode cX6_about 107 = .ok (.ireturn, 1) := dk_172 (dk_at dksX6_about_4 8 rfl rfl)
theorem dX6_about_108 : decode cX6_about 108 = .ok (.iconst (-1), 1) := dk_2 (dk_at dksX6_about_4 9 rfl rfl)
theorem dX6_about_109 : decode cX6_about 109 = .ok (.ireturn, 1) := dk_172 (dk_at dksX6_about_4 10 rfl rfl)
abbrev cX6_areAlike : ByteArray := prog_16_method_69_code
def yX6_areAlike : MethodName := ⟨RX6, "areAlike", "(I)Z"⟩
def dkwX6_areAlike_2 : List UInt8 := [182, 0, 216, 159, 0, 5, 3, 172, 132, 3, 1, 167, 255, 212, 132, 2, 1, 167, 255, 196, 4, 172]
abbrev dktX6_areAlike_2 : List UInt8 := dkwX6_areAlike_2 ++ []
def dkwX6_areAlike_1 : List UInt8 := [184, 0, 213, 153, 0, 28, 27, 29, 184, 0, 213, 153, 0, 20, 42, 28, 29, 182, 0, 216, 42, 29, 28]
abbrev dktX6_areAlike_1 : List UInt8 := dkwX6_areAlike_1 ++ dktX6_areAlike_2
def dkwX6_areAlike_0 : List UInt8 := [3, 61, 28, 42, 180, 0, 196, 162, 0, 58, 3, 62, 29, 42, 180, 0, 196, 162, 0, 42, 27, 28]
abbrev dktX6_areAlike_0 : List UInt8 := dkwX6_areAlike_0 ++ dktX6_areAlike_1
theorem dksX6_areAlike_0 : cX6_areAlike.data.toList.drop 0 = dktX6_areAlike_0 := by decide +kernel
theorem dksX6_areAlike_1 : cX6_areAlike.data.toList.drop 22 = dktX6_areAlike_1 := dk_seg dksX6_areAlike_0 22 rfl rfl
theorem dksX6_areAlike_2 : cX6_areAlike.data.toList.drop 45 = dktX6_areAlike_2 := dk_seg dksX6_areAlike_1 23 rfl rfl
theorem dX6_areAlike_0 : decode cX6_areAlike 0 = .ok (.iconst 0, 1) := dk_3 (dk_at dksX6_areAlike_0 0 rfl rfl)
theorem dX6_areAlike_1 : decode cX6_areAlike 1 = .ok (.istore_n 2, 1) := dk_61 (dk_at dksX6_areAlike_0 1 rfl rfl)
theorem dX6_areAlike_2 : decode cX6_areAlike 2 = .ok (.iload_n 2, 1) := dk_28 (dk_at dksX6_areAlike_0 2 rfl rfl)
theorem dX6_areAlike_3 : decode cX6_areAlike 3 = .ok (.aload_n 0, 1) := dk_42 (dk_at dksX6_areAlike_0 3 rfl rfl)
theorem dX6_areAlike_4 : decode cX6_areAlike 4 = .ok (.getfield 196, 3) := dk_180 0 196 (dk_at dksX6_areAlike_0 4 rfl rfl)
theorem dX6_areAlike_7 : decode cX6_areAlike 7 = .ok (.if_icmp .ge 58, 3) := dk_162 0 58 (dk_at dksX6_areAlike_0 7 rfl rfl)
theorem dX6_areAlike_10 : decode cX6_areAlike 10 = .ok (.iconst 0, 1) := dk_3 (dk_at dksX6_areAlike_0 10 rfl rfl)
theorem dX6_areAlike_11 : decode cX6_areAlike 11 = .ok (.istore_n 3, 1) := dk_62 (dk_at dksX6_areAlike_0 11 rfl rfl)
theorem dX6_areAlike_12 : decode cX6_areAlike 12 = .ok (.iload_n 3, 1) := dk_29 (dk_at dksX6_areAlike_0 12 rfl rfl)
theorem dX6_areAlike_13 : decode cX6_areAlike 13 = .ok (.aload_n 0, 1) := dk_42 (dk_at dksX6_areAlike_0 13 rfl rfl)
theorem dX6_areAlike_14 : decode cX6_areAlike 14 = .ok (.getfield 196, 3) := dk_180 0 196 (dk_at dksX6_areAlike_0 14 rfl rfl)
theorem dX6_areAlike_17 : decode cX6_areAlike 17 = .ok (.if_icmp .ge 42, 3) := dk_162 0 42 (dk_at dksX6_areAlike_0 17 rfl rfl)
theorem dX6_areAlike_20 : decode cX6_areAlike 20 = .ok (.iload_n 1, 1) := dk_27 (dk_at dksX6_areAlike_0 20 rfl rfl)
theorem dX6_areAlike_21 : decode cX6_areAlike 21 = .ok (.iload_n 2, 1) := dk_28 (dk_at dksX6_areAlike_0 21 rfl rfl)
theorem dX6_areAlike_22 : decode cX6_areAlike 22 = .ok (.invokestatic 213, 3) := dk_184 0 213 (dk_at dksX6_areAlike_1 0 rfl rfl)
theorem dX6_areAlike_25 : decode cX6_areAlike 25 = .ok (.ifCond .eq 28, 3) := dk_153 0 28 (dk_at dksX6_areAlike_1 3 rfl rfl)
theorem dX6_areAlike_28 : decode cX6_areAlike 28 = .ok (.iload_n 1, 1) := dk_27 (dk_at dksX6_areAlike_1 6 rfl rfl)
theorem dX6_areAlike_29 : decode cX6_areAlike 29 = .ok (.iload_n 3, 1) := dk_29 (dk_at dksX6_areAlike_1 7 rfl rfl)
theorem dX6_areAlike_30 : decode cX6_areAlike 30 = .ok (.invokestatic 213, 3) := dk_184 0 213 (dk_at dksX6_areAlike_1 8 rfl rfl)
theorem dX6_areAlike_33 : decode cX6_areAlike 33 = .ok (.ifCond .eq 20, 3) := dk_153 0 20 (dk_at dksX6_areAlike_1 11 rfl rfl)
theorem dX6_areAlike_36 : decode cX6_areAlike 36 = .ok (.aload_n 0, 1) := dk_42 (dk_at dksX6_areAlike_1 14 rfl rfl)
theorem dX6_areAlike_37 : decode cX6_areAlike 37 = .ok (.iload_n 2, 1) := dk_28 (dk_at dksX6_areAlike_1 15 rfl rfl)
theorem dX6_areAlike_38 : decode cX6_areAlike 38 = .ok (.iload_n 3, 1) := dk_29 (dk_at dksX6_areAlike_1 16 rfl rfl)
theorem dX6_areAlike_39 : decode cX6_areAlike 39 = .ok (.invokevirtual 216, 3) := dk_182 0 216 (dk_at dksX6_areAlike_1 17 rfl rfl)
theorem dX6_areAlike_42 : decode cX6_areAlike 42 = .ok (.aload_n 0, 1) := dk_42 (dk_at dksX6_areAlike_1 20 rfl rfl)
theorem dX6_areAlike_43 : decode cX6_areAlike 43 = .ok (.iload_n 3, 1) := dk_29 (dk_at dksX6_areAlike_1 21 rfl rfl)
theorem dX6_areAlike_44 : decode cX6_areAlike 44 = .ok (.iload_n 2, 1) := dk_28 (dk_at dksX6_areAlike_1 22 rfl rfl)
theorem dX6_areAlike_45 : decode cX6_areAlike 45 = .ok (.invokevirtual 216, 3) := dk_182 0 216 (dk_at dksX6_areAlike_2 0 rfl rfl)
theorem dX6_areAlike_48 : decode cX6_areAlike 48 = .ok (.if_icmp .eq 5, 3) := dk_159 0 5 (dk_at dksX6_areAlike_2 3 rfl rfl)
theorem dX6_areAlike_51 : decode cX6_areAlike 51 = .ok (.iconst 0, 1) := dk_3 (dk_at dksX6_areAlike_2 6 rfl rfl)
theorem dX6_areAlike_52 : decode cX6_areAlike 52 = .ok (.ireturn, 1) := dk_172 (dk_at dksX6_areAlike_2 7 rfl rfl)
theorem dX6_areAlike_53 : decode cX6_areAlike 53 = .ok (.iinc 3 1, 3) := dk_132 3 1 (dk_at dksX6_areAlike_2 8 rfl rfl)
theorem dX6_areAlike_56 : decode cX6_areAlike 56 = .ok (.goto (-44), 3) := dk_167 255 212 (dk_at dksX6_areAlike_2 11 rfl rfl)
theorem dX6_areAlike_59 : decode cX6_areAlike 59 = .ok (.iinc 2 1, 3) := dk_132 2 1 (dk_at dksX6_areAlike_2 14 rfl rfl)
theorem dX6_areAlike_62 : decode cX6_areAlike 62 = .ok (.goto (-60), 3) := dk_167 255 196 (dk_at dksX6_areAlike_2 17 rfl rfl)
theorem dX6_areAlike_65 : decode cX6_areAlike 65 = .ok (.iconst 1, 1) := dk_4 (dk_at dksX6_areAlike_2 20 rfl rfl)
theorem dX6_areAlike_66 : decode cX6_areAlike 66 = .ok (.ireturn, 1) := dk_172 (dk_at dksX6_areAlike_2 21 rfl rfl)
abbrev cX6_moves : ByteArray := prog_16_method_70_code
def yX6_moves : MethodName := ⟨RX6, "moves", "(II)I"⟩
def dkwX6_moves_1 : List UInt8 := [42, 180, 0, 26, 16, 6, 27, 104, 28, 96, 46, 167, 0, 4, 2, 172]
abbrev dktX6_moves_1 : List UInt8 := dkwX6_moves_1 ++ []
def dkwX6_moves_0 : List UInt8 := [42, 27, 182, 1, 144, 153, 0, 33, 28, 133, 9, 42, 180, 1, 126, 4, 100, 133, 184, 0, 131, 153, 0, 17]
abbrev dktX6_moves_0 : List UInt8 := dkwX6_moves_0 ++ dktX6_moves_1
theorem dksX6_moves_0 : cX6_moves.data.toList.drop 0 = dktX6_moves_0 := by decide +kernel
theorem dksX6_moves_1 : cX6_moves.data.toList.drop 24 = dktX6_moves_1 := dk_seg dksX6_moves_0 24 rfl rfl
theorem dX6_moves_0 : decode cX6_moves 0 = .ok (.aload_n 0, 1) := dk_42 (dk_at dksX6_moves_0 0 rfl rfl)
theorem dX6_moves_1 : decode cX6_moves 1 = .ok (.iload_n 1, 1) := dk_27 (dk_at dksX6_moves_0 1 rfl rfl)
theorem dX6_moves_2 : decode cX6_moves 2 = .ok (.invokevirtual 400, 3) := dk_182 1 144 (dk_at dksX6_moves_0 2 rfl rfl)
theorem dX6_moves_5 : decode cX6_moves 5 = .ok (.ifCond .eq 33, 3) := dk_153 0 33 (dk_at dksX6_moves_0 5 rfl rfl)
theorem dX6_moves_8 : decode cX6_moves 8 = .ok (.iload_n 2, 1) := dk_28 (dk_at dksX6_moves_0 8 rfl rfl)
theorem dX6_moves_9 : decode cX6_moves 9 = .ok (.i2l, 1) := dk_133 (dk_at dksX6_moves_0 9 rfl rfl)
theorem dX6_moves_10 : decode cX6_moves 10 = .ok (.lconst 0, 1) := dk_9 (dk_at dksX6_moves_0 10 rfl rfl)
theorem dX6_moves_11 : decode cX6_moves 11 = .ok (.aload_n 0, 1) := dk_42 (dk_at dksX6_moves_0 11 rfl rfl)
theorem dX6_moves_12 : decode cX6_moves 12 = .ok (.getfield 382, 3) := dk_180 1 126 (dk_at dksX6_moves_0 12 rfl rfl)
theorem dX6_moves_15 : decode cX6_moves 15 = .ok (.iconst 1, 1) := dk_4 (dk_at dksX6_moves_0 15 rfl rfl)
theorem dX6_moves_16 : decode cX6_moves 16 = .ok (.isub, 1) := dk_100 (dk_at dksX6_moves_0 16 rfl rfl)
theorem dX6_moves_17 : decode cX6_moves 17 = .ok (.i2l, 1) := dk_133 (dk_at dksX6_moves_0 17 rfl rfl)
theorem dX6_moves_18 : decode cX6_moves 18 = .ok (.invokestatic 131, 3) := dk_184 0 131 (dk_at dksX6_moves_0 18 rfl rfl)
theorem dX6_moves_21 : decode cX6_moves 21 = .ok (.ifCond .eq 17, 3) := dk_153 0 17 (dk_at dksX6_moves_0 21 rfl rfl)
theorem dX6_moves_24 : decode cX6_moves 24 = .ok (.aload_n 0, 1) := dk_42 (dk_at dksX6_moves_1 0 rfl rfl)
theorem dX6_moves_25 : decode cX6_moves 25 = .ok (.getfield 26, 3) := dk_180 0 26 (dk_at dksX6_moves_1 1 rfl rfl)
theorem dX6_moves_28 : decode cX6_moves 28 = .ok (.bipush 6, 2) := dk_16 6 (dk_at dksX6_moves_1 4 rfl rfl)
theorem dX6_moves_30 : decode cX6_moves 30 = .ok (.iload_n 1, 1) := dk_27 (dk_at dksX6_moves_1 6 rfl rfl)
theorem dX6_moves_31 : decode cX6_moves 31 = .ok (.imul, 1) := dk_104 (dk_at dksX6_moves_1 7 rfl rfl)
theorem dX6_moves_32 : decode cX6_moves 32 = .ok (.iload_n 2, 1) := dk_28 (dk_at dksX6_moves_1 8 rfl rfl)
theorem dX6_moves_33 : decode cX6_moves 33 = .ok (.iadd, 1) := dk_96 (dk_at dksX6_moves_1 9 rfl rfl)
theorem dX6_moves_34 : decode cX6_moves 34 = .ok (.iaload, 1) := dk_46 (dk_at dksX6_moves_1 10 rfl rfl)
theorem dX6_moves_35 : decode cX6_moves 35 = .ok (.goto 4, 3) := dk_167 0 4 (dk_at dksX6_moves_1 11 rfl rfl)
theorem dX6_moves_38 : decode cX6_moves 38 = .ok (.iconst (-1), 1) := dk_2 (dk_at dksX6_moves_1 14 rfl rfl)
theorem dX6_moves_39 : decode cX6_moves 39 = .ok (.ireturn, 1) := dk_172 (dk_at dksX6_moves_1 15 rfl rfl)
abbrev cX6_isMember : ByteArray := prog_16_method_38_code
def yX6_isMember : MethodName := ⟨RX6, "isMember", "(I)Z"⟩
def dkwX6_isMember_0 : List UInt8 := [27, 133, 9, 42, 180, 0, 196, 4, 100, 133, 184, 0, 131, 172]
abbrev dktX6_isMember_0 : List UInt8 := dkwX6_isMember_0 ++ []
theorem dksX6_isMember_0 : cX6_isMember.data.toList.drop 0 = dktX6_isMember_0 := by decide +kernel
theorem dX6_isMember_0 : decode cX6_isMember 0 = .ok (.iload_n 1, 1) := dk_27 (dk_at dksX6_isMember_0 0 rfl rfl)
theorem dX6_isMember_1 : decode cX6_isMember 1 = .ok (.i2l, 1) := dk_133 (dk_at dksX6_isMember_0 1 rfl rfl)
theorem dX6_isMember_2 : decode cX6_isMember 2 = .ok (.lconst 0, 1) := dk_9 (dk_at dksX6_isMember_0 2 rfl rfl)
theorem dX6_isMember_3 : decode cX6_isMember 3 = .ok (.aload_n 0, 1) := dk_42 (dk_at dksX6_isMember_0 3 rfl rfl)
theorem dX6_isMember_4 : decode cX6_isMember 4 = .ok (.getfield 196, 3) := dk_180 0 196 (dk_at dksX6_isMember_0 4 rfl rfl)
theorem dX6_isMember_7 : decode cX6_isMember 7 = .ok (.iconst 1, 1) := dk_4 (dk_at dksX6_isMember_0 7 rfl rfl)
theorem dX6_isMember_8 : decode cX6_isMember 8 = .ok (.isub, 1) := dk_100 (dk_at dksX6_isMember_0 8 rfl rfl)
theorem dX6_isMember_9 : decode cX6_isMember 9 = .ok (.i2l, 1) := dk_133 (dk_at dksX6_isMember_0 9 rfl rfl)
theorem dX6_isMember_10 : decode cX6_isMember 10 = .ok (.invokestatic 131, 3) := dk_184 0 131 (dk_at dksX6_isMember_0 10 rfl rfl)
theorem dX6_isMember_13 : decode cX6_isMember 13 = .ok (.ireturn, 1) := dk_172 (dk_at dksX6_isMember_0 13 rfl rfl)
abbrev cX6_times : ByteArray := prog_16_method_71_code
def yX6_times : MethodName := ⟨RX6, "times", "(II)I"⟩
def dkwX6_times_1 : List UInt8 := [167, 0, 4, 2, 172]
abbrev dktX6_times_1 : List UInt8 := dkwX6_times_1 ++ []
def dkwX6_times_0 : List UInt8 := [42, 27, 182, 1, 144, 153, 0, 20, 42, 28, 182, 1, 144, 153, 0, 12, 42, 27, 28, 182, 0, 216]
abbrev dktX6_times_0 : List UInt8 := dkwX6_times_0 ++ dktX6_times_1
theorem dksX6_times_0 : cX6_times.data.toList.drop 0 = dktX6_times_0 := by decide +kernel
theorem dksX6_times_1 : cX6_times.data.toList.drop 22 = dktX6_times_1 := dk_seg dksX6_times_0 22 rfl rfl
theorem dX6_times_0 : decode cX6_times 0 = .ok (.aload_n 0, 1) := dk_42 (dk_at dksX6_times_0 0 rfl rfl)
theorem dX6_times_1 : decode cX6_times 1 = .ok (.iload_n 1, 1) := dk_27 (dk_at dksX6_times_0 1 rfl rfl)
theorem dX6_times_2 : decode cX6_times 2 = .ok (.invokevirtual 400, 3) := dk_182 1 144 (dk_at dksX6_times_0 2 rfl rfl)
theorem dX6_times_5 : decode cX6_times 5 = .ok (.ifCond .eq 20, 3) := dk_153 0 20 (dk_at dksX6_times_0 5 rfl rfl)
theorem dX6_times_8 : decode cX6_times 8 = .ok (.aload_n 0, 1) := dk_42 (dk_at dksX6_times_0 8 rfl rfl)
theorem dX6_times_9 : decode cX6_times 9 = .ok (.iload_n 2, 1) := dk_28 (dk_at dksX6_times_0 9 rfl rfl)
theorem dX6_times_10 : decode cX6_times 10 = .ok (.invokevirtual 400, 3) := dk_182 1 144 (dk_at dksX6_times_0 10 rfl rfl)
theorem dX6_times_13 : decode cX6_times 13 = .ok (.ifCond .eq 12, 3) := dk_153 0 12 (dk_at dksX6_times_0 13 rfl rfl)
theorem dX6_times_16 : decode cX6_times 16 = .ok (.aload_n 0, 1) := dk_42 (dk_at dksX6_times_0 16 rfl rfl)
theorem dX6_times_17 : decode cX6_times 17 = .ok (.iload_n 1, 1) := dk_27 (dk_at dksX6_times_0 17 rfl rfl)
theorem dX6_times_18 : decode cX6_times 18 = .ok (.iload_n 2, 1) := dk_28 (dk_at dksX6_times_0 18 rfl rfl)
theorem dX6_times_19 : decode cX6_times 19 = .ok (.invokevirtual 216, 3) := dk_182 0 216 (dk_at dksX6_times_0 19 rfl rfl)
theorem dX6_times_22 : decode cX6_times 22 = .ok (.goto 4, 3) := dk_167 0 4 (dk_at dksX6_times_1 0 rfl rfl)
theorem dX6_times_25 : decode cX6_times 25 = .ok (.iconst (-1), 1) := dk_2 (dk_at dksX6_times_1 3 rfl rfl)
theorem dX6_times_26 : decode cX6_times 26 = .ok (.ireturn, 1) := dk_172 (dk_at dksX6_times_1 4 rfl rfl)
abbrev cX6_order : ByteArray := prog_16_method_73_code
def yX6_order : MethodName := ⟨RX6, "order", "(I)I"⟩
def dkwX6_order_0 : List UInt8 := [42, 27, 182, 1, 144, 153, 0, 11, 42, 27, 182, 1, 147, 167, 0, 4, 2, 172]
abbrev dktX6_order_0 : List UInt8 := dkwX6_order_0 ++ []
theorem dksX6_order_0 : cX6_order.data.toList.drop 0 = dktX6_order_0 := by decide +kernel
theorem dX6_order_0 : decode cX6_order 0 = .ok (.aload_n 0, 1) := dk_42 (dk_at dksX6_order_0 0 rfl rfl)
theorem dX6_order_1 : decode cX6_order 1 = .ok (.iload_n 1, 1) := dk_27 (dk_at dksX6_order_0 1 rfl rfl)
theorem dX6_order_2 : decode cX6_order 2 = .ok (.invokevirtual 400, 3) := dk_182 1 144 (dk_at dksX6_order_0 2 rfl rfl)
theorem dX6_order_5 : decode cX6_order 5 = .ok (.ifCond .eq 11, 3) := dk_153 0 11 (dk_at dksX6_order_0 5 rfl rfl)
theorem dX6_order_8 : decode cX6_order 8 = .ok (.aload_n 0, 1) := dk_42 (dk_at dksX6_order_0 8 rfl rfl)
theorem dX6_order_9 : decode cX6_order 9 = .ok (.iload_n 1, 1) := dk_27 (dk_at dksX6_order_0 9 rfl rfl)
theorem dX6_order_10 : decode cX6_order 10 = .ok (.invokevirtual 403, 3) := dk_182 1 147 (dk_at dksX6_order_0 10 rfl rfl)
theorem dX6_order_13 : decode cX6_order 13 = .ok (.goto 4, 3) := dk_167 0 4 (dk_at dksX6_order_0 13 rfl rfl)
theorem dX6_order_16 : decode cX6_order 16 = .ok (.iconst (-1), 1) := dk_2 (dk_at dksX6_order_0 16 rfl rfl)
theorem dX6_order_17 : decode cX6_order 17 = .ok (.ireturn, 1) := dk_172 (dk_at dksX6_order_0 17 rfl rfl)
abbrev cX6_timesOf : ByteArray := prog_16_method_72_code
def yX6_timesOf : MethodName := ⟨RX6, "timesOf", "(I)I"⟩
def dkwX6_timesOf_0 : List UInt8 := [4, 61, 27, 62, 29, 153, 0, 16, 132, 2, 1, 42, 29, 27, 182, 0, 216, 62, 167, 255, 242, 28, 172]
abbrev dktX6_timesOf_0 : List UInt8 := dkwX6_timesOf_0 ++ []
theorem dksX6_timesOf_0 : cX6_timesOf.data.toList.drop 0 = dktX6_timesOf_0 := by decide +kernel
theorem dX6_timesOf_0 : decode cX6_timesOf 0 = .ok (.iconst 1, 1) := dk_4 (dk_at dksX6_timesOf_0 0 rfl rfl)
theorem dX6_timesOf_1 : decode cX6_timesOf 1 = .ok (.istore_n 2, 1) := dk_61 (dk_at dksX6_timesOf_0 1 rfl rfl)
theorem dX6_timesOf_2 : decode cX6_timesOf 2 = .ok (.iload_n 1, 1) := dk_27 (dk_at dksX6_timesOf_0 2 rfl rfl)
theorem dX6_timesOf_3 : decode cX6_timesOf 3 = .ok (.istore_n 3, 1) := dk_62 (dk_at dksX6_timesOf_0 3 rfl rfl)
theorem dX6_timesOf_4 : decode cX6_timesOf 4 = .ok (.iload_n 3, 1) := dk_29 (dk_at dksX6_timesOf_0 4 rfl rfl)
theorem dX6_timesOf_5 : decode cX6_timesOf 5 = .ok (.ifCond .eq 16, 3) := dk_153 0 16 (dk_at dksX6_timesOf_0 5 rfl rfl)
theorem dX6_timesOf_8 : decode cX6_timesOf 8 = .ok (.iinc 2 1, 3) := dk_132 2 1 (dk_at dksX6_timesOf_0 8 rfl rfl)
theorem dX6_timesOf_11 : decode cX6_timesOf 11 = .ok (.aload_n 0, 1) := dk_42 (dk_at dksX6_timesOf_0 11 rfl rfl)
theorem dX6_timesOf_12 : decode cX6_timesOf 12 = .ok (.iload_n 3, 1) := dk_29 (dk_at dksX6_timesOf_0 12 rfl rfl)
theorem dX6_timesOf_13 : decode cX6_timesOf 13 = .ok (.iload_n 1, 1) := dk_27 (dk_at dksX6_timesOf_0 13 rfl rfl)
theorem dX6_timesOf_14 : decode cX6_timesOf 14 = .ok (.invokevirtual 216, 3) := dk_182 0 216 (dk_at dksX6_timesOf_0 14 rfl rfl)
theorem dX6_timesOf_17 : decode cX6_timesOf 17 = .ok (.istore_n 3, 1) := dk_62 (dk_at dksX6_timesOf_0 17 rfl rfl)
theorem dX6_timesOf_18 : decode cX6_timesOf 18 = .ok (.goto (-14), 3) := dk_167 255 242 (dk_at dksX6_timesOf_0 18 rfl rfl)
theorem dX6_timesOf_21 : decode cX6_timesOf 21 = .ok (.iload_n 2, 1) := dk_28 (dk_at dksX6_timesOf_0 21 rfl rfl)
theorem dX6_timesOf_22 : decode cX6_timesOf 22 = .ok (.ireturn, 1) := dk_172 (dk_at dksX6_timesOf_0 22 rfl rfl)
abbrev cX6_orders : ByteArray := prog_16_method_74_code
def yX6_orders : MethodName := ⟨RX6, "orders", "(I)I"⟩
def dkwX6_orders_2 : List UInt8 := [132, 3, 1, 167, 255, 225, 28, 172]
abbrev dktX6_orders_2 : List UInt8 := dkwX6_orders_2 ++ []
def dkwX6_orders_1 : List UInt8 := [162, 0, 29, 28, 42, 29, 182, 1, 147, 27, 160, 0, 7, 4, 167, 0, 4, 3, 184, 1, 0, 96, 61]
abbrev dktX6_orders_1 : List UInt8 := dkwX6_orders_1 ++ dktX6_orders_2
def dkwX6_orders_0 : List UInt8 := [27, 133, 10, 20, 1, 150, 184, 0, 131, 154, 0, 5, 2, 172, 3, 61, 3, 62, 29, 42, 180, 0, 196]
abbrev dktX6_orders_0 : List UInt8 := dkwX6_orders_0 ++ dktX6_orders_1
theorem dksX6_orders_0 : cX6_orders.data.toList.drop 0 = dktX6_orders_0 := by decide +kernel
theorem dksX6_orders_1 : cX6_orders.data.toList.drop 23 = dktX6_orders_1 := dk_seg dksX6_orders_0 23 rfl rfl
theorem dksX6_orders_2 : cX6_orders.data.toList.drop 46 = dktX6_orders_2 := dk_seg dksX6_orders_1 23 rfl rfl
theorem dX6_orders_0 : decode cX6_orders 0 = .ok (.iload_n 1, 1) := dk_27 (dk_at dksX6_orders_0 0 rfl rfl)
theorem dX6_orders_1 : decode cX6_orders 1 = .ok (.i2l, 1) := dk_133 (dk_at dksX6_orders_0 1 rfl rfl)
theorem dX6_orders_2 : decode cX6_orders 2 = .ok (.lconst 1, 1) := dk_10 (dk_at dksX6_orders_0 2 rfl rfl)
theorem dX6_orders_3 : decode cX6_orders 3 = .ok (.ldc2_w 406, 3) := dk_20 1 150 (dk_at dksX6_orders_0 3 rfl rfl)
theorem dX6_orders_6 : decode cX6_orders 6 = .ok (.invokestatic 131, 3) := dk_184 0 131 (dk_at dksX6_orders_0 6 rfl rfl)
theorem dX6_orders_9 : decode cX6_orders 9 = .ok (.ifCond .ne 5, 3) := dk_154 0 5 (dk_at dksX6_orders_0 9 rfl rfl)
theorem dX6_orders_12 : decode cX6_orders 12 = .ok (.iconst (-1), 1) := dk_2 (dk_at dksX6_orders_0 12 rfl rfl)
theorem dX6_orders_13 : decode cX6_orders 13 = .ok (.ireturn, 1) := dk_172 (dk_at dksX6_orders_0 13 rfl rfl)
theorem dX6_orders_14 : decode cX6_orders 14 = .ok (.iconst 0, 1) := dk_3 (dk_at dksX6_orders_0 14 rfl rfl)
theorem dX6_orders_15 : decode cX6_orders 15 = .ok (.istore_n 2, 1) := dk_61 (dk_at dksX6_orders_0 15 rfl rfl)
theorem dX6_orders_16 : decode cX6_orders 16 = .ok (.iconst 0, 1) := dk_3 (dk_at dksX6_orders_0 16 rfl rfl)
theorem dX6_orders_17 : decode cX6_orders 17 = .ok (.istore_n 3, 1) := dk_62 (dk_at dksX6_orders_0 17 rfl rfl)
theorem dX6_orders_18 : decode cX6_orders 18 = .ok (.iload_n 3, 1) := dk_29 (dk_at dksX6_orders_0 18 rfl rfl)
theorem dX6_orders_19 : decode cX6_orders 19 = .ok (.aload_n 0, 1) := dk_42 (dk_at dksX6_orders_0 19 rfl rfl)
theorem dX6_orders_20 : decode cX6_orders 20 = .ok (.getfield 196, 3) := dk_180 0 196 (dk_at dksX6_orders_0 20 rfl rfl)
theorem dX6_orders_23 : decode cX6_orders 23 = .ok (.if_icmp .ge 29, 3) := dk_162 0 29 (dk_at dksX6_orders_1 0 rfl rfl)
theorem dX6_orders_26 : decode cX6_orders 26 = .ok (.iload_n 2, 1) := dk_28 (dk_at dksX6_orders_1 3 rfl rfl)
theorem dX6_orders_27 : decode cX6_orders 27 = .ok (.aload_n 0, 1) := dk_42 (dk_at dksX6_orders_1 4 rfl rfl)
theorem dX6_orders_28 : decode cX6_orders 28 = .ok (.iload_n 3, 1) := dk_29 (dk_at dksX6_orders_1 5 rfl rfl)
theorem dX6_orders_29 : decode cX6_orders 29 = .ok (.invokevirtual 403, 3) := dk_182 1 147 (dk_at dksX6_orders_1 6 rfl rfl)
theorem dX6_orders_32 : decode cX6_orders 32 = .ok (.iload_n 1, 1) := dk_27 (dk_at dksX6_orders_1 9 rfl rfl)
theorem dX6_orders_33 : decode cX6_orders 33 = .ok (.if_icmp .ne 7, 3) := dk_160 0 7 (dk_at dksX6_orders_1 10 rfl rfl)
theorem dX6_orders_36 : decode cX6_orders 36 = .ok (.iconst 1, 1) := dk_4 (dk_at dksX6_orders_1 13 rfl rfl)
theorem dX6_orders_37 : decode cX6_orders 37 = .ok (.goto 4, 3) := dk_167 0 4 (dk_at dksX6_orders_1 14 rfl rfl)
theorem dX6_orders_40 : decode cX6_orders 40 = .ok (.iconst 0, 1) := dk_3 (dk_at dksX6_orders_1 17 rfl rfl)
theorem dX6_orders_41 : decode cX6_orders 41 = .ok (.invokestatic 256, 3) := dk_184 1 0 (dk_at dksX6_orders_1 18 rfl rfl)
theorem dX6_orders_44 : decode cX6_orders 44 = .ok (.iadd, 1) := dk_96 (dk_at dksX6_orders_1 21 rfl rfl)
theorem dX6_orders_45 : decode cX6_orders 45 = .ok (.istore_n 2, 1) := dk_61 (dk_at dksX6_orders_1 22 rfl rfl)
theorem dX6_orders_46 : decode cX6_orders 46 = .ok (.iinc 3 1, 3) := dk_132 3 1 (dk_at dksX6_orders_2 0 rfl rfl)
theorem dX6_orders_49 : decode cX6_orders 49 = .ok (.goto (-31), 3) := dk_167 255 225 (dk_at dksX6_orders_2 3 rfl rfl)
theorem dX6_orders_52 : decode cX6_orders 52 = .ok (.iload_n 2, 1) := dk_28 (dk_at dksX6_orders_2 6 rfl rfl)
theorem dX6_orders_53 : decode cX6_orders 53 = .ok (.ireturn, 1) := dk_172 (dk_at dksX6_orders_2 7 rfl rfl)
abbrev cX6_alike : ByteArray := prog_16_method_75_code
def yX6_alike : MethodName := ⟨RX6, "alike", "()I"⟩
def dkwX6_alike_2 : List UInt8 := [132, 3, 1, 167, 255, 219, 132, 2, 1, 167, 255, 203, 27, 172]
abbrev dktX6_alike_2 : List UInt8 := dkwX6_alike_2 ++ []
def dkwX6_alike_1 : List UInt8 := [28, 29, 182, 0, 216, 42, 29, 28, 182, 0, 216, 160, 0, 7, 4, 167, 0, 4, 3, 184, 1, 0, 96, 60]
abbrev dktX6_alike_1 : List UInt8 := dkwX6_alike_1 ++ dktX6_alike_2
def dkwX6_alike_0 : List UInt8 := [3, 60, 3, 61, 28, 42, 180, 0, 196, 162, 0, 51, 3, 62, 29, 42, 180, 0, 196, 162, 0, 35, 27, 42]
abbrev dktX6_alike_0 : List UInt8 := dkwX6_alike_0 ++ dktX6_alike_1
theorem dksX6_alike_0 : cX6_alike.data.toList.drop 0 = dktX6_alike_0 := by decide +kernel
theorem dksX6_alike_1 : cX6_alike.data.toList.drop 24 = dktX6_alike_1 := dk_seg dksX6_alike_0 24 rfl rfl
theorem dksX6_alike_2 : cX6_alike.data.toList.drop 48 = dktX6_alike_2 := dk_seg dksX6_alike_1 24 rfl rfl
theorem dX6_alike_0 : decode cX6_alike 0 = .ok (.iconst 0, 1) := dk_3 (dk_at dksX6_alike_0 0 rfl rfl)
theorem dX6_alike_1 : decode cX6_alike 1 = .ok (.istore_n 1, 1) := dk_60 (dk_at dksX6_alike_0 1 rfl rfl)
theorem dX6_alike_2 : decode cX6_alike 2 = .ok (.iconst 0, 1) := dk_3 (dk_at dksX6_alike_0 2 rfl rfl)
theorem dX6_alike_3 : decode cX6_alike 3 = .ok (.istore_n 2, 1) := dk_61 (dk_at dksX6_alike_0 3 rfl rfl)
theorem dX6_alike_4 : decode cX6_alike 4 = .ok (.iload_n 2, 1) := dk_28 (dk_at dksX6_alike_0 4 rfl rfl)
theorem dX6_alike_5 : decode cX6_alike 5 = .ok (.aload_n 0, 1) := dk_42 (dk_at dksX6_alike_0 5 rfl rfl)
theorem dX6_alike_6 : decode cX6_alike 6 = .ok (.getfield 196, 3) := dk_180 0 196 (dk_at dksX6_alike_0 6 rfl rfl)
theorem dX6_alike_9 : decode cX6_alike 9 = .ok (.if_icmp .ge 51, 3) := dk_162 0 51 (dk_at dksX6_alike_0 9 rfl rfl)
theorem dX6_alike_12 : decode cX6_alike 12 = .ok (.iconst 0, 1) := dk_3 (dk_at dksX6_alike_0 12 rfl rfl)
theorem dX6_alike_13 : decode cX6_alike 13 = .ok (.istore_n 3, 1) := dk_62 (dk_at dksX6_alike_0 13 rfl rfl)
theorem dX6_alike_14 : decode cX6_alike 14 = .ok (.iload_n 3, 1) := dk_29 (dk_at dksX6_alike_0 14 rfl rfl)
theorem dX6_alike_15 : decode cX6_alike 15 = .ok (.aload_n 0, 1) := dk_42 (dk_at dksX6_alike_0 15 rfl rfl)
theorem dX6_alike_16 : decode cX6_alike 16 = .ok (.getfield 196, 3) := dk_180 0 196 (dk_at dksX6_alike_0 16 rfl rfl)
theorem dX6_alike_19 : decode cX6_alike 19 = .ok (.if_icmp .ge 35, 3) := dk_162 0 35 (dk_at dksX6_alike_0 19 rfl rfl)
theorem dX6_alike_22 : decode cX6_alike 22 = .ok (.iload_n 1, 1) := dk_27 (dk_at dksX6_alike_0 22 rfl rfl)
theorem dX6_alike_23 : decode cX6_alike 23 = .ok (.aload_n 0, 1) := dk_42 (dk_at dksX6_alike_0 23 rfl rfl)
theorem dX6_alike_24 : decode cX6_alike 24 = .ok (.iload_n 2, 1) := dk_28 (dk_at dksX6_alike_1 0 rfl rfl)
theorem dX6_alike_25 : decode cX6_alike 25 = .ok (.iload_n 3, 1) := dk_29 (dk_at dksX6_alike_1 1 rfl rfl)
theorem dX6_alike_26 : decode cX6_alike 26 = .ok (.invokevirtual 216, 3) := dk_182 0 216 (dk_at dksX6_alike_1 2 rfl rfl)
theorem dX6_alike_29 : decode cX6_alike 29 = .ok (.aload_n 0, 1) := dk_42 (dk_at dksX6_alike_1 5 rfl rfl)
theorem dX6_alike_30 : decode cX6_alike 30 = .ok (.iload_n 3, 1) := dk_29 (dk_at dksX6_alike_1 6 rfl rfl)
theorem dX6_alike_31 : decode cX6_alike 31 = .ok (.iload_n 2, 1) := dk_28 (dk_at dksX6_alike_1 7 rfl rfl)
theorem dX6_alike_32 : decode cX6_alike 32 = .ok (.invokevirtual 216, 3) := dk_182 0 216 (dk_at dksX6_alike_1 8 rfl rfl)
theorem dX6_alike_35 : decode cX6_alike 35 = .ok (.if_icmp .ne 7, 3) := dk_160 0 7 (dk_at dksX6_alike_1 11 rfl rfl)
theorem dX6_alike_38 : decode cX6_alike 38 = .ok (.iconst 1, 1) := dk_4 (dk_at dksX6_alike_1 14 rfl rfl)
theorem dX6_alike_39 : decode cX6_alike 39 = .ok (.goto 4, 3) := dk_167 0 4 (dk_at dksX6_alike_1 15 rfl rfl)
theorem dX6_alike_42 : decode cX6_alike 42 = .ok (.iconst 0, 1) := dk_3 (dk_at dksX6_alike_1 18 rfl rfl)
theorem dX6_alike_43 : decode cX6_alike 43 = .ok (.invokestatic 256, 3) := dk_184 1 0 (dk_at dksX6_alike_1 19 rfl rfl)
theorem dX6_alike_46 : decode cX6_alike 46 = .ok (.iadd, 1) := dk_96 (dk_at dksX6_alike_1 22 rfl rfl)
theorem dX6_alike_47 : decode cX6_alike 47 = .ok (.istore_n 1, 1) := dk_60 (dk_at dksX6_alike_1 23 rfl rfl)
theorem dX6_alike_48 : decode cX6_alike 48 = .ok (.iinc 3 1, 3) := dk_132 3 1 (dk_at dksX6_alike_2 0 rfl rfl)
theorem dX6_alike_51 : decode cX6_alike 51 = .ok (.goto (-37), 3) := dk_167 255 219 (dk_at dksX6_alike_2 3 rfl rfl)
theorem dX6_alike_54 : decode cX6_alike 54 = .ok (.iinc 2 1, 3) := dk_132 2 1 (dk_at dksX6_alike_2 6 rfl rfl)
theorem dX6_alike_57 : decode cX6_alike 57 = .ok (.goto (-53), 3) := dk_167 255 203 (dk_at dksX6_alike_2 9 rfl rfl)
theorem dX6_alike_60 : decode cX6_alike 60 = .ok (.iload_n 1, 1) := dk_27 (dk_at dksX6_alike_2 12 rfl rfl)
theorem dX6_alike_61 : decode cX6_alike 61 = .ok (.ireturn, 1) := dk_172 (dk_at dksX6_alike_2 13 rfl rfl)
abbrev cX6_makesOf : ByteArray := prog_16_method_77_code
def yX6_makesOf : MethodName := ⟨RX6, "makesOf", "(I)I"⟩
def dkwX6_makesOf_0 : List UInt8 := [42, 27, 182, 1, 152, 153, 0, 11, 42, 27, 182, 0, 229, 167, 0, 4, 2, 172]
abbrev dktX6_makesOf_0 : List UInt8 := dkwX6_makesOf_0 ++ []
theorem dksX6_makesOf_0 : cX6_makesOf.data.toList.drop 0 = dktX6_makesOf_0 := by decide +kernel
theorem dX6_makesOf_0 : decode cX6_makesOf 0 = .ok (.aload_n 0, 1) := dk_42 (dk_at dksX6_makesOf_0 0 rfl rfl)
theorem dX6_makesOf_1 : decode cX6_makesOf 1 = .ok (.iload_n 1, 1) := dk_27 (dk_at dksX6_makesOf_0 1 rfl rfl)
theorem dX6_makesOf_2 : decode cX6_makesOf 2 = .ok (.invokevirtual 408, 3) := dk_182 1 152 (dk_at dksX6_makesOf_0 2 rfl rfl)
theorem dX6_makesOf_5 : decode cX6_makesOf 5 = .ok (.ifCond .eq 11, 3) := dk_153 0 11 (dk_at dksX6_makesOf_0 5 rfl rfl)
theorem dX6_makesOf_8 : decode cX6_makesOf 8 = .ok (.aload_n 0, 1) := dk_42 (dk_at dksX6_makesOf_0 8 rfl rfl)
theorem dX6_makesOf_9 : decode cX6_makesOf 9 = .ok (.iload_n 1, 1) := dk_27 (dk_at dksX6_makesOf_0 9 rfl rfl)
theorem dX6_makesOf_10 : decode cX6_makesOf 10 = .ok (.invokevirtual 229, 3) := dk_182 0 229 (dk_at dksX6_makesOf_0 10 rfl rfl)
theorem dX6_makesOf_13 : decode cX6_makesOf 13 = .ok (.goto 4, 3) := dk_167 0 4 (dk_at dksX6_makesOf_0 13 rfl rfl)
theorem dX6_makesOf_16 : decode cX6_makesOf 16 = .ok (.iconst (-1), 1) := dk_2 (dk_at dksX6_makesOf_0 16 rfl rfl)
theorem dX6_makesOf_17 : decode cX6_makesOf 17 = .ok (.ireturn, 1) := dk_172 (dk_at dksX6_makesOf_0 17 rfl rfl)
abbrev cX6_areMembers : ByteArray := prog_16_method_76_code
def yX6_areMembers : MethodName := ⟨RX6, "areMembers", "(I)Z"⟩
def dkwX6_areMembers_0 : List UInt8 := [27, 133, 9, 4, 42, 180, 0, 196, 120, 4, 100, 133, 184, 0, 131, 172]
abbrev dktX6_areMembers_0 : List UInt8 := dkwX6_areMembers_0 ++ []
theorem dksX6_areMembers_0 : cX6_areMembers.data.toList.drop 0 = dktX6_areMembers_0 := by decide +kernel
theorem dX6_areMembers_0 : decode cX6_areMembers 0 = .ok (.iload_n 1, 1) := dk_27 (dk_at dksX6_areMembers_0 0 rfl rfl)
theorem dX6_areMembers_1 : decode cX6_areMembers 1 = .ok (.i2l, 1) := dk_133 (dk_at dksX6_areMembers_0 1 rfl rfl)
theorem dX6_areMembers_2 : decode cX6_areMembers 2 = .ok (.lconst 0, 1) := dk_9 (dk_at dksX6_areMembers_0 2 rfl rfl)
theorem dX6_areMembers_3 : decode cX6_areMembers 3 = .ok (.iconst 1, 1) := dk_4 (dk_at dksX6_areMembers_0 3 rfl rfl)
theorem dX6_areMembers_4 : decode cX6_areMembers 4 = .ok (.aload_n 0, 1) := dk_42 (dk_at dksX6_areMembers_0 4 rfl rfl)
theorem dX6_areMembers_5 : decode cX6_areMembers 5 = .ok (.getfield 196, 3) := dk_180 0 196 (dk_at dksX6_areMembers_0 5 rfl rfl)
theorem dX6_areMembers_8 : decode cX6_areMembers 8 = .ok (.ishl, 1) := dk_120 (dk_at dksX6_areMembers_0 8 rfl rfl)
theorem dX6_areMembers_9 : decode cX6_areMembers 9 = .ok (.iconst 1, 1) := dk_4 (dk_at dksX6_areMembers_0 9 rfl rfl)
theorem dX6_areMembers_10 : decode cX6_areMembers 10 = .ok (.isub, 1) := dk_100 (dk_at dksX6_areMembers_0 10 rfl rfl)
theorem dX6_areMembers_11 : decode cX6_areMembers 11 = .ok (.i2l, 1) := dk_133 (dk_at dksX6_areMembers_0 11 rfl rfl)
theorem dX6_areMembers_12 : decode cX6_areMembers 12 = .ok (.invokestatic 131, 3) := dk_184 0 131 (dk_at dksX6_areMembers_0 12 rfl rfl)
theorem dX6_areMembers_15 : decode cX6_areMembers 15 = .ok (.ireturn, 1) := dk_172 (dk_at dksX6_areMembers_0 15 rfl rfl)
abbrev cX6_sortOf : ByteArray := prog_16_method_78_code
def yX6_sortOf : MethodName := ⟨RX6, "sortOf", "(I)I"⟩
def dkwX6_sortOf_0 : List UInt8 := [42, 27, 182, 1, 152, 153, 0, 15, 42, 42, 27, 182, 0, 229, 182, 1, 155, 167, 0, 4, 2, 172]
abbrev dktX6_sortOf_0 : List UInt8 := dkwX6_sortOf_0 ++ []
theorem dksX6_sortOf_0 : cX6_sortOf.data.toList.drop 0 = dktX6_sortOf_0 := by decide +kernel
theorem dX6_sortOf_0 : decode cX6_sortOf 0 = .ok (.aload_n 0, 1) := dk_42 (dk_at dksX6_sortOf_0 0 rfl rfl)
theorem dX6_sortOf_1 : decode cX6_sortOf 1 = .ok (.iload_n 1, 1) := dk_27 (dk_at dksX6_sortOf_0 1 rfl rfl)
theorem dX6_sortOf_2 : decode cX6_sortOf 2 = .ok (.invokevirtual 408, 3) := dk_182 1 152 (dk_at dksX6_sortOf_0 2 rfl rfl)
theorem dX6_sortOf_5 : decode cX6_sortOf 5 = .ok (.ifCond .eq 15, 3) := dk_153 0 15 (dk_at dksX6_sortOf_0 5 rfl rfl)
theorem dX6_sortOf_8 : decode cX6_sortOf 8 = .ok (.aload_n 0, 1) := dk_42 (dk_at dksX6_sortOf_0 8 rfl rfl)
theorem dX6_sortOf_9 : decode cX6_sortOf 9 = .ok (.aload_n 0, 1) := dk_42 (dk_at dksX6_sortOf_0 9 rfl rfl)
theorem dX6_sortOf_10 : decode cX6_sortOf 10 = .ok (.iload_n 1, 1) := dk_27 (dk_at dksX6_sortOf_0 10 rfl rfl)
theorem dX6_sortOf_11 : decode cX6_sortOf 11 = .ok (.invokevirtual 229, 3) := dk_182 0 229 (dk_at dksX6_sortOf_0 11 rfl rfl)
theorem dX6_sortOf_14 : decode cX6_sortOf 14 = .ok (.invokevirtual 411, 3) := dk_182 1 155 (dk_at dksX6_sortOf_0 14 rfl rfl)
theorem dX6_sortOf_17 : decode cX6_sortOf 17 = .ok (.goto 4, 3) := dk_167 0 4 (dk_at dksX6_sortOf_0 17 rfl rfl)
theorem dX6_sortOf_20 : decode cX6_sortOf 20 = .ok (.iconst (-1), 1) := dk_2 (dk_at dksX6_sortOf_0 20 rfl rfl)
theorem dX6_sortOf_21 : decode cX6_sortOf 21 = .ok (.ireturn, 1) := dk_172 (dk_at dksX6_sortOf_0 21 rfl rfl)
abbrev cX6_sortOfSet : ByteArray := prog_16_method_36_code
def yX6_sortOfSet : MethodName := ⟨RX6, "sortOfSet", "(I)I"⟩
def dkwX6_sortOfSet_0 : List UInt8 := [42, 180, 0, 41, 42, 27, 182, 0, 232, 46, 172]
abbrev dktX6_sortOfSet_0 : List UInt8 := dkwX6_sortOfSet_0 ++ []
theorem dksX6_sortOfSet_0 : cX6_sortOfSet.data.toList.drop 0 = dktX6_sortOfSet_0 := by decide +kernel
theorem dX6_sortOfSet_0 : decode cX6_sortOfSet 0 = .ok (.aload_n 0, 1) := dk_42 (dk_at dksX6_sortOfSet_0 0 rfl rfl)
theorem dX6_sortOfSet_1 : decode cX6_sortOfSet 1 = .ok (.getfield 41, 3) := dk_180 0 41 (dk_at dksX6_sortOfSet_0 1 rfl rfl)
theorem dX6_sortOfSet_4 : decode cX6_sortOfSet 4 = .ok (.aload_n 0, 1) := dk_42 (dk_at dksX6_sortOfSet_0 4 rfl rfl)
theorem dX6_sortOfSet_5 : decode cX6_sortOfSet 5 = .ok (.iload_n 1, 1) := dk_27 (dk_at dksX6_sortOfSet_0 5 rfl rfl)
theorem dX6_sortOfSet_6 : decode cX6_sortOfSet 6 = .ok (.invokevirtual 232, 3) := dk_182 0 232 (dk_at dksX6_sortOfSet_0 6 rfl rfl)
theorem dX6_sortOfSet_9 : decode cX6_sortOfSet 9 = .ok (.iaload, 1) := dk_46 (dk_at dksX6_sortOfSet_0 9 rfl rfl)
theorem dX6_sortOfSet_10 : decode cX6_sortOfSet 10 = .ok (.ireturn, 1) := dk_172 (dk_at dksX6_sortOfSet_0 10 rfl rfl)
abbrev cX6_sort : ByteArray := prog_16_method_81_code
def yX6_sort : MethodName := ⟨RX6, "sort", "(II)I"⟩
def dkwX6_sort_4 : List UInt8 := [184, 1, 0, 172, 42, 42, 180, 0, 44, 27, 46, 182, 1, 141, 184, 1, 0, 172, 2, 172]
abbrev dktX6_sort_4 : List UInt8 := dkwX6_sort_4 ++ []
def dkwX6_sort_3 : List UInt8 := [42, 42, 180, 0, 44, 27, 46, 182, 1, 161, 184, 0, 253, 172, 42, 42, 180, 0, 44, 27, 46, 182, 1, 164]
abbrev dktX6_sort_3 : List UInt8 := dkwX6_sort_3 ++ dktX6_sort_4
def dkwX6_sort_2 : List UInt8 := [42, 180, 0, 44, 27, 46, 184, 0, 253, 172, 42, 180, 0, 47, 27, 46, 172, 42, 180, 0, 44, 27, 46, 172]
abbrev dktX6_sort_2 : List UInt8 := dkwX6_sort_2 ++ dktX6_sort_3
def dkwX6_sort_1 : List UInt8 := [170, 0, 0, 0, 103, 0, 0, 0, 0, 0, 0, 0, 5, 0, 0, 0, 37, 0, 0, 0, 47, 0, 0, 0, 54, 0, 0, 0, 61, 0, 0, 0, 75, 0, 0, 0, 89]
abbrev dktX6_sort_1 : List UInt8 := dkwX6_sort_1 ++ dktX6_sort_2
def dkwX6_sort_0 : List UInt8 := [42, 27, 182, 1, 158, 154, 0, 5, 2, 172, 28]
abbrev dktX6_sort_0 : List UInt8 := dkwX6_sort_0 ++ dktX6_sort_1
theorem dksX6_sort_0 : cX6_sort.data.toList.drop 0 = dktX6_sort_0 := by decide +kernel
theorem dksX6_sort_1 : cX6_sort.data.toList.drop 11 = dktX6_sort_1 := dk_seg dksX6_sort_0 11 rfl rfl
theorem dksX6_sort_2 : cX6_sort.data.toList.drop 48 = dktX6_sort_2 := dk_seg dksX6_sort_1 37 rfl rfl
theorem dksX6_sort_3 : cX6_sort.data.toList.drop 72 = dktX6_sort_3 := dk_seg dksX6_sort_2 24 rfl rfl
theorem dksX6_sort_4 : cX6_sort.data.toList.drop 96 = dktX6_sort_4 := dk_seg dksX6_sort_3 24 rfl rfl
theorem dX6_sort_0 : decode cX6_sort 0 = .ok (.aload_n 0, 1) := dk_42 (dk_at dksX6_sort_0 0 rfl rfl)
theorem dX6_sort_1 : decode cX6_sort 1 = .ok (.iload_n 1, 1) := dk_27 (dk_at dksX6_sort_0 1 rfl rfl)
theorem dX6_sort_2 : decode cX6_sort 2 = .ok (.invokevirtual 414, 3) := dk_182 1 158 (dk_at dksX6_sort_0 2 rfl rfl)
theorem dX6_sort_5 : decode cX6_sort 5 = .ok (.ifCond .ne 5, 3) := dk_154 0 5 (dk_at dksX6_sort_0 5 rfl rfl)
theorem dX6_sort_8 : decode cX6_sort 8 = .ok (.iconst (-1), 1) := dk_2 (dk_at dksX6_sort_0 8 rfl rfl)
theorem dX6_sort_9 : decode cX6_sort 9 = .ok (.ireturn, 1) := dk_172 (dk_at dksX6_sort_0 9 rfl rfl)
theorem dX6_sort_10 : decode cX6_sort 10 = .ok (.iload_n 2, 1) := dk_28 (dk_at dksX6_sort_0 10 rfl rfl)
theorem dX6_sort_11 : decode cX6_sort 11 = .ok (.tableswitch 103 0 5 #[37, 47, 54, 61, 75, 89], 37) := by decide +kernel
theorem dX6_sort_48 : decode cX6_sort 48 = .ok (.aload_n 0, 1) := dk_42 (dk_at dksX6_sort_2 0 rfl rfl)
theorem dX6_sort_49 : decode cX6_sort 49 = .ok (.getfield 44, 3) := dk_180 0 44 (dk_at dksX6_sort_2 1 rfl rfl)
theorem dX6_sort_52 : decode cX6_sort 52 = .ok (.iload_n 1, 1) := dk_27 (dk_at dksX6_sort_2 4 rfl rfl)
theorem dX6_sort_53 : decode cX6_sort 53 = .ok (.iaload, 1) := dk_46 (dk_at dksX6_sort_2 5 rfl rfl)
theorem dX6_sort_54 : decode cX6_sort 54 = .ok (.invokestatic 253, 3) := dk_184 0 253 (dk_at dksX6_sort_2 6 rfl rfl)
theorem dX6_sort_57 : decode cX6_sort 57 = .ok (.ireturn, 1) := dk_172 (dk_at dksX6_sort_2 9 rfl rfl)
theorem dX6_sort_58 : decode cX6_sort 58 = .ok (.aload_n 0, 1) := dk_42 (dk_at dksX6_sort_2 10 rfl rfl)
theorem dX6_sort_59 : decode cX6_sort 59 = .ok (.getfield 47, 3) := dk_180 0 47 (dk_at dksX6_sort_2 11 rfl rfl)
theorem dX6_sort_62 : decode cX6_sort 62 = .ok (.iload_n 1, 1) := dk_27 (dk_at dksX6_sort_2 14 rfl rfl)
theorem dX6_sort_63 : decode cX6_sort 63 = .ok (.iaload, 1) := dk_46 (dk_at dksX6_sort_2 15 rfl rfl)
theorem dX6_sort_64 : decode cX6_sort 64 = .ok (.ireturn, 1) := dk_172 (dk_at dksX6_sort_2 16 rfl rfl)
theorem dX6_sort_65 : decode cX6_sort 65 = .ok (.aload_n 0, 1) := dk_42 (dk_at dksX6_sort_2 17 rfl rfl)
theorem dX6_sort_66 : decode cX6_sort 66 = .ok (.getfield 44, 3) := dk_180 0 44 (dk_at dksX6_sort_2 18 rfl rfl)
theorem dX6_sort_69 : decode cX6_sort 69 = .ok (.iload_n 1, 1) := dk_27 (dk_at dksX6_sort_2 21 rfl rfl)
theorem dX6_sort_70 : decode cX6_sort 70 = .ok (.iaload, 1) := dk_46 (dk_at dksX6_sort_2 22 rfl rfl)
theorem dX6_sort_71 : decode cX6_sort 71 = .ok (.ireturn, 1) := dk_172 (dk_at dksX6_sort_2 23 rfl rfl)
theorem dX6_sort_72 : decode cX6_sort 72 = .ok (.aload_n 0, 1) := dk_42 (dk_at dksX6_sort_3 0 rfl rfl)
theorem dX6_sort_73 : decode cX6_sort 73 = .ok (.aload_n 0, 1) := dk_42 (dk_at dksX6_sort_3 1 rfl rfl)
theorem dX6_sort_74 : decode cX6_sort 74 = .ok (.getfield 44, 3) := dk_180 0 44 (dk_at dksX6_sort_3 2 rfl rfl)
theorem dX6_sort_77 : decode cX6_sort 77 = .ok (.iload_n 1, 1) := dk_27 (dk_at dksX6_sort_3 5 rfl rfl)
theorem dX6_sort_78 : decode cX6_sort 78 = .ok (.iaload, 1) := dk_46 (dk_at dksX6_sort_3 6 rfl rfl)
theorem dX6_sort_79 : decode cX6_sort 79 = .ok (.invokevirtual 417, 3) := dk_182 1 161 (dk_at dksX6_sort_3 7 rfl rfl)
theorem dX6_sort_82 : decode cX6_sort 82 = .ok (.invokestatic 253, 3) := dk_184 0 253 (dk_at dksX6_sort_3 10 rfl rfl)
theorem dX6_sort_85 : decode cX6_sort 85 = .ok (.ireturn, 1) := dk_172 (dk_at dksX6_sort_3 13 rfl rfl)
theorem dX6_sort_86 : decode cX6_sort 86 = .ok (.aload_n 0, 1) := dk_42 (dk_at dksX6_sort_3 14 rfl rfl)
theorem dX6_sort_87 : decode cX6_sort 87 = .ok (.aload_n 0, 1) := dk_42 (dk_at dksX6_sort_3 15 rfl rfl)
theorem dX6_sort_88 : decode cX6_sort 88 = .ok (.getfield 44, 3) := dk_180 0 44 (dk_at dksX6_sort_3 16 rfl rfl)
theorem dX6_sort_91 : decode cX6_sort 91 = .ok (.iload_n 1, 1) := dk_27 (dk_at dksX6_sort_3 19 rfl rfl)
theorem dX6_sort_92 : decode cX6_sort 92 = .ok (.iaload, 1) := dk_46 (dk_at dksX6_sort_3 20 rfl rfl)
theorem dX6_sort_93 : decode cX6_sort 93 = .ok (.invokevirtual 420, 3) := dk_182 1 164 (dk_at dksX6_sort_3 21 rfl rfl)
theorem dX6_sort_96 : decode cX6_sort 96 = .ok (.invokestatic 256, 3) := dk_184 1 0 (dk_at dksX6_sort_4 0 rfl rfl)
theorem dX6_sort_99 : decode cX6_sort 99 = .ok (.ireturn, 1) := dk_172 (dk_at dksX6_sort_4 3 rfl rfl)
theorem dX6_sort_100 : decode cX6_sort 100 = .ok (.aload_n 0, 1) := dk_42 (dk_at dksX6_sort_4 4 rfl rfl)
theorem dX6_sort_101 : decode cX6_sort 101 = .ok (.aload_n 0, 1) := dk_42 (dk_at dksX6_sort_4 5 rfl rfl)
theorem dX6_sort_102 : decode cX6_sort 102 = .ok (.getfield 44, 3) := dk_180 0 44 (dk_at dksX6_sort_4 6 rfl rfl)
theorem dX6_sort_105 : decode cX6_sort 105 = .ok (.iload_n 1, 1) := dk_27 (dk_at dksX6_sort_4 9 rfl rfl)
theorem dX6_sort_106 : decode cX6_sort 106 = .ok (.iaload, 1) := dk_46 (dk_at dksX6_sort_4 10 rfl rfl)
theorem dX6_sort_107 : decode cX6_sort 107 = .ok (.invokevirtual 397, 3) := dk_182 1 141 (dk_at dksX6_sort_4 11 rfl rfl)
theorem dX6_sort_110 : decode cX6_sort 110 = .ok (.invokestatic 256, 3) := dk_184 1 0 (dk_at dksX6_sort_4 14 rfl rfl)
theorem dX6_sort_113 : decode cX6_sort 113 = .ok (.ireturn, 1) := dk_172 (dk_at dksX6_sort_4 17 rfl rfl)
theorem dX6_sort_114 : decode cX6_sort 114 = .ok (.iconst (-1), 1) := dk_2 (dk_at dksX6_sort_4 18 rfl rfl)
theorem dX6_sort_115 : decode cX6_sort 115 = .ok (.ireturn, 1) := dk_172 (dk_at dksX6_sort_4 19 rfl rfl)
abbrev cX6_isSort : ByteArray := prog_16_method_37_code
def yX6_isSort : MethodName := ⟨RX6, "isSort", "(I)Z"⟩
def dkwX6_isSort_0 : List UInt8 := [27, 133, 9, 42, 180, 0, 235, 4, 100, 133, 184, 0, 131, 172]
abbrev dktX6_isSort_0 : List UInt8 := dkwX6_isSort_0 ++ []
theorem dksX6_isSort_0 : cX6_isSort.data.toList.drop 0 = dktX6_isSort_0 := by decide +kernel
theorem dX6_isSort_0 : decode cX6_isSort 0 = .ok (.iload_n 1, 1) := dk_27 (dk_at dksX6_isSort_0 0 rfl rfl)
theorem dX6_isSort_1 : decode cX6_isSort 1 = .ok (.i2l, 1) := dk_133 (dk_at dksX6_isSort_0 1 rfl rfl)
theorem dX6_isSort_2 : decode cX6_isSort 2 = .ok (.lconst 0, 1) := dk_9 (dk_at dksX6_isSort_0 2 rfl rfl)
theorem dX6_isSort_3 : decode cX6_isSort 3 = .ok (.aload_n 0, 1) := dk_42 (dk_at dksX6_isSort_0 3 rfl rfl)
theorem dX6_isSort_4 : decode cX6_isSort 4 = .ok (.getfield 235, 3) := dk_180 0 235 (dk_at dksX6_isSort_0 4 rfl rfl)
theorem dX6_isSort_7 : decode cX6_isSort 7 = .ok (.iconst 1, 1) := dk_4 (dk_at dksX6_isSort_0 7 rfl rfl)
theorem dX6_isSort_8 : decode cX6_isSort 8 = .ok (.isub, 1) := dk_100 (dk_at dksX6_isSort_0 8 rfl rfl)
theorem dX6_isSort_9 : decode cX6_isSort 9 = .ok (.i2l, 1) := dk_133 (dk_at dksX6_isSort_0 9 rfl rfl)
theorem dX6_isSort_10 : decode cX6_isSort 10 = .ok (.invokestatic 131, 3) := dk_184 0 131 (dk_at dksX6_isSort_0 10 rfl rfl)
theorem dX6_isSort_13 : decode cX6_isSort 13 = .ok (.ireturn, 1) := dk_172 (dk_at dksX6_isSort_0 13 rfl rfl)
abbrev cX6_normOf : ByteArray := prog_16_method_79_code
def yX6_normOf : MethodName := ⟨RX6, "normOf", "(I)I"⟩
def dkwX6_normOf_1 : List UInt8 := [167, 0, 4, 3, 184, 1, 0, 29, 120, 128, 61, 132, 3, 1, 167, 255, 222, 28, 172]
abbrev dktX6_normOf_1 : List UInt8 := dkwX6_normOf_1 ++ []
def dkwX6_normOf_0 : List UInt8 := [3, 61, 3, 62, 29, 42, 180, 0, 196, 162, 0, 32, 28, 42, 27, 29, 182, 0, 223, 27, 160, 0, 7, 4]
abbrev dktX6_normOf_0 : List UInt8 := dkwX6_normOf_0 ++ dktX6_normOf_1
theorem dksX6_normOf_0 : cX6_normOf.data.toList.drop 0 = dktX6_normOf_0 := by decide +kernel
theorem dksX6_normOf_1 : cX6_normOf.data.toList.drop 24 = dktX6_normOf_1 := dk_seg dksX6_normOf_0 24 rfl rfl
theorem dX6_normOf_0 : decode cX6_normOf 0 = .ok (.iconst 0, 1) := dk_3 (dk_at dksX6_normOf_0 0 rfl rfl)
theorem dX6_normOf_1 : decode cX6_normOf 1 = .ok (.istore_n 2, 1) := dk_61 (dk_at dksX6_normOf_0 1 rfl rfl)
theorem dX6_normOf_2 : decode cX6_normOf 2 = .ok (.iconst 0, 1) := dk_3 (dk_at dksX6_normOf_0 2 rfl rfl)
theorem dX6_normOf_3 : decode cX6_normOf 3 = .ok (.istore_n 3, 1) := dk_62 (dk_at dksX6_normOf_0 3 rfl rfl)
theorem dX6_normOf_4 : decode cX6_normOf 4 = .ok (.iload_n 3, 1) := dk_29 (dk_at dksX6_normOf_0 4 rfl rfl)
theorem dX6_normOf_5 : decode cX6_normOf 5 = .ok (.aload_n 0, 1) := dk_42 (dk_at dksX6_normOf_0 5 rfl rfl)
theorem dX6_normOf_6 : decode cX6_normOf 6 = .ok (.getfield 196, 3) := dk_180 0 196 (dk_at dksX6_normOf_0 6 rfl rfl)
theorem dX6_normOf_9 : decode cX6_normOf 9 = .ok (.if_icmp .ge 32, 3) := dk_162 0 32 (dk_at dksX6_normOf_0 9 rfl rfl)
theorem dX6_normOf_12 : decode cX6_normOf 12 = .ok (.iload_n 2, 1) := dk_28 (dk_at dksX6_normOf_0 12 rfl rfl)
theorem dX6_normOf_13 : decode cX6_normOf 13 = .ok (.aload_n 0, 1) := dk_42 (dk_at dksX6_normOf_0 13 rfl rfl)
theorem dX6_normOf_14 : decode cX6_normOf 14 = .ok (.iload_n 1, 1) := dk_27 (dk_at dksX6_normOf_0 14 rfl rfl)
theorem dX6_normOf_15 : decode cX6_normOf 15 = .ok (.iload_n 3, 1) := dk_29 (dk_at dksX6_normOf_0 15 rfl rfl)
theorem dX6_normOf_16 : decode cX6_normOf 16 = .ok (.invokevirtual 223, 3) := dk_182 0 223 (dk_at dksX6_normOf_0 16 rfl rfl)
theorem dX6_normOf_19 : decode cX6_normOf 19 = .ok (.iload_n 1, 1) := dk_27 (dk_at dksX6_normOf_0 19 rfl rfl)
theorem dX6_normOf_20 : decode cX6_normOf 20 = .ok (.if_icmp .ne 7, 3) := dk_160 0 7 (dk_at dksX6_normOf_0 20 rfl rfl)
theorem dX6_normOf_23 : decode cX6_normOf 23 = .ok (.iconst 1, 1) := dk_4 (dk_at dksX6_normOf_0 23 rfl rfl)
theorem dX6_normOf_24 : decode cX6_normOf 24 = .ok (.goto 4, 3) := dk_167 0 4 (dk_at dksX6_normOf_1 0 rfl rfl)
theorem dX6_normOf_27 : decode cX6_normOf 27 = .ok (.iconst 0, 1) := dk_3 (dk_at dksX6_normOf_1 3 rfl rfl)
theorem dX6_normOf_28 : decode cX6_normOf 28 = .ok (.invokestatic 256, 3) := dk_184 1 0 (dk_at dksX6_normOf_1 4 rfl rfl)
theorem dX6_normOf_31 : decode cX6_normOf 31 = .ok (.iload_n 3, 1) := dk_29 (dk_at dksX6_normOf_1 7 rfl rfl)
theorem dX6_normOf_32 : decode cX6_normOf 32 = .ok (.ishl, 1) := dk_120 (dk_at dksX6_normOf_1 8 rfl rfl)
theorem dX6_normOf_33 : decode cX6_normOf 33 = .ok (.ior, 1) := dk_128 (dk_at dksX6_normOf_1 9 rfl rfl)
theorem dX6_normOf_34 : decode cX6_normOf 34 = .ok (.istore_n 2, 1) := dk_61 (dk_at dksX6_normOf_1 10 rfl rfl)
theorem dX6_normOf_35 : decode cX6_normOf 35 = .ok (.iinc 3 1, 3) := dk_132 3 1 (dk_at dksX6_normOf_1 11 rfl rfl)
theorem dX6_normOf_38 : decode cX6_normOf 38 = .ok (.goto (-34), 3) := dk_167 255 222 (dk_at dksX6_normOf_1 14 rfl rfl)
theorem dX6_normOf_41 : decode cX6_normOf 41 = .ok (.iload_n 2, 1) := dk_28 (dk_at dksX6_normOf_1 17 rfl rfl)
theorem dX6_normOf_42 : decode cX6_normOf 42 = .ok (.ireturn, 1) := dk_172 (dk_at dksX6_normOf_1 18 rfl rfl)
abbrev cX6_isOfOne : ByteArray := prog_16_method_80_code
def yX6_isOfOne : MethodName := ⟨RX6, "isOfOne", "(I)Z"⟩
def dkwX6_isOfOne_1 : List UInt8 := [182, 0, 229, 27, 160, 0, 5, 4, 172, 132, 2, 1, 167, 255, 224, 3, 172]
abbrev dktX6_isOfOne_1 : List UInt8 := dkwX6_isOfOne_1 ++ []
def dkwX6_isOfOne_0 : List UInt8 := [3, 61, 28, 42, 180, 0, 196, 162, 0, 30, 27, 28, 184, 0, 213, 153, 0, 16, 42, 4, 28, 120]
abbrev dktX6_isOfOne_0 : List UInt8 := dkwX6_isOfOne_0 ++ dktX6_isOfOne_1
theorem dksX6_isOfOne_0 : cX6_isOfOne.data.toList.drop 0 = dktX6_isOfOne_0 := by decide +kernel
theorem dksX6_isOfOne_1 : cX6_isOfOne.data.toList.drop 22 = dktX6_isOfOne_1 := dk_seg dksX6_isOfOne_0 22 rfl rfl
theorem dX6_isOfOne_0 : decode cX6_isOfOne 0 = .ok (.iconst 0, 1) := dk_3 (dk_at dksX6_isOfOne_0 0 rfl rfl)
theorem dX6_isOfOne_1 : decode cX6_isOfOne 1 = .ok (.istore_n 2, 1) := dk_61 (dk_at dksX6_isOfOne_0 1 rfl rfl)
theorem dX6_isOfOne_2 : decode cX6_isOfOne 2 = .ok (.iload_n 2, 1) := dk_28 (dk_at dksX6_isOfOne_0 2 rfl rfl)
theorem dX6_isOfOne_3 : decode cX6_isOfOne 3 = .ok (.aload_n 0, 1) := dk_42 (dk_at dksX6_isOfOne_0 3 rfl rfl)
theorem dX6_isOfOne_4 : decode cX6_isOfOne 4 = .ok (.getfield 196, 3) := dk_180 0 196 (dk_at dksX6_isOfOne_0 4 rfl rfl)
theorem dX6_isOfOne_7 : decode cX6_isOfOne 7 = .ok (.if_icmp .ge 30, 3) := dk_162 0 30 (dk_at dksX6_isOfOne_0 7 rfl rfl)
theorem dX6_isOfOne_10 : decode cX6_isOfOne 10 = .ok (.iload_n 1, 1) := dk_27 (dk_at dksX6_isOfOne_0 10 rfl rfl)
theorem dX6_isOfOne_11 : decode cX6_isOfOne 11 = .ok (.iload_n 2, 1) := dk_28 (dk_at dksX6_isOfOne_0 11 rfl rfl)
theorem dX6_isOfOne_12 : decode cX6_isOfOne 12 = .ok (.invokestatic 213, 3) := dk_184 0 213 (dk_at dksX6_isOfOne_0 12 rfl rfl)
theorem dX6_isOfOne_15 : decode cX6_isOfOne 15 = .ok (.ifCond .eq 16, 3) := dk_153 0 16 (dk_at dksX6_isOfOne_0 15 rfl rfl)
theorem dX6_isOfOne_18 : decode cX6_isOfOne 18 = .ok (.aload_n 0, 1) := dk_42 (dk_at dksX6_isOfOne_0 18 rfl rfl)
theorem dX6_isOfOne_19 : decode cX6_isOfOne 19 = .ok (.iconst 1, 1) := dk_4 (dk_at dksX6_isOfOne_0 19 rfl rfl)
theorem dX6_isOfOne_20 : decode cX6_isOfOne 20 = .ok (.iload_n 2, 1) := dk_28 (dk_at dksX6_isOfOne_0 20 rfl rfl)
theorem dX6_isOfOne_21 : decode cX6_isOfOne 21 = .ok (.ishl, 1) := dk_120 (dk_at dksX6_isOfOne_0 21 rfl rfl)
theorem dX6_isOfOne_22 : decode cX6_isOfOne 22 = .ok (.invokevirtual 229, 3) := dk_182 0 229 (dk_at dksX6_isOfOne_1 0 rfl rfl)
theorem dX6_isOfOne_25 : decode cX6_isOfOne 25 = .ok (.iload_n 1, 1) := dk_27 (dk_at dksX6_isOfOne_1 3 rfl rfl)
theorem dX6_isOfOne_26 : decode cX6_isOfOne 26 = .ok (.if_icmp .ne 5, 3) := dk_160 0 5 (dk_at dksX6_isOfOne_1 4 rfl rfl)
theorem dX6_isOfOne_29 : decode cX6_isOfOne 29 = .ok (.iconst 1, 1) := dk_4 (dk_at dksX6_isOfOne_1 7 rfl rfl)
theorem dX6_isOfOne_30 : decode cX6_isOfOne 30 = .ok (.ireturn, 1) := dk_172 (dk_at dksX6_isOfOne_1 8 rfl rfl)
theorem dX6_isOfOne_31 : decode cX6_isOfOne 31 = .ok (.iinc 2 1, 3) := dk_132 2 1 (dk_at dksX6_isOfOne_1 9 rfl rfl)
theorem dX6_isOfOne_34 : decode cX6_isOfOne 34 = .ok (.goto (-32), 3) := dk_167 255 224 (dk_at dksX6_isOfOne_1 12 rfl rfl)
theorem dX6_isOfOne_37 : decode cX6_isOfOne 37 = .ok (.iconst 0, 1) := dk_3 (dk_at dksX6_isOfOne_1 15 rfl rfl)
theorem dX6_isOfOne_38 : decode cX6_isOfOne 38 = .ok (.ireturn, 1) := dk_172 (dk_at dksX6_isOfOne_1 16 rfl rfl)
abbrev cX6_meet : ByteArray := prog_16_method_82_code
def yX6_meet : MethodName := ⟨RX6, "meet", "(II)I"⟩
def dkwX6_meet_1 : List UInt8 := [46, 42, 180, 0, 44, 28, 46, 126, 182, 1, 155, 172]
abbrev dktX6_meet_1 : List UInt8 := dkwX6_meet_1 ++ []
def dkwX6_meet_0 : List UInt8 := [42, 27, 182, 1, 158, 153, 0, 11, 42, 28, 182, 1, 158, 154, 0, 5, 2, 172, 42, 42, 180, 0, 44, 27]
abbrev dktX6_meet_0 : List UInt8 := dkwX6_meet_0 ++ dktX6_meet_1
theorem dksX6_meet_0 : cX6_meet.data.toList.drop 0 = dktX6_meet_0 := by decide +kernel
theorem dksX6_meet_1 : cX6_meet.data.toList.drop 24 = dktX6_meet_1 := dk_seg dksX6_meet_0 24 rfl rfl
theorem dX6_meet_0 : decode cX6_meet 0 = .ok (.aload_n 0, 1) := dk_42 (dk_at dksX6_meet_0 0 rfl rfl)
theorem dX6_meet_1 : decode cX6_meet 1 = .ok (.iload_n 1, 1) := dk_27 (dk_at dksX6_meet_0 1 rfl rfl)
theorem dX6_meet_2 : decode cX6_meet 2 = .ok (.invokevirtual 414, 3) := dk_182 1 158 (dk_at dksX6_meet_0 2 rfl rfl)
theorem dX6_meet_5 : decode cX6_meet 5 = .ok (.ifCond .eq 11, 3) := dk_153 0 11 (dk_at dksX6_meet_0 5 rfl rfl)
theorem dX6_meet_8 : decode cX6_meet 8 = .ok (.aload_n 0, 1) := dk_42 (dk_at dksX6_meet_0 8 rfl rfl)
theorem dX6_meet_9 : decode cX6_meet 9 = .ok (.iload_n 2, 1) := dk_28 (dk_at dksX6_meet_0 9 rfl rfl)
theorem dX6_meet_10 : decode cX6_meet 10 = .ok (.invokevirtual 414, 3) := dk_182 1 158 (dk_at dksX6_meet_0 10 rfl rfl)
theorem dX6_meet_13 : decode cX6_meet 13 = .ok (.ifCond .ne 5, 3) := dk_154 0 5 (dk_at dksX6_meet_0 13 rfl rfl)
theorem dX6_meet_16 : decode cX6_meet 16 = .ok (.iconst (-1), 1) := dk_2 (dk_at dksX6_meet_0 16 rfl rfl)
theorem dX6_meet_17 : decode cX6_meet 17 = .ok (.ireturn, 1) := dk_172 (dk_at dksX6_meet_0 17 rfl rfl)
theorem dX6_meet_18 : decode cX6_meet 18 = .ok (.aload_n 0, 1) := dk_42 (dk_at dksX6_meet_0 18 rfl rfl)
theorem dX6_meet_19 : decode cX6_meet 19 = .ok (.aload_n 0, 1) := dk_42 (dk_at dksX6_meet_0 19 rfl rfl)
theorem dX6_meet_20 : decode cX6_meet 20 = .ok (.getfield 44, 3) := dk_180 0 44 (dk_at dksX6_meet_0 20 rfl rfl)
theorem dX6_meet_23 : decode cX6_meet 23 = .ok (.iload_n 1, 1) := dk_27 (dk_at dksX6_meet_0 23 rfl rfl)
theorem dX6_meet_24 : decode cX6_meet 24 = .ok (.iaload, 1) := dk_46 (dk_at dksX6_meet_1 0 rfl rfl)
theorem dX6_meet_25 : decode cX6_meet 25 = .ok (.aload_n 0, 1) := dk_42 (dk_at dksX6_meet_1 1 rfl rfl)
theorem dX6_meet_26 : decode cX6_meet 26 = .ok (.getfield 44, 3) := dk_180 0 44 (dk_at dksX6_meet_1 2 rfl rfl)
theorem dX6_meet_29 : decode cX6_meet 29 = .ok (.iload_n 2, 1) := dk_28 (dk_at dksX6_meet_1 5 rfl rfl)
theorem dX6_meet_30 : decode cX6_meet 30 = .ok (.iaload, 1) := dk_46 (dk_at dksX6_meet_1 6 rfl rfl)
theorem dX6_meet_31 : decode cX6_meet 31 = .ok (.iand, 1) := dk_126 (dk_at dksX6_meet_1 7 rfl rfl)
theorem dX6_meet_32 : decode cX6_meet 32 = .ok (.invokevirtual 411, 3) := dk_182 1 155 (dk_at dksX6_meet_1 8 rfl rfl)
theorem dX6_meet_35 : decode cX6_meet 35 = .ok (.ireturn, 1) := dk_172 (dk_at dksX6_meet_1 11 rfl rfl)
abbrev cX6_join : ByteArray := prog_16_method_83_code
def yX6_join : MethodName := ⟨RX6, "join", "(II)I"⟩
def dkwX6_join_1 : List UInt8 := [27, 46, 42, 180, 0, 44, 28, 46, 128, 182, 0, 229, 182, 1, 155, 172]
abbrev dktX6_join_1 : List UInt8 := dkwX6_join_1 ++ []
def dkwX6_join_0 : List UInt8 := [42, 27, 182, 1, 158, 153, 0, 11, 42, 28, 182, 1, 158, 154, 0, 5, 2, 172, 42, 42, 42, 180, 0, 44]
abbrev dktX6_join_0 : List UInt8 := dkwX6_join_0 ++ dktX6_join_1
theorem dksX6_join_0 : cX6_join.data.toList.drop 0 = dktX6_join_0 := by decide +kernel
theorem dksX6_join_1 : cX6_join.data.toList.drop 24 = dktX6_join_1 := dk_seg dksX6_join_0 24 rfl rfl
theorem dX6_join_0 : decode cX6_join 0 = .ok (.aload_n 0, 1) := dk_42 (dk_at dksX6_join_0 0 rfl rfl)
theorem dX6_join_1 : decode cX6_join 1 = .ok (.iload_n 1, 1) := dk_27 (dk_at dksX6_join_0 1 rfl rfl)
theorem dX6_join_2 : decode cX6_join 2 = .ok (.invokevirtual 414, 3) := dk_182 1 158 (dk_at dksX6_join_0 2 rfl rfl)
theorem dX6_join_5 : decode cX6_join 5 = .ok (.ifCond .eq 11, 3) := dk_153 0 11 (dk_at dksX6_join_0 5 rfl rfl)
theorem dX6_join_8 : decode cX6_join 8 = .ok (.aload_n 0, 1) := dk_42 (dk_at dksX6_join_0 8 rfl rfl)
theorem dX6_join_9 : decode cX6_join 9 = .ok (.iload_n 2, 1) := dk_28 (dk_at dksX6_join_0 9 rfl rfl)
theorem dX6_join_10 : decode cX6_join 10 = .ok (.invokevirtual 414, 3) := dk_182 1 158 (dk_at dksX6_join_0 10 rfl rfl)
theorem dX6_join_13 : decode cX6_join 13 = .ok (.ifCond .ne 5, 3) := dk_154 0 5 (dk_at dksX6_join_0 13 rfl rfl)
theorem dX6_join_16 : decode cX6_join 16 = .ok (.iconst (-1), 1) := dk_2 (dk_at dksX6_join_0 16 rfl rfl)
theorem dX6_join_17 : decode cX6_join 17 = .ok (.ireturn, 1) := dk_172 (dk_at dksX6_join_0 17 rfl rfl)
theorem dX6_join_18 : decode cX6_join 18 = .ok (.aload_n 0, 1) := dk_42 (dk_at dksX6_join_0 18 rfl rfl)
theorem dX6_join_19 : decode cX6_join 19 = .ok (.aload_n 0, 1) := dk_42 (dk_at dksX6_join_0 19 rfl rfl)
theorem dX6_join_20 : decode cX6_join 20 = .ok (.aload_n 0, 1) := dk_42 (dk_at dksX6_join_0 20 rfl rfl)
theorem dX6_join_21 : decode cX6_join 21 = .ok (.getfield 44, 3) := dk_180 0 44 (dk_at dksX6_join_0 21 rfl rfl)
theorem dX6_join_24 : decode cX6_join 24 = .ok (.iload_n 1, 1) := dk_27 (dk_at dksX6_join_1 0 rfl rfl)
theorem dX6_join_25 : decode cX6_join 25 = .ok (.iaload, 1) := dk_46 (dk_at dksX6_join_1 1 rfl rfl)
theorem dX6_join_26 : decode cX6_join 26 = .ok (.aload_n 0, 1) := dk_42 (dk_at dksX6_join_1 2 rfl rfl)
theorem dX6_join_27 : decode cX6_join 27 = .ok (.getfield 44, 3) := dk_180 0 44 (dk_at dksX6_join_1 3 rfl rfl)
theorem dX6_join_30 : decode cX6_join 30 = .ok (.iload_n 2, 1) := dk_28 (dk_at dksX6_join_1 6 rfl rfl)
theorem dX6_join_31 : decode cX6_join 31 = .ok (.iaload, 1) := dk_46 (dk_at dksX6_join_1 7 rfl rfl)
theorem dX6_join_32 : decode cX6_join 32 = .ok (.ior, 1) := dk_128 (dk_at dksX6_join_1 8 rfl rfl)
theorem dX6_join_33 : decode cX6_join 33 = .ok (.invokevirtual 229, 3) := dk_182 0 229 (dk_at dksX6_join_1 9 rfl rfl)
theorem dX6_join_36 : decode cX6_join 36 = .ok (.invokevirtual 411, 3) := dk_182 1 155 (dk_at dksX6_join_1 12 rfl rfl)
theorem dX6_join_39 : decode cX6_join 39 = .ok (.ireturn, 1) := dk_172 (dk_at dksX6_join_1 15 rfl rfl)
abbrev cX6_within : ByteArray := prog_16_method_84_code
def yX6_within : MethodName := ⟨RX6, "within", "(II)I"⟩
def dkwX6_within_3 : List UInt8 := [184, 1, 0, 96, 62, 132, 4, 1, 167, 255, 203, 29, 172]
abbrev dktX6_within_3 : List UInt8 := dkwX6_within_3 ++ []
def dkwX6_within_2 : List UInt8 := [180, 0, 38, 21, 4, 46, 42, 180, 0, 44, 28, 46, 2, 130, 126, 154, 0, 7, 4, 167, 0, 4, 3]
abbrev dktX6_within_2 : List UInt8 := dkwX6_within_2 ++ dktX6_within_3
def dkwX6_within_1 : List UInt8 := [21, 4, 42, 180, 0, 220, 162, 0, 50, 29, 42, 180, 0, 41, 21, 4, 46, 27, 160, 0, 26, 42]
abbrev dktX6_within_1 : List UInt8 := dkwX6_within_1 ++ dktX6_within_2
def dkwX6_within_0 : List UInt8 := [42, 27, 182, 1, 158, 153, 0, 11, 42, 28, 182, 1, 158, 154, 0, 5, 2, 172, 3, 62, 3, 54, 4]
abbrev dktX6_within_0 : List UInt8 := dkwX6_within_0 ++ dktX6_within_1
theorem dksX6_within_0 : cX6_within.data.toList.drop 0 = dktX6_within_0 := by decide +kernel
theorem dksX6_within_1 : cX6_within.data.toList.drop 23 = dktX6_within_1 := dk_seg dksX6_within_0 23 rfl rfl
theorem dksX6_within_2 : cX6_within.data.toList.drop 45 = dktX6_within_2 := dk_seg dksX6_within_1 22 rfl rfl
theorem dksX6_within_3 : cX6_within.data.toList.drop 68 = dktX6_within_3 := dk_seg dksX6_within_2 23 rfl rfl
theorem dX6_within_0 : decode cX6_within 0 = .ok (.aload_n 0, 1) := dk_42 (dk_at dksX6_within_0 0 rfl rfl)
theorem dX6_within_1 : decode cX6_within 1 = .ok (.iload_n 1, 1) := dk_27 (dk_at dksX6_within_0 1 rfl rfl)
theorem dX6_within_2 : decode cX6_within 2 = .ok (.invokevirtual 414, 3) := dk_182 1 158 (dk_at dksX6_within_0 2 rfl rfl)
theorem dX6_within_5 : decode cX6_within 5 = .ok (.ifCond .eq 11, 3) := dk_153 0 11 (dk_at dksX6_within_0 5 rfl rfl)
theorem dX6_within_8 : decode cX6_within 8 = .ok (.aload_n 0, 1) := dk_42 (dk_at dksX6_within_0 8 rfl rfl)
theorem dX6_within_9 : decode cX6_within 9 = .ok (.iload_n 2, 1) := dk_28 (dk_at dksX6_within_0 9 rfl rfl)
theorem dX6_within_10 : decode cX6_within 10 = .ok (.invokevirtual 414, 3) := dk_182 1 158 (dk_at dksX6_within_0 10 rfl rfl)
theorem dX6_within_13 : decode cX6_within 13 = .ok (.ifCond .ne 5, 3) := dk_154 0 5 (dk_at dksX6_within_0 13 rfl rfl)
theorem dX6_within_16 : decode cX6_within 16 = .ok (.iconst (-1), 1) := dk_2 (dk_at dksX6_within_0 16 rfl rfl)
theorem dX6_within_17 : decode cX6_within 17 = .ok (.ireturn, 1) := dk_172 (dk_at dksX6_within_0 17 rfl rfl)
theorem dX6_within_18 : decode cX6_within 18 = .ok (.iconst 0, 1) := dk_3 (dk_at dksX6_within_0 18 rfl rfl)
theorem dX6_within_19 : decode cX6_within 19 = .ok (.istore_n 3, 1) := dk_62 (dk_at dksX6_within_0 19 rfl rfl)
theorem dX6_within_20 : decode cX6_within 20 = .ok (.iconst 0, 1) := dk_3 (dk_at dksX6_within_0 20 rfl rfl)
theorem dX6_within_21 : decode cX6_within 21 = .ok (.istore 4, 2) := dk_54 4 (dk_at dksX6_within_0 21 rfl rfl)
theorem dX6_within_23 : decode cX6_within 23 = .ok (.iload 4, 2) := dk_21 4 (dk_at dksX6_within_1 0 rfl rfl)
theorem dX6_within_25 : decode cX6_within 25 = .ok (.aload_n 0, 1) := dk_42 (dk_at dksX6_within_1 2 rfl rfl)
theorem dX6_within_26 : decode cX6_within 26 = .ok (.getfield 220, 3) := dk_180 0 220 (dk_at dksX6_within_1 3 rfl rfl)
theorem dX6_within_29 : decode cX6_within 29 = .ok (.if_icmp .ge 50, 3) := dk_162 0 50 (dk_at dksX6_within_1 6 rfl rfl)
theorem dX6_within_32 : decode cX6_within 32 = .ok (.iload_n 3, 1) := dk_29 (dk_at dksX6_within_1 9 rfl rfl)
theorem dX6_within_33 : decode cX6_within 33 = .ok (.aload_n 0, 1) := dk_42 (dk_at dksX6_within_1 10 rfl rfl)
theorem dX6_within_34 : decode cX6_within 34 = .ok (.getfield 41, 3) := dk_180 0 41 (dk_at dksX6_within_1 11 rfl rfl)
theorem dX6_within_37 : decode cX6_within 37 = .ok (.iload 4, 2) := dk_21 4 (dk_at dksX6_within_1 14 rfl rfl)
theorem dX6_within_39 : decode cX6_within 39 = .ok (.iaload, 1) := dk_46 (dk_at dksX6_within_1 16 rfl rfl)
theorem dX6_within_40 : decode cX6_within 40 = .ok (.iload_n 1, 1) := dk_27 (dk_at dksX6_within_1 17 rfl rfl)
theorem dX6_within_41 : decode cX6_within 41 = .ok (.if_icmp .ne 26, 3) := dk_160 0 26 (dk_at dksX6_within_1 18 rfl rfl)
theorem dX6_within_44 : decode cX6_within 44 = .ok (.aload_n 0, 1) := dk_42 (dk_at dksX6_within_1 21 rfl rfl)
theorem dX6_within_45 : decode cX6_within 45 = .ok (.getfield 38, 3) := dk_180 0 38 (dk_at dksX6_within_2 0 rfl rfl)
theorem dX6_within_48 : decode cX6_within 48 = .ok (.iload 4, 2) := dk_21 4 (dk_at dksX6_within_2 3 rfl rfl)
theorem dX6_within_50 : decode cX6_within 50 = .ok (.iaload, 1) := dk_46 (dk_at dksX6_within_2 5 rfl rfl)
theorem dX6_within_51 : decode cX6_within 51 = .ok (.aload_n 0, 1) := dk_42 (dk_at dksX6_within_2 6 rfl rfl)
theorem dX6_within_52 : decode cX6_within 52 = .ok (.getfield 44, 3) := dk_180 0 44 (dk_at dksX6_within_2 7 rfl rfl)
theorem dX6_within_55 : decode cX6_within 55 = .ok (.iload_n 2, 1) := dk_28 (dk_at dksX6_within_2 10 rfl rfl)
theorem dX6_within_56 : decode cX6_within 56 = .ok (.iaload, 1) := dk_46 (dk_at dksX6_within_2 11 rfl rfl)
theorem dX6_within_57 : decode cX6_within 57 = .ok (.iconst (-1), 1) := dk_2 (dk_at dksX6_within_2 12 rfl rfl)
theorem dX6_within_58 : decode cX6_within 58 = .ok (.ixor, 1) := dk_130 (dk_at dksX6_within_2 13 rfl rfl)
theorem dX6_within_59 : decode cX6_within 59 = .ok (.iand, 1) := dk_126 (dk_at dksX6_within_2 14 rfl rfl)
theorem dX6_within_60 : decode cX6_within 60 = .ok (.ifCond .ne 7, 3) := dk_154 0 7 (dk_at dksX6_within_2 15 rfl rfl)
theorem dX6_within_63 : decode cX6_within 63 = .ok (.iconst 1, 1) := dk_4 (dk_at dksX6_within_2 18 rfl rfl)
theorem dX6_within_64 : decode cX6_within 64 = .ok (.goto 4, 3) := dk_167 0 4 (dk_at dksX6_within_2 19 rfl rfl)
theorem dX6_within_67 : decode cX6_within 67 = .ok (.iconst 0, 1) := dk_3 (dk_at dksX6_within_2 22 rfl rfl)
theorem dX6_within_68 : decode cX6_within 68 = .ok (.invokestatic 256, 3) := dk_184 1 0 (dk_at dksX6_within_3 0 rfl rfl)
theorem dX6_within_71 : decode cX6_within 71 = .ok (.iadd, 1) := dk_96 (dk_at dksX6_within_3 3 rfl rfl)
theorem dX6_within_72 : decode cX6_within 72 = .ok (.istore_n 3, 1) := dk_62 (dk_at dksX6_within_3 4 rfl rfl)
theorem dX6_within_73 : decode cX6_within 73 = .ok (.iinc 4 1, 3) := dk_132 4 1 (dk_at dksX6_within_3 5 rfl rfl)
theorem dX6_within_76 : decode cX6_within 76 = .ok (.goto (-53), 3) := dk_167 255 203 (dk_at dksX6_within_3 8 rfl rfl)
theorem dX6_within_79 : decode cX6_within 79 = .ok (.iload_n 3, 1) := dk_29 (dk_at dksX6_within_3 11 rfl rfl)
theorem dX6_within_80 : decode cX6_within 80 = .ok (.ireturn, 1) := dk_172 (dk_at dksX6_within_3 12 rfl rfl)
abbrev cX6_mark : ByteArray := prog_16_method_85_code
def yX6_mark : MethodName := ⟨RX6, "mark", "(II)I"⟩
def dkwX6_mark_1 : List UInt8 := [28, 96, 46, 167, 0, 4, 2, 172]
abbrev dktX6_mark_1 : List UInt8 := dkwX6_mark_1 ++ []
def dkwX6_mark_0 : List UInt8 := [42, 27, 182, 1, 158, 153, 0, 25, 42, 28, 182, 1, 158, 153, 0, 17, 42, 180, 0, 50, 16, 64, 27, 104]
abbrev dktX6_mark_0 : List UInt8 := dkwX6_mark_0 ++ dktX6_mark_1
theorem dksX6_mark_0 : cX6_mark.data.toList.drop 0 = dktX6_mark_0 := by decide +kernel
theorem dksX6_mark_1 : cX6_mark.data.toList.drop 24 = dktX6_mark_1 := dk_seg dksX6_mark_0 24 rfl rfl
theorem dX6_mark_0 : decode cX6_mark 0 = .ok (.aload_n 0, 1) := dk_42 (dk_at dksX6_mark_0 0 rfl rfl)
theorem dX6_mark_1 : decode cX6_mark 1 = .ok (.iload_n 1, 1) := dk_27 (dk_at dksX6_mark_0 1 rfl rfl)
theorem dX6_mark_2 : decode cX6_mark 2 = .ok (.invokevirtual 414, 3) := dk_182 1 158 (dk_at dksX6_mark_0 2 rfl rfl)
theorem dX6_mark_5 : decode cX6_mark 5 = .ok (.ifCond .eq 25, 3) := dk_153 0 25 (dk_at dksX6_mark_0 5 rfl rfl)
theorem dX6_mark_8 : decode cX6_mark 8 = .ok (.aload_n 0, 1) := dk_42 (dk_at dksX6_mark_0 8 rfl rfl)
theorem dX6_mark_9 : decode cX6_mark 9 = .ok (.iload_n 2, 1) := dk_28 (dk_at dksX6_mark_0 9 rfl rfl)
theorem dX6_mark_10 : decode cX6_mark 10 = .ok (.invokevirtual 414, 3) := dk_182 1 158 (dk_at dksX6_mark_0 10 rfl rfl)
theorem dX6_mark_13 : decode cX6_mark 13 = .ok (.ifCond .eq 17, 3) := dk_153 0 17 (dk_at dksX6_mark_0 13 rfl rfl)
theorem dX6_mark_16 : decode cX6_mark 16 = .ok (.aload_n 0, 1) := dk_42 (dk_at dksX6_mark_0 16 rfl rfl)
theorem dX6_mark_17 : decode cX6_mark 17 = .ok (.getfield 50, 3) := dk_180 0 50 (dk_at dksX6_mark_0 17 rfl rfl)
theorem dX6_mark_20 : decode cX6_mark 20 = .ok (.bipush 64, 2) := dk_16 64 (dk_at dksX6_mark_0 20 rfl rfl)
theorem dX6_mark_22 : decode cX6_mark 22 = .ok (.iload_n 1, 1) := dk_27 (dk_at dksX6_mark_0 22 rfl rfl)
theorem dX6_mark_23 : decode cX6_mark 23 = .ok (.imul, 1) := dk_104 (dk_at dksX6_mark_0 23 rfl rfl)
theorem dX6_mark_24 : decode cX6_mark 24 = .ok (.iload_n 2, 1) := dk_28 (dk_at dksX6_mark_1 0 rfl rfl)
theorem dX6_mark_25 : decode cX6_mark 25 = .ok (.iadd, 1) := dk_96 (dk_at dksX6_mark_1 1 rfl rfl)
theorem dX6_mark_26 : decode cX6_mark 26 = .ok (.iaload, 1) := dk_46 (dk_at dksX6_mark_1 2 rfl rfl)
theorem dX6_mark_27 : decode cX6_mark 27 = .ok (.goto 4, 3) := dk_167 0 4 (dk_at dksX6_mark_1 3 rfl rfl)
theorem dX6_mark_30 : decode cX6_mark 30 = .ok (.iconst (-1), 1) := dk_2 (dk_at dksX6_mark_1 6 rfl rfl)
theorem dX6_mark_31 : decode cX6_mark 31 = .ok (.ireturn, 1) := dk_172 (dk_at dksX6_mark_1 7 rfl rfl)
abbrev cX6_product : ByteArray := prog_16_method_87_code
def yX6_product : MethodName := ⟨RX6, "product", "(III)I"⟩
def dkwX6_product_1 : List UInt8 := [2, 172, 42, 27, 28, 182, 1, 167, 42, 180, 0, 87, 29, 47, 136, 172]
abbrev dktX6_product_1 : List UInt8 := dkwX6_product_1 ++ []
def dkwX6_product_0 : List UInt8 := [42, 27, 182, 1, 158, 153, 0, 19, 42, 28, 182, 1, 158, 153, 0, 11, 42, 29, 182, 1, 158, 154, 0, 5]
abbrev dktX6_product_0 : List UInt8 := dkwX6_product_0 ++ dktX6_product_1
theorem dksX6_product_0 : cX6_product.data.toList.drop 0 = dktX6_product_0 := by decide +kernel
theorem dksX6_product_1 : cX6_product.data.toList.drop 24 = dktX6_product_1 := dk_seg dksX6_product_0 24 rfl rfl
theorem dX6_product_0 : decode cX6_product 0 = .ok (.aload_n 0, 1) := dk_42 (dk_at dksX6_product_0 0 rfl rfl)
theorem dX6_product_1 : decode cX6_product 1 = .ok (.iload_n 1, 1) := dk_27 (dk_at dksX6_product_0 1 rfl rfl)
theorem dX6_product_2 : decode cX6_product 2 = .ok (.invokevirtual 414, 3) := dk_182 1 158 (dk_at dksX6_product_0 2 rfl rfl)
theorem dX6_product_5 : decode cX6_product 5 = .ok (.ifCond .eq 19, 3) := dk_153 0 19 (dk_at dksX6_product_0 5 rfl rfl)
theorem dX6_product_8 : decode cX6_product 8 = .ok (.aload_n 0, 1) := dk_42 (dk_at dksX6_product_0 8 rfl rfl)
theorem dX6_product_9 : decode cX6_product 9 = .ok (.iload_n 2, 1) := dk_28 (dk_at dksX6_product_0 9 rfl rfl)
theorem dX6_product_10 : decode cX6_product 10 = .ok (.invokevirtual 414, 3) := dk_182 1 158 (dk_at dksX6_product_0 10 rfl rfl)
theorem dX6_product_13 : decode cX6_product 13 = .ok (.ifCond .eq 11, 3) := dk_153 0 11 (dk_at dksX6_product_0 13 rfl rfl)
theorem dX6_product_16 : decode cX6_product 16 = .ok (.aload_n 0, 1) := dk_42 (dk_at dksX6_product_0 16 rfl rfl)
theorem dX6_product_17 : decode cX6_product 17 = .ok (.iload_n 3, 1) := dk_29 (dk_at dksX6_product_0 17 rfl rfl)
theorem dX6_product_18 : decode cX6_product 18 = .ok (.invokevirtual 414, 3) := dk_182 1 158 (dk_at dksX6_product_0 18 rfl rfl)
theorem dX6_product_21 : decode cX6_product 21 = .ok (.ifCond .ne 5, 3) := dk_154 0 5 (dk_at dksX6_product_0 21 rfl rfl)
theorem dX6_product_24 : decode cX6_product 24 = .ok (.iconst (-1), 1) := dk_2 (dk_at dksX6_product_1 0 rfl rfl)
theorem dX6_product_25 : decode cX6_product 25 = .ok (.ireturn, 1) := dk_172 (dk_at dksX6_product_1 1 rfl rfl)
theorem dX6_product_26 : decode cX6_product 26 = .ok (.aload_n 0, 1) := dk_42 (dk_at dksX6_product_1 2 rfl rfl)
theorem dX6_product_27 : decode cX6_product 27 = .ok (.iload_n 1, 1) := dk_27 (dk_at dksX6_product_1 3 rfl rfl)
theorem dX6_product_28 : decode cX6_product 28 = .ok (.iload_n 2, 1) := dk_28 (dk_at dksX6_product_1 4 rfl rfl)
theorem dX6_product_29 : decode cX6_product 29 = .ok (.invokevirtual 423, 3) := dk_182 1 167 (dk_at dksX6_product_1 5 rfl rfl)
theorem dX6_product_32 : decode cX6_product 32 = .ok (.aload_n 0, 1) := dk_42 (dk_at dksX6_product_1 8 rfl rfl)
theorem dX6_product_33 : decode cX6_product 33 = .ok (.getfield 87, 3) := dk_180 0 87 (dk_at dksX6_product_1 9 rfl rfl)
theorem dX6_product_36 : decode cX6_product 36 = .ok (.iload_n 3, 1) := dk_29 (dk_at dksX6_product_1 12 rfl rfl)
theorem dX6_product_37 : decode cX6_product 37 = .ok (.laload, 1) := dk_47 (dk_at dksX6_product_1 13 rfl rfl)
theorem dX6_product_38 : decode cX6_product 38 = .ok (.l2i, 1) := dk_136 (dk_at dksX6_product_1 14 rfl rfl)
theorem dX6_product_39 : decode cX6_product 39 = .ok (.ireturn, 1) := dk_172 (dk_at dksX6_product_1 15 rfl rfl)
abbrev cX6_worksProduct : ByteArray := prog_16_method_86_code
def yX6_worksProduct : MethodName := ⟨RX6, "worksProduct", "(II)V"⟩
def dkwX6_worksProduct_2 : List UInt8 := [42, 180, 0, 60, 42, 180, 0, 87, 3, 182, 1, 33, 177]
abbrev dktX6_worksProduct_2 : List UInt8 := dkwX6_worksProduct_2 ++ []
def dkwX6_worksProduct_1 : List UInt8 := [96, 46, 133, 42, 180, 0, 50, 16, 64, 28, 104, 29, 96, 46, 133, 105, 80, 132, 3, 1, 167, 255, 214, 42]
abbrev dktX6_worksProduct_1 : List UInt8 := dkwX6_worksProduct_1 ++ dktX6_worksProduct_2
def dkwX6_worksProduct_0 : List UInt8 := [3, 62, 29, 42, 180, 0, 235, 162, 0, 40, 42, 180, 0, 60, 29, 42, 180, 0, 50, 16, 64, 27, 104, 29]
abbrev dktX6_worksProduct_0 : List UInt8 := dkwX6_worksProduct_0 ++ dktX6_worksProduct_1
theorem dksX6_worksProduct_0 : cX6_worksProduct.data.toList.drop 0 = dktX6_worksProduct_0 := by decide +kernel
theorem dksX6_worksProduct_1 : cX6_worksProduct.data.toList.drop 24 = dktX6_worksProduct_1 := dk_seg dksX6_worksProduct_0 24 rfl rfl
theorem dksX6_worksProduct_2 : cX6_worksProduct.data.toList.drop 48 = dktX6_worksProduct_2 := dk_seg dksX6_worksProduct_1 24 rfl rfl
theorem dX6_worksProduct_0 : decode cX6_worksProduct 0 = .ok (.iconst 0, 1) := dk_3 (dk_at dksX6_worksProduct_0 0 rfl rfl)
theorem dX6_worksProduct_1 : decode cX6_worksProduct 1 = .ok (.istore_n 3, 1) := dk_62 (dk_at dksX6_worksProduct_0 1 rfl rfl)
theorem dX6_worksProduct_2 : decode cX6_worksProduct 2 = .ok (.iload_n 3, 1) := dk_29 (dk_at dksX6_worksProduct_0 2 rfl rfl)
theorem dX6_worksProduct_3 : decode cX6_worksProduct 3 = .ok (.aload_n 0, 1) := dk_42 (dk_at dksX6_worksProduct_0 3 rfl rfl)
theorem dX6_worksProduct_4 : decode cX6_worksProduct 4 = .ok (.getfield 235, 3) := dk_180 0 235 (dk_at dksX6_worksProduct_0 4 rfl rfl)
theorem dX6_worksProduct_7 : decode cX6_worksProduct 7 = .ok (.if_icmp .ge 40, 3) := dk_162 0 40 (dk_at dksX6_worksProduct_0 7 rfl rfl)
theorem dX6_worksProduct_10 : decode cX6_worksProduct 10 = .ok (.aload_n 0, 1) := dk_42 (dk_at dksX6_worksProduct_0 10 rfl rfl)
theorem dX6_worksProduct_11 : decode cX6_worksProduct 11 = .ok (.getfield 60, 3) := dk_180 0 60 (dk_at dksX6_worksProduct_0 11 rfl rfl)
theorem dX6_worksProduct_14 : decode cX6_worksProduct 14 = .ok (.iload_n 3, 1) := dk_29 (dk_at dksX6_worksProduct_0 14 rfl rfl)
theorem dX6_worksProduct_15 : decode cX6_worksProduct 15 = .ok (.aload_n 0, 1) := dk_42 (dk_at dksX6_worksProduct_0 15 rfl rfl)
theorem dX6_worksProduct_16 : decode cX6_worksProduct 16 = .ok (.getfield 50, 3) := dk_180 0 50 (dk_at dksX6_worksProduct_0 16 rfl rfl)
theorem dX6_worksProduct_19 : decode cX6_worksProduct 19 = .ok (.bipush 64, 2) := dk_16 64 (dk_at dksX6_worksProduct_0 19 rfl rfl)
theorem dX6_worksProduct_21 : decode cX6_worksProduct 21 = .ok (.iload_n 1, 1) := dk_27 (dk_at dksX6_worksProduct_0 21 rfl rfl)
theorem dX6_worksProduct_22 : decode cX6_worksProduct 22 = .ok (.imul, 1) := dk_104 (dk_at dksX6_worksProduct_0 22 rfl rfl)
theorem dX6_worksProduct_23 : decode cX6_worksProduct 23 = .ok (.iload_n 3, 1) := dk_29 (dk_at dksX6_worksProduct_0 23 rfl rfl)
theorem dX6_worksProduct_24 : decode cX6_worksProduct 24 = .ok (.iadd, 1) := dk_96 (dk_at dksX6_worksProduct_1 0 rfl rfl)
theorem dX6_worksProduct_25 : decode cX6_worksProduct 25 = .ok (.iaload, 1) := dk_46 (dk_at dksX6_worksProduct_1 1 rfl rfl)
theorem dX6_worksProduct_26 : decode cX6_worksProduct 26 = .ok (.i2l, 1) := dk_133 (dk_at dksX6_worksProduct_1 2 rfl rfl)
theorem dX6_worksProduct_27 : decode cX6_worksProduct 27 = .ok (.aload_n 0, 1) := dk_42 (dk_at dksX6_worksProduct_1 3 rfl rfl)
theorem dX6_worksProduct_28 : decode cX6_worksProduct 28 = .ok (.getfield 50, 3) := dk_180 0 50 (dk_at dksX6_worksProduct_1 4 rfl rfl)
theorem dX6_worksProduct_31 : decode cX6_worksProduct 31 = .ok (.bipush 64, 2) := dk_16 64 (dk_at dksX6_worksProduct_1 7 rfl rfl)
theorem dX6_worksProduct_33 : decode cX6_worksProduct 33 = .ok (.iload_n 2, 1) := dk_28 (dk_at dksX6_worksProduct_1 9 rfl rfl)
theorem dX6_worksProduct_34 : decode cX6_worksProduct 34 = .ok (.imul, 1) := dk_104 (dk_at dksX6_worksProduct_1 10 rfl rfl)
theorem dX6_worksProduct_35 : decode cX6_worksProduct 35 = .ok (.iload_n 3, 1) := dk_29 (dk_at dksX6_worksProduct_1 11 rfl rfl)
theorem dX6_worksProduct_36 : decode cX6_worksProduct 36 = .ok (.iadd, 1) := dk_96 (dk_at dksX6_worksProduct_1 12 rfl rfl)
theorem dX6_worksProduct_37 : decode cX6_worksProduct 37 = .ok (.iaload, 1) := dk_46 (dk_at dksX6_worksProduct_1 13 rfl rfl)
theorem dX6_worksProduct_38 : decode cX6_worksProduct 38 = .ok (.i2l, 1) := dk_133 (dk_at dksX6_worksProduct_1 14 rfl rfl)
theorem dX6_worksProduct_39 : decode cX6_worksProduct 39 = .ok (.lmul, 1) := dk_105 (dk_at dksX6_worksProduct_1 15 rfl rfl)
theorem dX6_worksProduct_40 : decode cX6_worksProduct 40 = .ok (.lastore, 1) := dk_80 (dk_at dksX6_worksProduct_1 16 rfl rfl)
theorem dX6_worksProduct_41 : decode cX6_worksProduct 41 = .ok (.iinc 3 1, 3) := dk_132 3 1 (dk_at dksX6_worksProduct_1 17 rfl rfl)
theorem dX6_worksProduct_44 : decode cX6_worksProduct 44 = .ok (.goto (-42), 3) := dk_167 255 214 (dk_at dksX6_worksProduct_1 20 rfl rfl)
theorem dX6_worksProduct_47 : decode cX6_worksProduct 47 = .ok (.aload_n 0, 1) := dk_42 (dk_at dksX6_worksProduct_1 23 rfl rfl)
theorem dX6_worksProduct_48 : decode cX6_worksProduct 48 = .ok (.aload_n 0, 1) := dk_42 (dk_at dksX6_worksProduct_2 0 rfl rfl)
theorem dX6_worksProduct_49 : decode cX6_worksProduct 49 = .ok (.getfield 60, 3) := dk_180 0 60 (dk_at dksX6_worksProduct_2 1 rfl rfl)
theorem dX6_worksProduct_52 : decode cX6_worksProduct 52 = .ok (.aload_n 0, 1) := dk_42 (dk_at dksX6_worksProduct_2 4 rfl rfl)
theorem dX6_worksProduct_53 : decode cX6_worksProduct 53 = .ok (.getfield 87, 3) := dk_180 0 87 (dk_at dksX6_worksProduct_2 5 rfl rfl)
theorem dX6_worksProduct_56 : decode cX6_worksProduct 56 = .ok (.iconst 0, 1) := dk_3 (dk_at dksX6_worksProduct_2 8 rfl rfl)
theorem dX6_worksProduct_57 : decode cX6_worksProduct 57 = .ok (.invokevirtual 289, 3) := dk_182 1 33 (dk_at dksX6_worksProduct_2 9 rfl rfl)
theorem dX6_worksProduct_60 : decode cX6_worksProduct 60 = .ok (.return_, 1) := dk_177 (dk_at dksX6_worksProduct_2 12 rfl rfl)
abbrev cX6_pairs : ByteArray := prog_16_method_88_code
def yX6_pairs : MethodName := ⟨RX6, "pairs", "(II)I"⟩
def dkwX6_pairs_2 : List UInt8 := [132, 5, 1, 167, 255, 234, 33, 136, 172]
abbrev dktX6_pairs_2 : List UInt8 := dkwX6_pairs_2 ++ []
def dkwX6_pairs_1 : List UInt8 := [9, 66, 3, 54, 5, 21, 5, 42, 180, 0, 235, 162, 0, 19, 33, 42, 180, 0, 87, 21, 5, 47, 97, 66]
abbrev dktX6_pairs_1 : List UInt8 := dkwX6_pairs_1 ++ dktX6_pairs_2
def dkwX6_pairs_0 : List UInt8 := [42, 27, 182, 1, 158, 153, 0, 11, 42, 28, 182, 1, 158, 154, 0, 5, 2, 172, 42, 27, 28, 182, 1, 167]
abbrev dktX6_pairs_0 : List UInt8 := dkwX6_pairs_0 ++ dktX6_pairs_1
theorem dksX6_pairs_0 : cX6_pairs.data.toList.drop 0 = dktX6_pairs_0 := by decide +kernel
theorem dksX6_pairs_1 : cX6_pairs.data.toList.drop 24 = dktX6_pairs_1 := dk_seg dksX6_pairs_0 24 rfl rfl
theorem dksX6_pairs_2 : cX6_pairs.data.toList.drop 48 = dktX6_pairs_2 := dk_seg dksX6_pairs_1 24 rfl rfl
theorem dX6_pairs_0 : decode cX6_pairs 0 = .ok (.aload_n 0, 1) := dk_42 (dk_at dksX6_pairs_0 0 rfl rfl)
theorem dX6_pairs_1 : decode cX6_pairs 1 = .ok (.iload_n 1, 1) := dk_27 (dk_at dksX6_pairs_0 1 rfl rfl)
theorem dX6_pairs_2 : decode cX6_pairs 2 = .ok (.invokevirtual 414, 3) := dk_182 1 158 (dk_at dksX6_pairs_0 2 rfl rfl)
theorem dX6_pairs_5 : decode cX6_pairs 5 = .ok (.ifCond .eq 11, 3) := dk_153 0 11 (dk_at dksX6_pairs_0 5 rfl rfl)
theorem dX6_pairs_8 : decode cX6_pairs 8 = .ok (.aload_n 0, 1) := dk_42 (dk_at dksX6_pairs_0 8 rfl rfl)
theorem dX6_pairs_9 : decode cX6_pairs 9 = .ok (.iload_n 2, 1) := dk_28 (dk_at dksX6_pairs_0 9 rfl rfl)
theorem dX6_pairs_10 : decode cX6_pairs 10 = .ok (.invokevirtual 414, 3) := dk_182 1 158 (dk_at dksX6_pairs_0 10 rfl rfl)
theorem dX6_pairs_13 : decode cX6_pairs 13 = .ok (.ifCond .ne 5, 3) := dk_154 0 5 (dk_at dksX6_pairs_0 13 rfl rfl)
theorem dX6_pairs_16 : decode cX6_pairs 16 = .ok (.iconst (-1), 1) := dk_2 (dk_at dksX6_pairs_0 16 rfl rfl)
theorem dX6_pairs_17 : decode cX6_pairs 17 = .ok (.ireturn, 1) := dk_172 (dk_at dksX6_pairs_0 17 rfl rfl)
theorem dX6_pairs_18 : decode cX6_pairs 18 = .ok (.aload_n 0, 1) := dk_42 (dk_at dksX6_pairs_0 18 rfl rfl)
theorem dX6_pairs_19 : decode cX6_pairs 19 = .ok (.iload_n 1, 1) := dk_27 (dk_at dksX6_pairs_0 19 rfl rfl)
theorem dX6_pairs_20 : decode cX6_pairs 20 = .ok (.iload_n 2, 1) := dk_28 (dk_at dksX6_pairs_0 20 rfl rfl)
theorem dX6_pairs_21 : decode cX6_pairs 21 = .ok (.invokevirtual 423, 3) := dk_182 1 167 (dk_at dksX6_pairs_0 21 rfl rfl)
theorem dX6_pairs_24 : decode cX6_pairs 24 = .ok (.lconst 0, 1) := dk_9 (dk_at dksX6_pairs_1 0 rfl rfl)
theorem dX6_pairs_25 : decode cX6_pairs 25 = .ok (.lstore_n 3, 1) := dk_66 (dk_at dksX6_pairs_1 1 rfl rfl)
theorem dX6_pairs_26 : decode cX6_pairs 26 = .ok (.iconst 0, 1) := dk_3 (dk_at dksX6_pairs_1 2 rfl rfl)
theorem dX6_pairs_27 : decode cX6_pairs 27 = .ok (.istore 5, 2) := dk_54 5 (dk_at dksX6_pairs_1 3 rfl rfl)
theorem dX6_pairs_29 : decode cX6_pairs 29 = .ok (.iload 5, 2) := dk_21 5 (dk_at dksX6_pairs_1 5 rfl rfl)
theorem dX6_pairs_31 : decode cX6_pairs 31 = .ok (.aload_n 0, 1) := dk_42 (dk_at dksX6_pairs_1 7 rfl rfl)
theorem dX6_pairs_32 : decode cX6_pairs 32 = .ok (.getfield 235, 3) := dk_180 0 235 (dk_at dksX6_pairs_1 8 rfl rfl)
theorem dX6_pairs_35 : decode cX6_pairs 35 = .ok (.if_icmp .ge 19, 3) := dk_162 0 19 (dk_at dksX6_pairs_1 11 rfl rfl)
theorem dX6_pairs_38 : decode cX6_pairs 38 = .ok (.lload_n 3, 1) := dk_33 (dk_at dksX6_pairs_1 14 rfl rfl)
theorem dX6_pairs_39 : decode cX6_pairs 39 = .ok (.aload_n 0, 1) := dk_42 (dk_at dksX6_pairs_1 15 rfl rfl)
theorem dX6_pairs_40 : decode cX6_pairs 40 = .ok (.getfield 87, 3) := dk_180 0 87 (dk_at dksX6_pairs_1 16 rfl rfl)
theorem dX6_pairs_43 : decode cX6_pairs 43 = .ok (.iload 5, 2) := dk_21 5 (dk_at dksX6_pairs_1 19 rfl rfl)
theorem dX6_pairs_45 : decode cX6_pairs 45 = .ok (.laload, 1) := dk_47 (dk_at dksX6_pairs_1 21 rfl rfl)
theorem dX6_pairs_46 : decode cX6_pairs 46 = .ok (.ladd, 1) := dk_97 (dk_at dksX6_pairs_1 22 rfl rfl)
theorem dX6_pairs_47 : decode cX6_pairs 47 = .ok (.lstore_n 3, 1) := dk_66 (dk_at dksX6_pairs_1 23 rfl rfl)
theorem dX6_pairs_48 : decode cX6_pairs 48 = .ok (.iinc 5 1, 3) := dk_132 5 1 (dk_at dksX6_pairs_2 0 rfl rfl)
theorem dX6_pairs_51 : decode cX6_pairs 51 = .ok (.goto (-22), 3) := dk_167 255 234 (dk_at dksX6_pairs_2 3 rfl rfl)
theorem dX6_pairs_54 : decode cX6_pairs 54 = .ok (.lload_n 3, 1) := dk_33 (dk_at dksX6_pairs_2 6 rfl rfl)
theorem dX6_pairs_55 : decode cX6_pairs 55 = .ok (.l2i, 1) := dk_136 (dk_at dksX6_pairs_2 7 rfl rfl)
theorem dX6_pairs_56 : decode cX6_pairs 56 = .ok (.ireturn, 1) := dk_172 (dk_at dksX6_pairs_2 8 rfl rfl)
abbrev cX6_residue : ByteArray := prog_16_method_91_code
def yX6_residue : MethodName := ⟨RX6, "residue", "(II)I"⟩
def dkwX6_residue_1 : List UInt8 := [2, 172]
abbrev dktX6_residue_1 : List UInt8 := dkwX6_residue_1 ++ []
def dkwX6_residue_0 : List UInt8 := [42, 27, 182, 1, 158, 153, 0, 19, 28, 184, 1, 170, 153, 0, 12, 42, 27, 28, 182, 1, 173, 167, 0, 4]
abbrev dktX6_residue_0 : List UInt8 := dkwX6_residue_0 ++ dktX6_residue_1
theorem dksX6_residue_0 : cX6_residue.data.toList.drop 0 = dktX6_residue_0 := by decide +kernel
theorem dksX6_residue_1 : cX6_residue.data.toList.drop 24 = dktX6_residue_1 := dk_seg dksX6_residue_0 24 rfl rfl
theorem dX6_residue_0 : decode cX6_residue 0 = .ok (.aload_n 0, 1) := dk_42 (dk_at dksX6_residue_0 0 rfl rfl)
theorem dX6_residue_1 : decode cX6_residue 1 = .ok (.iload_n 1, 1) := dk_27 (dk_at dksX6_residue_0 1 rfl rfl)
theorem dX6_residue_2 : decode cX6_residue 2 = .ok (.invokevirtual 414, 3) := dk_182 1 158 (dk_at dksX6_residue_0 2 rfl rfl)
theorem dX6_residue_5 : decode cX6_residue 5 = .ok (.ifCond .eq 19, 3) := dk_153 0 19 (dk_at dksX6_residue_0 5 rfl rfl)
theorem dX6_residue_8 : decode cX6_residue 8 = .ok (.iload_n 2, 1) := dk_28 (dk_at dksX6_residue_0 8 rfl rfl)
theorem dX6_residue_9 : decode cX6_residue 9 = .ok (.invokestatic 426, 3) := dk_184 1 170 (dk_at dksX6_residue_0 9 rfl rfl)
theorem dX6_residue_12 : decode cX6_residue 12 = .ok (.ifCond .eq 12, 3) := dk_153 0 12 (dk_at dksX6_residue_0 12 rfl rfl)
theorem dX6_residue_15 : decode cX6_residue 15 = .ok (.aload_n 0, 1) := dk_42 (dk_at dksX6_residue_0 15 rfl rfl)
theorem dX6_residue_16 : decode cX6_residue 16 = .ok (.iload_n 1, 1) := dk_27 (dk_at dksX6_residue_0 16 rfl rfl)
theorem dX6_residue_17 : decode cX6_residue 17 = .ok (.iload_n 2, 1) := dk_28 (dk_at dksX6_residue_0 17 rfl rfl)
theorem dX6_residue_18 : decode cX6_residue 18 = .ok (.invokevirtual 429, 3) := dk_182 1 173 (dk_at dksX6_residue_0 18 rfl rfl)
theorem dX6_residue_21 : decode cX6_residue 21 = .ok (.goto 4, 3) := dk_167 0 4 (dk_at dksX6_residue_0 21 rfl rfl)
theorem dX6_residue_24 : decode cX6_residue 24 = .ok (.iconst (-1), 1) := dk_2 (dk_at dksX6_residue_1 0 rfl rfl)
theorem dX6_residue_25 : decode cX6_residue 25 = .ok (.ireturn, 1) := dk_172 (dk_at dksX6_residue_1 1 rfl rfl)
abbrev cX6_isPrime : ByteArray := prog_16_method_89_code
def yX6_isPrime : MethodName := ⟨RX6, "isPrime", "(I)Z"⟩
def dkwX6_isPrime_0 : List UInt8 := [26, 5, 159, 0, 13, 26, 6, 159, 0, 8, 26, 8, 160, 0, 7, 4, 167, 0, 4, 3, 172]
abbrev dktX6_isPrime_0 : List UInt8 := dkwX6_isPrime_0 ++ []
theorem dksX6_isPrime_0 : cX6_isPrime.data.toList.drop 0 = dktX6_isPrime_0 := by decide +kernel
theorem dX6_isPrime_0 : decode cX6_isPrime 0 = .ok (.iload_n 0, 1) := dk_26 (dk_at dksX6_isPrime_0 0 rfl rfl)
theorem dX6_isPrime_1 : decode cX6_isPrime 1 = .ok (.iconst 2, 1) := dk_5 (dk_at dksX6_isPrime_0 1 rfl rfl)
theorem dX6_isPrime_2 : decode cX6_isPrime 2 = .ok (.if_icmp .eq 13, 3) := dk_159 0 13 (dk_at dksX6_isPrime_0 2 rfl rfl)
theorem dX6_isPrime_5 : decode cX6_isPrime 5 = .ok (.iload_n 0, 1) := dk_26 (dk_at dksX6_isPrime_0 5 rfl rfl)
theorem dX6_isPrime_6 : decode cX6_isPrime 6 = .ok (.iconst 3, 1) := dk_6 (dk_at dksX6_isPrime_0 6 rfl rfl)
theorem dX6_isPrime_7 : decode cX6_isPrime 7 = .ok (.if_icmp .eq 8, 3) := dk_159 0 8 (dk_at dksX6_isPrime_0 7 rfl rfl)
theorem dX6_isPrime_10 : decode cX6_isPrime 10 = .ok (.iload_n 0, 1) := dk_26 (dk_at dksX6_isPrime_0 10 rfl rfl)
theorem dX6_isPrime_11 : decode cX6_isPrime 11 = .ok (.iconst 5, 1) := dk_8 (dk_at dksX6_isPrime_0 11 rfl rfl)
theorem dX6_isPrime_12 : decode cX6_isPrime 12 = .ok (.if_icmp .ne 7, 3) := dk_160 0 7 (dk_at dksX6_isPrime_0 12 rfl rfl)
theorem dX6_isPrime_15 : decode cX6_isPrime 15 = .ok (.iconst 1, 1) := dk_4 (dk_at dksX6_isPrime_0 15 rfl rfl)
theorem dX6_isPrime_16 : decode cX6_isPrime 16 = .ok (.goto 4, 3) := dk_167 0 4 (dk_at dksX6_isPrime_0 16 rfl rfl)
theorem dX6_isPrime_19 : decode cX6_isPrime 19 = .ok (.iconst 0, 1) := dk_3 (dk_at dksX6_isPrime_0 19 rfl rfl)
theorem dX6_isPrime_20 : decode cX6_isPrime 20 = .ok (.ireturn, 1) := dk_172 (dk_at dksX6_isPrime_0 20 rfl rfl)
abbrev cX6_residueOf : ByteArray := prog_16_method_90_code
def yX6_residueOf : MethodName := ⟨RX6, "residueOf", "(II)I"⟩
def dkwX6_residueOf_8 : List UInt8 := [21, 4, 182, 1, 155, 172]
abbrev dktX6_residueOf_8 : List UInt8 := dkwX6_residueOf_8 ++ []
def dkwX6_residueOf_7 : List UInt8 := [167, 255, 200, 21, 7, 153, 0, 12, 42, 180, 0, 38, 21, 5, 46, 54, 4, 132, 5, 1, 167, 255, 87, 42]
abbrev dktX6_residueOf_7 : List UInt8 := dkwX6_residueOf_7 ++ dktX6_residueOf_8
def dkwX6_residueOf_6 : List UInt8 := [182, 0, 223, 42, 180, 0, 38, 21, 5, 46, 160, 0, 7, 4, 167, 0, 4, 3, 54, 7, 132, 8, 1]
abbrev dktX6_residueOf_6 : List UInt8 := dkwX6_residueOf_6 ++ dktX6_residueOf_7
def dkwX6_residueOf_5 : List UInt8 := [21, 7, 153, 0, 48, 29, 21, 8, 184, 0, 213, 153, 0, 26, 42, 42, 180, 0, 38, 21, 5, 46, 21, 8]
abbrev dktX6_residueOf_5 : List UInt8 := dkwX6_residueOf_5 ++ dktX6_residueOf_6
def dkwX6_residueOf_4 : List UInt8 := [4, 160, 0, 7, 4, 167, 0, 4, 3, 54, 7, 3, 54, 8, 21, 8, 42, 180, 0, 196, 162, 0, 53]
abbrev dktX6_residueOf_4 : List UInt8 := dkwX6_residueOf_4 ++ dktX6_residueOf_5
def dkwX6_residueOf_3 : List UInt8 := [184, 0, 253, 108, 54, 6, 21, 6, 28, 112, 154, 0, 12, 21, 6, 28, 108, 54, 6, 167, 255, 243, 21, 6]
abbrev dktX6_residueOf_3 : List UInt8 := dkwX6_residueOf_3 ++ dktX6_residueOf_4
def dkwX6_residueOf_2 : List UInt8 := [21, 4, 184, 0, 253, 161, 0, 6, 167, 0, 125, 29, 184, 0, 253, 42, 180, 0, 38, 21, 5, 46]
abbrev dktX6_residueOf_2 : List UInt8 := dkwX6_residueOf_2 ++ dktX6_residueOf_3
def dkwX6_residueOf_1 : List UInt8 := [180, 0, 38, 21, 5, 46, 29, 2, 130, 126, 154, 0, 146, 42, 180, 0, 38, 21, 5, 46, 184, 0, 253]
abbrev dktX6_residueOf_1 : List UInt8 := dkwX6_residueOf_1 ++ dktX6_residueOf_2
def dkwX6_residueOf_0 : List UInt8 := [42, 180, 0, 44, 27, 46, 62, 29, 54, 4, 3, 54, 5, 21, 5, 42, 180, 0, 220, 162, 0, 166, 42]
abbrev dktX6_residueOf_0 : List UInt8 := dkwX6_residueOf_0 ++ dktX6_residueOf_1
theorem dksX6_residueOf_0 : cX6_residueOf.data.toList.drop 0 = dktX6_residueOf_0 := by decide +kernel
theorem dksX6_residueOf_1 : cX6_residueOf.data.toList.drop 23 = dktX6_residueOf_1 := dk_seg dksX6_residueOf_0 23 rfl rfl
theorem dksX6_residueOf_2 : cX6_residueOf.data.toList.drop 46 = dktX6_residueOf_2 := dk_seg dksX6_residueOf_1 23 rfl rfl
theorem dksX6_residueOf_3 : cX6_residueOf.data.toList.drop 68 = dktX6_residueOf_3 := dk_seg dksX6_residueOf_2 22 rfl rfl
theorem dksX6_residueOf_4 : cX6_residueOf.data.toList.drop 92 = dktX6_residueOf_4 := dk_seg dksX6_residueOf_3 24 rfl rfl
theorem dksX6_residueOf_5 : cX6_residueOf.data.toList.drop 115 = dktX6_residueOf_5 := dk_seg dksX6_residueOf_4 23 rfl rfl
theorem dksX6_residueOf_6 : cX6_residueOf.data.toList.drop 139 = dktX6_residueOf_6 := dk_seg dksX6_residueOf_5 24 rfl rfl
theorem dksX6_residueOf_7 : cX6_residueOf.data.toList.drop 162 = dktX6_residueOf_7 := dk_seg dksX6_residueOf_6 23 rfl rfl
theorem dksX6_residueOf_8 : cX6_residueOf.data.toList.drop 186 = dktX6_residueOf_8 := dk_seg dksX6_residueOf_7 24 rfl rfl
theorem dX6_residueOf_0 : decode cX6_residueOf 0 = .ok (.aload_n 0, 1) := dk_42 (dk_at dksX6_residueOf_0 0 rfl rfl)
theorem dX6_residueOf_1 : decode cX6_residueOf 1 = .ok (.getfield 44, 3) := dk_180 0 44 (dk_at dksX6_residueOf_0 1 rfl rfl)
theorem dX6_residueOf_4 : decode cX6_residueOf 4 = .ok (.iload_n 1, 1) := dk_27 (dk_at dksX6_residueOf_0 4 rfl rfl)
theorem dX6_residueOf_5 : decode cX6_residueOf 5 = .ok (.iaload, 1) := dk_46 (dk_at dksX6_residueOf_0 5 rfl rfl)
theorem dX6_residueOf_6 : decode cX6_residueOf 6 = .ok (.istore_n 3, 1) := dk_62 (dk_at dksX6_residueOf_0 6 rfl rfl)
theorem dX6_residueOf_7 : decode cX6_residueOf 7 = .ok (.iload_n 3, 1) := dk_29 (dk_at dksX6_residueOf_0 7 rfl rfl)
theorem dX6_residueOf_8 : decode cX6_residueOf 8 = .ok (.istore 4, 2) := dk_54 4 (dk_at dksX6_residueOf_0 8 rfl rfl)
theorem dX6_residueOf_10 : decode cX6_residueOf 10 = .ok (.iconst 0, 1) := dk_3 (dk_at dksX6_residueOf_0 10 rfl rfl)
theorem dX6_residueOf_11 : decode cX6_residueOf 11 = .ok (.istore 5, 2) := dk_54 5 (dk_at dksX6_residueOf_0 11 rfl rfl)
theorem dX6_residueOf_13 : decode cX6_residueOf 13 = .ok (.iload 5, 2) := dk_21 5 (dk_at dksX6_residueOf_0 13 rfl rfl)
theorem dX6_residueOf_15 : decode cX6_residueOf 15 = .ok (.aload_n 0, 1) := dk_42 (dk_at dksX6_residueOf_0 15 rfl rfl)
theorem dX6_residueOf_16 : decode cX6_residueOf 16 = .ok (.getfield 220, 3) := dk_180 0 220 (dk_at dksX6_residueOf_0 16 rfl rfl)
theorem dX6_residueOf_19 : decode cX6_residueOf 19 = .ok (.if_icmp .ge 166, 3) := dk_162 0 166 (dk_at dksX6_residueOf_0 19 rfl rfl)
theorem dX6_residueOf_22 : decode cX6_residueOf 22 = .ok (.aload_n 0, 1) := dk_42 (dk_at dksX6_residueOf_0 22 rfl rfl)
theorem dX6_residueOf_23 : decode cX6_residueOf 23 = .ok (.getfield 38, 3) := dk_180 0 38 (dk_at dksX6_residueOf_1 0 rfl rfl)
theorem dX6_residueOf_26 : decode cX6_residueOf 26 = .ok (.iload 5, 2) := dk_21 5 (dk_at dksX6_residueOf_1 3 rfl rfl)
theorem dX6_residueOf_28 : decode cX6_residueOf 28 = .ok (.iaload, 1) := dk_46 (dk_at dksX6_residueOf_1 5 rfl rfl)
theorem dX6_residueOf_29 : decode cX6_residueOf 29 = .ok (.iload_n 3, 1) := dk_29 (dk_at dksX6_residueOf_1 6 rfl rfl)
theorem dX6_residueOf_30 : decode cX6_residueOf 30 = .ok (.iconst (-1), 1) := dk_2 (dk_at dksX6_residueOf_1 7 rfl rfl)
theorem dX6_residueOf_31 : decode cX6_residueOf 31 = .ok (.ixor, 1) := dk_130 (dk_at dksX6_residueOf_1 8 rfl rfl)
theorem dX6_residueOf_32 : decode cX6_residueOf 32 = .ok (.iand, 1) := dk_126 (dk_at dksX6_residueOf_1 9 rfl rfl)
theorem dX6_residueOf_33 : decode cX6_residueOf 33 = .ok (.ifCond .ne 146, 3) := dk_154 0 146 (dk_at dksX6_residueOf_1 10 rfl rfl)
theorem dX6_residueOf_36 : decode cX6_residueOf 36 = .ok (.aload_n 0, 1) := dk_42 (dk_at dksX6_residueOf_1 13 rfl rfl)
theorem dX6_residueOf_37 : decode cX6_residueOf 37 = .ok (.getfield 38, 3) := dk_180 0 38 (dk_at dksX6_residueOf_1 14 rfl rfl)
theorem dX6_residueOf_40 : decode cX6_residueOf 40 = .ok (.iload 5, 2) := dk_21 5 (dk_at dksX6_residueOf_1 17 rfl rfl)
theorem dX6_residueOf_42 : decode cX6_residueOf 42 = .ok (.iaload, 1) := dk_46 (dk_at dksX6_residueOf_1 19 rfl rfl)
theorem dX6_residueOf_43 : decode cX6_residueOf 43 = .ok (.invokestatic 253, 3) := dk_184 0 253 (dk_at dksX6_residueOf_1 20 rfl rfl)
theorem dX6_residueOf_46 : decode cX6_residueOf 46 = .ok (.iload 4, 2) := dk_21 4 (dk_at dksX6_residueOf_2 0 rfl rfl)
theorem dX6_residueOf_48 : decode cX6_residueOf 48 = .ok (.invokestatic 253, 3) := dk_184 0 253 (dk_at dksX6_residueOf_2 2 rfl rfl)
theorem dX6_residueOf_51 : decode cX6_residueOf 51 = .ok (.if_icmp .lt 6, 3) := dk_161 0 6 (dk_at dksX6_residueOf_2 5 rfl rfl)
theorem dX6_residueOf_54 : decode cX6_residueOf 54 = .ok (.goto 125, 3) := dk_167 0 125 (dk_at dksX6_residueOf_2 8 rfl rfl)
theorem dX6_residueOf_57 : decode cX6_residueOf 57 = .ok (.iload_n 3, 1) := dk_29 (dk_at dksX6_residueOf_2 11 rfl rfl)
theorem dX6_residueOf_58 : decode cX6_residueOf 58 = .ok (.invokestatic 253, 3) := dk_184 0 253 (dk_at dksX6_residueOf_2 12 rfl rfl)
theorem dX6_residueOf_61 : decode cX6_residueOf 61 = .ok (.aload_n 0, 1) := dk_42 (dk_at dksX6_residueOf_2 15 rfl rfl)
theorem dX6_residueOf_62 : decode cX6_residueOf 62 = .ok (.getfield 38, 3) := dk_180 0 38 (dk_at dksX6_residueOf_2 16 rfl rfl)
theorem dX6_residueOf_65 : decode cX6_residueOf 65 = .ok (.iload 5, 2) := dk_21 5 (dk_at dksX6_residueOf_2 19 rfl rfl)
theorem dX6_residueOf_67 : decode cX6_residueOf 67 = .ok (.iaload, 1) := dk_46 (dk_at dksX6_residueOf_2 21 rfl rfl)
theorem dX6_residueOf_68 : decode cX6_residueOf 68 = .ok (.invokestatic 253, 3) := dk_184 0 253 (dk_at dksX6_residueOf_3 0 rfl rfl)
theorem dX6_residueOf_71 : decode cX6_residueOf 71 = .ok (.idiv, 1) := dk_108 (dk_at dksX6_residueOf_3 3 rfl rfl)
theorem dX6_residueOf_72 : decode cX6_residueOf 72 = .ok (.istore 6, 2) := dk_54 6 (dk_at dksX6_residueOf_3 4 rfl rfl)
theorem dX6_residueOf_74 : decode cX6_residueOf 74 = .ok (.iload 6, 2) := dk_21 6 (dk_at dksX6_residueOf_3 6 rfl rfl)
theorem dX6_residueOf_76 : decode cX6_residueOf 76 = .ok (.iload_n 2, 1) := dk_28 (dk_at dksX6_residueOf_3 8 rfl rfl)
theorem dX6_residueOf_77 : decode cX6_residueOf 77 = .ok (.irem, 1) := dk_112 (dk_at dksX6_residueOf_3 9 rfl rfl)
theorem dX6_residueOf_78 : decode cX6_residueOf 78 = .ok (.ifCond .ne 12, 3) := dk_154 0 12 (dk_at dksX6_residueOf_3 10 rfl rfl)
theorem dX6_residueOf_81 : decode cX6_residueOf 81 = .ok (.iload 6, 2) := dk_21 6 (dk_at dksX6_residueOf_3 13 rfl rfl)
theorem dX6_residueOf_83 : decode cX6_residueOf 83 = .ok (.iload_n 2, 1) := dk_28 (dk_at dksX6_residueOf_3 15 rfl rfl)
theorem dX6_residueOf_84 : decode cX6_residueOf 84 = .ok (.idiv, 1) := dk_108 (dk_at dksX6_residueOf_3 16 rfl rfl)
theorem dX6_residueOf_85 : decode cX6_residueOf 85 = .ok (.istore 6, 2) := dk_54 6 (dk_at dksX6_residueOf_3 17 rfl rfl)
theorem dX6_residueOf_87 : decode cX6_residueOf 87 = .ok (.goto (-13), 3) := dk_167 255 243 (dk_at dksX6_residueOf_3 19 rfl rfl)
theorem dX6_residueOf_90 : decode cX6_residueOf 90 = .ok (.iload 6, 2) := dk_21 6 (dk_at dksX6_residueOf_3 22 rfl rfl)
theorem dX6_residueOf_92 : decode cX6_residueOf 92 = .ok (.iconst 1, 1) := dk_4 (dk_at dksX6_residueOf_4 0 rfl rfl)
theorem dX6_residueOf_93 : decode cX6_residueOf 93 = .ok (.if_icmp .ne 7, 3) := dk_160 0 7 (dk_at dksX6_residueOf_4 1 rfl rfl)
theorem dX6_residueOf_96 : decode cX6_residueOf 96 = .ok (.iconst 1, 1) := dk_4 (dk_at dksX6_residueOf_4 4 rfl rfl)
theorem dX6_residueOf_97 : decode cX6_residueOf 97 = .ok (.goto 4, 3) := dk_167 0 4 (dk_at dksX6_residueOf_4 5 rfl rfl)
theorem dX6_residueOf_100 : decode cX6_residueOf 100 = .ok (.iconst 0, 1) := dk_3 (dk_at dksX6_residueOf_4 8 rfl rfl)
theorem dX6_residueOf_101 : decode cX6_residueOf 101 = .ok (.istore 7, 2) := dk_54 7 (dk_at dksX6_residueOf_4 9 rfl rfl)
theorem dX6_residueOf_103 : decode cX6_residueOf 103 = .ok (.iconst 0, 1) := dk_3 (dk_at dksX6_residueOf_4 11 rfl rfl)
theorem dX6_residueOf_104 : decode cX6_residueOf 104 = .ok (.istore 8, 2) := dk_54 8 (dk_at dksX6_residueOf_4 12 rfl rfl)
theorem dX6_residueOf_106 : decode cX6_residueOf 106 = .ok (.iload 8, 2) := dk_21 8 (dk_at dksX6_residueOf_4 14 rfl rfl)
theorem dX6_residueOf_108 : decode cX6_residueOf 108 = .ok (.aload_n 0, 1) := dk_42 (dk_at dksX6_residueOf_4 16 rfl rfl)
theorem dX6_residueOf_109 : decode cX6_residueOf 109 = .ok (.getfield 196, 3) := dk_180 0 196 (dk_at dksX6_residueOf_4 17 rfl rfl)
theorem dX6_residueOf_112 : decode cX6_residueOf 112 = .ok (.if_icmp .ge 53, 3) := dk_162 0 53 (dk_at dksX6_residueOf_4 20 rfl rfl)
theorem dX6_residueOf_115 : decode cX6_residueOf 115 = .ok (.iload 7, 2) := dk_21 7 (dk_at dksX6_residueOf_5 0 rfl rfl)
theorem dX6_residueOf_117 : decode cX6_residueOf 117 = .ok (.ifCond .eq 48, 3) := dk_153 0 48 (dk_at dksX6_residueOf_5 2 rfl rfl)
theorem dX6_residueOf_120 : decode cX6_residueOf 120 = .ok (.iload_n 3, 1) := dk_29 (dk_at dksX6_residueOf_5 5 rfl rfl)
theorem dX6_residueOf_121 : decode cX6_residueOf 121 = .ok (.iload 8, 2) := dk_21 8 (dk_at dksX6_residueOf_5 6 rfl rfl)
theorem dX6_residueOf_123 : decode cX6_residueOf 123 = .ok (.invokestatic 213, 3) := dk_184 0 213 (dk_at dksX6_residueOf_5 8 rfl rfl)
theorem dX6_residueOf_126 : decode cX6_residueOf 126 = .ok (.ifCond .eq 26, 3) := dk_153 0 26 (dk_at dksX6_residueOf_5 11 rfl rfl)
theorem dX6_residueOf_129 : decode cX6_residueOf 129 = .ok (.aload_n 0, 1) := dk_42 (dk_at dksX6_residueOf_5 14 rfl rfl)
theorem dX6_residueOf_130 : decode cX6_residueOf 130 = .ok (.aload_n 0, 1) := dk_42 (dk_at dksX6_residueOf_5 15 rfl rfl)
theorem dX6_residueOf_131 : decode cX6_residueOf 131 = .ok (.getfield 38, 3) := dk_180 0 38 (dk_at dksX6_residueOf_5 16 rfl rfl)
theorem dX6_residueOf_134 : decode cX6_residueOf 134 = .ok (.iload 5, 2) := dk_21 5 (dk_at dksX6_residueOf_5 19 rfl rfl)
theorem dX6_residueOf_136 : decode cX6_residueOf 136 = .ok (.iaload, 1) := dk_46 (dk_at dksX6_residueOf_5 21 rfl rfl)
theorem dX6_residueOf_137 : decode cX6_residueOf 137 = .ok (.iload 8, 2) := dk_21 8 (dk_at dksX6_residueOf_5 22 rfl rfl)
theorem dX6_residueOf_139 : decode cX6_residueOf 139 = .ok (.invokevirtual 223, 3) := dk_182 0 223 (dk_at dksX6_residueOf_6 0 rfl rfl)
theorem dX6_residueOf_142 : decode cX6_residueOf 142 = .ok (.aload_n 0, 1) := dk_42 (dk_at dksX6_residueOf_6 3 rfl rfl)
theorem dX6_residueOf_143 : decode cX6_residueOf 143 = .ok (.getfield 38, 3) := dk_180 0 38 (dk_at dksX6_residueOf_6 4 rfl rfl)
theorem dX6_residueOf_146 : decode cX6_residueOf 146 = .ok (.iload 5, 2) := dk_21 5 (dk_at dksX6_residueOf_6 7 rfl rfl)
theorem dX6_residueOf_148 : decode cX6_residueOf 148 = .ok (.iaload, 1) := dk_46 (dk_at dksX6_residueOf_6 9 rfl rfl)
theorem dX6_residueOf_149 : decode cX6_residueOf 149 = .ok (.if_icmp .ne 7, 3) := dk_160 0 7 (dk_at dksX6_residueOf_6 10 rfl rfl)
theorem dX6_residueOf_152 : decode cX6_residueOf 152 = .ok (.iconst 1, 1) := dk_4 (dk_at dksX6_residueOf_6 13 rfl rfl)
theorem dX6_residueOf_153 : decode cX6_residueOf 153 = .ok (.goto 4, 3) := dk_167 0 4 (dk_at dksX6_residueOf_6 14 rfl rfl)
theorem dX6_residueOf_156 : decode cX6_residueOf 156 = .ok (.iconst 0, 1) := dk_3 (dk_at dksX6_residueOf_6 17 rfl rfl)
theorem dX6_residueOf_157 : decode cX6_residueOf 157 = .ok (.istore 7, 2) := dk_54 7 (dk_at dksX6_residueOf_6 18 rfl rfl)
theorem dX6_residueOf_159 : decode cX6_residueOf 159 = .ok (.iinc 8 1, 3) := dk_132 8 1 (dk_at dksX6_residueOf_6 20 rfl rfl)
theorem dX6_residueOf_162 : decode cX6_residueOf 162 = .ok (.goto (-56), 3) := dk_167 255 200 (dk_at dksX6_residueOf_7 0 rfl rfl)
theorem dX6_residueOf_165 : decode cX6_residueOf 165 = .ok (.iload 7, 2) := dk_21 7 (dk_at dksX6_residueOf_7 3 rfl rfl)
theorem dX6_residueOf_167 : decode cX6_residueOf 167 = .ok (.ifCond .eq 12, 3) := dk_153 0 12 (dk_at dksX6_residueOf_7 5 rfl rfl)
theorem dX6_residueOf_170 : decode cX6_residueOf 170 = .ok (.aload_n 0, 1) := dk_42 (dk_at dksX6_residueOf_7 8 rfl rfl)
theorem dX6_residueOf_171 : decode cX6_residueOf 171 = .ok (.getfield 38, 3) := dk_180 0 38 (dk_at dksX6_residueOf_7 9 rfl rfl)
theorem dX6_residueOf_174 : decode cX6_residueOf 174 = .ok (.iload 5, 2) := dk_21 5 (dk_at dksX6_residueOf_7 12 rfl rfl)
theorem dX6_residueOf_176 : decode cX6_residueOf 176 = .ok (.iaload, 1) := dk_46 (dk_at dksX6_residueOf_7 14 rfl rfl)
theorem dX6_residueOf_177 : decode cX6_residueOf 177 = .ok (.istore 4, 2) := dk_54 4 (dk_at dksX6_residueOf_7 15 rfl rfl)
theorem dX6_residueOf_179 : decode cX6_residueOf 179 = .ok (.iinc 5 1, 3) := dk_132 5 1 (dk_at dksX6_residueOf_7 17 rfl rfl)
theorem dX6_residueOf_182 : decode cX6_residueOf 182 = .ok (.goto (-169), 3) := dk_167 255 87 (dk_at dksX6_residueOf_7 20 rfl rfl)
theorem dX6_residueOf_185 : decode cX6_residueOf 185 = .ok (.aload_n 0, 1) := dk_42 (dk_at dksX6_residueOf_7 23 rfl rfl)
theorem dX6_residueOf_186 : decode cX6_residueOf 186 = .ok (.iload 4, 2) := dk_21 4 (dk_at dksX6_residueOf_8 0 rfl rfl)
theorem dX6_residueOf_188 : decode cX6_residueOf 188 = .ok (.invokevirtual 411, 3) := dk_182 1 155 (dk_at dksX6_residueOf_8 2 rfl rfl)
theorem dX6_residueOf_191 : decode cX6_residueOf 191 = .ok (.ireturn, 1) := dk_172 (dk_at dksX6_residueOf_8 5 rfl rfl)
abbrev cX6_block : ByteArray := prog_16_method_93_code
def yX6_block : MethodName := ⟨RX6, "block", "(II)I"⟩
def dkwX6_block_1 : List UInt8 := [2, 172]
abbrev dktX6_block_1 : List UInt8 := dkwX6_block_1 ++ []
def dkwX6_block_0 : List UInt8 := [42, 27, 182, 1, 158, 153, 0, 19, 28, 184, 1, 170, 153, 0, 12, 42, 27, 28, 182, 1, 176, 167, 0, 4]
abbrev dktX6_block_0 : List UInt8 := dkwX6_block_0 ++ dktX6_block_1
theorem dksX6_block_0 : cX6_block.data.toList.drop 0 = dktX6_block_0 := by decide +kernel
theorem dksX6_block_1 : cX6_block.data.toList.drop 24 = dktX6_block_1 := dk_seg dksX6_block_0 24 rfl rfl
theorem dX6_block_0 : decode cX6_block 0 = .ok (.aload_n 0, 1) := dk_42 (dk_at dksX6_block_0 0 rfl rfl)
theorem dX6_block_1 : decode cX6_block 1 = .ok (.iload_n 1, 1) := dk_27 (dk_at dksX6_block_0 1 rfl rfl)
theorem dX6_block_2 : decode cX6_block 2 = .ok (.invokevirtual 414, 3) := dk_182 1 158 (dk_at dksX6_block_0 2 rfl rfl)
theorem dX6_block_5 : decode cX6_block 5 = .ok (.ifCond .eq 19, 3) := dk_153 0 19 (dk_at dksX6_block_0 5 rfl rfl)
theorem dX6_block_8 : decode cX6_block 8 = .ok (.iload_n 2, 1) := dk_28 (dk_at dksX6_block_0 8 rfl rfl)
theorem dX6_block_9 : decode cX6_block 9 = .ok (.invokestatic 426, 3) := dk_184 1 170 (dk_at dksX6_block_0 9 rfl rfl)
theorem dX6_block_12 : decode cX6_block 12 = .ok (.ifCond .eq 12, 3) := dk_153 0 12 (dk_at dksX6_block_0 12 rfl rfl)
theorem dX6_block_15 : decode cX6_block 15 = .ok (.aload_n 0, 1) := dk_42 (dk_at dksX6_block_0 15 rfl rfl)
theorem dX6_block_16 : decode cX6_block 16 = .ok (.iload_n 1, 1) := dk_27 (dk_at dksX6_block_0 16 rfl rfl)
theorem dX6_block_17 : decode cX6_block 17 = .ok (.iload_n 2, 1) := dk_28 (dk_at dksX6_block_0 17 rfl rfl)
theorem dX6_block_18 : decode cX6_block 18 = .ok (.invokevirtual 432, 3) := dk_182 1 176 (dk_at dksX6_block_0 18 rfl rfl)
theorem dX6_block_21 : decode cX6_block 21 = .ok (.goto 4, 3) := dk_167 0 4 (dk_at dksX6_block_0 21 rfl rfl)
theorem dX6_block_24 : decode cX6_block 24 = .ok (.iconst (-1), 1) := dk_2 (dk_at dksX6_block_1 0 rfl rfl)
theorem dX6_block_25 : decode cX6_block 25 = .ok (.ireturn, 1) := dk_172 (dk_at dksX6_block_1 1 rfl rfl)
abbrev cX6_blockOf : ByteArray := prog_16_method_92_code
def yX6_blockOf : MethodName := ⟨RX6, "blockOf", "(II)I"⟩
def dkwX6_blockOf_2 : List UInt8 := [54, 4, 132, 5, 1, 167, 255, 217, 21, 4, 172]
abbrev dktX6_blockOf_2 : List UInt8 := dkwX6_blockOf_2 ++ []
def dkwX6_blockOf_1 : List UInt8 := [42, 21, 5, 28, 182, 1, 173, 29, 160, 0, 7, 4, 167, 0, 4, 3, 184, 1, 0, 21, 5, 120, 128]
abbrev dktX6_blockOf_1 : List UInt8 := dkwX6_blockOf_1 ++ dktX6_blockOf_2
def dkwX6_blockOf_0 : List UInt8 := [42, 27, 28, 182, 1, 173, 62, 3, 54, 4, 3, 54, 5, 21, 5, 42, 180, 0, 235, 162, 0, 36, 21, 4]
abbrev dktX6_blockOf_0 : List UInt8 := dkwX6_blockOf_0 ++ dktX6_blockOf_1
theorem dksX6_blockOf_0 : cX6_blockOf.data.toList.drop 0 = dktX6_blockOf_0 := by decide +kernel
theorem dksX6_blockOf_1 : cX6_blockOf.data.toList.drop 24 = dktX6_blockOf_1 := dk_seg dksX6_blockOf_0 24 rfl rfl
theorem dksX6_blockOf_2 : cX6_blockOf.data.toList.drop 47 = dktX6_blockOf_2 := dk_seg dksX6_blockOf_1 23 rfl rfl
theorem dX6_blockOf_0 : decode cX6_blockOf 0 = .ok (.aload_n 0, 1) := dk_42 (dk_at dksX6_blockOf_0 0 rfl rfl)
theorem dX6_blockOf_1 : decode cX6_blockOf 1 = .ok (.iload_n 1, 1) := dk_27 (dk_at dksX6_blockOf_0 1 rfl rfl)
theorem dX6_blockOf_2 : decode cX6_blockOf 2 = .ok (.iload_n 2, 1) := dk_28 (dk_at dksX6_blockOf_0 2 rfl rfl)
theorem dX6_blockOf_3 : decode cX6_blockOf 3 = .ok (.invokevirtual 429, 3) := dk_182 1 173 (dk_at dksX6_blockOf_0 3 rfl rfl)
theorem dX6_blockOf_6 : decode cX6_blockOf 6 = .ok (.istore_n 3, 1) := dk_62 (dk_at dksX6_blockOf_0 6 rfl rfl)
theorem dX6_blockOf_7 : decode cX6_blockOf 7 = .ok (.iconst 0, 1) := dk_3 (dk_at dksX6_blockOf_0 7 rfl rfl)
theorem dX6_blockOf_8 : decode cX6_blockOf 8 = .ok (.istore 4, 2) := dk_54 4 (dk_at dksX6_blockOf_0 8 rfl rfl)
theorem dX6_blockOf_10 : decode cX6_blockOf 10 = .ok (.iconst 0, 1) := dk_3 (dk_at dksX6_blockOf_0 10 rfl rfl)
theorem dX6_blockOf_11 : decode cX6_blockOf 11 = .ok (.istore 5, 2) := dk_54 5 (dk_at dksX6_blockOf_0 11 rfl rfl)
theorem dX6_blockOf_13 : decode cX6_blockOf 13 = .ok (.iload 5, 2) := dk_21 5 (dk_at dksX6_blockOf_0 13 rfl rfl)
theorem dX6_blockOf_15 : decode cX6_blockOf 15 = .ok (.aload_n 0, 1) := dk_42 (dk_at dksX6_blockOf_0 15 rfl rfl)
theorem dX6_blockOf_16 : decode cX6_blockOf 16 = .ok (.getfield 235, 3) := dk_180 0 235 (dk_at dksX6_blockOf_0 16 rfl rfl)
theorem dX6_blockOf_19 : decode cX6_blockOf 19 = .ok (.if_icmp .ge 36, 3) := dk_162 0 36 (dk_at dksX6_blockOf_0 19 rfl rfl)
theorem dX6_blockOf_22 : decode cX6_blockOf 22 = .ok (.iload 4, 2) := dk_21 4 (dk_at dksX6_blockOf_0 22 rfl rfl)
theorem dX6_blockOf_24 : decode cX6_blockOf 24 = .ok (.aload_n 0, 1) := dk_42 (dk_at dksX6_blockOf_1 0 rfl rfl)
theorem dX6_blockOf_25 : decode cX6_blockOf 25 = .ok (.iload 5, 2) := dk_21 5 (dk_at dksX6_blockOf_1 1 rfl rfl)
theorem dX6_blockOf_27 : decode cX6_blockOf 27 = .ok (.iload_n 2, 1) := dk_28 (dk_at dksX6_blockOf_1 3 rfl rfl)
theorem dX6_blockOf_28 : decode cX6_blockOf 28 = .ok (.invokevirtual 429, 3) := dk_182 1 173 (dk_at dksX6_blockOf_1 4 rfl rfl)
theorem dX6_blockOf_31 : decode cX6_blockOf 31 = .ok (.iload_n 3, 1) := dk_29 (dk_at dksX6_blockOf_1 7 rfl rfl)
theorem dX6_blockOf_32 : decode cX6_blockOf 32 = .ok (.if_icmp .ne 7, 3) := dk_160 0 7 (dk_at dksX6_blockOf_1 8 rfl rfl)
theorem dX6_blockOf_35 : decode cX6_blockOf 35 = .ok (.iconst 1, 1) := dk_4 (dk_at dksX6_blockOf_1 11 rfl rfl)
theorem dX6_blockOf_36 : decode cX6_blockOf 36 = .ok (.goto 4, 3) := dk_167 0 4 (dk_at dksX6_blockOf_1 12 rfl rfl)
theorem dX6_blockOf_39 : decode cX6_blockOf 39 = .ok (.iconst 0, 1) := dk_3 (dk_at dksX6_blockOf_1 15 rfl rfl)
theorem dX6_blockOf_40 : decode cX6_blockOf 40 = .ok (.invokestatic 256, 3) := dk_184 1 0 (dk_at dksX6_blockOf_1 16 rfl rfl)
theorem dX6_blockOf_43 : decode cX6_blockOf 43 = .ok (.iload 5, 2) := dk_21 5 (dk_at dksX6_blockOf_1 19 rfl rfl)
theorem dX6_blockOf_45 : decode cX6_blockOf 45 = .ok (.ishl, 1) := dk_120 (dk_at dksX6_blockOf_1 21 rfl rfl)
theorem dX6_blockOf_46 : decode cX6_blockOf 46 = .ok (.ior, 1) := dk_128 (dk_at dksX6_blockOf_1 22 rfl rfl)
theorem dX6_blockOf_47 : decode cX6_blockOf 47 = .ok (.istore 4, 2) := dk_54 4 (dk_at dksX6_blockOf_2 0 rfl rfl)
theorem dX6_blockOf_49 : decode cX6_blockOf 49 = .ok (.iinc 5 1, 3) := dk_132 5 1 (dk_at dksX6_blockOf_2 2 rfl rfl)
theorem dX6_blockOf_52 : decode cX6_blockOf 52 = .ok (.goto (-39), 3) := dk_167 255 217 (dk_at dksX6_blockOf_2 5 rfl rfl)
theorem dX6_blockOf_55 : decode cX6_blockOf 55 = .ok (.iload 4, 2) := dk_21 4 (dk_at dksX6_blockOf_2 8 rfl rfl)
theorem dX6_blockOf_57 : decode cX6_blockOf 57 = .ok (.ireturn, 1) := dk_172 (dk_at dksX6_blockOf_2 10 rfl rfl)
abbrev cX6_keeper : ByteArray := prog_16_method_94_code
def yX6_keeper : MethodName := ⟨RX6, "keeper", "(I)I"⟩
def dkwX6_keeper_2 : List UInt8 := [167, 0, 4, 3, 184, 1, 0, 29, 120, 128, 61, 132, 3, 1, 167, 255, 217, 28, 172]
abbrev dktX6_keeper_2 : List UInt8 := dkwX6_keeper_2 ++ []
def dkwX6_keeper_1 : List UInt8 := [180, 0, 196, 162, 0, 37, 28, 42, 180, 0, 26, 16, 6, 29, 104, 27, 96, 46, 27, 160, 0, 7, 4]
abbrev dktX6_keeper_1 : List UInt8 := dkwX6_keeper_1 ++ dktX6_keeper_2
def dkwX6_keeper_0 : List UInt8 := [27, 133, 9, 42, 180, 1, 126, 4, 100, 133, 184, 0, 131, 154, 0, 5, 2, 172, 3, 61, 3, 62, 29, 42]
abbrev dktX6_keeper_0 : List UInt8 := dkwX6_keeper_0 ++ dktX6_keeper_1
theorem dksX6_keeper_0 : cX6_keeper.data.toList.drop 0 = dktX6_keeper_0 := by decide +kernel
theorem dksX6_keeper_1 : cX6_keeper.data.toList.drop 24 = dktX6_keeper_1 := dk_seg dksX6_keeper_0 24 rfl rfl
theorem dksX6_keeper_2 : cX6_keeper.data.toList.drop 47 = dktX6_keeper_2 := dk_seg dksX6_keeper_1 23 rfl rfl
theorem dX6_keeper_0 : decode cX6_keeper 0 = .ok (.iload_n 1, 1) := dk_27 (dk_at dksX6_keeper_0 0 rfl rfl)
theorem dX6_keeper_1 : decode cX6_keeper 1 = .ok (.i2l, 1) := dk_133 (dk_at dksX6_keeper_0 1 rfl rfl)
theorem dX6_keeper_2 : decode cX6_keeper 2 = .ok (.lconst 0, 1) := dk_9 (dk_at dksX6_keeper_0 2 rfl rfl)
theorem dX6_keeper_3 : decode cX6_keeper 3 = .ok (.aload_n 0, 1) := dk_42 (dk_at dksX6_keeper_0 3 rfl rfl)
theorem dX6_keeper_4 : decode cX6_keeper 4 = .ok (.getfield 382, 3) := dk_180 1 126 (dk_at dksX6_keeper_0 4 rfl rfl)
theorem dX6_keeper_7 : decode cX6_keeper 7 = .ok (.iconst 1, 1) := dk_4 (dk_at dksX6_keeper_0 7 rfl rfl)
theorem dX6_keeper_8 : decode cX6_keeper 8 = .ok (.isub, 1) := dk_100 (dk_at dksX6_keeper_0 8 rfl rfl)
theorem dX6_keeper_9 : decode cX6_keeper 9 = .ok (.i2l, 1) := dk_133 (dk_at dksX6_keeper_0 9 rfl rfl)
theorem dX6_keeper_10 : decode cX6_keeper 10 = .ok (.invokestatic 131, 3) := dk_184 0 131 (dk_at dksX6_keeper_0 10 rfl rfl)
theorem dX6_keeper_13 : decode cX6_keeper 13 = .ok (.ifCond .ne 5, 3) := dk_154 0 5 (dk_at dksX6_keeper_0 13 rfl rfl)
theorem dX6_keeper_16 : decode cX6_keeper 16 = .ok (.iconst (-1), 1) := dk_2 (dk_at dksX6_keeper_0 16 rfl rfl)
theorem dX6_keeper_17 : decode cX6_keeper 17 = .ok (.ireturn, 1) := dk_172 (dk_at dksX6_keeper_0 17 rfl rfl)
theorem dX6_keeper_18 : decode cX6_keeper 18 = .ok (.iconst 0, 1) := dk_3 (dk_at dksX6_keeper_0 18 rfl rfl)
theorem dX6_keeper_19 : decode cX6_keeper 19 = .ok (.istore_n 2, 1) := dk_61 (dk_at dksX6_keeper_0 19 rfl rfl)
theorem dX6_keeper_20 : decode cX6_keeper 20 = .ok (.iconst 0, 1) := dk_3 (dk_at dksX6_keeper_0 20 rfl rfl)
theorem dX6_keeper_21 : decode cX6_keeper 21 = .ok (.istore_n 3, 1) := dk_62 (dk_at dksX6_keeper_0 21 rfl rfl)
theorem dX6_keeper_22 : decode cX6_keeper 22 = .ok (.iload_n 3, 1) := dk_29 (dk_at dksX6_keeper_0 22 rfl rfl)
theorem dX6_keeper_23 : decode cX6_keeper 23 = .ok (.aload_n 0, 1) := dk_42 (dk_at dksX6_keeper_0 23 rfl rfl)
theorem dX6_keeper_24 : decode cX6_keeper 24 = .ok (.getfield 196, 3) := dk_180 0 196 (dk_at dksX6_keeper_1 0 rfl rfl)
theorem dX6_keeper_27 : decode cX6_keeper 27 = .ok (.if_icmp .ge 37, 3) := dk_162 0 37 (dk_at dksX6_keeper_1 3 rfl rfl)
theorem dX6_keeper_30 : decode cX6_keeper 30 = .ok (.iload_n 2, 1) := dk_28 (dk_at dksX6_keeper_1 6 rfl rfl)
theorem dX6_keeper_31 : decode cX6_keeper 31 = .ok (.aload_n 0, 1) := dk_42 (dk_at dksX6_keeper_1 7 rfl rfl)
theorem dX6_keeper_32 : decode cX6_keeper 32 = .ok (.getfield 26, 3) := dk_180 0 26 (dk_at dksX6_keeper_1 8 rfl rfl)
theorem dX6_keeper_35 : decode cX6_keeper 35 = .ok (.bipush 6, 2) := dk_16 6 (dk_at dksX6_keeper_1 11 rfl rfl)
theorem dX6_keeper_37 : decode cX6_keeper 37 = .ok (.iload_n 3, 1) := dk_29 (dk_at dksX6_keeper_1 13 rfl rfl)
theorem dX6_keeper_38 : decode cX6_keeper 38 = .ok (.imul, 1) := dk_104 (dk_at dksX6_keeper_1 14 rfl rfl)
theorem dX6_keeper_39 : decode cX6_keeper 39 = .ok (.iload_n 1, 1) := dk_27 (dk_at dksX6_keeper_1 15 rfl rfl)
theorem dX6_keeper_40 : decode cX6_keeper 40 = .ok (.iadd, 1) := dk_96 (dk_at dksX6_keeper_1 16 rfl rfl)
theorem dX6_keeper_41 : decode cX6_keeper 41 = .ok (.iaload, 1) := dk_46 (dk_at dksX6_keeper_1 17 rfl rfl)
theorem dX6_keeper_42 : decode cX6_keeper 42 = .ok (.iload_n 1, 1) := dk_27 (dk_at dksX6_keeper_1 18 rfl rfl)
theorem dX6_keeper_43 : decode cX6_keeper 43 = .ok (.if_icmp .ne 7, 3) := dk_160 0 7 (dk_at dksX6_keeper_1 19 rfl rfl)
theorem dX6_keeper_46 : decode cX6_keeper 46 = .ok (.iconst 1, 1) := dk_4 (dk_at dksX6_keeper_1 22 rfl rfl)
theorem dX6_keeper_47 : decode cX6_keeper 47 = .ok (.goto 4, 3) := dk_167 0 4 (dk_at dksX6_keeper_2 0 rfl rfl)
theorem dX6_keeper_50 : decode cX6_keeper 50 = .ok (.iconst 0, 1) := dk_3 (dk_at dksX6_keeper_2 3 rfl rfl)
theorem dX6_keeper_51 : decode cX6_keeper 51 = .ok (.invokestatic 256, 3) := dk_184 1 0 (dk_at dksX6_keeper_2 4 rfl rfl)
theorem dX6_keeper_54 : decode cX6_keeper 54 = .ok (.iload_n 3, 1) := dk_29 (dk_at dksX6_keeper_2 7 rfl rfl)
theorem dX6_keeper_55 : decode cX6_keeper 55 = .ok (.ishl, 1) := dk_120 (dk_at dksX6_keeper_2 8 rfl rfl)
theorem dX6_keeper_56 : decode cX6_keeper 56 = .ok (.ior, 1) := dk_128 (dk_at dksX6_keeper_2 9 rfl rfl)
theorem dX6_keeper_57 : decode cX6_keeper 57 = .ok (.istore_n 2, 1) := dk_61 (dk_at dksX6_keeper_2 10 rfl rfl)
theorem dX6_keeper_58 : decode cX6_keeper 58 = .ok (.iinc 3 1, 3) := dk_132 3 1 (dk_at dksX6_keeper_2 11 rfl rfl)
theorem dX6_keeper_61 : decode cX6_keeper 61 = .ok (.goto (-39), 3) := dk_167 255 217 (dk_at dksX6_keeper_2 14 rfl rfl)
theorem dX6_keeper_64 : decode cX6_keeper 64 = .ok (.iload_n 2, 1) := dk_28 (dk_at dksX6_keeper_2 17 rfl rfl)
theorem dX6_keeper_65 : decode cX6_keeper 65 = .ok (.ireturn, 1) := dk_172 (dk_at dksX6_keeper_2 18 rfl rfl)
abbrev cX6_orbit : ByteArray := prog_16_method_95_code
def yX6_orbit : MethodName := ⟨RX6, "orbit", "(I)I"⟩
def dkwX6_orbit_2 : List UInt8 := [132, 3, 1, 167, 255, 229, 28, 172]
abbrev dktX6_orbit_2 : List UInt8 := dkwX6_orbit_2 ++ []
def dkwX6_orbit_1 : List UInt8 := [180, 0, 196, 162, 0, 25, 28, 4, 42, 180, 0, 26, 16, 6, 29, 104, 27, 96, 46, 120, 128, 61]
abbrev dktX6_orbit_1 : List UInt8 := dkwX6_orbit_1 ++ dktX6_orbit_2
def dkwX6_orbit_0 : List UInt8 := [27, 133, 9, 42, 180, 1, 126, 4, 100, 133, 184, 0, 131, 154, 0, 5, 2, 172, 3, 61, 3, 62, 29, 42]
abbrev dktX6_orbit_0 : List UInt8 := dkwX6_orbit_0 ++ dktX6_orbit_1
theorem dksX6_orbit_0 : cX6_orbit.data.toList.drop 0 = dktX6_orbit_0 := by decide +kernel
theorem dksX6_orbit_1 : cX6_orbit.data.toList.drop 24 = dktX6_orbit_1 := dk_seg dksX6_orbit_0 24 rfl rfl
theorem dksX6_orbit_2 : cX6_orbit.data.toList.drop 46 = dktX6_orbit_2 := dk_seg dksX6_orbit_1 22 rfl rfl
theorem dX6_orbit_0 : decode cX6_orbit 0 = .ok (.iload_n 1, 1) := dk_27 (dk_at dksX6_orbit_0 0 rfl rfl)
theorem dX6_orbit_1 : decode cX6_orbit 1 = .ok (.i2l, 1) := dk_133 (dk_at dksX6_orbit_0 1 rfl rfl)
theorem dX6_orbit_2 : decode cX6_orbit 2 = .ok (.lconst 0, 1) := dk_9 (dk_at dksX6_orbit_0 2 rfl rfl)
theorem dX6_orbit_3 : decode cX6_orbit 3 = .ok (.aload_n 0, 1) := dk_42 (dk_at dksX6_orbit_0 3 rfl rfl)
theorem dX6_orbit_4 : decode cX6_orbit 4 = .ok (.getfield 382, 3) := dk_180 1 126 (dk_at dksX6_orbit_0 4 rfl rfl)
theorem dX6_orbit_7 : decode cX6_orbit 7 = .ok (.iconst 1, 1) := dk_4 (dk_at dksX6_orbit_0 7 rfl rfl)
theorem dX6_orbit_8 : decode cX6_orbit 8 = .ok (.isub, 1) := dk_100 (dk_at dksX6_orbit_0 8 rfl rfl)
theorem dX6_orbit_9 : decode cX6_orbit 9 = .ok (.i2l, 1) := dk_133 (dk_at dksX6_orbit_0 9 rfl rfl)
theorem dX6_orbit_10 : decode cX6_orbit 10 = .ok (.invokestatic 131, 3) := dk_184 0 131 (dk_at dksX6_orbit_0 10 rfl rfl)
theorem dX6_orbit_13 : decode cX6_orbit 13 = .ok (.ifCond .ne 5, 3) := dk_154 0 5 (dk_at dksX6_orbit_0 13 rfl rfl)
theorem dX6_orbit_16 : decode cX6_orbit 16 = .ok (.iconst (-1), 1) := dk_2 (dk_at dksX6_orbit_0 16 rfl rfl)
theorem dX6_orbit_17 : decode cX6_orbit 17 = .ok (.ireturn, 1) := dk_172 (dk_at dksX6_orbit_0 17 rfl rfl)
theorem dX6_orbit_18 : decode cX6_orbit 18 = .ok (.iconst 0, 1) := dk_3 (dk_at dksX6_orbit_0 18 rfl rfl)
theorem dX6_orbit_19 : decode cX6_orbit 19 = .ok (.istore_n 2, 1) := dk_61 (dk_at dksX6_orbit_0 19 rfl rfl)
theorem dX6_orbit_20 : decode cX6_orbit 20 = .ok (.iconst 0, 1) := dk_3 (dk_at dksX6_orbit_0 20 rfl rfl)
theorem dX6_orbit_21 : decode cX6_orbit 21 = .ok (.istore_n 3, 1) := dk_62 (dk_at dksX6_orbit_0 21 rfl rfl)
theorem dX6_orbit_22 : decode cX6_orbit 22 = .ok (.iload_n 3, 1) := dk_29 (dk_at dksX6_orbit_0 22 rfl rfl)
theorem dX6_orbit_23 : decode cX6_orbit 23 = .ok (.aload_n 0, 1) := dk_42 (dk_at dksX6_orbit_0 23 rfl rfl)
theorem dX6_orbit_24 : decode cX6_orbit 24 = .ok (.getfield 196, 3) := dk_180 0 196 (dk_at dksX6_orbit_1 0 rfl rfl)
theorem dX6_orbit_27 : decode cX6_orbit 27 = .ok (.if_icmp .ge 25, 3) := dk_162 0 25 (dk_at dksX6_orbit_1 3 rfl rfl)
theorem dX6_orbit_30 : decode cX6_orbit 30 = .ok (.iload_n 2, 1) := dk_28 (dk_at dksX6_orbit_1 6 rfl rfl)
theorem dX6_orbit_31 : decode cX6_orbit 31 = .ok (.iconst 1, 1) := dk_4 (dk_at dksX6_orbit_1 7 rfl rfl)
theorem dX6_orbit_32 : decode cX6_orbit 32 = .ok (.aload_n 0, 1) := dk_42 (dk_at dksX6_orbit_1 8 rfl rfl)
theorem dX6_orbit_33 : decode cX6_orbit 33 = .ok (.getfield 26, 3) := dk_180 0 26 (dk_at dksX6_orbit_1 9 rfl rfl)
theorem dX6_orbit_36 : decode cX6_orbit 36 = .ok (.bipush 6, 2) := dk_16 6 (dk_at dksX6_orbit_1 12 rfl rfl)
theorem dX6_orbit_38 : decode cX6_orbit 38 = .ok (.iload_n 3, 1) := dk_29 (dk_at dksX6_orbit_1 14 rfl rfl)
theorem dX6_orbit_39 : decode cX6_orbit 39 = .ok (.imul, 1) := dk_104 (dk_at dksX6_orbit_1 15 rfl rfl)
theorem dX6_orbit_40 : decode cX6_orbit 40 = .ok (.iload_n 1, 1) := dk_27 (dk_at dksX6_orbit_1 16 rfl rfl)
theorem dX6_orbit_41 : decode cX6_orbit 41 = .ok (.iadd, 1) := dk_96 (dk_at dksX6_orbit_1 17 rfl rfl)
theorem dX6_orbit_42 : decode cX6_orbit 42 = .ok (.iaload, 1) := dk_46 (dk_at dksX6_orbit_1 18 rfl rfl)
theorem dX6_orbit_43 : decode cX6_orbit 43 = .ok (.ishl, 1) := dk_120 (dk_at dksX6_orbit_1 19 rfl rfl)
theorem dX6_orbit_44 : decode cX6_orbit 44 = .ok (.ior, 1) := dk_128 (dk_at dksX6_orbit_1 20 rfl rfl)
theorem dX6_orbit_45 : decode cX6_orbit 45 = .ok (.istore_n 2, 1) := dk_61 (dk_at dksX6_orbit_1 21 rfl rfl)
theorem dX6_orbit_46 : decode cX6_orbit 46 = .ok (.iinc 3 1, 3) := dk_132 3 1 (dk_at dksX6_orbit_2 0 rfl rfl)
theorem dX6_orbit_49 : decode cX6_orbit 49 = .ok (.goto (-27), 3) := dk_167 255 229 (dk_at dksX6_orbit_2 3 rfl rfl)
theorem dX6_orbit_52 : decode cX6_orbit 52 = .ok (.iload_n 2, 1) := dk_28 (dk_at dksX6_orbit_2 6 rfl rfl)
theorem dX6_orbit_53 : decode cX6_orbit 53 = .ok (.ireturn, 1) := dk_172 (dk_at dksX6_orbit_2 7 rfl rfl)
abbrev cX6_coset : ByteArray := prog_16_method_96_code
def yX6_coset : MethodName := ⟨RX6, "coset", "(II)I"⟩
def dkwX6_coset_1 : List UInt8 := [28, 96, 46, 167, 0, 4, 2, 172]
abbrev dktX6_coset_1 : List UInt8 := dkwX6_coset_1 ++ []
def dkwX6_coset_0 : List UInt8 := [42, 27, 182, 1, 158, 153, 0, 25, 42, 28, 182, 1, 144, 153, 0, 17, 42, 180, 0, 53, 16, 24, 27, 104]
abbrev dktX6_coset_0 : List UInt8 := dkwX6_coset_0 ++ dktX6_coset_1
theorem dksX6_coset_0 : cX6_coset.data.toList.drop 0 = dktX6_coset_0 := by decide +kernel
theorem dksX6_coset_1 : cX6_coset.data.toList.drop 24 = dktX6_coset_1 := dk_seg dksX6_coset_0 24 rfl rfl
theorem dX6_coset_0 : decode cX6_coset 0 = .ok (.aload_n 0, 1) := dk_42 (dk_at dksX6_coset_0 0 rfl rfl)
theorem dX6_coset_1 : decode cX6_coset 1 = .ok (.iload_n 1, 1) := dk_27 (dk_at dksX6_coset_0 1 rfl rfl)
theorem dX6_coset_2 : decode cX6_coset 2 = .ok (.invokevirtual 414, 3) := dk_182 1 158 (dk_at dksX6_coset_0 2 rfl rfl)
theorem dX6_coset_5 : decode cX6_coset 5 = .ok (.ifCond .eq 25, 3) := dk_153 0 25 (dk_at dksX6_coset_0 5 rfl rfl)
theorem dX6_coset_8 : decode cX6_coset 8 = .ok (.aload_n 0, 1) := dk_42 (dk_at dksX6_coset_0 8 rfl rfl)
theorem dX6_coset_9 : decode cX6_coset 9 = .ok (.iload_n 2, 1) := dk_28 (dk_at dksX6_coset_0 9 rfl rfl)
theorem dX6_coset_10 : decode cX6_coset 10 = .ok (.invokevirtual 400, 3) := dk_182 1 144 (dk_at dksX6_coset_0 10 rfl rfl)
theorem dX6_coset_13 : decode cX6_coset 13 = .ok (.ifCond .eq 17, 3) := dk_153 0 17 (dk_at dksX6_coset_0 13 rfl rfl)
theorem dX6_coset_16 : decode cX6_coset 16 = .ok (.aload_n 0, 1) := dk_42 (dk_at dksX6_coset_0 16 rfl rfl)
theorem dX6_coset_17 : decode cX6_coset 17 = .ok (.getfield 53, 3) := dk_180 0 53 (dk_at dksX6_coset_0 17 rfl rfl)
theorem dX6_coset_20 : decode cX6_coset 20 = .ok (.bipush 24, 2) := dk_16 24 (dk_at dksX6_coset_0 20 rfl rfl)
theorem dX6_coset_22 : decode cX6_coset 22 = .ok (.iload_n 1, 1) := dk_27 (dk_at dksX6_coset_0 22 rfl rfl)
theorem dX6_coset_23 : decode cX6_coset 23 = .ok (.imul, 1) := dk_104 (dk_at dksX6_coset_0 23 rfl rfl)
theorem dX6_coset_24 : decode cX6_coset 24 = .ok (.iload_n 2, 1) := dk_28 (dk_at dksX6_coset_1 0 rfl rfl)
theorem dX6_coset_25 : decode cX6_coset 25 = .ok (.iadd, 1) := dk_96 (dk_at dksX6_coset_1 1 rfl rfl)
theorem dX6_coset_26 : decode cX6_coset 26 = .ok (.iaload, 1) := dk_46 (dk_at dksX6_coset_1 2 rfl rfl)
theorem dX6_coset_27 : decode cX6_coset 27 = .ok (.goto 4, 3) := dk_167 0 4 (dk_at dksX6_coset_1 3 rfl rfl)
theorem dX6_coset_30 : decode cX6_coset 30 = .ok (.iconst (-1), 1) := dk_2 (dk_at dksX6_coset_1 6 rfl rfl)
theorem dX6_coset_31 : decode cX6_coset 31 = .ok (.ireturn, 1) := dk_172 (dk_at dksX6_coset_1 7 rfl rfl)
abbrev cX6_takes : ByteArray := prog_16_method_97_code
def yX6_takes : MethodName := ⟨RX6, "takes", "(III)I"⟩
def dkwX6_takes_1 : List UInt8 := [42, 180, 0, 53, 16, 24, 27, 104, 42, 28, 29, 182, 0, 216, 96, 46, 167, 0, 4, 2, 172]
abbrev dktX6_takes_1 : List UInt8 := dkwX6_takes_1 ++ []
def dkwX6_takes_0 : List UInt8 := [42, 27, 182, 1, 158, 153, 0, 38, 42, 28, 182, 1, 144, 153, 0, 30, 42, 29, 182, 1, 144, 153, 0, 22]
abbrev dktX6_takes_0 : List UInt8 := dkwX6_takes_0 ++ dktX6_takes_1
theorem dksX6_takes_0 : cX6_takes.data.toList.drop 0 = dktX6_takes_0 := by decide +kernel
theorem dksX6_takes_1 : cX6_takes.data.toList.drop 24 = dktX6_takes_1 := dk_seg dksX6_takes_0 24 rfl rfl
theorem dX6_takes_0 : decode cX6_takes 0 = .ok (.aload_n 0, 1) := dk_42 (dk_at dksX6_takes_0 0 rfl rfl)
theorem dX6_takes_1 : decode cX6_takes 1 = .ok (.iload_n 1, 1) := dk_27 (dk_at dksX6_takes_0 1 rfl rfl)
theorem dX6_takes_2 : decode cX6_takes 2 = .ok (.invokevirtual 414, 3) := dk_182 1 158 (dk_at dksX6_takes_0 2 rfl rfl)
theorem dX6_takes_5 : decode cX6_takes 5 = .ok (.ifCond .eq 38, 3) := dk_153 0 38 (dk_at dksX6_takes_0 5 rfl rfl)
theorem dX6_takes_8 : decode cX6_takes 8 = .ok (.aload_n 0, 1) := dk_42 (dk_at dksX6_takes_0 8 rfl rfl)
theorem dX6_takes_9 : decode cX6_takes 9 = .ok (.iload_n 2, 1) := dk_28 (dk_at dksX6_takes_0 9 rfl rfl)
theorem dX6_takes_10 : decode cX6_takes 10 = .ok (.invokevirtual 400, 3) := dk_182 1 144 (dk_at dksX6_takes_0 10 rfl rfl)
theorem dX6_takes_13 : decode cX6_takes 13 = .ok (.ifCond .eq 30, 3) := dk_153 0 30 (dk_at dksX6_takes_0 13 rfl rfl)
theorem dX6_takes_16 : decode cX6_takes 16 = .ok (.aload_n 0, 1) := dk_42 (dk_at dksX6_takes_0 16 rfl rfl)
theorem dX6_takes_17 : decode cX6_takes 17 = .ok (.iload_n 3, 1) := dk_29 (dk_at dksX6_takes_0 17 rfl rfl)
theorem dX6_takes_18 : decode cX6_takes 18 = .ok (.invokevirtual 400, 3) := dk_182 1 144 (dk_at dksX6_takes_0 18 rfl rfl)
theorem dX6_takes_21 : decode cX6_takes 21 = .ok (.ifCond .eq 22, 3) := dk_153 0 22 (dk_at dksX6_takes_0 21 rfl rfl)
theorem dX6_takes_24 : decode cX6_takes 24 = .ok (.aload_n 0, 1) := dk_42 (dk_at dksX6_takes_1 0 rfl rfl)
theorem dX6_takes_25 : decode cX6_takes 25 = .ok (.getfield 53, 3) := dk_180 0 53 (dk_at dksX6_takes_1 1 rfl rfl)
theorem dX6_takes_28 : decode cX6_takes 28 = .ok (.bipush 24, 2) := dk_16 24 (dk_at dksX6_takes_1 4 rfl rfl)
theorem dX6_takes_30 : decode cX6_takes 30 = .ok (.iload_n 1, 1) := dk_27 (dk_at dksX6_takes_1 6 rfl rfl)
theorem dX6_takes_31 : decode cX6_takes 31 = .ok (.imul, 1) := dk_104 (dk_at dksX6_takes_1 7 rfl rfl)
theorem dX6_takes_32 : decode cX6_takes 32 = .ok (.aload_n 0, 1) := dk_42 (dk_at dksX6_takes_1 8 rfl rfl)
theorem dX6_takes_33 : decode cX6_takes 33 = .ok (.iload_n 2, 1) := dk_28 (dk_at dksX6_takes_1 9 rfl rfl)
theorem dX6_takes_34 : decode cX6_takes 34 = .ok (.iload_n 3, 1) := dk_29 (dk_at dksX6_takes_1 10 rfl rfl)
theorem dX6_takes_35 : decode cX6_takes 35 = .ok (.invokevirtual 216, 3) := dk_182 0 216 (dk_at dksX6_takes_1 11 rfl rfl)
theorem dX6_takes_38 : decode cX6_takes 38 = .ok (.iadd, 1) := dk_96 (dk_at dksX6_takes_1 14 rfl rfl)
theorem dX6_takes_39 : decode cX6_takes 39 = .ok (.iaload, 1) := dk_46 (dk_at dksX6_takes_1 15 rfl rfl)
theorem dX6_takes_40 : decode cX6_takes 40 = .ok (.goto 4, 3) := dk_167 0 4 (dk_at dksX6_takes_1 16 rfl rfl)
theorem dX6_takes_43 : decode cX6_takes 43 = .ok (.iconst (-1), 1) := dk_2 (dk_at dksX6_takes_1 19 rfl rfl)
theorem dX6_takes_44 : decode cX6_takes 44 = .ok (.ireturn, 1) := dk_172 (dk_at dksX6_takes_1 20 rfl rfl)
abbrev cX6_moebius : ByteArray := prog_16_method_98_code
def yX6_moebius : MethodName := ⟨RX6, "moebius", "(I)I"⟩
def dkwX6_moebius_6 : List UInt8 := [132, 2, 255, 167, 255, 128, 42, 180, 0, 90, 42, 42, 180, 0, 44, 27, 46, 182, 0, 232, 46, 172]
abbrev dktX6_moebius_6 : List UInt8 := dkwX6_moebius_6 ++ []
def dkwX6_moebius_5 : List UInt8 := [46, 42, 180, 0, 90, 21, 4, 46, 100, 79, 132, 4, 1, 167, 255, 195, 132, 3, 1, 167, 255, 140]
abbrev dktX6_moebius_5 : List UInt8 := dkwX6_moebius_5 ++ dktX6_moebius_6
def dkwX6_moebius_4 : List UInt8 := [180, 0, 38, 29, 46, 42, 180, 0, 38, 21, 4, 46, 2, 130, 126, 154, 0, 19, 42, 180, 0, 90, 29, 92]
abbrev dktX6_moebius_4 : List UInt8 := dkwX6_moebius_4 ++ dktX6_moebius_5
def dkwX6_moebius_3 : List UInt8 := [21, 4, 42, 180, 0, 220, 162, 0, 58, 42, 180, 0, 38, 21, 4, 46, 184, 0, 253, 28, 164, 0, 38, 42]
abbrev dktX6_moebius_3 : List UInt8 := dkwX6_moebius_3 ++ dktX6_moebius_4
def dkwX6_moebius_2 : List UInt8 := [180, 0, 90, 29, 28, 42, 180, 0, 196, 160, 0, 7, 4, 167, 0, 4, 3, 184, 1, 0, 79, 3, 54, 4]
abbrev dktX6_moebius_2 : List UInt8 := dkwX6_moebius_2 ++ dktX6_moebius_3
def dkwX6_moebius_1 : List UInt8 := [42, 180, 0, 220, 162, 0, 114, 42, 180, 0, 38, 29, 46, 184, 0, 253, 28, 159, 0, 6, 167, 0, 92, 42]
abbrev dktX6_moebius_1 : List UInt8 := dkwX6_moebius_1 ++ dktX6_moebius_2
def dkwX6_moebius_0 : List UInt8 := [42, 27, 182, 1, 158, 154, 0, 7, 19, 1, 179, 172, 42, 180, 0, 196, 61, 28, 158, 0, 130, 3, 62, 29]
abbrev dktX6_moebius_0 : List UInt8 := dkwX6_moebius_0 ++ dktX6_moebius_1
theorem dksX6_moebius_0 : cX6_moebius.data.toList.drop 0 = dktX6_moebius_0 := by decide +kernel
theorem dksX6_moebius_1 : cX6_moebius.data.toList.drop 24 = dktX6_moebius_1 := dk_seg dksX6_moebius_0 24 rfl rfl
theorem dksX6_moebius_2 : cX6_moebius.data.toList.drop 48 = dktX6_moebius_2 := dk_seg dksX6_moebius_1 24 rfl rfl
theorem dksX6_moebius_3 : cX6_moebius.data.toList.drop 72 = dktX6_moebius_3 := dk_seg dksX6_moebius_2 24 rfl rfl
theorem dksX6_moebius_4 : cX6_moebius.data.toList.drop 96 = dktX6_moebius_4 := dk_seg dksX6_moebius_3 24 rfl rfl
theorem dksX6_moebius_5 : cX6_moebius.data.toList.drop 120 = dktX6_moebius_5 := dk_seg dksX6_moebius_4 24 rfl rfl
theorem dksX6_moebius_6 : cX6_moebius.data.toList.drop 142 = dktX6_moebius_6 := dk_seg dksX6_moebius_5 22 rfl rfl
theorem dX6_moebius_0 : decode cX6_moebius 0 = .ok (.aload_n 0, 1) := dk_42 (dk_at dksX6_moebius_0 0 rfl rfl)
theorem dX6_moebius_1 : decode cX6_moebius 1 = .ok (.iload_n 1, 1) := dk_27 (dk_at dksX6_moebius_0 1 rfl rfl)
theorem dX6_moebius_2 : decode cX6_moebius 2 = .ok (.invokevirtual 414, 3) := dk_182 1 158 (dk_at dksX6_moebius_0 2 rfl rfl)
theorem dX6_moebius_5 : decode cX6_moebius 5 = .ok (.ifCond .ne 7, 3) := dk_154 0 7 (dk_at dksX6_moebius_0 5 rfl rfl)
theorem dX6_moebius_8 : decode cX6_moebius 8 = .ok (.ldc_w 435, 3) := dk_19 1 179 (dk_at dksX6_moebius_0 8 rfl rfl)
theorem dX6_moebius_11 : decode cX6_moebius 11 = .ok (.ireturn, 1) := dk_172 (dk_at dksX6_moebius_0 11 rfl rfl)
theorem dX6_moebius_12 : decode cX6_moebius 12 = .ok (.aload_n 0, 1) := dk_42 (dk_at dksX6_moebius_0 12 rfl rfl)
theorem dX6_moebius_13 : decode cX6_moebius 13 = .ok (.getfield 196, 3) := dk_180 0 196 (dk_at dksX6_moebius_0 13 rfl rfl)
theorem dX6_moebius_16 : decode cX6_moebius 16 = .ok (.istore_n 2, 1) := dk_61 (dk_at dksX6_moebius_0 16 rfl rfl)
theorem dX6_moebius_17 : decode cX6_moebius 17 = .ok (.iload_n 2, 1) := dk_28 (dk_at dksX6_moebius_0 17 rfl rfl)
theorem dX6_moebius_18 : decode cX6_moebius 18 = .ok (.ifCond .le 130, 3) := dk_158 0 130 (dk_at dksX6_moebius_0 18 rfl rfl)
theorem dX6_moebius_21 : decode cX6_moebius 21 = .ok (.iconst 0, 1) := dk_3 (dk_at dksX6_moebius_0 21 rfl rfl)
theorem dX6_moebius_22 : decode cX6_moebius 22 = .ok (.istore_n 3, 1) := dk_62 (dk_at dksX6_moebius_0 22 rfl rfl)
theorem dX6_moebius_23 : decode cX6_moebius 23 = .ok (.iload_n 3, 1) := dk_29 (dk_at dksX6_moebius_0 23 rfl rfl)
theorem dX6_moebius_24 : decode cX6_moebius 24 = .ok (.aload_n 0, 1) := dk_42 (dk_at dksX6_moebius_1 0 rfl rfl)
theorem dX6_moebius_25 : decode cX6_moebius 25 = .ok (.getfield 220, 3) := dk_180 0 220 (dk_at dksX6_moebius_1 1 rfl rfl)
theorem dX6_moebius_28 : decode cX6_moebius 28 = .ok (.if_icmp .ge 114, 3) := dk_162 0 114 (dk_at dksX6_moebius_1 4 rfl rfl)
theorem dX6_moebius_31 : decode cX6_moebius 31 = .ok (.aload_n 0, 1) := dk_42 (dk_at dksX6_moebius_1 7 rfl rfl)
theorem dX6_moebius_32 : decode cX6_moebius 32 = .ok (.getfield 38, 3) := dk_180 0 38 (dk_at dksX6_moebius_1 8 rfl rfl)
theorem dX6_moebius_35 : decode cX6_moebius 35 = .ok (.iload_n 3, 1) := dk_29 (dk_at dksX6_moebius_1 11 rfl rfl)
theorem dX6_moebius_36 : decode cX6_moebius 36 = .ok (.iaload, 1) := dk_46 (dk_at dksX6_moebius_1 12 rfl rfl)
theorem dX6_moebius_37 : decode cX6_moebius 37 = .ok (.invokestatic 253, 3) := dk_184 0 253 (dk_at dksX6_moebius_1 13 rfl rfl)
theorem dX6_moebius_40 : decode cX6_moebius 40 = .ok (.iload_n 2, 1) := dk_28 (dk_at dksX6_moebius_1 16 rfl rfl)
theorem dX6_moebius_41 : decode cX6_moebius 41 = .ok (.if_icmp .eq 6, 3) := dk_159 0 6 (dk_at dksX6_moebius_1 17 rfl rfl)
theorem dX6_moebius_44 : decode cX6_moebius 44 = .ok (.goto 92, 3) := dk_167 0 92 (dk_at dksX6_moebius_1 20 rfl rfl)
theorem dX6_moebius_47 : decode cX6_moebius 47 = .ok (.aload_n 0, 1) := dk_42 (dk_at dksX6_moebius_1 23 rfl rfl)
theorem dX6_moebius_48 : decode cX6_moebius 48 = .ok (.getfield 90, 3) := dk_180 0 90 (dk_at dksX6_moebius_2 0 rfl rfl)
theorem dX6_moebius_51 : decode cX6_moebius 51 = .ok (.iload_n 3, 1) := dk_29 (dk_at dksX6_moebius_2 3 rfl rfl)
theorem dX6_moebius_52 : decode cX6_moebius 52 = .ok (.iload_n 2, 1) := dk_28 (dk_at dksX6_moebius_2 4 rfl rfl)
theorem dX6_moebius_53 : decode cX6_moebius 53 = .ok (.aload_n 0, 1) := dk_42 (dk_at dksX6_moebius_2 5 rfl rfl)
theorem dX6_moebius_54 : decode cX6_moebius 54 = .ok (.getfield 196, 3) := dk_180 0 196 (dk_at dksX6_moebius_2 6 rfl rfl)
theorem dX6_moebius_57 : decode cX6_moebius 57 = .ok (.if_icmp .ne 7, 3) := dk_160 0 7 (dk_at dksX6_moebius_2 9 rfl rfl)
theorem dX6_moebius_60 : decode cX6_moebius 60 = .ok (.iconst 1, 1) := dk_4 (dk_at dksX6_moebius_2 12 rfl rfl)
theorem dX6_moebius_61 : decode cX6_moebius 61 = .ok (.goto 4, 3) := dk_167 0 4 (dk_at dksX6_moebius_2 13 rfl rfl)
theorem dX6_moebius_64 : decode cX6_moebius 64 = .ok (.iconst 0, 1) := dk_3 (dk_at dksX6_moebius_2 16 rfl rfl)
theorem dX6_moebius_65 : decode cX6_moebius 65 = .ok (.invokestatic 256, 3) := dk_184 1 0 (dk_at dksX6_moebius_2 17 rfl rfl)
theorem dX6_moebius_68 : decode cX6_moebius 68 = .ok (.iastore, 1) := dk_79 (dk_at dksX6_moebius_2 20 rfl rfl)
theorem dX6_moebius_69 : decode cX6_moebius 69 = .ok (.iconst 0, 1) := dk_3 (dk_at dksX6_moebius_2 21 rfl rfl)
theorem dX6_moebius_70 : decode cX6_moebius 70 = .ok (.istore 4, 2) := dk_54 4 (dk_at dksX6_moebius_2 22 rfl rfl)
theorem dX6_moebius_72 : decode cX6_moebius 72 = .ok (.iload 4, 2) := dk_21 4 (dk_at dksX6_moebius_3 0 rfl rfl)
theorem dX6_moebius_74 : decode cX6_moebius 74 = .ok (.aload_n 0, 1) := dk_42 (dk_at dksX6_moebius_3 2 rfl rfl)
theorem dX6_moebius_75 : decode cX6_moebius 75 = .ok (.getfield 220, 3) := dk_180 0 220 (dk_at dksX6_moebius_3 3 rfl rfl)
theorem dX6_moebius_78 : decode cX6_moebius 78 = .ok (.if_icmp .ge 58, 3) := dk_162 0 58 (dk_at dksX6_moebius_3 6 rfl rfl)
theorem dX6_moebius_81 : decode cX6_moebius 81 = .ok (.aload_n 0, 1) := dk_42 (dk_at dksX6_moebius_3 9 rfl rfl)
theorem dX6_moebius_82 : decode cX6_moebius 82 = .ok (.getfield 38, 3) := dk_180 0 38 (dk_at dksX6_moebius_3 10 rfl rfl)
theorem dX6_moebius_85 : decode cX6_moebius 85 = .ok (.iload 4, 2) := dk_21 4 (dk_at dksX6_moebius_3 13 rfl rfl)
theorem dX6_moebius_87 : decode cX6_moebius 87 = .ok (.iaload, 1) := dk_46 (dk_at dksX6_moebius_3 15 rfl rfl)
theorem dX6_moebius_88 : decode cX6_moebius 88 = .ok (.invokestatic 253, 3) := dk_184 0 253 (dk_at dksX6_moebius_3 16 rfl rfl)
theorem dX6_moebius_91 : decode cX6_moebius 91 = .ok (.iload_n 2, 1) := dk_28 (dk_at dksX6_moebius_3 19 rfl rfl)
theorem dX6_moebius_92 : decode cX6_moebius 92 = .ok (.if_icmp .le 38, 3) := dk_164 0 38 (dk_at dksX6_moebius_3 20 rfl rfl)
theorem dX6_moebius_95 : decode cX6_moebius 95 = .ok (.aload_n 0, 1) := dk_42 (dk_at dksX6_moebius_3 23 rfl rfl)
theorem dX6_moebius_96 : decode cX6_moebius 96 = .ok (.getfield 38, 3) := dk_180 0 38 (dk_at dksX6_moebius_4 0 rfl rfl)
theorem dX6_moebius_99 : decode cX6_moebius 99 = .ok (.iload_n 3, 1) := dk_29 (dk_at dksX6_moebius_4 3 rfl rfl)
theorem dX6_moebius_100 : decode cX6_moebius 100 = .ok (.iaload, 1) := dk_46 (dk_at dksX6_moebius_4 4 rfl rfl)
theorem dX6_moebius_101 : decode cX6_moebius 101 = .ok (.aload_n 0, 1) := dk_42 (dk_at dksX6_moebius_4 5 rfl rfl)
theorem dX6_moebius_102 : decode cX6_moebius 102 = .ok (.getfield 38, 3) := dk_180 0 38 (dk_at dksX6_moebius_4 6 rfl rfl)
theorem dX6_moebius_105 : decode cX6_moebius 105 = .ok (.iload 4, 2) := dk_21 4 (dk_at dksX6_moebius_4 9 rfl rfl)
theorem dX6_moebius_107 : decode cX6_moebius 107 = .ok (.iaload, 1) := dk_46 (dk_at dksX6_moebius_4 11 rfl rfl)
theorem dX6_moebius_108 : decode cX6_moebius 108 = .ok (.iconst (-1), 1) := dk_2 (dk_at dksX6_moebius_4 12 rfl rfl)
theorem dX6_moebius_109 : decode cX6_moebius 109 = .ok (.ixor, 1) := dk_130 (dk_at dksX6_moebius_4 13 rfl rfl)
theorem dX6_moebius_110 : decode cX6_moebius 110 = .ok (.iand, 1) := dk_126 (dk_at dksX6_moebius_4 14 rfl rfl)
theorem dX6_moebius_111 : decode cX6_moebius 111 = .ok (.ifCond .ne 19, 3) := dk_154 0 19 (dk_at dksX6_moebius_4 15 rfl rfl)
theorem dX6_moebius_114 : decode cX6_moebius 114 = .ok (.aload_n 0, 1) := dk_42 (dk_at dksX6_moebius_4 18 rfl rfl)
theorem dX6_moebius_115 : decode cX6_moebius 115 = .ok (.getfield 90, 3) := dk_180 0 90 (dk_at dksX6_moebius_4 19 rfl rfl)
theorem dX6_moebius_118 : decode cX6_moebius 118 = .ok (.iload_n 3, 1) := dk_29 (dk_at dksX6_moebius_4 22 rfl rfl)
theorem dX6_moebius_119 : decode cX6_moebius 119 = .ok (.dup2, 1) := dk_92 (dk_at dksX6_moebius_4 23 rfl rfl)
theorem dX6_moebius_120 : decode cX6_moebius 120 = .ok (.iaload, 1) := dk_46 (dk_at dksX6_moebius_5 0 rfl rfl)
theorem dX6_moebius_121 : decode cX6_moebius 121 = .ok (.aload_n 0, 1) := dk_42 (dk_at dksX6_moebius_5 1 rfl rfl)
theorem dX6_moebius_122 : decode cX6_moebius 122 = .ok (.getfield 90, 3) := dk_180 0 90 (dk_at dksX6_moebius_5 2 rfl rfl)
theorem dX6_moebius_125 : decode cX6_moebius 125 = .ok (.iload 4, 2) := dk_21 4 (dk_at dksX6_moebius_5 5 rfl rfl)
theorem dX6_moebius_127 : decode cX6_moebius 127 = .ok (.iaload, 1) := dk_46 (dk_at dksX6_moebius_5 7 rfl rfl)
theorem dX6_moebius_128 : decode cX6_moebius 128 = .ok (.isub, 1) := dk_100 (dk_at dksX6_moebius_5 8 rfl rfl)
theorem dX6_moebius_129 : decode cX6_moebius 129 = .ok (.iastore, 1) := dk_79 (dk_at dksX6_moebius_5 9 rfl rfl)
theorem dX6_moebius_130 : decode cX6_moebius 130 = .ok (.iinc 4 1, 3) := dk_132 4 1 (dk_at dksX6_moebius_5 10 rfl rfl)
theorem dX6_moebius_133 : decode cX6_moebius 133 = .ok (.goto (-61), 3) := dk_167 255 195 (dk_at dksX6_moebius_5 13 rfl rfl)
theorem dX6_moebius_136 : decode cX6_moebius 136 = .ok (.iinc 3 1, 3) := dk_132 3 1 (dk_at dksX6_moebius_5 16 rfl rfl)
theorem dX6_moebius_139 : decode cX6_moebius 139 = .ok (.goto (-116), 3) := dk_167 255 140 (dk_at dksX6_moebius_5 19 rfl rfl)
theorem dX6_moebius_142 : decode cX6_moebius 142 = .ok (.iinc 2 (-1), 3) := dk_132 2 255 (dk_at dksX6_moebius_6 0 rfl rfl)
theorem dX6_moebius_145 : decode cX6_moebius 145 = .ok (.goto (-128), 3) := dk_167 255 128 (dk_at dksX6_moebius_6 3 rfl rfl)
theorem dX6_moebius_148 : decode cX6_moebius 148 = .ok (.aload_n 0, 1) := dk_42 (dk_at dksX6_moebius_6 6 rfl rfl)
theorem dX6_moebius_149 : decode cX6_moebius 149 = .ok (.getfield 90, 3) := dk_180 0 90 (dk_at dksX6_moebius_6 7 rfl rfl)
theorem dX6_moebius_152 : decode cX6_moebius 152 = .ok (.aload_n 0, 1) := dk_42 (dk_at dksX6_moebius_6 10 rfl rfl)
theorem dX6_moebius_153 : decode cX6_moebius 153 = .ok (.aload_n 0, 1) := dk_42 (dk_at dksX6_moebius_6 11 rfl rfl)
theorem dX6_moebius_154 : decode cX6_moebius 154 = .ok (.getfield 44, 3) := dk_180 0 44 (dk_at dksX6_moebius_6 12 rfl rfl)
theorem dX6_moebius_157 : decode cX6_moebius 157 = .ok (.iload_n 1, 1) := dk_27 (dk_at dksX6_moebius_6 15 rfl rfl)
theorem dX6_moebius_158 : decode cX6_moebius 158 = .ok (.iaload, 1) := dk_46 (dk_at dksX6_moebius_6 16 rfl rfl)
theorem dX6_moebius_159 : decode cX6_moebius 159 = .ok (.invokevirtual 232, 3) := dk_182 0 232 (dk_at dksX6_moebius_6 17 rfl rfl)
theorem dX6_moebius_162 : decode cX6_moebius 162 = .ok (.iaload, 1) := dk_46 (dk_at dksX6_moebius_6 20 rfl rfl)
theorem dX6_moebius_163 : decode cX6_moebius 163 = .ok (.ireturn, 1) := dk_172 (dk_at dksX6_moebius_6 21 rfl rfl)
abbrev cX6_mixed : ByteArray := prog_16_method_99_code
def yX6_mixed : MethodName := ⟨RX6, "mixed", "(I)I"⟩
def dkwX6_mixed_4 : List UInt8 := [132, 4, 1, 167, 255, 184, 132, 3, 1, 167, 255, 167, 42, 42, 28, 182, 0, 229, 182, 1, 155, 172]
abbrev dktX6_mixed_4 : List UInt8 := dkwX6_mixed_4 ++ []
def dkwX6_mixed_3 : List UInt8 := [46, 42, 180, 0, 35, 21, 4, 46, 182, 0, 216, 29, 182, 0, 216, 21, 4, 182, 0, 216, 120, 128, 61]
abbrev dktX6_mixed_3 : List UInt8 := dkwX6_mixed_3 ++ dktX6_mixed_4
def dkwX6_mixed_2 : List UInt8 := [42, 180, 0, 44, 27, 46, 21, 4, 184, 0, 213, 153, 0, 36, 28, 4, 42, 42, 42, 42, 180, 0, 35, 29]
abbrev dktX6_mixed_2 : List UInt8 := dkwX6_mixed_2 ++ dktX6_mixed_3
def dkwX6_mixed_1 : List UInt8 := [54, 4, 21, 4, 42, 180, 0, 196, 162, 0, 69, 42, 180, 0, 44, 27, 46, 29, 184, 0, 213, 153, 0, 50]
abbrev dktX6_mixed_1 : List UInt8 := dkwX6_mixed_1 ++ dktX6_mixed_2
def dkwX6_mixed_0 : List UInt8 := [42, 27, 182, 1, 158, 154, 0, 5, 2, 172, 3, 61, 3, 62, 29, 42, 180, 0, 196, 162, 0, 87, 3]
abbrev dktX6_mixed_0 : List UInt8 := dkwX6_mixed_0 ++ dktX6_mixed_1
theorem dksX6_mixed_0 : cX6_mixed.data.toList.drop 0 = dktX6_mixed_0 := by decide +kernel
theorem dksX6_mixed_1 : cX6_mixed.data.toList.drop 23 = dktX6_mixed_1 := dk_seg dksX6_mixed_0 23 rfl rfl
theorem dksX6_mixed_2 : cX6_mixed.data.toList.drop 47 = dktX6_mixed_2 := dk_seg dksX6_mixed_1 24 rfl rfl
theorem dksX6_mixed_3 : cX6_mixed.data.toList.drop 71 = dktX6_mixed_3 := dk_seg dksX6_mixed_2 24 rfl rfl
theorem dksX6_mixed_4 : cX6_mixed.data.toList.drop 94 = dktX6_mixed_4 := dk_seg dksX6_mixed_3 23 rfl rfl
theorem dX6_mixed_0 : decode cX6_mixed 0 = .ok (.aload_n 0, 1) := dk_42 (dk_at dksX6_mixed_0 0 rfl rfl)
theorem dX6_mixed_1 : decode cX6_mixed 1 = .ok (.iload_n 1, 1) := dk_27 (dk_at dksX6_mixed_0 1 rfl rfl)
theorem dX6_mixed_2 : decode cX6_mixed 2 = .ok (.invokevirtual 414, 3) := dk_182 1 158 (dk_at dksX6_mixed_0 2 rfl rfl)
theorem dX6_mixed_5 : decode cX6_mixed 5 = .ok (.ifCond .ne 5, 3) := dk_154 0 5 (dk_at dksX6_mixed_0 5 rfl rfl)
theorem dX6_mixed_8 : decode cX6_mixed 8 = .ok (.iconst (-1), 1) := dk_2 (dk_at dksX6_mixed_0 8 rfl rfl)
theorem dX6_mixed_9 : decode cX6_mixed 9 = .ok (.ireturn, 1) := dk_172 (dk_at dksX6_mixed_0 9 rfl rfl)
theorem dX6_mixed_10 : decode cX6_mixed 10 = .ok (.iconst 0, 1) := dk_3 (dk_at dksX6_mixed_0 10 rfl rfl)
theorem dX6_mixed_11 : decode cX6_mixed 11 = .ok (.istore_n 2, 1) := dk_61 (dk_at dksX6_mixed_0 11 rfl rfl)
theorem dX6_mixed_12 : decode cX6_mixed 12 = .ok (.iconst 0, 1) := dk_3 (dk_at dksX6_mixed_0 12 rfl rfl)
theorem dX6_mixed_13 : decode cX6_mixed 13 = .ok (.istore_n 3, 1) := dk_62 (dk_at dksX6_mixed_0 13 rfl rfl)
theorem dX6_mixed_14 : decode cX6_mixed 14 = .ok (.iload_n 3, 1) := dk_29 (dk_at dksX6_mixed_0 14 rfl rfl)
theorem dX6_mixed_15 : decode cX6_mixed 15 = .ok (.aload_n 0, 1) := dk_42 (dk_at dksX6_mixed_0 15 rfl rfl)
theorem dX6_mixed_16 : decode cX6_mixed 16 = .ok (.getfield 196, 3) := dk_180 0 196 (dk_at dksX6_mixed_0 16 rfl rfl)
theorem dX6_mixed_19 : decode cX6_mixed 19 = .ok (.if_icmp .ge 87, 3) := dk_162 0 87 (dk_at dksX6_mixed_0 19 rfl rfl)
theorem dX6_mixed_22 : decode cX6_mixed 22 = .ok (.iconst 0, 1) := dk_3 (dk_at dksX6_mixed_0 22 rfl rfl)
theorem dX6_mixed_23 : decode cX6_mixed 23 = .ok (.istore 4, 2) := dk_54 4 (dk_at dksX6_mixed_1 0 rfl rfl)
theorem dX6_mixed_25 : decode cX6_mixed 25 = .ok (.iload 4, 2) := dk_21 4 (dk_at dksX6_mixed_1 2 rfl rfl)
theorem dX6_mixed_27 : decode cX6_mixed 27 = .ok (.aload_n 0, 1) := dk_42 (dk_at dksX6_mixed_1 4 rfl rfl)
theorem dX6_mixed_28 : decode cX6_mixed 28 = .ok (.getfield 196, 3) := dk_180 0 196 (dk_at dksX6_mixed_1 5 rfl rfl)
theorem dX6_mixed_31 : decode cX6_mixed 31 = .ok (.if_icmp .ge 69, 3) := dk_162 0 69 (dk_at dksX6_mixed_1 8 rfl rfl)
theorem dX6_mixed_34 : decode cX6_mixed 34 = .ok (.aload_n 0, 1) := dk_42 (dk_at dksX6_mixed_1 11 rfl rfl)
theorem dX6_mixed_35 : decode cX6_mixed 35 = .ok (.getfield 44, 3) := dk_180 0 44 (dk_at dksX6_mixed_1 12 rfl rfl)
theorem dX6_mixed_38 : decode cX6_mixed 38 = .ok (.iload_n 1, 1) := dk_27 (dk_at dksX6_mixed_1 15 rfl rfl)
theorem dX6_mixed_39 : decode cX6_mixed 39 = .ok (.iaload, 1) := dk_46 (dk_at dksX6_mixed_1 16 rfl rfl)
theorem dX6_mixed_40 : decode cX6_mixed 40 = .ok (.iload_n 3, 1) := dk_29 (dk_at dksX6_mixed_1 17 rfl rfl)
theorem dX6_mixed_41 : decode cX6_mixed 41 = .ok (.invokestatic 213, 3) := dk_184 0 213 (dk_at dksX6_mixed_1 18 rfl rfl)
theorem dX6_mixed_44 : decode cX6_mixed 44 = .ok (.ifCond .eq 50, 3) := dk_153 0 50 (dk_at dksX6_mixed_1 21 rfl rfl)
theorem dX6_mixed_47 : decode cX6_mixed 47 = .ok (.aload_n 0, 1) := dk_42 (dk_at dksX6_mixed_2 0 rfl rfl)
theorem dX6_mixed_48 : decode cX6_mixed 48 = .ok (.getfield 44, 3) := dk_180 0 44 (dk_at dksX6_mixed_2 1 rfl rfl)
theorem dX6_mixed_51 : decode cX6_mixed 51 = .ok (.iload_n 1, 1) := dk_27 (dk_at dksX6_mixed_2 4 rfl rfl)
theorem dX6_mixed_52 : decode cX6_mixed 52 = .ok (.iaload, 1) := dk_46 (dk_at dksX6_mixed_2 5 rfl rfl)
theorem dX6_mixed_53 : decode cX6_mixed 53 = .ok (.iload 4, 2) := dk_21 4 (dk_at dksX6_mixed_2 6 rfl rfl)
theorem dX6_mixed_55 : decode cX6_mixed 55 = .ok (.invokestatic 213, 3) := dk_184 0 213 (dk_at dksX6_mixed_2 8 rfl rfl)
theorem dX6_mixed_58 : decode cX6_mixed 58 = .ok (.ifCond .eq 36, 3) := dk_153 0 36 (dk_at dksX6_mixed_2 11 rfl rfl)
theorem dX6_mixed_61 : decode cX6_mixed 61 = .ok (.iload_n 2, 1) := dk_28 (dk_at dksX6_mixed_2 14 rfl rfl)
theorem dX6_mixed_62 : decode cX6_mixed 62 = .ok (.iconst 1, 1) := dk_4 (dk_at dksX6_mixed_2 15 rfl rfl)
theorem dX6_mixed_63 : decode cX6_mixed 63 = .ok (.aload_n 0, 1) := dk_42 (dk_at dksX6_mixed_2 16 rfl rfl)
theorem dX6_mixed_64 : decode cX6_mixed 64 = .ok (.aload_n 0, 1) := dk_42 (dk_at dksX6_mixed_2 17 rfl rfl)
theorem dX6_mixed_65 : decode cX6_mixed 65 = .ok (.aload_n 0, 1) := dk_42 (dk_at dksX6_mixed_2 18 rfl rfl)
theorem dX6_mixed_66 : decode cX6_mixed 66 = .ok (.aload_n 0, 1) := dk_42 (dk_at dksX6_mixed_2 19 rfl rfl)
theorem dX6_mixed_67 : decode cX6_mixed 67 = .ok (.getfield 35, 3) := dk_180 0 35 (dk_at dksX6_mixed_2 20 rfl rfl)
theorem dX6_mixed_70 : decode cX6_mixed 70 = .ok (.iload_n 3, 1) := dk_29 (dk_at dksX6_mixed_2 23 rfl rfl)
theorem dX6_mixed_71 : decode cX6_mixed 71 = .ok (.iaload, 1) := dk_46 (dk_at dksX6_mixed_3 0 rfl rfl)
theorem dX6_mixed_72 : decode cX6_mixed 72 = .ok (.aload_n 0, 1) := dk_42 (dk_at dksX6_mixed_3 1 rfl rfl)
theorem dX6_mixed_73 : decode cX6_mixed 73 = .ok (.getfield 35, 3) := dk_180 0 35 (dk_at dksX6_mixed_3 2 rfl rfl)
theorem dX6_mixed_76 : decode cX6_mixed 76 = .ok (.iload 4, 2) := dk_21 4 (dk_at dksX6_mixed_3 5 rfl rfl)
theorem dX6_mixed_78 : decode cX6_mixed 78 = .ok (.iaload, 1) := dk_46 (dk_at dksX6_mixed_3 7 rfl rfl)
theorem dX6_mixed_79 : decode cX6_mixed 79 = .ok (.invokevirtual 216, 3) := dk_182 0 216 (dk_at dksX6_mixed_3 8 rfl rfl)
theorem dX6_mixed_82 : decode cX6_mixed 82 = .ok (.iload_n 3, 1) := dk_29 (dk_at dksX6_mixed_3 11 rfl rfl)
theorem dX6_mixed_83 : decode cX6_mixed 83 = .ok (.invokevirtual 216, 3) := dk_182 0 216 (dk_at dksX6_mixed_3 12 rfl rfl)
theorem dX6_mixed_86 : decode cX6_mixed 86 = .ok (.iload 4, 2) := dk_21 4 (dk_at dksX6_mixed_3 15 rfl rfl)
theorem dX6_mixed_88 : decode cX6_mixed 88 = .ok (.invokevirtual 216, 3) := dk_182 0 216 (dk_at dksX6_mixed_3 17 rfl rfl)
theorem dX6_mixed_91 : decode cX6_mixed 91 = .ok (.ishl, 1) := dk_120 (dk_at dksX6_mixed_3 20 rfl rfl)
theorem dX6_mixed_92 : decode cX6_mixed 92 = .ok (.ior, 1) := dk_128 (dk_at dksX6_mixed_3 21 rfl rfl)
theorem dX6_mixed_93 : decode cX6_mixed 93 = .ok (.istore_n 2, 1) := dk_61 (dk_at dksX6_mixed_3 22 rfl rfl)
theorem dX6_mixed_94 : decode cX6_mixed 94 = .ok (.iinc 4 1, 3) := dk_132 4 1 (dk_at dksX6_mixed_4 0 rfl rfl)
theorem dX6_mixed_97 : decode cX6_mixed 97 = .ok (.goto (-72), 3) := dk_167 255 184 (dk_at dksX6_mixed_4 3 rfl rfl)
theorem dX6_mixed_100 : decode cX6_mixed 100 = .ok (.iinc 3 1, 3) := dk_132 3 1 (dk_at dksX6_mixed_4 6 rfl rfl)
theorem dX6_mixed_103 : decode cX6_mixed 103 = .ok (.goto (-89), 3) := dk_167 255 167 (dk_at dksX6_mixed_4 9 rfl rfl)
theorem dX6_mixed_106 : decode cX6_mixed 106 = .ok (.aload_n 0, 1) := dk_42 (dk_at dksX6_mixed_4 12 rfl rfl)
theorem dX6_mixed_107 : decode cX6_mixed 107 = .ok (.aload_n 0, 1) := dk_42 (dk_at dksX6_mixed_4 13 rfl rfl)
theorem dX6_mixed_108 : decode cX6_mixed 108 = .ok (.iload_n 2, 1) := dk_28 (dk_at dksX6_mixed_4 14 rfl rfl)
theorem dX6_mixed_109 : decode cX6_mixed 109 = .ok (.invokevirtual 229, 3) := dk_182 0 229 (dk_at dksX6_mixed_4 15 rfl rfl)
theorem dX6_mixed_112 : decode cX6_mixed 112 = .ok (.invokevirtual 411, 3) := dk_182 1 155 (dk_at dksX6_mixed_4 18 rfl rfl)
theorem dX6_mixed_115 : decode cX6_mixed 115 = .ok (.ireturn, 1) := dk_172 (dk_at dksX6_mixed_4 21 rfl rfl)
abbrev cX6_centre : ByteArray := prog_16_method_100_code
def yX6_centre : MethodName := ⟨RX6, "centre", "(I)I"⟩
def dkwX6_centre_4 : List UInt8 := [167, 255, 201, 28, 21, 4, 184, 1, 0, 29, 120, 128, 61, 132, 3, 1, 167, 255, 162, 28, 172]
abbrev dktX6_centre_4 : List UInt8 := dkwX6_centre_4 ++ []
def dkwX6_centre_3 : List UInt8 := [182, 0, 216, 42, 21, 5, 29, 182, 0, 216, 160, 0, 7, 4, 167, 0, 4, 3, 54, 4, 132, 5, 1]
abbrev dktX6_centre_3 : List UInt8 := dkwX6_centre_3 ++ dktX6_centre_4
def dkwX6_centre_2 : List UInt8 := [21, 4, 153, 0, 47, 42, 180, 0, 44, 27, 46, 21, 5, 184, 0, 213, 153, 0, 20, 42, 29, 21, 5]
abbrev dktX6_centre_2 : List UInt8 := dkwX6_centre_2 ++ dktX6_centre_3
def dkwX6_centre_1 : List UInt8 := [180, 0, 44, 27, 46, 29, 184, 0, 213, 54, 4, 3, 54, 5, 21, 5, 42, 180, 0, 196, 162, 0, 52]
abbrev dktX6_centre_1 : List UInt8 := dkwX6_centre_1 ++ dktX6_centre_2
def dkwX6_centre_0 : List UInt8 := [42, 27, 182, 1, 158, 154, 0, 5, 2, 172, 3, 61, 3, 62, 29, 42, 180, 0, 196, 162, 0, 92, 42]
abbrev dktX6_centre_0 : List UInt8 := dkwX6_centre_0 ++ dktX6_centre_1
theorem dksX6_centre_0 : cX6_centre.data.toList.drop 0 = dktX6_centre_0 := by decide +kernel
theorem dksX6_centre_1 : cX6_centre.data.toList.drop 23 = dktX6_centre_1 := dk_seg dksX6_centre_0 23 rfl rfl
theorem dksX6_centre_2 : cX6_centre.data.toList.drop 46 = dktX6_centre_2 := dk_seg dksX6_centre_1 23 rfl rfl
theorem dksX6_centre_3 : cX6_centre.data.toList.drop 69 = dktX6_centre_3 := dk_seg dksX6_centre_2 23 rfl rfl
theorem dksX6_centre_4 : cX6_centre.data.toList.drop 92 = dktX6_centre_4 := dk_seg dksX6_centre_3 23 rfl rfl
theorem dX6_centre_0 : decode cX6_centre 0 = .ok (.aload_n 0, 1) := dk_42 (dk_at dksX6_centre_0 0 rfl rfl)
theorem dX6_centre_1 : decode cX6_centre 1 = .ok (.iload_n 1, 1) := dk_27 (dk_at dksX6_centre_0 1 rfl rfl)
theorem dX6_centre_2 : decode cX6_centre 2 = .ok (.invokevirtual 414, 3) := dk_182 1 158 (dk_at dksX6_centre_0 2 rfl rfl)
theorem dX6_centre_5 : decode cX6_centre 5 = .ok (.ifCond .ne 5, 3) := dk_154 0 5 (dk_at dksX6_centre_0 5 rfl rfl)
theorem dX6_centre_8 : decode cX6_centre 8 = .ok (.iconst (-1), 1) := dk_2 (dk_at dksX6_centre_0 8 rfl rfl)
theorem dX6_centre_9 : decode cX6_centre 9 = .ok (.ireturn, 1) := dk_172 (dk_at dksX6_centre_0 9 rfl rfl)
theorem dX6_centre_10 : decode cX6_centre 10 = .ok (.iconst 0, 1) := dk_3 (dk_at dksX6_centre_0 10 rfl rfl)
theorem dX6_centre_11 : decode cX6_centre 11 = .ok (.istore_n 2, 1) := dk_61 (dk_at dksX6_centre_0 11 rfl rfl)
theorem dX6_centre_12 : decode cX6_centre 12 = .ok (.iconst 0, 1) := dk_3 (dk_at dksX6_centre_0 12 rfl rfl)
theorem dX6_centre_13 : decode cX6_centre 13 = .ok (.istore_n 3, 1) := dk_62 (dk_at dksX6_centre_0 13 rfl rfl)
theorem dX6_centre_14 : decode cX6_centre 14 = .ok (.iload_n 3, 1) := dk_29 (dk_at dksX6_centre_0 14 rfl rfl)
theorem dX6_centre_15 : decode cX6_centre 15 = .ok (.aload_n 0, 1) := dk_42 (dk_at dksX6_centre_0 15 rfl rfl)
theorem dX6_centre_16 : decode cX6_centre 16 = .ok (.getfield 196, 3) := dk_180 0 196 (dk_at dksX6_centre_0 16 rfl rfl)
theorem dX6_centre_19 : decode cX6_centre 19 = .ok (.if_icmp .ge 92, 3) := dk_162 0 92 (dk_at dksX6_centre_0 19 rfl rfl)
theorem dX6_centre_22 : decode cX6_centre 22 = .ok (.aload_n 0, 1) := dk_42 (dk_at dksX6_centre_0 22 rfl rfl)
theorem dX6_centre_23 : decode cX6_centre 23 = .ok (.getfield 44, 3) := dk_180 0 44 (dk_at dksX6_centre_1 0 rfl rfl)
theorem dX6_centre_26 : decode cX6_centre 26 = .ok (.iload_n 1, 1) := dk_27 (dk_at dksX6_centre_1 3 rfl rfl)
theorem dX6_centre_27 : decode cX6_centre 27 = .ok (.iaload, 1) := dk_46 (dk_at dksX6_centre_1 4 rfl rfl)
theorem dX6_centre_28 : decode cX6_centre 28 = .ok (.iload_n 3, 1) := dk_29 (dk_at dksX6_centre_1 5 rfl rfl)
theorem dX6_centre_29 : decode cX6_centre 29 = .ok (.invokestatic 213, 3) := dk_184 0 213 (dk_at dksX6_centre_1 6 rfl rfl)
theorem dX6_centre_32 : decode cX6_centre 32 = .ok (.istore 4, 2) := dk_54 4 (dk_at dksX6_centre_1 9 rfl rfl)
theorem dX6_centre_34 : decode cX6_centre 34 = .ok (.iconst 0, 1) := dk_3 (dk_at dksX6_centre_1 11 rfl rfl)
theorem dX6_centre_35 : decode cX6_centre 35 = .ok (.istore 5, 2) := dk_54 5 (dk_at dksX6_centre_1 12 rfl rfl)
theorem dX6_centre_37 : decode cX6_centre 37 = .ok (.iload 5, 2) := dk_21 5 (dk_at dksX6_centre_1 14 rfl rfl)
theorem dX6_centre_39 : decode cX6_centre 39 = .ok (.aload_n 0, 1) := dk_42 (dk_at dksX6_centre_1 16 rfl rfl)
theorem dX6_centre_40 : decode cX6_centre 40 = .ok (.getfield 196, 3) := dk_180 0 196 (dk_at dksX6_centre_1 17 rfl rfl)
theorem dX6_centre_43 : decode cX6_centre 43 = .ok (.if_icmp .ge 52, 3) := dk_162 0 52 (dk_at dksX6_centre_1 20 rfl rfl)
theorem dX6_centre_46 : decode cX6_centre 46 = .ok (.iload 4, 2) := dk_21 4 (dk_at dksX6_centre_2 0 rfl rfl)
theorem dX6_centre_48 : decode cX6_centre 48 = .ok (.ifCond .eq 47, 3) := dk_153 0 47 (dk_at dksX6_centre_2 2 rfl rfl)
theorem dX6_centre_51 : decode cX6_centre 51 = .ok (.aload_n 0, 1) := dk_42 (dk_at dksX6_centre_2 5 rfl rfl)
theorem dX6_centre_52 : decode cX6_centre 52 = .ok (.getfield 44, 3) := dk_180 0 44 (dk_at dksX6_centre_2 6 rfl rfl)
theorem dX6_centre_55 : decode cX6_centre 55 = .ok (.iload_n 1, 1) := dk_27 (dk_at dksX6_centre_2 9 rfl rfl)
theorem dX6_centre_56 : decode cX6_centre 56 = .ok (.iaload, 1) := dk_46 (dk_at dksX6_centre_2 10 rfl rfl)
theorem dX6_centre_57 : decode cX6_centre 57 = .ok (.iload 5, 2) := dk_21 5 (dk_at dksX6_centre_2 11 rfl rfl)
theorem dX6_centre_59 : decode cX6_centre 59 = .ok (.invokestatic 213, 3) := dk_184 0 213 (dk_at dksX6_centre_2 13 rfl rfl)
theorem dX6_centre_62 : decode cX6_centre 62 = .ok (.ifCond .eq 20, 3) := dk_153 0 20 (dk_at dksX6_centre_2 16 rfl rfl)
theorem dX6_centre_65 : decode cX6_centre 65 = .ok (.aload_n 0, 1) := dk_42 (dk_at dksX6_centre_2 19 rfl rfl)
theorem dX6_centre_66 : decode cX6_centre 66 = .ok (.iload_n 3, 1) := dk_29 (dk_at dksX6_centre_2 20 rfl rfl)
theorem dX6_centre_67 : decode cX6_centre 67 = .ok (.iload 5, 2) := dk_21 5 (dk_at dksX6_centre_2 21 rfl rfl)
theorem dX6_centre_69 : decode cX6_centre 69 = .ok (.invokevirtual 216, 3) := dk_182 0 216 (dk_at dksX6_centre_3 0 rfl rfl)
theorem dX6_centre_72 : decode cX6_centre 72 = .ok (.aload_n 0, 1) := dk_42 (dk_at dksX6_centre_3 3 rfl rfl)
theorem dX6_centre_73 : decode cX6_centre 73 = .ok (.iload 5, 2) := dk_21 5 (dk_at dksX6_centre_3 4 rfl rfl)
theorem dX6_centre_75 : decode cX6_centre 75 = .ok (.iload_n 3, 1) := dk_29 (dk_at dksX6_centre_3 6 rfl rfl)
theorem dX6_centre_76 : decode cX6_centre 76 = .ok (.invokevirtual 216, 3) := dk_182 0 216 (dk_at dksX6_centre_3 7 rfl rfl)
theorem dX6_centre_79 : decode cX6_centre 79 = .ok (.if_icmp .ne 7, 3) := dk_160 0 7 (dk_at dksX6_centre_3 10 rfl rfl)
theorem dX6_centre_82 : decode cX6_centre 82 = .ok (.iconst 1, 1) := dk_4 (dk_at dksX6_centre_3 13 rfl rfl)
theorem dX6_centre_83 : decode cX6_centre 83 = .ok (.goto 4, 3) := dk_167 0 4 (dk_at dksX6_centre_3 14 rfl rfl)
theorem dX6_centre_86 : decode cX6_centre 86 = .ok (.iconst 0, 1) := dk_3 (dk_at dksX6_centre_3 17 rfl rfl)
theorem dX6_centre_87 : decode cX6_centre 87 = .ok (.istore 4, 2) := dk_54 4 (dk_at dksX6_centre_3 18 rfl rfl)
theorem dX6_centre_89 : decode cX6_centre 89 = .ok (.iinc 5 1, 3) := dk_132 5 1 (dk_at dksX6_centre_3 20 rfl rfl)
theorem dX6_centre_92 : decode cX6_centre 92 = .ok (.goto (-55), 3) := dk_167 255 201 (dk_at dksX6_centre_4 0 rfl rfl)
theorem dX6_centre_95 : decode cX6_centre 95 = .ok (.iload_n 2, 1) := dk_28 (dk_at dksX6_centre_4 3 rfl rfl)
theorem dX6_centre_96 : decode cX6_centre 96 = .ok (.iload 4, 2) := dk_21 4 (dk_at dksX6_centre_4 4 rfl rfl)
theorem dX6_centre_98 : decode cX6_centre 98 = .ok (.invokestatic 256, 3) := dk_184 1 0 (dk_at dksX6_centre_4 6 rfl rfl)
theorem dX6_centre_101 : decode cX6_centre 101 = .ok (.iload_n 3, 1) := dk_29 (dk_at dksX6_centre_4 9 rfl rfl)
theorem dX6_centre_102 : decode cX6_centre 102 = .ok (.ishl, 1) := dk_120 (dk_at dksX6_centre_4 10 rfl rfl)
theorem dX6_centre_103 : decode cX6_centre 103 = .ok (.ior, 1) := dk_128 (dk_at dksX6_centre_4 11 rfl rfl)
theorem dX6_centre_104 : decode cX6_centre 104 = .ok (.istore_n 2, 1) := dk_61 (dk_at dksX6_centre_4 12 rfl rfl)
theorem dX6_centre_105 : decode cX6_centre 105 = .ok (.iinc 3 1, 3) := dk_132 3 1 (dk_at dksX6_centre_4 13 rfl rfl)
theorem dX6_centre_108 : decode cX6_centre 108 = .ok (.goto (-94), 3) := dk_167 255 162 (dk_at dksX6_centre_4 16 rfl rfl)
theorem dX6_centre_111 : decode cX6_centre 111 = .ok (.iload_n 2, 1) := dk_28 (dk_at dksX6_centre_4 19 rfl rfl)
theorem dX6_centre_112 : decode cX6_centre 112 = .ok (.ireturn, 1) := dk_172 (dk_at dksX6_centre_4 20 rfl rfl)
abbrev cX6_likes : ByteArray := prog_16_method_101_code
def yX6_likes : MethodName := ⟨RX6, "likes", "(I)I"⟩
def dkwX6_likes_2 : List UInt8 := [167, 255, 224, 28, 184, 0, 253, 172]
abbrev dktX6_likes_2 : List UInt8 := dkwX6_likes_2 ++ []
def dkwX6_likes_1 : List UInt8 := [42, 42, 42, 180, 0, 35, 29, 46, 27, 182, 0, 216, 29, 182, 0, 216, 120, 128, 61, 132, 3, 1]
abbrev dktX6_likes_1 : List UInt8 := dkwX6_likes_1 ++ dktX6_likes_2
def dkwX6_likes_0 : List UInt8 := [42, 27, 182, 1, 144, 154, 0, 5, 2, 172, 3, 61, 3, 62, 29, 42, 180, 0, 196, 162, 0, 30, 28, 4]
abbrev dktX6_likes_0 : List UInt8 := dkwX6_likes_0 ++ dktX6_likes_1
theorem dksX6_likes_0 : cX6_likes.data.toList.drop 0 = dktX6_likes_0 := by decide +kernel
theorem dksX6_likes_1 : cX6_likes.data.toList.drop 24 = dktX6_likes_1 := dk_seg dksX6_likes_0 24 rfl rfl
theorem dksX6_likes_2 : cX6_likes.data.toList.drop 46 = dktX6_likes_2 := dk_seg dksX6_likes_1 22 rfl rfl
theorem dX6_likes_0 : decode cX6_likes 0 = .ok (.aload_n 0, 1) := dk_42 (dk_at dksX6_likes_0 0 rfl rfl)
theorem dX6_likes_1 : decode cX6_likes 1 = .ok (.iload_n 1, 1) := dk_27 (dk_at dksX6_likes_0 1 rfl rfl)
theorem dX6_likes_2 : decode cX6_likes 2 = .ok (.invokevirtual 400, 3) := dk_182 1 144 (dk_at dksX6_likes_0 2 rfl rfl)
theorem dX6_likes_5 : decode cX6_likes 5 = .ok (.ifCond .ne 5, 3) := dk_154 0 5 (dk_at dksX6_likes_0 5 rfl rfl)
theorem dX6_likes_8 : decode cX6_likes 8 = .ok (.iconst (-1), 1) := dk_2 (dk_at dksX6_likes_0 8 rfl rfl)
theorem dX6_likes_9 : decode cX6_likes 9 = .ok (.ireturn, 1) := dk_172 (dk_at dksX6_likes_0 9 rfl rfl)
theorem dX6_likes_10 : decode cX6_likes 10 = .ok (.iconst 0, 1) := dk_3 (dk_at dksX6_likes_0 10 rfl rfl)
theorem dX6_likes_11 : decode cX6_likes 11 = .ok (.istore_n 2, 1) := dk_61 (dk_at dksX6_likes_0 11 rfl rfl)
theorem dX6_likes_12 : decode cX6_likes 12 = .ok (.iconst 0, 1) := dk_3 (dk_at dksX6_likes_0 12 rfl rfl)
theorem dX6_likes_13 : decode cX6_likes 13 = .ok (.istore_n 3, 1) := dk_62 (dk_at dksX6_likes_0 13 rfl rfl)
theorem dX6_likes_14 : decode cX6_likes 14 = .ok (.iload_n 3, 1) := dk_29 (dk_at dksX6_likes_0 14 rfl rfl)
theorem dX6_likes_15 : decode cX6_likes 15 = .ok (.aload_n 0, 1) := dk_42 (dk_at dksX6_likes_0 15 rfl rfl)
theorem dX6_likes_16 : decode cX6_likes 16 = .ok (.getfield 196, 3) := dk_180 0 196 (dk_at dksX6_likes_0 16 rfl rfl)
theorem dX6_likes_19 : decode cX6_likes 19 = .ok (.if_icmp .ge 30, 3) := dk_162 0 30 (dk_at dksX6_likes_0 19 rfl rfl)
theorem dX6_likes_22 : decode cX6_likes 22 = .ok (.iload_n 2, 1) := dk_28 (dk_at dksX6_likes_0 22 rfl rfl)
theorem dX6_likes_23 : decode cX6_likes 23 = .ok (.iconst 1, 1) := dk_4 (dk_at dksX6_likes_0 23 rfl rfl)
theorem dX6_likes_24 : decode cX6_likes 24 = .ok (.aload_n 0, 1) := dk_42 (dk_at dksX6_likes_1 0 rfl rfl)
theorem dX6_likes_25 : decode cX6_likes 25 = .ok (.aload_n 0, 1) := dk_42 (dk_at dksX6_likes_1 1 rfl rfl)
theorem dX6_likes_26 : decode cX6_likes 26 = .ok (.aload_n 0, 1) := dk_42 (dk_at dksX6_likes_1 2 rfl rfl)
theorem dX6_likes_27 : decode cX6_likes 27 = .ok (.getfield 35, 3) := dk_180 0 35 (dk_at dksX6_likes_1 3 rfl rfl)
theorem dX6_likes_30 : decode cX6_likes 30 = .ok (.iload_n 3, 1) := dk_29 (dk_at dksX6_likes_1 6 rfl rfl)
theorem dX6_likes_31 : decode cX6_likes 31 = .ok (.iaload, 1) := dk_46 (dk_at dksX6_likes_1 7 rfl rfl)
theorem dX6_likes_32 : decode cX6_likes 32 = .ok (.iload_n 1, 1) := dk_27 (dk_at dksX6_likes_1 8 rfl rfl)
theorem dX6_likes_33 : decode cX6_likes 33 = .ok (.invokevirtual 216, 3) := dk_182 0 216 (dk_at dksX6_likes_1 9 rfl rfl)
theorem dX6_likes_36 : decode cX6_likes 36 = .ok (.iload_n 3, 1) := dk_29 (dk_at dksX6_likes_1 12 rfl rfl)
theorem dX6_likes_37 : decode cX6_likes 37 = .ok (.invokevirtual 216, 3) := dk_182 0 216 (dk_at dksX6_likes_1 13 rfl rfl)
theorem dX6_likes_40 : decode cX6_likes 40 = .ok (.ishl, 1) := dk_120 (dk_at dksX6_likes_1 16 rfl rfl)
theorem dX6_likes_41 : decode cX6_likes 41 = .ok (.ior, 1) := dk_128 (dk_at dksX6_likes_1 17 rfl rfl)
theorem dX6_likes_42 : decode cX6_likes 42 = .ok (.istore_n 2, 1) := dk_61 (dk_at dksX6_likes_1 18 rfl rfl)
theorem dX6_likes_43 : decode cX6_likes 43 = .ok (.iinc 3 1, 3) := dk_132 3 1 (dk_at dksX6_likes_1 19 rfl rfl)
theorem dX6_likes_46 : decode cX6_likes 46 = .ok (.goto (-32), 3) := dk_167 255 224 (dk_at dksX6_likes_2 0 rfl rfl)
theorem dX6_likes_49 : decode cX6_likes 49 = .ok (.iload_n 2, 1) := dk_28 (dk_at dksX6_likes_2 3 rfl rfl)
theorem dX6_likes_50 : decode cX6_likes 50 = .ok (.invokestatic 253, 3) := dk_184 0 253 (dk_at dksX6_likes_2 4 rfl rfl)
theorem dX6_likes_53 : decode cX6_likes 53 = .ok (.ireturn, 1) := dk_172 (dk_at dksX6_likes_2 7 rfl rfl)
abbrev cX6_peak : ByteArray := prog_16_method_105_code
def yX6_peak : MethodName := ⟨RX6, "peak", "(III)I"⟩
def dkwX6_peak_2 : List UInt8 := [167, 0, 9, 42, 180, 0, 96, 28, 47, 136, 172]
abbrev dktX6_peak_2 : List UInt8 := dkwX6_peak_2 ++ []
def dkwX6_peak_1 : List UInt8 := [154, 0, 7, 19, 1, 179, 172, 42, 27, 182, 1, 194, 29, 154, 0, 12, 42, 180, 0, 93, 28, 47]
abbrev dktX6_peak_1 : List UInt8 := dkwX6_peak_1 ++ dktX6_peak_2
def dkwX6_peak_0 : List UInt8 := [42, 27, 182, 1, 158, 153, 0, 21, 42, 28, 182, 1, 158, 153, 0, 13, 29, 133, 9, 10, 184, 0, 131]
abbrev dktX6_peak_0 : List UInt8 := dkwX6_peak_0 ++ dktX6_peak_1
theorem dksX6_peak_0 : cX6_peak.data.toList.drop 0 = dktX6_peak_0 := by decide +kernel
theorem dksX6_peak_1 : cX6_peak.data.toList.drop 23 = dktX6_peak_1 := dk_seg dksX6_peak_0 23 rfl rfl
theorem dksX6_peak_2 : cX6_peak.data.toList.drop 45 = dktX6_peak_2 := dk_seg dksX6_peak_1 22 rfl rfl
theorem dX6_peak_0 : decode cX6_peak 0 = .ok (.aload_n 0, 1) := dk_42 (dk_at dksX6_peak_0 0 rfl rfl)
theorem dX6_peak_1 : decode cX6_peak 1 = .ok (.iload_n 1, 1) := dk_27 (dk_at dksX6_peak_0 1 rfl rfl)
theorem dX6_peak_2 : decode cX6_peak 2 = .ok (.invokevirtual 414, 3) := dk_182 1 158 (dk_at dksX6_peak_0 2 rfl rfl)
theorem dX6_peak_5 : decode cX6_peak 5 = .ok (.ifCond .eq 21, 3) := dk_153 0 21 (dk_at dksX6_peak_0 5 rfl rfl)
theorem dX6_peak_8 : decode cX6_peak 8 = .ok (.aload_n 0, 1) := dk_42 (dk_at dksX6_peak_0 8 rfl rfl)
theorem dX6_peak_9 : decode cX6_peak 9 = .ok (.iload_n 2, 1) := dk_28 (dk_at dksX6_peak_0 9 rfl rfl)
theorem dX6_peak_10 : decode cX6_peak 10 = .ok (.invokevirtual 414, 3) := dk_182 1 158 (dk_at dksX6_peak_0 10 rfl rfl)
theorem dX6_peak_13 : decode cX6_peak 13 = .ok (.ifCond .eq 13, 3) := dk_153 0 13 (dk_at dksX6_peak_0 13 rfl rfl)
theorem dX6_peak_16 : decode cX6_peak 16 = .ok (.iload_n 3, 1) := dk_29 (dk_at dksX6_peak_0 16 rfl rfl)
theorem dX6_peak_17 : decode cX6_peak 17 = .ok (.i2l, 1) := dk_133 (dk_at dksX6_peak_0 17 rfl rfl)
theorem dX6_peak_18 : decode cX6_peak 18 = .ok (.lconst 0, 1) := dk_9 (dk_at dksX6_peak_0 18 rfl rfl)
theorem dX6_peak_19 : decode cX6_peak 19 = .ok (.lconst 1, 1) := dk_10 (dk_at dksX6_peak_0 19 rfl rfl)
theorem dX6_peak_20 : decode cX6_peak 20 = .ok (.invokestatic 131, 3) := dk_184 0 131 (dk_at dksX6_peak_0 20 rfl rfl)
theorem dX6_peak_23 : decode cX6_peak 23 = .ok (.ifCond .ne 7, 3) := dk_154 0 7 (dk_at dksX6_peak_1 0 rfl rfl)
theorem dX6_peak_26 : decode cX6_peak 26 = .ok (.ldc_w 435, 3) := dk_19 1 179 (dk_at dksX6_peak_1 3 rfl rfl)
theorem dX6_peak_29 : decode cX6_peak 29 = .ok (.ireturn, 1) := dk_172 (dk_at dksX6_peak_1 6 rfl rfl)
theorem dX6_peak_30 : decode cX6_peak 30 = .ok (.aload_n 0, 1) := dk_42 (dk_at dksX6_peak_1 7 rfl rfl)
theorem dX6_peak_31 : decode cX6_peak 31 = .ok (.iload_n 1, 1) := dk_27 (dk_at dksX6_peak_1 8 rfl rfl)
theorem dX6_peak_32 : decode cX6_peak 32 = .ok (.invokevirtual 450, 3) := dk_182 1 194 (dk_at dksX6_peak_1 9 rfl rfl)
theorem dX6_peak_35 : decode cX6_peak 35 = .ok (.iload_n 3, 1) := dk_29 (dk_at dksX6_peak_1 12 rfl rfl)
theorem dX6_peak_36 : decode cX6_peak 36 = .ok (.ifCond .ne 12, 3) := dk_154 0 12 (dk_at dksX6_peak_1 13 rfl rfl)
theorem dX6_peak_39 : decode cX6_peak 39 = .ok (.aload_n 0, 1) := dk_42 (dk_at dksX6_peak_1 16 rfl rfl)
theorem dX6_peak_40 : decode cX6_peak 40 = .ok (.getfield 93, 3) := dk_180 0 93 (dk_at dksX6_peak_1 17 rfl rfl)
theorem dX6_peak_43 : decode cX6_peak 43 = .ok (.iload_n 2, 1) := dk_28 (dk_at dksX6_peak_1 20 rfl rfl)
theorem dX6_peak_44 : decode cX6_peak 44 = .ok (.laload, 1) := dk_47 (dk_at dksX6_peak_1 21 rfl rfl)
theorem dX6_peak_45 : decode cX6_peak 45 = .ok (.goto 9, 3) := dk_167 0 9 (dk_at dksX6_peak_2 0 rfl rfl)
theorem dX6_peak_48 : decode cX6_peak 48 = .ok (.aload_n 0, 1) := dk_42 (dk_at dksX6_peak_2 3 rfl rfl)
theorem dX6_peak_49 : decode cX6_peak 49 = .ok (.getfield 96, 3) := dk_180 0 96 (dk_at dksX6_peak_2 4 rfl rfl)
theorem dX6_peak_52 : decode cX6_peak 52 = .ok (.iload_n 2, 1) := dk_28 (dk_at dksX6_peak_2 7 rfl rfl)
theorem dX6_peak_53 : decode cX6_peak 53 = .ok (.laload, 1) := dk_47 (dk_at dksX6_peak_2 8 rfl rfl)
theorem dX6_peak_54 : decode cX6_peak 54 = .ok (.l2i, 1) := dk_136 (dk_at dksX6_peak_2 9 rfl rfl)
theorem dX6_peak_55 : decode cX6_peak 55 = .ok (.ireturn, 1) := dk_172 (dk_at dksX6_peak_2 10 rfl rfl)
abbrev cX6_peaks : ByteArray := prog_16_method_104_code
def yX6_peaks : MethodName := ⟨RX6, "peaks", "(I)V"⟩
def dkwX6_peaks_7 : List UInt8 := [167, 255, 100, 177]
abbrev dktX6_peaks_7 : List UInt8 := dkwX6_peaks_7 ++ []
def dkwX6_peaks_6 : List UInt8 := [180, 0, 93, 28, 33, 22, 7, 109, 80, 42, 180, 0, 96, 28, 22, 5, 22, 7, 109, 80, 132, 2, 255]
abbrev dktX6_peaks_6 : List UInt8 := dkwX6_peaks_6 ++ dktX6_peaks_7
def dkwX6_peaks_5 : List UInt8 := [42, 180, 0, 50, 16, 64, 28, 104, 28, 96, 46, 133, 105, 55, 5, 33, 22, 5, 184, 1, 186, 55, 7, 42]
abbrev dktX6_peaks_5 : List UInt8 := dkwX6_peaks_5 ++ dktX6_peaks_6
def dkwX6_peaks_4 : List UInt8 := [42, 180, 0, 96, 29, 47, 182, 1, 190, 132, 3, 1, 167, 255, 190, 42, 180, 1, 180, 66, 42, 180, 1, 183]
abbrev dktX6_peaks_4 : List UInt8 := dkwX6_peaks_4 ++ dktX6_peaks_5
def dkwX6_peaks_3 : List UInt8 := [153, 0, 33, 42, 42, 180, 0, 93, 29, 47, 117, 42, 180, 0, 50, 16, 64, 29, 104, 28, 96, 46, 133, 105]
abbrev dktX6_peaks_3 : List UInt8 := dkwX6_peaks_3 ++ dktX6_peaks_4
def dkwX6_peaks_2 : List UInt8 := [42, 180, 0, 93, 29, 47, 9, 148, 153, 0, 47, 42, 180, 0, 50, 16, 64, 29, 104, 28, 96, 46]
abbrev dktX6_peaks_2 : List UInt8 := dkwX6_peaks_2 ++ dktX6_peaks_3
def dkwX6_peaks_1 : List UInt8 := [184, 1, 0, 133, 181, 1, 180, 42, 10, 181, 1, 183, 28, 4, 96, 62, 29, 42, 180, 0, 235, 162, 0, 64]
abbrev dktX6_peaks_1 : List UInt8 := dkwX6_peaks_1 ++ dktX6_peaks_2
def dkwX6_peaks_0 : List UInt8 := [42, 180, 0, 235, 4, 100, 61, 28, 155, 0, 158, 42, 28, 27, 160, 0, 7, 4, 167, 0, 4, 3]
abbrev dktX6_peaks_0 : List UInt8 := dkwX6_peaks_0 ++ dktX6_peaks_1
theorem dksX6_peaks_0 : cX6_peaks.data.toList.drop 0 = dktX6_peaks_0 := by decide +kernel
theorem dksX6_peaks_1 : cX6_peaks.data.toList.drop 22 = dktX6_peaks_1 := dk_seg dksX6_peaks_0 22 rfl rfl
theorem dksX6_peaks_2 : cX6_peaks.data.toList.drop 46 = dktX6_peaks_2 := dk_seg dksX6_peaks_1 24 rfl rfl
theorem dksX6_peaks_3 : cX6_peaks.data.toList.drop 68 = dktX6_peaks_3 := dk_seg dksX6_peaks_2 22 rfl rfl
theorem dksX6_peaks_4 : cX6_peaks.data.toList.drop 92 = dktX6_peaks_4 := dk_seg dksX6_peaks_3 24 rfl rfl
theorem dksX6_peaks_5 : cX6_peaks.data.toList.drop 116 = dktX6_peaks_5 := dk_seg dksX6_peaks_4 24 rfl rfl
theorem dksX6_peaks_6 : cX6_peaks.data.toList.drop 140 = dktX6_peaks_6 := dk_seg dksX6_peaks_5 24 rfl rfl
theorem dksX6_peaks_7 : cX6_peaks.data.toList.drop 163 = dktX6_peaks_7 := dk_seg dksX6_peaks_6 23 rfl rfl
theorem dX6_peaks_0 : decode cX6_peaks 0 = .ok (.aload_n 0, 1) := dk_42 (dk_at dksX6_peaks_0 0 rfl rfl)
theorem dX6_peaks_1 : decode cX6_peaks 1 = .ok (.getfield 235, 3) := dk_180 0 235 (dk_at dksX6_peaks_0 1 rfl rfl)
theorem dX6_peaks_4 : decode cX6_peaks 4 = .ok (.iconst 1, 1) := dk_4 (dk_at dksX6_peaks_0 4 rfl rfl)
theorem dX6_peaks_5 : decode cX6_peaks 5 = .ok (.isub, 1) := dk_100 (dk_at dksX6_peaks_0 5 rfl rfl)
theorem dX6_peaks_6 : decode cX6_peaks 6 = .ok (.istore_n 2, 1) := dk_61 (dk_at dksX6_peaks_0 6 rfl rfl)
theorem dX6_peaks_7 : decode cX6_peaks 7 = .ok (.iload_n 2, 1) := dk_28 (dk_at dksX6_peaks_0 7 rfl rfl)
theorem dX6_peaks_8 : decode cX6_peaks 8 = .ok (.ifCond .lt 158, 3) := dk_155 0 158 (dk_at dksX6_peaks_0 8 rfl rfl)
theorem dX6_peaks_11 : decode cX6_peaks 11 = .ok (.aload_n 0, 1) := dk_42 (dk_at dksX6_peaks_0 11 rfl rfl)
theorem dX6_peaks_12 : decode cX6_peaks 12 = .ok (.iload_n 2, 1) := dk_28 (dk_at dksX6_peaks_0 12 rfl rfl)
theorem dX6_peaks_13 : decode cX6_peaks 13 = .ok (.iload_n 1, 1) := dk_27 (dk_at dksX6_peaks_0 13 rfl rfl)
theorem dX6_peaks_14 : decode cX6_peaks 14 = .ok (.if_icmp .ne 7, 3) := dk_160 0 7 (dk_at dksX6_peaks_0 14 rfl rfl)
theorem dX6_peaks_17 : decode cX6_peaks 17 = .ok (.iconst 1, 1) := dk_4 (dk_at dksX6_peaks_0 17 rfl rfl)
theorem dX6_peaks_18 : decode cX6_peaks 18 = .ok (.goto 4, 3) := dk_167 0 4 (dk_at dksX6_peaks_0 18 rfl rfl)
theorem dX6_peaks_21 : decode cX6_peaks 21 = .ok (.iconst 0, 1) := dk_3 (dk_at dksX6_peaks_0 21 rfl rfl)
theorem dX6_peaks_22 : decode cX6_peaks 22 = .ok (.invokestatic 256, 3) := dk_184 1 0 (dk_at dksX6_peaks_1 0 rfl rfl)
theorem dX6_peaks_25 : decode cX6_peaks 25 = .ok (.i2l, 1) := dk_133 (dk_at dksX6_peaks_1 3 rfl rfl)
theorem dX6_peaks_26 : decode cX6_peaks 26 = .ok (.putfield 436, 3) := dk_181 1 180 (dk_at dksX6_peaks_1 4 rfl rfl)
theorem dX6_peaks_29 : decode cX6_peaks 29 = .ok (.aload_n 0, 1) := dk_42 (dk_at dksX6_peaks_1 7 rfl rfl)
theorem dX6_peaks_30 : decode cX6_peaks 30 = .ok (.lconst 1, 1) := dk_10 (dk_at dksX6_peaks_1 8 rfl rfl)
theorem dX6_peaks_31 : decode cX6_peaks 31 = .ok (.putfield 439, 3) := dk_181 1 183 (dk_at dksX6_peaks_1 9 rfl rfl)
theorem dX6_peaks_34 : decode cX6_peaks 34 = .ok (.iload_n 2, 1) := dk_28 (dk_at dksX6_peaks_1 12 rfl rfl)
theorem dX6_peaks_35 : decode cX6_peaks 35 = .ok (.iconst 1, 1) := dk_4 (dk_at dksX6_peaks_1 13 rfl rfl)
theorem dX6_peaks_36 : decode cX6_peaks 36 = .ok (.iadd, 1) := dk_96 (dk_at dksX6_peaks_1 14 rfl rfl)
theorem dX6_peaks_37 : decode cX6_peaks 37 = .ok (.istore_n 3, 1) := dk_62 (dk_at dksX6_peaks_1 15 rfl rfl)
theorem dX6_peaks_38 : decode cX6_peaks 38 = .ok (.iload_n 3, 1) := dk_29 (dk_at dksX6_peaks_1 16 rfl rfl)
theorem dX6_peaks_39 : decode cX6_peaks 39 = .ok (.aload_n 0, 1) := dk_42 (dk_at dksX6_peaks_1 17 rfl rfl)
theorem dX6_peaks_40 : decode cX6_peaks 40 = .ok (.getfield 235, 3) := dk_180 0 235 (dk_at dksX6_peaks_1 18 rfl rfl)
theorem dX6_peaks_43 : decode cX6_peaks 43 = .ok (.if_icmp .ge 64, 3) := dk_162 0 64 (dk_at dksX6_peaks_1 21 rfl rfl)
theorem dX6_peaks_46 : decode cX6_peaks 46 = .ok (.aload_n 0, 1) := dk_42 (dk_at dksX6_peaks_2 0 rfl rfl)
theorem dX6_peaks_47 : decode cX6_peaks 47 = .ok (.getfield 93, 3) := dk_180 0 93 (dk_at dksX6_peaks_2 1 rfl rfl)
theorem dX6_peaks_50 : decode cX6_peaks 50 = .ok (.iload_n 3, 1) := dk_29 (dk_at dksX6_peaks_2 4 rfl rfl)
theorem dX6_peaks_51 : decode cX6_peaks 51 = .ok (.laload, 1) := dk_47 (dk_at dksX6_peaks_2 5 rfl rfl)
theorem dX6_peaks_52 : decode cX6_peaks 52 = .ok (.lconst 0, 1) := dk_9 (dk_at dksX6_peaks_2 6 rfl rfl)
theorem dX6_peaks_53 : decode cX6_peaks 53 = .ok (.lcmp, 1) := dk_148 (dk_at dksX6_peaks_2 7 rfl rfl)
theorem dX6_peaks_54 : decode cX6_peaks 54 = .ok (.ifCond .eq 47, 3) := dk_153 0 47 (dk_at dksX6_peaks_2 8 rfl rfl)
theorem dX6_peaks_57 : decode cX6_peaks 57 = .ok (.aload_n 0, 1) := dk_42 (dk_at dksX6_peaks_2 11 rfl rfl)
theorem dX6_peaks_58 : decode cX6_peaks 58 = .ok (.getfield 50, 3) := dk_180 0 50 (dk_at dksX6_peaks_2 12 rfl rfl)
theorem dX6_peaks_61 : decode cX6_peaks 61 = .ok (.bipush 64, 2) := dk_16 64 (dk_at dksX6_peaks_2 15 rfl rfl)
theorem dX6_peaks_63 : decode cX6_peaks 63 = .ok (.iload_n 3, 1) := dk_29 (dk_at dksX6_peaks_2 17 rfl rfl)
theorem dX6_peaks_64 : decode cX6_peaks 64 = .ok (.imul, 1) := dk_104 (dk_at dksX6_peaks_2 18 rfl rfl)
theorem dX6_peaks_65 : decode cX6_peaks 65 = .ok (.iload_n 2, 1) := dk_28 (dk_at dksX6_peaks_2 19 rfl rfl)
theorem dX6_peaks_66 : decode cX6_peaks 66 = .ok (.iadd, 1) := dk_96 (dk_at dksX6_peaks_2 20 rfl rfl)
theorem dX6_peaks_67 : decode cX6_peaks 67 = .ok (.iaload, 1) := dk_46 (dk_at dksX6_peaks_2 21 rfl rfl)
theorem dX6_peaks_68 : decode cX6_peaks 68 = .ok (.ifCond .eq 33, 3) := dk_153 0 33 (dk_at dksX6_peaks_3 0 rfl rfl)
theorem dX6_peaks_71 : decode cX6_peaks 71 = .ok (.aload_n 0, 1) := dk_42 (dk_at dksX6_peaks_3 3 rfl rfl)
theorem dX6_peaks_72 : decode cX6_peaks 72 = .ok (.aload_n 0, 1) := dk_42 (dk_at dksX6_peaks_3 4 rfl rfl)
theorem dX6_peaks_73 : decode cX6_peaks 73 = .ok (.getfield 93, 3) := dk_180 0 93 (dk_at dksX6_peaks_3 5 rfl rfl)
theorem dX6_peaks_76 : decode cX6_peaks 76 = .ok (.iload_n 3, 1) := dk_29 (dk_at dksX6_peaks_3 8 rfl rfl)
theorem dX6_peaks_77 : decode cX6_peaks 77 = .ok (.laload, 1) := dk_47 (dk_at dksX6_peaks_3 9 rfl rfl)
theorem dX6_peaks_78 : decode cX6_peaks 78 = .ok (.lneg, 1) := dk_117 (dk_at dksX6_peaks_3 10 rfl rfl)
theorem dX6_peaks_79 : decode cX6_peaks 79 = .ok (.aload_n 0, 1) := dk_42 (dk_at dksX6_peaks_3 11 rfl rfl)
theorem dX6_peaks_80 : decode cX6_peaks 80 = .ok (.getfield 50, 3) := dk_180 0 50 (dk_at dksX6_peaks_3 12 rfl rfl)
theorem dX6_peaks_83 : decode cX6_peaks 83 = .ok (.bipush 64, 2) := dk_16 64 (dk_at dksX6_peaks_3 15 rfl rfl)
theorem dX6_peaks_85 : decode cX6_peaks 85 = .ok (.iload_n 3, 1) := dk_29 (dk_at dksX6_peaks_3 17 rfl rfl)
theorem dX6_peaks_86 : decode cX6_peaks 86 = .ok (.imul, 1) := dk_104 (dk_at dksX6_peaks_3 18 rfl rfl)
theorem dX6_peaks_87 : decode cX6_peaks 87 = .ok (.iload_n 2, 1) := dk_28 (dk_at dksX6_peaks_3 19 rfl rfl)
theorem dX6_peaks_88 : decode cX6_peaks 88 = .ok (.iadd, 1) := dk_96 (dk_at dksX6_peaks_3 20 rfl rfl)
theorem dX6_peaks_89 : decode cX6_peaks 89 = .ok (.iaload, 1) := dk_46 (dk_at dksX6_peaks_3 21 rfl rfl)
theorem dX6_peaks_90 : decode cX6_peaks 90 = .ok (.i2l, 1) := dk_133 (dk_at dksX6_peaks_3 22 rfl rfl)
theorem dX6_peaks_91 : decode cX6_peaks 91 = .ok (.lmul, 1) := dk_105 (dk_at dksX6_peaks_3 23 rfl rfl)
theorem dX6_peaks_92 : decode cX6_peaks 92 = .ok (.aload_n 0, 1) := dk_42 (dk_at dksX6_peaks_4 0 rfl rfl)
theorem dX6_peaks_93 : decode cX6_peaks 93 = .ok (.getfield 96, 3) := dk_180 0 96 (dk_at dksX6_peaks_4 1 rfl rfl)
theorem dX6_peaks_96 : decode cX6_peaks 96 = .ok (.iload_n 3, 1) := dk_29 (dk_at dksX6_peaks_4 4 rfl rfl)
theorem dX6_peaks_97 : decode cX6_peaks 97 = .ok (.laload, 1) := dk_47 (dk_at dksX6_peaks_4 5 rfl rfl)
theorem dX6_peaks_98 : decode cX6_peaks 98 = .ok (.invokevirtual 446, 3) := dk_182 1 190 (dk_at dksX6_peaks_4 6 rfl rfl)
theorem dX6_peaks_101 : decode cX6_peaks 101 = .ok (.iinc 3 1, 3) := dk_132 3 1 (dk_at dksX6_peaks_4 9 rfl rfl)
theorem dX6_peaks_104 : decode cX6_peaks 104 = .ok (.goto (-66), 3) := dk_167 255 190 (dk_at dksX6_peaks_4 12 rfl rfl)
theorem dX6_peaks_107 : decode cX6_peaks 107 = .ok (.aload_n 0, 1) := dk_42 (dk_at dksX6_peaks_4 15 rfl rfl)
theorem dX6_peaks_108 : decode cX6_peaks 108 = .ok (.getfield 436, 3) := dk_180 1 180 (dk_at dksX6_peaks_4 16 rfl rfl)
theorem dX6_peaks_111 : decode cX6_peaks 111 = .ok (.lstore_n 3, 1) := dk_66 (dk_at dksX6_peaks_4 19 rfl rfl)
theorem dX6_peaks_112 : decode cX6_peaks 112 = .ok (.aload_n 0, 1) := dk_42 (dk_at dksX6_peaks_4 20 rfl rfl)
theorem dX6_peaks_113 : decode cX6_peaks 113 = .ok (.getfield 439, 3) := dk_180 1 183 (dk_at dksX6_peaks_4 21 rfl rfl)
theorem dX6_peaks_116 : decode cX6_peaks 116 = .ok (.aload_n 0, 1) := dk_42 (dk_at dksX6_peaks_5 0 rfl rfl)
theorem dX6_peaks_117 : decode cX6_peaks 117 = .ok (.getfield 50, 3) := dk_180 0 50 (dk_at dksX6_peaks_5 1 rfl rfl)
theorem dX6_peaks_120 : decode cX6_peaks 120 = .ok (.bipush 64, 2) := dk_16 64 (dk_at dksX6_peaks_5 4 rfl rfl)
theorem dX6_peaks_122 : decode cX6_peaks 122 = .ok (.iload_n 2, 1) := dk_28 (dk_at dksX6_peaks_5 6 rfl rfl)
theorem dX6_peaks_123 : decode cX6_peaks 123 = .ok (.imul, 1) := dk_104 (dk_at dksX6_peaks_5 7 rfl rfl)
theorem dX6_peaks_124 : decode cX6_peaks 124 = .ok (.iload_n 2, 1) := dk_28 (dk_at dksX6_peaks_5 8 rfl rfl)
theorem dX6_peaks_125 : decode cX6_peaks 125 = .ok (.iadd, 1) := dk_96 (dk_at dksX6_peaks_5 9 rfl rfl)
theorem dX6_peaks_126 : decode cX6_peaks 126 = .ok (.iaload, 1) := dk_46 (dk_at dksX6_peaks_5 10 rfl rfl)
theorem dX6_peaks_127 : decode cX6_peaks 127 = .ok (.i2l, 1) := dk_133 (dk_at dksX6_peaks_5 11 rfl rfl)
theorem dX6_peaks_128 : decode cX6_peaks 128 = .ok (.lmul, 1) := dk_105 (dk_at dksX6_peaks_5 12 rfl rfl)
theorem dX6_peaks_129 : decode cX6_peaks 129 = .ok (.lstore 5, 2) := dk_55 5 (dk_at dksX6_peaks_5 13 rfl rfl)
theorem dX6_peaks_131 : decode cX6_peaks 131 = .ok (.lload_n 3, 1) := dk_33 (dk_at dksX6_peaks_5 15 rfl rfl)
theorem dX6_peaks_132 : decode cX6_peaks 132 = .ok (.lload 5, 2) := dk_22 5 (dk_at dksX6_peaks_5 16 rfl rfl)
theorem dX6_peaks_134 : decode cX6_peaks 134 = .ok (.invokestatic 442, 3) := dk_184 1 186 (dk_at dksX6_peaks_5 18 rfl rfl)
theorem dX6_peaks_137 : decode cX6_peaks 137 = .ok (.lstore 7, 2) := dk_55 7 (dk_at dksX6_peaks_5 21 rfl rfl)
theorem dX6_peaks_139 : decode cX6_peaks 139 = .ok (.aload_n 0, 1) := dk_42 (dk_at dksX6_peaks_5 23 rfl rfl)
theorem dX6_peaks_140 : decode cX6_peaks 140 = .ok (.getfield 93, 3) := dk_180 0 93 (dk_at dksX6_peaks_6 0 rfl rfl)
theorem dX6_peaks_143 : decode cX6_peaks 143 = .ok (.iload_n 2, 1) := dk_28 (dk_at dksX6_peaks_6 3 rfl rfl)
theorem dX6_peaks_144 : decode cX6_peaks 144 = .ok (.lload_n 3, 1) := dk_33 (dk_at dksX6_peaks_6 4 rfl rfl)
theorem dX6_peaks_145 : decode cX6_peaks 145 = .ok (.lload 7, 2) := dk_22 7 (dk_at dksX6_peaks_6 5 rfl rfl)
theorem dX6_peaks_147 : decode cX6_peaks 147 = .ok (.ldiv, 1) := dk_109 (dk_at dksX6_peaks_6 7 rfl rfl)
theorem dX6_peaks_148 : decode cX6_peaks 148 = .ok (.lastore, 1) := dk_80 (dk_at dksX6_peaks_6 8 rfl rfl)
theorem dX6_peaks_149 : decode cX6_peaks 149 = .ok (.aload_n 0, 1) := dk_42 (dk_at dksX6_peaks_6 9 rfl rfl)
theorem dX6_peaks_150 : decode cX6_peaks 150 = .ok (.getfield 96, 3) := dk_180 0 96 (dk_at dksX6_peaks_6 10 rfl rfl)
theorem dX6_peaks_153 : decode cX6_peaks 153 = .ok (.iload_n 2, 1) := dk_28 (dk_at dksX6_peaks_6 13 rfl rfl)
theorem dX6_peaks_154 : decode cX6_peaks 154 = .ok (.lload 5, 2) := dk_22 5 (dk_at dksX6_peaks_6 14 rfl rfl)
theorem dX6_peaks_156 : decode cX6_peaks 156 = .ok (.lload 7, 2) := dk_22 7 (dk_at dksX6_peaks_6 16 rfl rfl)
theorem dX6_peaks_158 : decode cX6_peaks 158 = .ok (.ldiv, 1) := dk_109 (dk_at dksX6_peaks_6 18 rfl rfl)
theorem dX6_peaks_159 : decode cX6_peaks 159 = .ok (.lastore, 1) := dk_80 (dk_at dksX6_peaks_6 19 rfl rfl)
theorem dX6_peaks_160 : decode cX6_peaks 160 = .ok (.iinc 2 (-1), 3) := dk_132 2 255 (dk_at dksX6_peaks_6 20 rfl rfl)
theorem dX6_peaks_163 : decode cX6_peaks 163 = .ok (.goto (-156), 3) := dk_167 255 100 (dk_at dksX6_peaks_7 0 rfl rfl)
theorem dX6_peaks_166 : decode cX6_peaks 166 = .ok (.return_, 1) := dk_177 (dk_at dksX6_peaks_7 3 rfl rfl)
abbrev cX6_sumWith : ByteArray := prog_16_method_103_code
def yX6_sumWith : MethodName := ⟨RX6, "sumWith", "(JJ)V"⟩
def dkwX6_sumWith_2 : List UInt8 := [181, 1, 183, 177]
abbrev dktX6_sumWith_2 : List UInt8 := dkwX6_sumWith_2 ++ []
def dkwX6_sumWith_1 : List UInt8 := [22, 5, 22, 7, 184, 1, 186, 55, 9, 42, 22, 5, 22, 9, 109, 181, 1, 180, 42, 22, 7, 22, 9, 109]
abbrev dktX6_sumWith_1 : List UInt8 := dkwX6_sumWith_1 ++ dktX6_sumWith_2
def dkwX6_sumWith_0 : List UInt8 := [42, 180, 1, 180, 33, 105, 31, 42, 180, 1, 183, 105, 97, 55, 5, 42, 180, 1, 183, 33, 105, 55, 7]
abbrev dktX6_sumWith_0 : List UInt8 := dkwX6_sumWith_0 ++ dktX6_sumWith_1
theorem dksX6_sumWith_0 : cX6_sumWith.data.toList.drop 0 = dktX6_sumWith_0 := by decide +kernel
theorem dksX6_sumWith_1 : cX6_sumWith.data.toList.drop 23 = dktX6_sumWith_1 := dk_seg dksX6_sumWith_0 23 rfl rfl
theorem dksX6_sumWith_2 : cX6_sumWith.data.toList.drop 47 = dktX6_sumWith_2 := dk_seg dksX6_sumWith_1 24 rfl rfl
theorem dX6_sumWith_0 : decode cX6_sumWith 0 = .ok (.aload_n 0, 1) := dk_42 (dk_at dksX6_sumWith_0 0 rfl rfl)
theorem dX6_sumWith_1 : decode cX6_sumWith 1 = .ok (.getfield 436, 3) := dk_180 1 180 (dk_at dksX6_sumWith_0 1 rfl rfl)
theorem dX6_sumWith_4 : decode cX6_sumWith 4 = .ok (.lload_n 3, 1) := dk_33 (dk_at dksX6_sumWith_0 4 rfl rfl)
theorem dX6_sumWith_5 : decode cX6_sumWith 5 = .ok (.lmul, 1) := dk_105 (dk_at dksX6_sumWith_0 5 rfl rfl)
theorem dX6_sumWith_6 : decode cX6_sumWith 6 = .ok (.lload_n 1, 1) := dk_31 (dk_at dksX6_sumWith_0 6 rfl rfl)
theorem dX6_sumWith_7 : decode cX6_sumWith 7 = .ok (.aload_n 0, 1) := dk_42 (dk_at dksX6_sumWith_0 7 rfl rfl)
theorem dX6_sumWith_8 : decode cX6_sumWith 8 = .ok (.getfield 439, 3) := dk_180 1 183 (dk_at dksX6_sumWith_0 8 rfl rfl)
theorem dX6_sumWith_11 : decode cX6_sumWith 11 = .ok (.lmul, 1) := dk_105 (dk_at dksX6_sumWith_0 11 rfl rfl)
theorem dX6_sumWith_12 : decode cX6_sumWith 12 = .ok (.ladd, 1) := dk_97 (dk_at dksX6_sumWith_0 12 rfl rfl)
theorem dX6_sumWith_13 : decode cX6_sumWith 13 = .ok (.lstore 5, 2) := dk_55 5 (dk_at dksX6_sumWith_0 13 rfl rfl)
theorem dX6_sumWith_15 : decode cX6_sumWith 15 = .ok (.aload_n 0, 1) := dk_42 (dk_at dksX6_sumWith_0 15 rfl rfl)
theorem dX6_sumWith_16 : decode cX6_sumWith 16 = .ok (.getfield 439, 3) := dk_180 1 183 (dk_at dksX6_sumWith_0 16 rfl rfl)
theorem dX6_sumWith_19 : decode cX6_sumWith 19 = .ok (.lload_n 3, 1) := dk_33 (dk_at dksX6_sumWith_0 19 rfl rfl)
theorem dX6_sumWith_20 : decode cX6_sumWith 20 = .ok (.lmul, 1) := dk_105 (dk_at dksX6_sumWith_0 20 rfl rfl)
theorem dX6_sumWith_21 : decode cX6_sumWith 21 = .ok (.lstore 7, 2) := dk_55 7 (dk_at dksX6_sumWith_0 21 rfl rfl)
theorem dX6_sumWith_23 : decode cX6_sumWith 23 = .ok (.lload 5, 2) := dk_22 5 (dk_at dksX6_sumWith_1 0 rfl rfl)
theorem dX6_sumWith_25 : decode cX6_sumWith 25 = .ok (.lload 7, 2) := dk_22 7 (dk_at dksX6_sumWith_1 2 rfl rfl)
theorem dX6_sumWith_27 : decode cX6_sumWith 27 = .ok (.invokestatic 442, 3) := dk_184 1 186 (dk_at dksX6_sumWith_1 4 rfl rfl)
theorem dX6_sumWith_30 : decode cX6_sumWith 30 = .ok (.lstore 9, 2) := dk_55 9 (dk_at dksX6_sumWith_1 7 rfl rfl)
theorem dX6_sumWith_32 : decode cX6_sumWith 32 = .ok (.aload_n 0, 1) := dk_42 (dk_at dksX6_sumWith_1 9 rfl rfl)
theorem dX6_sumWith_33 : decode cX6_sumWith 33 = .ok (.lload 5, 2) := dk_22 5 (dk_at dksX6_sumWith_1 10 rfl rfl)
theorem dX6_sumWith_35 : decode cX6_sumWith 35 = .ok (.lload 9, 2) := dk_22 9 (dk_at dksX6_sumWith_1 12 rfl rfl)
theorem dX6_sumWith_37 : decode cX6_sumWith 37 = .ok (.ldiv, 1) := dk_109 (dk_at dksX6_sumWith_1 14 rfl rfl)
theorem dX6_sumWith_38 : decode cX6_sumWith 38 = .ok (.putfield 436, 3) := dk_181 1 180 (dk_at dksX6_sumWith_1 15 rfl rfl)
theorem dX6_sumWith_41 : decode cX6_sumWith 41 = .ok (.aload_n 0, 1) := dk_42 (dk_at dksX6_sumWith_1 18 rfl rfl)
theorem dX6_sumWith_42 : decode cX6_sumWith 42 = .ok (.lload 7, 2) := dk_22 7 (dk_at dksX6_sumWith_1 19 rfl rfl)
theorem dX6_sumWith_44 : decode cX6_sumWith 44 = .ok (.lload 9, 2) := dk_22 9 (dk_at dksX6_sumWith_1 21 rfl rfl)
theorem dX6_sumWith_46 : decode cX6_sumWith 46 = .ok (.ldiv, 1) := dk_109 (dk_at dksX6_sumWith_1 23 rfl rfl)
theorem dX6_sumWith_47 : decode cX6_sumWith 47 = .ok (.putfield 439, 3) := dk_181 1 183 (dk_at dksX6_sumWith_2 0 rfl rfl)
theorem dX6_sumWith_50 : decode cX6_sumWith 50 = .ok (.return_, 1) := dk_177 (dk_at dksX6_sumWith_2 3 rfl rfl)
abbrev cX6_divisor : ByteArray := prog_16_method_102_code
def yX6_divisor : MethodName := ⟨RX6, "divisor", "(JJ)J"⟩
def dkwX6_divisor_1 : List UInt8 := [22, 4, 22, 6, 113, 55, 8, 22, 6, 55, 4, 22, 8, 55, 6, 167, 255, 234, 22, 4, 173]
abbrev dktX6_divisor_1 : List UInt8 := dkwX6_divisor_1 ++ []
def dkwX6_divisor_0 : List UInt8 := [30, 9, 148, 156, 0, 8, 30, 117, 167, 0, 4, 30, 55, 4, 32, 55, 6, 22, 6, 9, 148, 153, 0, 21]
abbrev dktX6_divisor_0 : List UInt8 := dkwX6_divisor_0 ++ dktX6_divisor_1
theorem dksX6_divisor_0 : cX6_divisor.data.toList.drop 0 = dktX6_divisor_0 := by decide +kernel
theorem dksX6_divisor_1 : cX6_divisor.data.toList.drop 24 = dktX6_divisor_1 := dk_seg dksX6_divisor_0 24 rfl rfl
theorem dX6_divisor_0 : decode cX6_divisor 0 = .ok (.lload_n 0, 1) := dk_30 (dk_at dksX6_divisor_0 0 rfl rfl)
theorem dX6_divisor_1 : decode cX6_divisor 1 = .ok (.lconst 0, 1) := dk_9 (dk_at dksX6_divisor_0 1 rfl rfl)
theorem dX6_divisor_2 : decode cX6_divisor 2 = .ok (.lcmp, 1) := dk_148 (dk_at dksX6_divisor_0 2 rfl rfl)
theorem dX6_divisor_3 : decode cX6_divisor 3 = .ok (.ifCond .ge 8, 3) := dk_156 0 8 (dk_at dksX6_divisor_0 3 rfl rfl)
theorem dX6_divisor_6 : decode cX6_divisor 6 = .ok (.lload_n 0, 1) := dk_30 (dk_at dksX6_divisor_0 6 rfl rfl)
theorem dX6_divisor_7 : decode cX6_divisor 7 = .ok (.lneg, 1) := dk_117 (dk_at dksX6_divisor_0 7 rfl rfl)
theorem dX6_divisor_8 : decode cX6_divisor 8 = .ok (.goto 4, 3) := dk_167 0 4 (dk_at dksX6_divisor_0 8 rfl rfl)
theorem dX6_divisor_11 : decode cX6_divisor 11 = .ok (.lload_n 0, 1) := dk_30 (dk_at dksX6_divisor_0 11 rfl rfl)
theorem dX6_divisor_12 : decode cX6_divisor 12 = .ok (.lstore 4, 2) := dk_55 4 (dk_at dksX6_divisor_0 12 rfl rfl)
theorem dX6_divisor_14 : decode cX6_divisor 14 = .ok (.lload_n 2, 1) := dk_32 (dk_at dksX6_divisor_0 14 rfl rfl)
theorem dX6_divisor_15 : decode cX6_divisor 15 = .ok (.lstore 6, 2) := dk_55 6 (dk_at dksX6_divisor_0 15 rfl rfl)
theorem dX6_divisor_17 : decode cX6_divisor 17 = .ok (.lload 6, 2) := dk_22 6 (dk_at dksX6_divisor_0 17 rfl rfl)
theorem dX6_divisor_19 : decode cX6_divisor 19 = .ok (.lconst 0, 1) := dk_9 (dk_at dksX6_divisor_0 19 rfl rfl)
theorem dX6_divisor_20 : decode cX6_divisor 20 = .ok (.lcmp, 1) := dk_148 (dk_at dksX6_divisor_0 20 rfl rfl)
theorem dX6_divisor_21 : decode cX6_divisor 21 = .ok (.ifCond .eq 21, 3) := dk_153 0 21 (dk_at dksX6_divisor_0 21 rfl rfl)
theorem dX6_divisor_24 : decode cX6_divisor 24 = .ok (.lload 4, 2) := dk_22 4 (dk_at dksX6_divisor_1 0 rfl rfl)
theorem dX6_divisor_26 : decode cX6_divisor 26 = .ok (.lload 6, 2) := dk_22 6 (dk_at dksX6_divisor_1 2 rfl rfl)
theorem dX6_divisor_28 : decode cX6_divisor 28 = .ok (.lrem, 1) := dk_113 (dk_at dksX6_divisor_1 4 rfl rfl)
theorem dX6_divisor_29 : decode cX6_divisor 29 = .ok (.lstore 8, 2) := dk_55 8 (dk_at dksX6_divisor_1 5 rfl rfl)
theorem dX6_divisor_31 : decode cX6_divisor 31 = .ok (.lload 6, 2) := dk_22 6 (dk_at dksX6_divisor_1 7 rfl rfl)
theorem dX6_divisor_33 : decode cX6_divisor 33 = .ok (.lstore 4, 2) := dk_55 4 (dk_at dksX6_divisor_1 9 rfl rfl)
theorem dX6_divisor_35 : decode cX6_divisor 35 = .ok (.lload 8, 2) := dk_22 8 (dk_at dksX6_divisor_1 11 rfl rfl)
theorem dX6_divisor_37 : decode cX6_divisor 37 = .ok (.lstore 6, 2) := dk_55 6 (dk_at dksX6_divisor_1 13 rfl rfl)
theorem dX6_divisor_39 : decode cX6_divisor 39 = .ok (.goto (-22), 3) := dk_167 255 234 (dk_at dksX6_divisor_1 15 rfl rfl)
theorem dX6_divisor_42 : decode cX6_divisor 42 = .ok (.lload 4, 2) := dk_22 4 (dk_at dksX6_divisor_1 18 rfl rfl)
theorem dX6_divisor_44 : decode cX6_divisor 44 = .ok (.lreturn, 1) := dk_173 (dk_at dksX6_divisor_1 20 rfl rfl)
abbrev cX6_local : ByteArray := prog_16_method_106_code
def yX6_local : MethodName := ⟨RX6, "local", "(IIII)I"⟩
def dkwX6_local_6 : List UInt8 := [172]
abbrev dktX6_local_6 : List UInt8 := dkwX6_local_6 ++ []
def dkwX6_local_5 : List UInt8 := [180, 1, 183, 55, 8, 132, 10, 1, 167, 255, 185, 21, 4, 154, 0, 8, 22, 6, 167, 0, 5, 22, 8, 136]
abbrev dktX6_local_5 : List UInt8 := dkwX6_local_5 ++ dktX6_local_6
def dkwX6_local_4 : List UInt8 := [42, 42, 180, 0, 93, 29, 47, 42, 180, 0, 96, 29, 47, 182, 1, 190, 42, 180, 1, 180, 55, 6, 42]
abbrev dktX6_local_4 : List UInt8 := dkwX6_local_4 ++ dktX6_local_5
def dkwX6_local_3 : List UInt8 := [154, 0, 6, 167, 0, 49, 42, 21, 10, 182, 1, 194, 42, 22, 6, 181, 1, 180, 42, 22, 8, 181, 1, 183]
abbrev dktX6_local_3 : List UInt8 := dkwX6_local_3 ++ dktX6_local_4
def dkwX6_local_2 : List UInt8 := [55, 6, 10, 55, 8, 3, 54, 10, 21, 10, 42, 180, 0, 235, 162, 0, 68, 21, 5, 21, 10, 184, 0, 213]
abbrev dktX6_local_2 : List UInt8 := dkwX6_local_2 ++ dktX6_local_3
def dkwX6_local_1 : List UInt8 := [21, 4, 133, 9, 10, 184, 0, 131, 154, 0, 7, 19, 1, 179, 172, 42, 28, 27, 182, 1, 176, 54, 5, 9]
abbrev dktX6_local_1 : List UInt8 := dkwX6_local_1 ++ dktX6_local_2
def dkwX6_local_0 : List UInt8 := [27, 184, 1, 170, 153, 0, 30, 42, 28, 182, 1, 158, 153, 0, 22, 42, 29, 182, 1, 158, 153, 0, 14]
abbrev dktX6_local_0 : List UInt8 := dkwX6_local_0 ++ dktX6_local_1
theorem dksX6_local_0 : cX6_local.data.toList.drop 0 = dktX6_local_0 := by decide +kernel
theorem dksX6_local_1 : cX6_local.data.toList.drop 23 = dktX6_local_1 := dk_seg dksX6_local_0 23 rfl rfl
theorem dksX6_local_2 : cX6_local.data.toList.drop 47 = dktX6_local_2 := dk_seg dksX6_local_1 24 rfl rfl
theorem dksX6_local_3 : cX6_local.data.toList.drop 71 = dktX6_local_3 := dk_seg dksX6_local_2 24 rfl rfl
theorem dksX6_local_4 : cX6_local.data.toList.drop 95 = dktX6_local_4 := dk_seg dksX6_local_3 24 rfl rfl
theorem dksX6_local_5 : cX6_local.data.toList.drop 118 = dktX6_local_5 := dk_seg dksX6_local_4 23 rfl rfl
theorem dksX6_local_6 : cX6_local.data.toList.drop 142 = dktX6_local_6 := dk_seg dksX6_local_5 24 rfl rfl
theorem dX6_local_0 : decode cX6_local 0 = .ok (.iload_n 1, 1) := dk_27 (dk_at dksX6_local_0 0 rfl rfl)
theorem dX6_local_1 : decode cX6_local 1 = .ok (.invokestatic 426, 3) := dk_184 1 170 (dk_at dksX6_local_0 1 rfl rfl)
theorem dX6_local_4 : decode cX6_local 4 = .ok (.ifCond .eq 30, 3) := dk_153 0 30 (dk_at dksX6_local_0 4 rfl rfl)
theorem dX6_local_7 : decode cX6_local 7 = .ok (.aload_n 0, 1) := dk_42 (dk_at dksX6_local_0 7 rfl rfl)
theorem dX6_local_8 : decode cX6_local 8 = .ok (.iload_n 2, 1) := dk_28 (dk_at dksX6_local_0 8 rfl rfl)
theorem dX6_local_9 : decode cX6_local 9 = .ok (.invokevirtual 414, 3) := dk_182 1 158 (dk_at dksX6_local_0 9 rfl rfl)
theorem dX6_local_12 : decode cX6_local 12 = .ok (.ifCond .eq 22, 3) := dk_153 0 22 (dk_at dksX6_local_0 12 rfl rfl)
theorem dX6_local_15 : decode cX6_local 15 = .ok (.aload_n 0, 1) := dk_42 (dk_at dksX6_local_0 15 rfl rfl)
theorem dX6_local_16 : decode cX6_local 16 = .ok (.iload_n 3, 1) := dk_29 (dk_at dksX6_local_0 16 rfl rfl)
theorem dX6_local_17 : decode cX6_local 17 = .ok (.invokevirtual 414, 3) := dk_182 1 158 (dk_at dksX6_local_0 17 rfl rfl)
theorem dX6_local_20 : decode cX6_local 20 = .ok (.ifCond .eq 14, 3) := dk_153 0 14 (dk_at dksX6_local_0 20 rfl rfl)
theorem dX6_local_23 : decode cX6_local 23 = .ok (.iload 4, 2) := dk_21 4 (dk_at dksX6_local_1 0 rfl rfl)
theorem dX6_local_25 : decode cX6_local 25 = .ok (.i2l, 1) := dk_133 (dk_at dksX6_local_1 2 rfl rfl)
theorem dX6_local_26 : decode cX6_local 26 = .ok (.lconst 0, 1) := dk_9 (dk_at dksX6_local_1 3 rfl rfl)
theorem dX6_local_27 : decode cX6_local 27 = .ok (.lconst 1, 1) := dk_10 (dk_at dksX6_local_1 4 rfl rfl)
theorem dX6_local_28 : decode cX6_local 28 = .ok (.invokestatic 131, 3) := dk_184 0 131 (dk_at dksX6_local_1 5 rfl rfl)
theorem dX6_local_31 : decode cX6_local 31 = .ok (.ifCond .ne 7, 3) := dk_154 0 7 (dk_at dksX6_local_1 8 rfl rfl)
theorem dX6_local_34 : decode cX6_local 34 = .ok (.ldc_w 435, 3) := dk_19 1 179 (dk_at dksX6_local_1 11 rfl rfl)
theorem dX6_local_37 : decode cX6_local 37 = .ok (.ireturn, 1) := dk_172 (dk_at dksX6_local_1 14 rfl rfl)
theorem dX6_local_38 : decode cX6_local 38 = .ok (.aload_n 0, 1) := dk_42 (dk_at dksX6_local_1 15 rfl rfl)
theorem dX6_local_39 : decode cX6_local 39 = .ok (.iload_n 2, 1) := dk_28 (dk_at dksX6_local_1 16 rfl rfl)
theorem dX6_local_40 : decode cX6_local 40 = .ok (.iload_n 1, 1) := dk_27 (dk_at dksX6_local_1 17 rfl rfl)
theorem dX6_local_41 : decode cX6_local 41 = .ok (.invokevirtual 432, 3) := dk_182 1 176 (dk_at dksX6_local_1 18 rfl rfl)
theorem dX6_local_44 : decode cX6_local 44 = .ok (.istore 5, 2) := dk_54 5 (dk_at dksX6_local_1 21 rfl rfl)
theorem dX6_local_46 : decode cX6_local 46 = .ok (.lconst 0, 1) := dk_9 (dk_at dksX6_local_1 23 rfl rfl)
theorem dX6_local_47 : decode cX6_local 47 = .ok (.lstore 6, 2) := dk_55 6 (dk_at dksX6_local_2 0 rfl rfl)
theorem dX6_local_49 : decode cX6_local 49 = .ok (.lconst 1, 1) := dk_10 (dk_at dksX6_local_2 2 rfl rfl)
theorem dX6_local_50 : decode cX6_local 50 = .ok (.lstore 8, 2) := dk_55 8 (dk_at dksX6_local_2 3 rfl rfl)
theorem dX6_local_52 : decode cX6_local 52 = .ok (.iconst 0, 1) := dk_3 (dk_at dksX6_local_2 5 rfl rfl)
theorem dX6_local_53 : decode cX6_local 53 = .ok (.istore 10, 2) := dk_54 10 (dk_at dksX6_local_2 6 rfl rfl)
theorem dX6_local_55 : decode cX6_local 55 = .ok (.iload 10, 2) := dk_21 10 (dk_at dksX6_local_2 8 rfl rfl)
theorem dX6_local_57 : decode cX6_local 57 = .ok (.aload_n 0, 1) := dk_42 (dk_at dksX6_local_2 10 rfl rfl)
theorem dX6_local_58 : decode cX6_local 58 = .ok (.getfield 235, 3) := dk_180 0 235 (dk_at dksX6_local_2 11 rfl rfl)
theorem dX6_local_61 : decode cX6_local 61 = .ok (.if_icmp .ge 68, 3) := dk_162 0 68 (dk_at dksX6_local_2 14 rfl rfl)
theorem dX6_local_64 : decode cX6_local 64 = .ok (.iload 5, 2) := dk_21 5 (dk_at dksX6_local_2 17 rfl rfl)
theorem dX6_local_66 : decode cX6_local 66 = .ok (.iload 10, 2) := dk_21 10 (dk_at dksX6_local_2 19 rfl rfl)
theorem dX6_local_68 : decode cX6_local 68 = .ok (.invokestatic 213, 3) := dk_184 0 213 (dk_at dksX6_local_2 21 rfl rfl)
theorem dX6_local_71 : decode cX6_local 71 = .ok (.ifCond .ne 6, 3) := dk_154 0 6 (dk_at dksX6_local_3 0 rfl rfl)
theorem dX6_local_74 : decode cX6_local 74 = .ok (.goto 49, 3) := dk_167 0 49 (dk_at dksX6_local_3 3 rfl rfl)
theorem dX6_local_77 : decode cX6_local 77 = .ok (.aload_n 0, 1) := dk_42 (dk_at dksX6_local_3 6 rfl rfl)
theorem dX6_local_78 : decode cX6_local 78 = .ok (.iload 10, 2) := dk_21 10 (dk_at dksX6_local_3 7 rfl rfl)
theorem dX6_local_80 : decode cX6_local 80 = .ok (.invokevirtual 450, 3) := dk_182 1 194 (dk_at dksX6_local_3 9 rfl rfl)
theorem dX6_local_83 : decode cX6_local 83 = .ok (.aload_n 0, 1) := dk_42 (dk_at dksX6_local_3 12 rfl rfl)
theorem dX6_local_84 : decode cX6_local 84 = .ok (.lload 6, 2) := dk_22 6 (dk_at dksX6_local_3 13 rfl rfl)
theorem dX6_local_86 : decode cX6_local 86 = .ok (.putfield 436, 3) := dk_181 1 180 (dk_at dksX6_local_3 15 rfl rfl)
theorem dX6_local_89 : decode cX6_local 89 = .ok (.aload_n 0, 1) := dk_42 (dk_at dksX6_local_3 18 rfl rfl)
theorem dX6_local_90 : decode cX6_local 90 = .ok (.lload 8, 2) := dk_22 8 (dk_at dksX6_local_3 19 rfl rfl)
theorem dX6_local_92 : decode cX6_local 92 = .ok (.putfield 439, 3) := dk_181 1 183 (dk_at dksX6_local_3 21 rfl rfl)
theorem dX6_local_95 : decode cX6_local 95 = .ok (.aload_n 0, 1) := dk_42 (dk_at dksX6_local_4 0 rfl rfl)
theorem dX6_local_96 : decode cX6_local 96 = .ok (.aload_n 0, 1) := dk_42 (dk_at dksX6_local_4 1 rfl rfl)
theorem dX6_local_97 : decode cX6_local 97 = .ok (.getfield 93, 3) := dk_180 0 93 (dk_at dksX6_local_4 2 rfl rfl)
theorem dX6_local_100 : decode cX6_local 100 = .ok (.iload_n 3, 1) := dk_29 (dk_at dksX6_local_4 5 rfl rfl)
theorem dX6_local_101 : decode cX6_local 101 = .ok (.laload, 1) := dk_47 (dk_at dksX6_local_4 6 rfl rfl)
theorem dX6_local_102 : decode cX6_local 102 = .ok (.aload_n 0, 1) := dk_42 (dk_at dksX6_local_4 7 rfl rfl)
theorem dX6_local_103 : decode cX6_local 103 = .ok (.getfield 96, 3) := dk_180 0 96 (dk_at dksX6_local_4 8 rfl rfl)
theorem dX6_local_106 : decode cX6_local 106 = .ok (.iload_n 3, 1) := dk_29 (dk_at dksX6_local_4 11 rfl rfl)
theorem dX6_local_107 : decode cX6_local 107 = .ok (.laload, 1) := dk_47 (dk_at dksX6_local_4 12 rfl rfl)
theorem dX6_local_108 : decode cX6_local 108 = .ok (.invokevirtual 446, 3) := dk_182 1 190 (dk_at dksX6_local_4 13 rfl rfl)
theorem dX6_local_111 : decode cX6_local 111 = .ok (.aload_n 0, 1) := dk_42 (dk_at dksX6_local_4 16 rfl rfl)
theorem dX6_local_112 : decode cX6_local 112 = .ok (.getfield 436, 3) := dk_180 1 180 (dk_at dksX6_local_4 17 rfl rfl)
theorem dX6_local_115 : decode cX6_local 115 = .ok (.lstore 6, 2) := dk_55 6 (dk_at dksX6_local_4 20 rfl rfl)
theorem dX6_local_117 : decode cX6_local 117 = .ok (.aload_n 0, 1) := dk_42 (dk_at dksX6_local_4 22 rfl rfl)
theorem dX6_local_118 : decode cX6_local 118 = .ok (.getfield 439, 3) := dk_180 1 183 (dk_at dksX6_local_5 0 rfl rfl)
theorem dX6_local_121 : decode cX6_local 121 = .ok (.lstore 8, 2) := dk_55 8 (dk_at dksX6_local_5 3 rfl rfl)
theorem dX6_local_123 : decode cX6_local 123 = .ok (.iinc 10 1, 3) := dk_132 10 1 (dk_at dksX6_local_5 5 rfl rfl)
theorem dX6_local_126 : decode cX6_local 126 = .ok (.goto (-71), 3) := dk_167 255 185 (dk_at dksX6_local_5 8 rfl rfl)
theorem dX6_local_129 : decode cX6_local 129 = .ok (.iload 4, 2) := dk_21 4 (dk_at dksX6_local_5 11 rfl rfl)
theorem dX6_local_131 : decode cX6_local 131 = .ok (.ifCond .ne 8, 3) := dk_154 0 8 (dk_at dksX6_local_5 13 rfl rfl)
theorem dX6_local_134 : decode cX6_local 134 = .ok (.lload 6, 2) := dk_22 6 (dk_at dksX6_local_5 16 rfl rfl)
theorem dX6_local_136 : decode cX6_local 136 = .ok (.goto 5, 3) := dk_167 0 5 (dk_at dksX6_local_5 18 rfl rfl)
theorem dX6_local_139 : decode cX6_local 139 = .ok (.lload 8, 2) := dk_22 8 (dk_at dksX6_local_5 21 rfl rfl)
theorem dX6_local_141 : decode cX6_local 141 = .ok (.l2i, 1) := dk_136 (dk_at dksX6_local_5 23 rfl rfl)
theorem dX6_local_142 : decode cX6_local 142 = .ok (.ireturn, 1) := dk_172 (dk_at dksX6_local_6 0 rfl rfl)
abbrev cX6_units : ByteArray := prog_16_method_111_code
def yX6_units : MethodName := ⟨RX6, "units", "()I"⟩
def dkwX6_units_0 : List UInt8 := [42, 182, 1, 209, 42, 180, 1, 203, 172]
abbrev dktX6_units_0 : List UInt8 := dkwX6_units_0 ++ []
theorem dksX6_units_0 : cX6_units.data.toList.drop 0 = dktX6_units_0 := by decide +kernel
theorem dX6_units_0 : decode cX6_units 0 = .ok (.aload_n 0, 1) := dk_42 (dk_at dksX6_units_0 0 rfl rfl)
theorem dX6_units_1 : decode cX6_units 1 = .ok (.invokevirtual 465, 3) := dk_182 1 209 (dk_at dksX6_units_0 1 rfl rfl)
theorem dX6_units_4 : decode cX6_units 4 = .ok (.aload_n 0, 1) := dk_42 (dk_at dksX6_units_0 4 rfl rfl)
theorem dX6_units_5 : decode cX6_units 5 = .ok (.getfield 459, 3) := dk_180 1 203 (dk_at dksX6_units_0 5 rfl rfl)
theorem dX6_units_8 : decode cX6_units 8 = .ok (.ireturn, 1) := dk_172 (dk_at dksX6_units_0 8 rfl rfl)
abbrev cX6_laysUnits : ByteArray := prog_16_method_110_code
def yX6_laysUnits : MethodName := ⟨RX6, "laysUnits", "()V"⟩
def dkwX6_laysUnits_9 : List UInt8 := [167, 255, 76, 177]
abbrev dktX6_laysUnits_9 : List UInt8 := dkwX6_laysUnits_9 ++ []
def dkwX6_laysUnits_8 : List UInt8 := [180, 0, 103, 21, 5, 46, 79, 132, 3, 1, 132, 5, 1, 167, 255, 230, 42, 29, 181, 1, 203, 132, 1, 255]
abbrev dktX6_laysUnits_8 : List UInt8 := dkwX6_laysUnits_8 ++ dktX6_laysUnits_9
def dkwX6_laysUnits_7 : List UInt8 := [167, 255, 210, 42, 180, 1, 203, 54, 5, 21, 5, 21, 4, 162, 0, 25, 42, 180, 0, 103, 29, 42]
abbrev dktX6_laysUnits_7 : List UInt8 := dkwX6_laysUnits_7 ++ dktX6_laysUnits_8
def dkwX6_laysUnits_6 : List UInt8 := [167, 0, 19, 42, 180, 0, 103, 29, 42, 180, 0, 103, 21, 5, 46, 79, 132, 3, 1, 132, 5, 1]
abbrev dktX6_laysUnits_6 : List UInt8 := dkwX6_laysUnits_6 ++ dktX6_laysUnits_7
def dkwX6_laysUnits_5 : List UInt8 := [21, 5, 42, 180, 1, 203, 162, 0, 43, 42, 42, 180, 0, 103, 21, 5, 46, 27, 182, 1, 206, 154, 0, 6]
abbrev dktX6_laysUnits_5 : List UInt8 := dkwX6_laysUnits_5 ++ dktX6_laysUnits_6
def dkwX6_laysUnits_4 : List UInt8 := [21, 4, 42, 180, 0, 103, 21, 5, 46, 28, 128, 79, 132, 4, 1, 132, 5, 1, 167, 255, 205, 3, 54, 5]
abbrev dktX6_laysUnits_4 : List UInt8 := dkwX6_laysUnits_4 ++ dktX6_laysUnits_5
def dkwX6_laysUnits_3 : List UInt8 := [42, 42, 180, 0, 103, 21, 5, 46, 28, 128, 27, 182, 1, 206, 154, 0, 6, 167, 0, 22, 42, 180, 0, 103]
abbrev dktX6_laysUnits_3 : List UInt8 := dkwX6_laysUnits_3 ++ dktX6_laysUnits_4
def dkwX6_laysUnits_2 : List UInt8 := [27, 100, 120, 61, 3, 62, 42, 180, 1, 203, 54, 4, 3, 54, 5, 21, 5, 42, 180, 1, 203, 162, 0, 48]
abbrev dktX6_laysUnits_2 : List UInt8 := dkwX6_laysUnits_2 ++ dktX6_laysUnits_3
def dkwX6_laysUnits_1 : List UInt8 := [79, 42, 180, 0, 235, 4, 100, 60, 27, 155, 0, 182, 42, 27, 182, 1, 200, 4, 42, 180, 0, 235, 4, 100]
abbrev dktX6_laysUnits_1 : List UInt8 := dkwX6_laysUnits_1 ++ dktX6_laysUnits_2
def dkwX6_laysUnits_0 : List UInt8 := [42, 180, 1, 138, 153, 0, 4, 177, 42, 4, 181, 1, 138, 42, 4, 181, 1, 203, 42, 180, 0, 103, 3, 3]
abbrev dktX6_laysUnits_0 : List UInt8 := dkwX6_laysUnits_0 ++ dktX6_laysUnits_1
theorem dksX6_laysUnits_0 : cX6_laysUnits.data.toList.drop 0 = dktX6_laysUnits_0 := by decide +kernel
theorem dksX6_laysUnits_1 : cX6_laysUnits.data.toList.drop 24 = dktX6_laysUnits_1 := dk_seg dksX6_laysUnits_0 24 rfl rfl
theorem dksX6_laysUnits_2 : cX6_laysUnits.data.toList.drop 48 = dktX6_laysUnits_2 := dk_seg dksX6_laysUnits_1 24 rfl rfl
theorem dksX6_laysUnits_3 : cX6_laysUnits.data.toList.drop 72 = dktX6_laysUnits_3 := dk_seg dksX6_laysUnits_2 24 rfl rfl
theorem dksX6_laysUnits_4 : cX6_laysUnits.data.toList.drop 96 = dktX6_laysUnits_4 := dk_seg dksX6_laysUnits_3 24 rfl rfl
theorem dksX6_laysUnits_5 : cX6_laysUnits.data.toList.drop 120 = dktX6_laysUnits_5 := dk_seg dksX6_laysUnits_4 24 rfl rfl
theorem dksX6_laysUnits_6 : cX6_laysUnits.data.toList.drop 144 = dktX6_laysUnits_6 := dk_seg dksX6_laysUnits_5 24 rfl rfl
theorem dksX6_laysUnits_7 : cX6_laysUnits.data.toList.drop 166 = dktX6_laysUnits_7 := dk_seg dksX6_laysUnits_6 22 rfl rfl
theorem dksX6_laysUnits_8 : cX6_laysUnits.data.toList.drop 188 = dktX6_laysUnits_8 := dk_seg dksX6_laysUnits_7 22 rfl rfl
theorem dksX6_laysUnits_9 : cX6_laysUnits.data.toList.drop 212 = dktX6_laysUnits_9 := dk_seg dksX6_laysUnits_8 24 rfl rfl
theorem dX6_laysUnits_0 : decode cX6_laysUnits 0 = .ok (.aload_n 0, 1) := dk_42 (dk_at dksX6_laysUnits_0 0 rfl rfl)
theorem dX6_laysUnits_1 : decode cX6_laysUnits 1 = .ok (.getfield 394, 3) := dk_180 1 138 (dk_at dksX6_laysUnits_0 1 rfl rfl)
theorem dX6_laysUnits_4 : decode cX6_laysUnits 4 = .ok (.ifCond .eq 4, 3) := dk_153 0 4 (dk_at dksX6_laysUnits_0 4 rfl rfl)
theorem dX6_laysUnits_7 : decode cX6_laysUnits 7 = .ok (.return_, 1) := dk_177 (dk_at dksX6_laysUnits_0 7 rfl rfl)
theorem dX6_laysUnits_8 : decode cX6_laysUnits 8 = .ok (.aload_n 0, 1) := dk_42 (dk_at dksX6_laysUnits_0 8 rfl rfl)
theorem dX6_laysUnits_9 : decode cX6_laysUnits 9 = .ok (.iconst 1, 1) := dk_4 (dk_at dksX6_laysUnits_0 9 rfl rfl)
theorem dX6_laysUnits_10 : decode cX6_laysUnits 10 = .ok (.putfield 394, 3) := dk_181 1 138 (dk_at dksX6_laysUnits_0 10 rfl rfl)
theorem dX6_laysUnits_13 : decode cX6_laysUnits 13 = .ok (.aload_n 0, 1) := dk_42 (dk_at dksX6_laysUnits_0 13 rfl rfl)
theorem dX6_laysUnits_14 : decode cX6_laysUnits 14 = .ok (.iconst 1, 1) := dk_4 (dk_at dksX6_laysUnits_0 14 rfl rfl)
theorem dX6_laysUnits_15 : decode cX6_laysUnits 15 = .ok (.putfield 459, 3) := dk_181 1 203 (dk_at dksX6_laysUnits_0 15 rfl rfl)
theorem dX6_laysUnits_18 : decode cX6_laysUnits 18 = .ok (.aload_n 0, 1) := dk_42 (dk_at dksX6_laysUnits_0 18 rfl rfl)
theorem dX6_laysUnits_19 : decode cX6_laysUnits 19 = .ok (.getfield 103, 3) := dk_180 0 103 (dk_at dksX6_laysUnits_0 19 rfl rfl)
theorem dX6_laysUnits_22 : decode cX6_laysUnits 22 = .ok (.iconst 0, 1) := dk_3 (dk_at dksX6_laysUnits_0 22 rfl rfl)
theorem dX6_laysUnits_23 : decode cX6_laysUnits 23 = .ok (.iconst 0, 1) := dk_3 (dk_at dksX6_laysUnits_0 23 rfl rfl)
theorem dX6_laysUnits_24 : decode cX6_laysUnits 24 = .ok (.iastore, 1) := dk_79 (dk_at dksX6_laysUnits_1 0 rfl rfl)
theorem dX6_laysUnits_25 : decode cX6_laysUnits 25 = .ok (.aload_n 0, 1) := dk_42 (dk_at dksX6_laysUnits_1 1 rfl rfl)
theorem dX6_laysUnits_26 : decode cX6_laysUnits 26 = .ok (.getfield 235, 3) := dk_180 0 235 (dk_at dksX6_laysUnits_1 2 rfl rfl)
theorem dX6_laysUnits_29 : decode cX6_laysUnits 29 = .ok (.iconst 1, 1) := dk_4 (dk_at dksX6_laysUnits_1 5 rfl rfl)
theorem dX6_laysUnits_30 : decode cX6_laysUnits 30 = .ok (.isub, 1) := dk_100 (dk_at dksX6_laysUnits_1 6 rfl rfl)
theorem dX6_laysUnits_31 : decode cX6_laysUnits 31 = .ok (.istore_n 1, 1) := dk_60 (dk_at dksX6_laysUnits_1 7 rfl rfl)
theorem dX6_laysUnits_32 : decode cX6_laysUnits 32 = .ok (.iload_n 1, 1) := dk_27 (dk_at dksX6_laysUnits_1 8 rfl rfl)
theorem dX6_laysUnits_33 : decode cX6_laysUnits 33 = .ok (.ifCond .lt 182, 3) := dk_155 0 182 (dk_at dksX6_laysUnits_1 9 rfl rfl)
theorem dX6_laysUnits_36 : decode cX6_laysUnits 36 = .ok (.aload_n 0, 1) := dk_42 (dk_at dksX6_laysUnits_1 12 rfl rfl)
theorem dX6_laysUnits_37 : decode cX6_laysUnits 37 = .ok (.iload_n 1, 1) := dk_27 (dk_at dksX6_laysUnits_1 13 rfl rfl)
theorem dX6_laysUnits_38 : decode cX6_laysUnits 38 = .ok (.invokevirtual 456, 3) := dk_182 1 200 (dk_at dksX6_laysUnits_1 14 rfl rfl)
theorem dX6_laysUnits_41 : decode cX6_laysUnits 41 = .ok (.iconst 1, 1) := dk_4 (dk_at dksX6_laysUnits_1 17 rfl rfl)
theorem dX6_laysUnits_42 : decode cX6_laysUnits 42 = .ok (.aload_n 0, 1) := dk_42 (dk_at dksX6_laysUnits_1 18 rfl rfl)
theorem dX6_laysUnits_43 : decode cX6_laysUnits 43 = .ok (.getfield 235, 3) := dk_180 0 235 (dk_at dksX6_laysUnits_1 19 rfl rfl)
theorem dX6_laysUnits_46 : decode cX6_laysUnits 46 = .ok (.iconst 1, 1) := dk_4 (dk_at dksX6_laysUnits_1 22 rfl rfl)
theorem dX6_laysUnits_47 : decode cX6_laysUnits 47 = .ok (.isub, 1) := dk_100 (dk_at dksX6_laysUnits_1 23 rfl rfl)
theorem dX6_laysUnits_48 : decode cX6_laysUnits 48 = .ok (.iload_n 1, 1) := dk_27 (dk_at dksX6_laysUnits_2 0 rfl rfl)
theorem dX6_laysUnits_49 : decode cX6_laysUnits 49 = .ok (.isub, 1) := dk_100 (dk_at dksX6_laysUnits_2 1 rfl rfl)
theorem dX6_laysUnits_50 : decode cX6_laysUnits 50 = .ok (.ishl, 1) := dk_120 (dk_at dksX6_laysUnits_2 2 rfl rfl)
theorem dX6_laysUnits_51 : decode cX6_laysUnits 51 = .ok (.istore_n 2, 1) := dk_61 (dk_at dksX6_laysUnits_2 3 rfl rfl)
theorem dX6_laysUnits_52 : decode cX6_laysUnits 52 = .ok (.iconst 0, 1) := dk_3 (dk_at dksX6_laysUnits_2 4 rfl rfl)
theorem dX6_laysUnits_53 : decode cX6_laysUnits 53 = .ok (.istore_n 3, 1) := dk_62 (dk_at dksX6_laysUnits_2 5 rfl rfl)
theorem dX6_laysUnits_54 : decode cX6_laysUnits 54 = .ok (.aload_n 0, 1) := dk_42 (dk_at dksX6_laysUnits_2 6 rfl rfl)
theorem dX6_laysUnits_55 : decode cX6_laysUnits 55 = .ok (.getfield 459, 3) := dk_180 1 203 (dk_at dksX6_laysUnits_2 7 rfl rfl)
theorem dX6_laysUnits_58 : decode cX6_laysUnits 58 = .ok (.istore 4, 2) := dk_54 4 (dk_at dksX6_laysUnits_2 10 rfl rfl)
theorem dX6_laysUnits_60 : decode cX6_laysUnits 60 = .ok (.iconst 0, 1) := dk_3 (dk_at dksX6_laysUnits_2 12 rfl rfl)
theorem dX6_laysUnits_61 : decode cX6_laysUnits 61 = .ok (.istore 5, 2) := dk_54 5 (dk_at dksX6_laysUnits_2 13 rfl rfl)
theorem dX6_laysUnits_63 : decode cX6_laysUnits 63 = .ok (.iload 5, 2) := dk_21 5 (dk_at dksX6_laysUnits_2 15 rfl rfl)
theorem dX6_laysUnits_65 : decode cX6_laysUnits 65 = .ok (.aload_n 0, 1) := dk_42 (dk_at dksX6_laysUnits_2 17 rfl rfl)
theorem dX6_laysUnits_66 : decode cX6_laysUnits 66 = .ok (.getfield 459, 3) := dk_180 1 203 (dk_at dksX6_laysUnits_2 18 rfl rfl)
theorem dX6_laysUnits_69 : decode cX6_laysUnits 69 = .ok (.if_icmp .ge 48, 3) := dk_162 0 48 (dk_at dksX6_laysUnits_2 21 rfl rfl)
theorem dX6_laysUnits_72 : decode cX6_laysUnits 72 = .ok (.aload_n 0, 1) := dk_42 (dk_at dksX6_laysUnits_3 0 rfl rfl)
theorem dX6_laysUnits_73 : decode cX6_laysUnits 73 = .ok (.aload_n 0, 1) := dk_42 (dk_at dksX6_laysUnits_3 1 rfl rfl)
theorem dX6_laysUnits_74 : decode cX6_laysUnits 74 = .ok (.getfield 103, 3) := dk_180 0 103 (dk_at dksX6_laysUnits_3 2 rfl rfl)
theorem dX6_laysUnits_77 : decode cX6_laysUnits 77 = .ok (.iload 5, 2) := dk_21 5 (dk_at dksX6_laysUnits_3 5 rfl rfl)
theorem dX6_laysUnits_79 : decode cX6_laysUnits 79 = .ok (.iaload, 1) := dk_46 (dk_at dksX6_laysUnits_3 7 rfl rfl)
theorem dX6_laysUnits_80 : decode cX6_laysUnits 80 = .ok (.iload_n 2, 1) := dk_28 (dk_at dksX6_laysUnits_3 8 rfl rfl)
theorem dX6_laysUnits_81 : decode cX6_laysUnits 81 = .ok (.ior, 1) := dk_128 (dk_at dksX6_laysUnits_3 9 rfl rfl)
theorem dX6_laysUnits_82 : decode cX6_laysUnits 82 = .ok (.iload_n 1, 1) := dk_27 (dk_at dksX6_laysUnits_3 10 rfl rfl)
theorem dX6_laysUnits_83 : decode cX6_laysUnits 83 = .ok (.invokevirtual 462, 3) := dk_182 1 206 (dk_at dksX6_laysUnits_3 11 rfl rfl)
theorem dX6_laysUnits_86 : decode cX6_laysUnits 86 = .ok (.ifCond .ne 6, 3) := dk_154 0 6 (dk_at dksX6_laysUnits_3 14 rfl rfl)
theorem dX6_laysUnits_89 : decode cX6_laysUnits 89 = .ok (.goto 22, 3) := dk_167 0 22 (dk_at dksX6_laysUnits_3 17 rfl rfl)
theorem dX6_laysUnits_92 : decode cX6_laysUnits 92 = .ok (.aload_n 0, 1) := dk_42 (dk_at dksX6_laysUnits_3 20 rfl rfl)
theorem dX6_laysUnits_93 : decode cX6_laysUnits 93 = .ok (.getfield 103, 3) := dk_180 0 103 (dk_at dksX6_laysUnits_3 21 rfl rfl)
theorem dX6_laysUnits_96 : decode cX6_laysUnits 96 = .ok (.iload 4, 2) := dk_21 4 (dk_at dksX6_laysUnits_4 0 rfl rfl)
theorem dX6_laysUnits_98 : decode cX6_laysUnits 98 = .ok (.aload_n 0, 1) := dk_42 (dk_at dksX6_laysUnits_4 2 rfl rfl)
theorem dX6_laysUnits_99 : decode cX6_laysUnits 99 = .ok (.getfield 103, 3) := dk_180 0 103 (dk_at dksX6_laysUnits_4 3 rfl rfl)
theorem dX6_laysUnits_102 : decode cX6_laysUnits 102 = .ok (.iload 5, 2) := dk_21 5 (dk_at dksX6_laysUnits_4 6 rfl rfl)
theorem dX6_laysUnits_104 : decode cX6_laysUnits 104 = .ok (.iaload, 1) := dk_46 (dk_at dksX6_laysUnits_4 8 rfl rfl)
theorem dX6_laysUnits_105 : decode cX6_laysUnits 105 = .ok (.iload_n 2, 1) := dk_28 (dk_at dksX6_laysUnits_4 9 rfl rfl)
theorem dX6_laysUnits_106 : decode cX6_laysUnits 106 = .ok (.ior, 1) := dk_128 (dk_at dksX6_laysUnits_4 10 rfl rfl)
theorem dX6_laysUnits_107 : decode cX6_laysUnits 107 = .ok (.iastore, 1) := dk_79 (dk_at dksX6_laysUnits_4 11 rfl rfl)
theorem dX6_laysUnits_108 : decode cX6_laysUnits 108 = .ok (.iinc 4 1, 3) := dk_132 4 1 (dk_at dksX6_laysUnits_4 12 rfl rfl)
theorem dX6_laysUnits_111 : decode cX6_laysUnits 111 = .ok (.iinc 5 1, 3) := dk_132 5 1 (dk_at dksX6_laysUnits_4 15 rfl rfl)
theorem dX6_laysUnits_114 : decode cX6_laysUnits 114 = .ok (.goto (-51), 3) := dk_167 255 205 (dk_at dksX6_laysUnits_4 18 rfl rfl)
theorem dX6_laysUnits_117 : decode cX6_laysUnits 117 = .ok (.iconst 0, 1) := dk_3 (dk_at dksX6_laysUnits_4 21 rfl rfl)
theorem dX6_laysUnits_118 : decode cX6_laysUnits 118 = .ok (.istore 5, 2) := dk_54 5 (dk_at dksX6_laysUnits_4 22 rfl rfl)
theorem dX6_laysUnits_120 : decode cX6_laysUnits 120 = .ok (.iload 5, 2) := dk_21 5 (dk_at dksX6_laysUnits_5 0 rfl rfl)
theorem dX6_laysUnits_122 : decode cX6_laysUnits 122 = .ok (.aload_n 0, 1) := dk_42 (dk_at dksX6_laysUnits_5 2 rfl rfl)
theorem dX6_laysUnits_123 : decode cX6_laysUnits 123 = .ok (.getfield 459, 3) := dk_180 1 203 (dk_at dksX6_laysUnits_5 3 rfl rfl)
theorem dX6_laysUnits_126 : decode cX6_laysUnits 126 = .ok (.if_icmp .ge 43, 3) := dk_162 0 43 (dk_at dksX6_laysUnits_5 6 rfl rfl)
theorem dX6_laysUnits_129 : decode cX6_laysUnits 129 = .ok (.aload_n 0, 1) := dk_42 (dk_at dksX6_laysUnits_5 9 rfl rfl)
theorem dX6_laysUnits_130 : decode cX6_laysUnits 130 = .ok (.aload_n 0, 1) := dk_42 (dk_at dksX6_laysUnits_5 10 rfl rfl)
theorem dX6_laysUnits_131 : decode cX6_laysUnits 131 = .ok (.getfield 103, 3) := dk_180 0 103 (dk_at dksX6_laysUnits_5 11 rfl rfl)
theorem dX6_laysUnits_134 : decode cX6_laysUnits 134 = .ok (.iload 5, 2) := dk_21 5 (dk_at dksX6_laysUnits_5 14 rfl rfl)
theorem dX6_laysUnits_136 : decode cX6_laysUnits 136 = .ok (.iaload, 1) := dk_46 (dk_at dksX6_laysUnits_5 16 rfl rfl)
theorem dX6_laysUnits_137 : decode cX6_laysUnits 137 = .ok (.iload_n 1, 1) := dk_27 (dk_at dksX6_laysUnits_5 17 rfl rfl)
theorem dX6_laysUnits_138 : decode cX6_laysUnits 138 = .ok (.invokevirtual 462, 3) := dk_182 1 206 (dk_at dksX6_laysUnits_5 18 rfl rfl)
theorem dX6_laysUnits_141 : decode cX6_laysUnits 141 = .ok (.ifCond .ne 6, 3) := dk_154 0 6 (dk_at dksX6_laysUnits_5 21 rfl rfl)
theorem dX6_laysUnits_144 : decode cX6_laysUnits 144 = .ok (.goto 19, 3) := dk_167 0 19 (dk_at dksX6_laysUnits_6 0 rfl rfl)
theorem dX6_laysUnits_147 : decode cX6_laysUnits 147 = .ok (.aload_n 0, 1) := dk_42 (dk_at dksX6_laysUnits_6 3 rfl rfl)
theorem dX6_laysUnits_148 : decode cX6_laysUnits 148 = .ok (.getfield 103, 3) := dk_180 0 103 (dk_at dksX6_laysUnits_6 4 rfl rfl)
theorem dX6_laysUnits_151 : decode cX6_laysUnits 151 = .ok (.iload_n 3, 1) := dk_29 (dk_at dksX6_laysUnits_6 7 rfl rfl)
theorem dX6_laysUnits_152 : decode cX6_laysUnits 152 = .ok (.aload_n 0, 1) := dk_42 (dk_at dksX6_laysUnits_6 8 rfl rfl)
theorem dX6_laysUnits_153 : decode cX6_laysUnits 153 = .ok (.getfield 103, 3) := dk_180 0 103 (dk_at dksX6_laysUnits_6 9 rfl rfl)
theorem dX6_laysUnits_156 : decode cX6_laysUnits 156 = .ok (.iload 5, 2) := dk_21 5 (dk_at dksX6_laysUnits_6 12 rfl rfl)
theorem dX6_laysUnits_158 : decode cX6_laysUnits 158 = .ok (.iaload, 1) := dk_46 (dk_at dksX6_laysUnits_6 14 rfl rfl)
theorem dX6_laysUnits_159 : decode cX6_laysUnits 159 = .ok (.iastore, 1) := dk_79 (dk_at dksX6_laysUnits_6 15 rfl rfl)
theorem dX6_laysUnits_160 : decode cX6_laysUnits 160 = .ok (.iinc 3 1, 3) := dk_132 3 1 (dk_at dksX6_laysUnits_6 16 rfl rfl)
theorem dX6_laysUnits_163 : decode cX6_laysUnits 163 = .ok (.iinc 5 1, 3) := dk_132 5 1 (dk_at dksX6_laysUnits_6 19 rfl rfl)
theorem dX6_laysUnits_166 : decode cX6_laysUnits 166 = .ok (.goto (-46), 3) := dk_167 255 210 (dk_at dksX6_laysUnits_7 0 rfl rfl)
theorem dX6_laysUnits_169 : decode cX6_laysUnits 169 = .ok (.aload_n 0, 1) := dk_42 (dk_at dksX6_laysUnits_7 3 rfl rfl)
theorem dX6_laysUnits_170 : decode cX6_laysUnits 170 = .ok (.getfield 459, 3) := dk_180 1 203 (dk_at dksX6_laysUnits_7 4 rfl rfl)
theorem dX6_laysUnits_173 : decode cX6_laysUnits 173 = .ok (.istore 5, 2) := dk_54 5 (dk_at dksX6_laysUnits_7 7 rfl rfl)
theorem dX6_laysUnits_175 : decode cX6_laysUnits 175 = .ok (.iload 5, 2) := dk_21 5 (dk_at dksX6_laysUnits_7 9 rfl rfl)
theorem dX6_laysUnits_177 : decode cX6_laysUnits 177 = .ok (.iload 4, 2) := dk_21 4 (dk_at dksX6_laysUnits_7 11 rfl rfl)
theorem dX6_laysUnits_179 : decode cX6_laysUnits 179 = .ok (.if_icmp .ge 25, 3) := dk_162 0 25 (dk_at dksX6_laysUnits_7 13 rfl rfl)
theorem dX6_laysUnits_182 : decode cX6_laysUnits 182 = .ok (.aload_n 0, 1) := dk_42 (dk_at dksX6_laysUnits_7 16 rfl rfl)
theorem dX6_laysUnits_183 : decode cX6_laysUnits 183 = .ok (.getfield 103, 3) := dk_180 0 103 (dk_at dksX6_laysUnits_7 17 rfl rfl)
theorem dX6_laysUnits_186 : decode cX6_laysUnits 186 = .ok (.iload_n 3, 1) := dk_29 (dk_at dksX6_laysUnits_7 20 rfl rfl)
theorem dX6_laysUnits_187 : decode cX6_laysUnits 187 = .ok (.aload_n 0, 1) := dk_42 (dk_at dksX6_laysUnits_7 21 rfl rfl)
theorem dX6_laysUnits_188 : decode cX6_laysUnits 188 = .ok (.getfield 103, 3) := dk_180 0 103 (dk_at dksX6_laysUnits_8 0 rfl rfl)
theorem dX6_laysUnits_191 : decode cX6_laysUnits 191 = .ok (.iload 5, 2) := dk_21 5 (dk_at dksX6_laysUnits_8 3 rfl rfl)
theorem dX6_laysUnits_193 : decode cX6_laysUnits 193 = .ok (.iaload, 1) := dk_46 (dk_at dksX6_laysUnits_8 5 rfl rfl)
theorem dX6_laysUnits_194 : decode cX6_laysUnits 194 = .ok (.iastore, 1) := dk_79 (dk_at dksX6_laysUnits_8 6 rfl rfl)
theorem dX6_laysUnits_195 : decode cX6_laysUnits 195 = .ok (.iinc 3 1, 3) := dk_132 3 1 (dk_at dksX6_laysUnits_8 7 rfl rfl)
theorem dX6_laysUnits_198 : decode cX6_laysUnits 198 = .ok (.iinc 5 1, 3) := dk_132 5 1 (dk_at dksX6_laysUnits_8 10 rfl rfl)
theorem dX6_laysUnits_201 : decode cX6_laysUnits 201 = .ok (.goto (-26), 3) := dk_167 255 230 (dk_at dksX6_laysUnits_8 13 rfl rfl)
theorem dX6_laysUnits_204 : decode cX6_laysUnits 204 = .ok (.aload_n 0, 1) := dk_42 (dk_at dksX6_laysUnits_8 16 rfl rfl)
theorem dX6_laysUnits_205 : decode cX6_laysUnits 205 = .ok (.iload_n 3, 1) := dk_29 (dk_at dksX6_laysUnits_8 17 rfl rfl)
theorem dX6_laysUnits_206 : decode cX6_laysUnits 206 = .ok (.putfield 459, 3) := dk_181 1 203 (dk_at dksX6_laysUnits_8 18 rfl rfl)
theorem dX6_laysUnits_209 : decode cX6_laysUnits 209 = .ok (.iinc 1 (-1), 3) := dk_132 1 255 (dk_at dksX6_laysUnits_8 21 rfl rfl)
theorem dX6_laysUnits_212 : decode cX6_laysUnits 212 = .ok (.goto (-180), 3) := dk_167 255 76 (dk_at dksX6_laysUnits_9 0 rfl rfl)
theorem dX6_laysUnits_215 : decode cX6_laysUnits 215 = .ok (.return_, 1) := dk_177 (dk_at dksX6_laysUnits_9 3 rfl rfl)
abbrev cX6_laysMade : ByteArray := prog_16_method_107_code
def yX6_laysMade : MethodName := ⟨RX6, "laysMade", "(I)V"⟩
def dkwX6_laysMade_3 : List UInt8 := [182, 0, 229, 182, 1, 155, 79, 42, 89, 180, 1, 197, 4, 96, 181, 1, 197, 132, 4, 1, 167, 255, 187, 177]
abbrev dktX6_laysMade_3 : List UInt8 := dkwX6_laysMade_3 ++ []
def dkwX6_laysMade_2 : List UInt8 := [159, 0, 6, 167, 0, 36, 42, 180, 0, 99, 42, 180, 1, 197, 42, 42, 28, 4, 21, 4, 120, 128]
abbrev dktX6_laysMade_2 : List UInt8 := dkwX6_laysMade_2 ++ dktX6_laysMade_3
def dkwX6_laysMade_1 : List UInt8 := [180, 0, 196, 162, 0, 66, 29, 21, 4, 184, 0, 213, 153, 0, 51, 42, 28, 21, 4, 182, 0, 247, 21, 4]
abbrev dktX6_laysMade_1 : List UInt8 := dkwX6_laysMade_1 ++ dktX6_laysMade_2
def dkwX6_laysMade_0 : List UInt8 := [42, 180, 0, 44, 27, 46, 61, 42, 28, 182, 1, 161, 62, 42, 3, 181, 1, 197, 3, 54, 4, 21, 4, 42]
abbrev dktX6_laysMade_0 : List UInt8 := dkwX6_laysMade_0 ++ dktX6_laysMade_1
theorem dksX6_laysMade_0 : cX6_laysMade.data.toList.drop 0 = dktX6_laysMade_0 := by decide +kernel
theorem dksX6_laysMade_1 : cX6_laysMade.data.toList.drop 24 = dktX6_laysMade_1 := dk_seg dksX6_laysMade_0 24 rfl rfl
theorem dksX6_laysMade_2 : cX6_laysMade.data.toList.drop 48 = dktX6_laysMade_2 := dk_seg dksX6_laysMade_1 24 rfl rfl
theorem dksX6_laysMade_3 : cX6_laysMade.data.toList.drop 70 = dktX6_laysMade_3 := dk_seg dksX6_laysMade_2 22 rfl rfl
theorem dX6_laysMade_0 : decode cX6_laysMade 0 = .ok (.aload_n 0, 1) := dk_42 (dk_at dksX6_laysMade_0 0 rfl rfl)
theorem dX6_laysMade_1 : decode cX6_laysMade 1 = .ok (.getfield 44, 3) := dk_180 0 44 (dk_at dksX6_laysMade_0 1 rfl rfl)
theorem dX6_laysMade_4 : decode cX6_laysMade 4 = .ok (.iload_n 1, 1) := dk_27 (dk_at dksX6_laysMade_0 4 rfl rfl)
theorem dX6_laysMade_5 : decode cX6_laysMade 5 = .ok (.iaload, 1) := dk_46 (dk_at dksX6_laysMade_0 5 rfl rfl)
theorem dX6_laysMade_6 : decode cX6_laysMade 6 = .ok (.istore_n 2, 1) := dk_61 (dk_at dksX6_laysMade_0 6 rfl rfl)
theorem dX6_laysMade_7 : decode cX6_laysMade 7 = .ok (.aload_n 0, 1) := dk_42 (dk_at dksX6_laysMade_0 7 rfl rfl)
theorem dX6_laysMade_8 : decode cX6_laysMade 8 = .ok (.iload_n 2, 1) := dk_28 (dk_at dksX6_laysMade_0 8 rfl rfl)
theorem dX6_laysMade_9 : decode cX6_laysMade 9 = .ok (.invokevirtual 417, 3) := dk_182 1 161 (dk_at dksX6_laysMade_0 9 rfl rfl)
theorem dX6_laysMade_12 : decode cX6_laysMade 12 = .ok (.istore_n 3, 1) := dk_62 (dk_at dksX6_laysMade_0 12 rfl rfl)
theorem dX6_laysMade_13 : decode cX6_laysMade 13 = .ok (.aload_n 0, 1) := dk_42 (dk_at dksX6_laysMade_0 13 rfl rfl)
theorem dX6_laysMade_14 : decode cX6_laysMade 14 = .ok (.iconst 0, 1) := dk_3 (dk_at dksX6_laysMade_0 14 rfl rfl)
theorem dX6_laysMade_15 : decode cX6_laysMade 15 = .ok (.putfield 453, 3) := dk_181 1 197 (dk_at dksX6_laysMade_0 15 rfl rfl)
theorem dX6_laysMade_18 : decode cX6_laysMade 18 = .ok (.iconst 0, 1) := dk_3 (dk_at dksX6_laysMade_0 18 rfl rfl)
theorem dX6_laysMade_19 : decode cX6_laysMade 19 = .ok (.istore 4, 2) := dk_54 4 (dk_at dksX6_laysMade_0 19 rfl rfl)
theorem dX6_laysMade_21 : decode cX6_laysMade 21 = .ok (.iload 4, 2) := dk_21 4 (dk_at dksX6_laysMade_0 21 rfl rfl)
theorem dX6_laysMade_23 : decode cX6_laysMade 23 = .ok (.aload_n 0, 1) := dk_42 (dk_at dksX6_laysMade_0 23 rfl rfl)
theorem dX6_laysMade_24 : decode cX6_laysMade 24 = .ok (.getfield 196, 3) := dk_180 0 196 (dk_at dksX6_laysMade_1 0 rfl rfl)
theorem dX6_laysMade_27 : decode cX6_laysMade 27 = .ok (.if_icmp .ge 66, 3) := dk_162 0 66 (dk_at dksX6_laysMade_1 3 rfl rfl)
theorem dX6_laysMade_30 : decode cX6_laysMade 30 = .ok (.iload_n 3, 1) := dk_29 (dk_at dksX6_laysMade_1 6 rfl rfl)
theorem dX6_laysMade_31 : decode cX6_laysMade 31 = .ok (.iload 4, 2) := dk_21 4 (dk_at dksX6_laysMade_1 7 rfl rfl)
theorem dX6_laysMade_33 : decode cX6_laysMade 33 = .ok (.invokestatic 213, 3) := dk_184 0 213 (dk_at dksX6_laysMade_1 9 rfl rfl)
theorem dX6_laysMade_36 : decode cX6_laysMade 36 = .ok (.ifCond .eq 51, 3) := dk_153 0 51 (dk_at dksX6_laysMade_1 12 rfl rfl)
theorem dX6_laysMade_39 : decode cX6_laysMade 39 = .ok (.aload_n 0, 1) := dk_42 (dk_at dksX6_laysMade_1 15 rfl rfl)
theorem dX6_laysMade_40 : decode cX6_laysMade 40 = .ok (.iload_n 2, 1) := dk_28 (dk_at dksX6_laysMade_1 16 rfl rfl)
theorem dX6_laysMade_41 : decode cX6_laysMade 41 = .ok (.iload 4, 2) := dk_21 4 (dk_at dksX6_laysMade_1 17 rfl rfl)
theorem dX6_laysMade_43 : decode cX6_laysMade 43 = .ok (.invokevirtual 247, 3) := dk_182 0 247 (dk_at dksX6_laysMade_1 19 rfl rfl)
theorem dX6_laysMade_46 : decode cX6_laysMade 46 = .ok (.iload 4, 2) := dk_21 4 (dk_at dksX6_laysMade_1 22 rfl rfl)
theorem dX6_laysMade_48 : decode cX6_laysMade 48 = .ok (.if_icmp .eq 6, 3) := dk_159 0 6 (dk_at dksX6_laysMade_2 0 rfl rfl)
theorem dX6_laysMade_51 : decode cX6_laysMade 51 = .ok (.goto 36, 3) := dk_167 0 36 (dk_at dksX6_laysMade_2 3 rfl rfl)
theorem dX6_laysMade_54 : decode cX6_laysMade 54 = .ok (.aload_n 0, 1) := dk_42 (dk_at dksX6_laysMade_2 6 rfl rfl)
theorem dX6_laysMade_55 : decode cX6_laysMade 55 = .ok (.getfield 99, 3) := dk_180 0 99 (dk_at dksX6_laysMade_2 7 rfl rfl)
theorem dX6_laysMade_58 : decode cX6_laysMade 58 = .ok (.aload_n 0, 1) := dk_42 (dk_at dksX6_laysMade_2 10 rfl rfl)
theorem dX6_laysMade_59 : decode cX6_laysMade 59 = .ok (.getfield 453, 3) := dk_180 1 197 (dk_at dksX6_laysMade_2 11 rfl rfl)
theorem dX6_laysMade_62 : decode cX6_laysMade 62 = .ok (.aload_n 0, 1) := dk_42 (dk_at dksX6_laysMade_2 14 rfl rfl)
theorem dX6_laysMade_63 : decode cX6_laysMade 63 = .ok (.aload_n 0, 1) := dk_42 (dk_at dksX6_laysMade_2 15 rfl rfl)
theorem dX6_laysMade_64 : decode cX6_laysMade 64 = .ok (.iload_n 2, 1) := dk_28 (dk_at dksX6_laysMade_2 16 rfl rfl)
theorem dX6_laysMade_65 : decode cX6_laysMade 65 = .ok (.iconst 1, 1) := dk_4 (dk_at dksX6_laysMade_2 17 rfl rfl)
theorem dX6_laysMade_66 : decode cX6_laysMade 66 = .ok (.iload 4, 2) := dk_21 4 (dk_at dksX6_laysMade_2 18 rfl rfl)
theorem dX6_laysMade_68 : decode cX6_laysMade 68 = .ok (.ishl, 1) := dk_120 (dk_at dksX6_laysMade_2 20 rfl rfl)
theorem dX6_laysMade_69 : decode cX6_laysMade 69 = .ok (.ior, 1) := dk_128 (dk_at dksX6_laysMade_2 21 rfl rfl)
theorem dX6_laysMade_70 : decode cX6_laysMade 70 = .ok (.invokevirtual 229, 3) := dk_182 0 229 (dk_at dksX6_laysMade_3 0 rfl rfl)
theorem dX6_laysMade_73 : decode cX6_laysMade 73 = .ok (.invokevirtual 411, 3) := dk_182 1 155 (dk_at dksX6_laysMade_3 3 rfl rfl)
theorem dX6_laysMade_76 : decode cX6_laysMade 76 = .ok (.iastore, 1) := dk_79 (dk_at dksX6_laysMade_3 6 rfl rfl)
theorem dX6_laysMade_77 : decode cX6_laysMade 77 = .ok (.aload_n 0, 1) := dk_42 (dk_at dksX6_laysMade_3 7 rfl rfl)
theorem dX6_laysMade_78 : decode cX6_laysMade 78 = .ok (.dup, 1) := dk_89 (dk_at dksX6_laysMade_3 8 rfl rfl)
theorem dX6_laysMade_79 : decode cX6_laysMade 79 = .ok (.getfield 453, 3) := dk_180 1 197 (dk_at dksX6_laysMade_3 9 rfl rfl)
theorem dX6_laysMade_82 : decode cX6_laysMade 82 = .ok (.iconst 1, 1) := dk_4 (dk_at dksX6_laysMade_3 12 rfl rfl)
theorem dX6_laysMade_83 : decode cX6_laysMade 83 = .ok (.iadd, 1) := dk_96 (dk_at dksX6_laysMade_3 13 rfl rfl)
theorem dX6_laysMade_84 : decode cX6_laysMade 84 = .ok (.putfield 453, 3) := dk_181 1 197 (dk_at dksX6_laysMade_3 14 rfl rfl)
theorem dX6_laysMade_87 : decode cX6_laysMade 87 = .ok (.iinc 4 1, 3) := dk_132 4 1 (dk_at dksX6_laysMade_3 17 rfl rfl)
theorem dX6_laysMade_90 : decode cX6_laysMade 90 = .ok (.goto (-69), 3) := dk_167 255 187 (dk_at dksX6_laysMade_3 20 rfl rfl)
theorem dX6_laysMade_93 : decode cX6_laysMade 93 = .ok (.return_, 1) := dk_177 (dk_at dksX6_laysMade_3 23 rfl rfl)
abbrev cX6_isUnitAt : ByteArray := prog_16_method_109_code
def yX6_isUnitAt : MethodName := ⟨RX6, "isUnitAt", "(II)Z"⟩
def dkwX6_isUnitAt_2 : List UInt8 := [167, 255, 215, 29, 42, 180, 1, 197, 112, 154, 0, 7, 4, 167, 0, 4, 3, 172]
abbrev dktX6_isUnitAt_2 : List UInt8 := dkwX6_isUnitAt_2 ++ []
def dkwX6_isUnitAt_1 : List UInt8 := [180, 0, 99, 21, 4, 46, 100, 184, 0, 213, 153, 0, 7, 2, 167, 0, 4, 4, 96, 62, 132, 4, 1]
abbrev dktX6_isUnitAt_1 : List UInt8 := dkwX6_isUnitAt_1 ++ dktX6_isUnitAt_2
def dkwX6_isUnitAt_0 : List UInt8 := [3, 62, 3, 54, 4, 21, 4, 42, 180, 1, 197, 162, 0, 38, 29, 27, 42, 180, 0, 235, 4, 100, 42]
abbrev dktX6_isUnitAt_0 : List UInt8 := dkwX6_isUnitAt_0 ++ dktX6_isUnitAt_1
theorem dksX6_isUnitAt_0 : cX6_isUnitAt.data.toList.drop 0 = dktX6_isUnitAt_0 := by decide +kernel
theorem dksX6_isUnitAt_1 : cX6_isUnitAt.data.toList.drop 23 = dktX6_isUnitAt_1 := dk_seg dksX6_isUnitAt_0 23 rfl rfl
theorem dksX6_isUnitAt_2 : cX6_isUnitAt.data.toList.drop 46 = dktX6_isUnitAt_2 := dk_seg dksX6_isUnitAt_1 23 rfl rfl
theorem dX6_isUnitAt_0 : decode cX6_isUnitAt 0 = .ok (.iconst 0, 1) := dk_3 (dk_at dksX6_isUnitAt_0 0 rfl rfl)
theorem dX6_isUnitAt_1 : decode cX6_isUnitAt 1 = .ok (.istore_n 3, 1) := dk_62 (dk_at dksX6_isUnitAt_0 1 rfl rfl)
theorem dX6_isUnitAt_2 : decode cX6_isUnitAt 2 = .ok (.iconst 0, 1) := dk_3 (dk_at dksX6_isUnitAt_0 2 rfl rfl)
theorem dX6_isUnitAt_3 : decode cX6_isUnitAt 3 = .ok (.istore 4, 2) := dk_54 4 (dk_at dksX6_isUnitAt_0 3 rfl rfl)
theorem dX6_isUnitAt_5 : decode cX6_isUnitAt 5 = .ok (.iload 4, 2) := dk_21 4 (dk_at dksX6_isUnitAt_0 5 rfl rfl)
theorem dX6_isUnitAt_7 : decode cX6_isUnitAt 7 = .ok (.aload_n 0, 1) := dk_42 (dk_at dksX6_isUnitAt_0 7 rfl rfl)
theorem dX6_isUnitAt_8 : decode cX6_isUnitAt 8 = .ok (.getfield 453, 3) := dk_180 1 197 (dk_at dksX6_isUnitAt_0 8 rfl rfl)
theorem dX6_isUnitAt_11 : decode cX6_isUnitAt 11 = .ok (.if_icmp .ge 38, 3) := dk_162 0 38 (dk_at dksX6_isUnitAt_0 11 rfl rfl)
theorem dX6_isUnitAt_14 : decode cX6_isUnitAt 14 = .ok (.iload_n 3, 1) := dk_29 (dk_at dksX6_isUnitAt_0 14 rfl rfl)
theorem dX6_isUnitAt_15 : decode cX6_isUnitAt 15 = .ok (.iload_n 1, 1) := dk_27 (dk_at dksX6_isUnitAt_0 15 rfl rfl)
theorem dX6_isUnitAt_16 : decode cX6_isUnitAt 16 = .ok (.aload_n 0, 1) := dk_42 (dk_at dksX6_isUnitAt_0 16 rfl rfl)
theorem dX6_isUnitAt_17 : decode cX6_isUnitAt 17 = .ok (.getfield 235, 3) := dk_180 0 235 (dk_at dksX6_isUnitAt_0 17 rfl rfl)
theorem dX6_isUnitAt_20 : decode cX6_isUnitAt 20 = .ok (.iconst 1, 1) := dk_4 (dk_at dksX6_isUnitAt_0 20 rfl rfl)
theorem dX6_isUnitAt_21 : decode cX6_isUnitAt 21 = .ok (.isub, 1) := dk_100 (dk_at dksX6_isUnitAt_0 21 rfl rfl)
theorem dX6_isUnitAt_22 : decode cX6_isUnitAt 22 = .ok (.aload_n 0, 1) := dk_42 (dk_at dksX6_isUnitAt_0 22 rfl rfl)
theorem dX6_isUnitAt_23 : decode cX6_isUnitAt 23 = .ok (.getfield 99, 3) := dk_180 0 99 (dk_at dksX6_isUnitAt_1 0 rfl rfl)
theorem dX6_isUnitAt_26 : decode cX6_isUnitAt 26 = .ok (.iload 4, 2) := dk_21 4 (dk_at dksX6_isUnitAt_1 3 rfl rfl)
theorem dX6_isUnitAt_28 : decode cX6_isUnitAt 28 = .ok (.iaload, 1) := dk_46 (dk_at dksX6_isUnitAt_1 5 rfl rfl)
theorem dX6_isUnitAt_29 : decode cX6_isUnitAt 29 = .ok (.isub, 1) := dk_100 (dk_at dksX6_isUnitAt_1 6 rfl rfl)
theorem dX6_isUnitAt_30 : decode cX6_isUnitAt 30 = .ok (.invokestatic 213, 3) := dk_184 0 213 (dk_at dksX6_isUnitAt_1 7 rfl rfl)
theorem dX6_isUnitAt_33 : decode cX6_isUnitAt 33 = .ok (.ifCond .eq 7, 3) := dk_153 0 7 (dk_at dksX6_isUnitAt_1 10 rfl rfl)
theorem dX6_isUnitAt_36 : decode cX6_isUnitAt 36 = .ok (.iconst (-1), 1) := dk_2 (dk_at dksX6_isUnitAt_1 13 rfl rfl)
theorem dX6_isUnitAt_37 : decode cX6_isUnitAt 37 = .ok (.goto 4, 3) := dk_167 0 4 (dk_at dksX6_isUnitAt_1 14 rfl rfl)
theorem dX6_isUnitAt_40 : decode cX6_isUnitAt 40 = .ok (.iconst 1, 1) := dk_4 (dk_at dksX6_isUnitAt_1 17 rfl rfl)
theorem dX6_isUnitAt_41 : decode cX6_isUnitAt 41 = .ok (.iadd, 1) := dk_96 (dk_at dksX6_isUnitAt_1 18 rfl rfl)
theorem dX6_isUnitAt_42 : decode cX6_isUnitAt 42 = .ok (.istore_n 3, 1) := dk_62 (dk_at dksX6_isUnitAt_1 19 rfl rfl)
theorem dX6_isUnitAt_43 : decode cX6_isUnitAt 43 = .ok (.iinc 4 1, 3) := dk_132 4 1 (dk_at dksX6_isUnitAt_1 20 rfl rfl)
theorem dX6_isUnitAt_46 : decode cX6_isUnitAt 46 = .ok (.goto (-41), 3) := dk_167 255 215 (dk_at dksX6_isUnitAt_2 0 rfl rfl)
theorem dX6_isUnitAt_49 : decode cX6_isUnitAt 49 = .ok (.iload_n 3, 1) := dk_29 (dk_at dksX6_isUnitAt_2 3 rfl rfl)
theorem dX6_isUnitAt_50 : decode cX6_isUnitAt 50 = .ok (.aload_n 0, 1) := dk_42 (dk_at dksX6_isUnitAt_2 4 rfl rfl)
theorem dX6_isUnitAt_51 : decode cX6_isUnitAt 51 = .ok (.getfield 453, 3) := dk_180 1 197 (dk_at dksX6_isUnitAt_2 5 rfl rfl)
theorem dX6_isUnitAt_54 : decode cX6_isUnitAt 54 = .ok (.irem, 1) := dk_112 (dk_at dksX6_isUnitAt_2 8 rfl rfl)
theorem dX6_isUnitAt_55 : decode cX6_isUnitAt 55 = .ok (.ifCond .ne 7, 3) := dk_154 0 7 (dk_at dksX6_isUnitAt_2 9 rfl rfl)
theorem dX6_isUnitAt_58 : decode cX6_isUnitAt 58 = .ok (.iconst 1, 1) := dk_4 (dk_at dksX6_isUnitAt_2 12 rfl rfl)
theorem dX6_isUnitAt_59 : decode cX6_isUnitAt 59 = .ok (.goto 4, 3) := dk_167 0 4 (dk_at dksX6_isUnitAt_2 13 rfl rfl)
theorem dX6_isUnitAt_62 : decode cX6_isUnitAt 62 = .ok (.iconst 0, 1) := dk_3 (dk_at dksX6_isUnitAt_2 16 rfl rfl)
theorem dX6_isUnitAt_63 : decode cX6_isUnitAt 63 = .ok (.ireturn, 1) := dk_172 (dk_at dksX6_isUnitAt_2 17 rfl rfl)
abbrev cX6_unit : ByteArray := prog_16_method_112_code
def yX6_unit : MethodName := ⟨RX6, "unit", "(II)I"⟩
def dkwX6_unit_4 : List UInt8 := [182, 1, 33, 42, 180, 0, 87, 28, 47, 136, 172]
abbrev dktX6_unit_4 : List UInt8 := dkwX6_unit_4 ++ []
def dkwX6_unit_3 : List UInt8 := [20, 1, 212, 167, 0, 4, 10, 80, 132, 3, 1, 167, 255, 212, 42, 42, 180, 0, 60, 42, 180, 0, 87, 3]
abbrev dktX6_unit_3 : List UInt8 := dkwX6_unit_3 ++ dktX6_unit_4
def dkwX6_unit_2 : List UInt8 := [180, 0, 60, 29, 42, 180, 0, 103, 27, 46, 42, 180, 0, 235, 4, 100, 29, 100, 184, 0, 213, 153, 0, 9]
abbrev dktX6_unit_2 : List UInt8 := dkwX6_unit_2 ++ dktX6_unit_3
def dkwX6_unit_1 : List UInt8 := [100, 133, 184, 0, 131, 154, 0, 7, 19, 1, 179, 172, 3, 62, 29, 42, 180, 0, 235, 162, 0, 42, 42]
abbrev dktX6_unit_1 : List UInt8 := dkwX6_unit_1 ++ dktX6_unit_2
def dkwX6_unit_0 : List UInt8 := [42, 28, 182, 1, 158, 154, 0, 7, 19, 1, 179, 172, 42, 182, 1, 209, 27, 133, 9, 42, 180, 1, 203, 4]
abbrev dktX6_unit_0 : List UInt8 := dkwX6_unit_0 ++ dktX6_unit_1
theorem dksX6_unit_0 : cX6_unit.data.toList.drop 0 = dktX6_unit_0 := by decide +kernel
theorem dksX6_unit_1 : cX6_unit.data.toList.drop 24 = dktX6_unit_1 := dk_seg dksX6_unit_0 24 rfl rfl
theorem dksX6_unit_2 : cX6_unit.data.toList.drop 47 = dktX6_unit_2 := dk_seg dksX6_unit_1 23 rfl rfl
theorem dksX6_unit_3 : cX6_unit.data.toList.drop 71 = dktX6_unit_3 := dk_seg dksX6_unit_2 24 rfl rfl
theorem dksX6_unit_4 : cX6_unit.data.toList.drop 95 = dktX6_unit_4 := dk_seg dksX6_unit_3 24 rfl rfl
theorem dX6_unit_0 : decode cX6_unit 0 = .ok (.aload_n 0, 1) := dk_42 (dk_at dksX6_unit_0 0 rfl rfl)
theorem dX6_unit_1 : decode cX6_unit 1 = .ok (.iload_n 2, 1) := dk_28 (dk_at dksX6_unit_0 1 rfl rfl)
theorem dX6_unit_2 : decode cX6_unit 2 = .ok (.invokevirtual 414, 3) := dk_182 1 158 (dk_at dksX6_unit_0 2 rfl rfl)
theorem dX6_unit_5 : decode cX6_unit 5 = .ok (.ifCond .ne 7, 3) := dk_154 0 7 (dk_at dksX6_unit_0 5 rfl rfl)
theorem dX6_unit_8 : decode cX6_unit 8 = .ok (.ldc_w 435, 3) := dk_19 1 179 (dk_at dksX6_unit_0 8 rfl rfl)
theorem dX6_unit_11 : decode cX6_unit 11 = .ok (.ireturn, 1) := dk_172 (dk_at dksX6_unit_0 11 rfl rfl)
theorem dX6_unit_12 : decode cX6_unit 12 = .ok (.aload_n 0, 1) := dk_42 (dk_at dksX6_unit_0 12 rfl rfl)
theorem dX6_unit_13 : decode cX6_unit 13 = .ok (.invokevirtual 465, 3) := dk_182 1 209 (dk_at dksX6_unit_0 13 rfl rfl)
theorem dX6_unit_16 : decode cX6_unit 16 = .ok (.iload_n 1, 1) := dk_27 (dk_at dksX6_unit_0 16 rfl rfl)
theorem dX6_unit_17 : decode cX6_unit 17 = .ok (.i2l, 1) := dk_133 (dk_at dksX6_unit_0 17 rfl rfl)
theorem dX6_unit_18 : decode cX6_unit 18 = .ok (.lconst 0, 1) := dk_9 (dk_at dksX6_unit_0 18 rfl rfl)
theorem dX6_unit_19 : decode cX6_unit 19 = .ok (.aload_n 0, 1) := dk_42 (dk_at dksX6_unit_0 19 rfl rfl)
theorem dX6_unit_20 : decode cX6_unit 20 = .ok (.getfield 459, 3) := dk_180 1 203 (dk_at dksX6_unit_0 20 rfl rfl)
theorem dX6_unit_23 : decode cX6_unit 23 = .ok (.iconst 1, 1) := dk_4 (dk_at dksX6_unit_0 23 rfl rfl)
theorem dX6_unit_24 : decode cX6_unit 24 = .ok (.isub, 1) := dk_100 (dk_at dksX6_unit_1 0 rfl rfl)
theorem dX6_unit_25 : decode cX6_unit 25 = .ok (.i2l, 1) := dk_133 (dk_at dksX6_unit_1 1 rfl rfl)
theorem dX6_unit_26 : decode cX6_unit 26 = .ok (.invokestatic 131, 3) := dk_184 0 131 (dk_at dksX6_unit_1 2 rfl rfl)
theorem dX6_unit_29 : decode cX6_unit 29 = .ok (.ifCond .ne 7, 3) := dk_154 0 7 (dk_at dksX6_unit_1 5 rfl rfl)
theorem dX6_unit_32 : decode cX6_unit 32 = .ok (.ldc_w 435, 3) := dk_19 1 179 (dk_at dksX6_unit_1 8 rfl rfl)
theorem dX6_unit_35 : decode cX6_unit 35 = .ok (.ireturn, 1) := dk_172 (dk_at dksX6_unit_1 11 rfl rfl)
theorem dX6_unit_36 : decode cX6_unit 36 = .ok (.iconst 0, 1) := dk_3 (dk_at dksX6_unit_1 12 rfl rfl)
theorem dX6_unit_37 : decode cX6_unit 37 = .ok (.istore_n 3, 1) := dk_62 (dk_at dksX6_unit_1 13 rfl rfl)
theorem dX6_unit_38 : decode cX6_unit 38 = .ok (.iload_n 3, 1) := dk_29 (dk_at dksX6_unit_1 14 rfl rfl)
theorem dX6_unit_39 : decode cX6_unit 39 = .ok (.aload_n 0, 1) := dk_42 (dk_at dksX6_unit_1 15 rfl rfl)
theorem dX6_unit_40 : decode cX6_unit 40 = .ok (.getfield 235, 3) := dk_180 0 235 (dk_at dksX6_unit_1 16 rfl rfl)
theorem dX6_unit_43 : decode cX6_unit 43 = .ok (.if_icmp .ge 42, 3) := dk_162 0 42 (dk_at dksX6_unit_1 19 rfl rfl)
theorem dX6_unit_46 : decode cX6_unit 46 = .ok (.aload_n 0, 1) := dk_42 (dk_at dksX6_unit_1 22 rfl rfl)
theorem dX6_unit_47 : decode cX6_unit 47 = .ok (.getfield 60, 3) := dk_180 0 60 (dk_at dksX6_unit_2 0 rfl rfl)
theorem dX6_unit_50 : decode cX6_unit 50 = .ok (.iload_n 3, 1) := dk_29 (dk_at dksX6_unit_2 3 rfl rfl)
theorem dX6_unit_51 : decode cX6_unit 51 = .ok (.aload_n 0, 1) := dk_42 (dk_at dksX6_unit_2 4 rfl rfl)
theorem dX6_unit_52 : decode cX6_unit 52 = .ok (.getfield 103, 3) := dk_180 0 103 (dk_at dksX6_unit_2 5 rfl rfl)
theorem dX6_unit_55 : decode cX6_unit 55 = .ok (.iload_n 1, 1) := dk_27 (dk_at dksX6_unit_2 8 rfl rfl)
theorem dX6_unit_56 : decode cX6_unit 56 = .ok (.iaload, 1) := dk_46 (dk_at dksX6_unit_2 9 rfl rfl)
theorem dX6_unit_57 : decode cX6_unit 57 = .ok (.aload_n 0, 1) := dk_42 (dk_at dksX6_unit_2 10 rfl rfl)
theorem dX6_unit_58 : decode cX6_unit 58 = .ok (.getfield 235, 3) := dk_180 0 235 (dk_at dksX6_unit_2 11 rfl rfl)
theorem dX6_unit_61 : decode cX6_unit 61 = .ok (.iconst 1, 1) := dk_4 (dk_at dksX6_unit_2 14 rfl rfl)
theorem dX6_unit_62 : decode cX6_unit 62 = .ok (.isub, 1) := dk_100 (dk_at dksX6_unit_2 15 rfl rfl)
theorem dX6_unit_63 : decode cX6_unit 63 = .ok (.iload_n 3, 1) := dk_29 (dk_at dksX6_unit_2 16 rfl rfl)
theorem dX6_unit_64 : decode cX6_unit 64 = .ok (.isub, 1) := dk_100 (dk_at dksX6_unit_2 17 rfl rfl)
theorem dX6_unit_65 : decode cX6_unit 65 = .ok (.invokestatic 213, 3) := dk_184 0 213 (dk_at dksX6_unit_2 18 rfl rfl)
theorem dX6_unit_68 : decode cX6_unit 68 = .ok (.ifCond .eq 9, 3) := dk_153 0 9 (dk_at dksX6_unit_2 21 rfl rfl)
theorem dX6_unit_71 : decode cX6_unit 71 = .ok (.ldc2_w 468, 3) := dk_20 1 212 (dk_at dksX6_unit_3 0 rfl rfl)
theorem dX6_unit_74 : decode cX6_unit 74 = .ok (.goto 4, 3) := dk_167 0 4 (dk_at dksX6_unit_3 3 rfl rfl)
theorem dX6_unit_77 : decode cX6_unit 77 = .ok (.lconst 1, 1) := dk_10 (dk_at dksX6_unit_3 6 rfl rfl)
theorem dX6_unit_78 : decode cX6_unit 78 = .ok (.lastore, 1) := dk_80 (dk_at dksX6_unit_3 7 rfl rfl)
theorem dX6_unit_79 : decode cX6_unit 79 = .ok (.iinc 3 1, 3) := dk_132 3 1 (dk_at dksX6_unit_3 8 rfl rfl)
theorem dX6_unit_82 : decode cX6_unit 82 = .ok (.goto (-44), 3) := dk_167 255 212 (dk_at dksX6_unit_3 11 rfl rfl)
theorem dX6_unit_85 : decode cX6_unit 85 = .ok (.aload_n 0, 1) := dk_42 (dk_at dksX6_unit_3 14 rfl rfl)
theorem dX6_unit_86 : decode cX6_unit 86 = .ok (.aload_n 0, 1) := dk_42 (dk_at dksX6_unit_3 15 rfl rfl)
theorem dX6_unit_87 : decode cX6_unit 87 = .ok (.getfield 60, 3) := dk_180 0 60 (dk_at dksX6_unit_3 16 rfl rfl)
theorem dX6_unit_90 : decode cX6_unit 90 = .ok (.aload_n 0, 1) := dk_42 (dk_at dksX6_unit_3 19 rfl rfl)
theorem dX6_unit_91 : decode cX6_unit 91 = .ok (.getfield 87, 3) := dk_180 0 87 (dk_at dksX6_unit_3 20 rfl rfl)
theorem dX6_unit_94 : decode cX6_unit 94 = .ok (.iconst 0, 1) := dk_3 (dk_at dksX6_unit_3 23 rfl rfl)
theorem dX6_unit_95 : decode cX6_unit 95 = .ok (.invokevirtual 289, 3) := dk_182 1 33 (dk_at dksX6_unit_4 0 rfl rfl)
theorem dX6_unit_98 : decode cX6_unit 98 = .ok (.aload_n 0, 1) := dk_42 (dk_at dksX6_unit_4 3 rfl rfl)
theorem dX6_unit_99 : decode cX6_unit 99 = .ok (.getfield 87, 3) := dk_180 0 87 (dk_at dksX6_unit_4 4 rfl rfl)
theorem dX6_unit_102 : decode cX6_unit 102 = .ok (.iload_n 2, 1) := dk_28 (dk_at dksX6_unit_4 7 rfl rfl)
theorem dX6_unit_103 : decode cX6_unit 103 = .ok (.laload, 1) := dk_47 (dk_at dksX6_unit_4 8 rfl rfl)
theorem dX6_unit_104 : decode cX6_unit 104 = .ok (.l2i, 1) := dk_136 (dk_at dksX6_unit_4 9 rfl rfl)
theorem dX6_unit_105 : decode cX6_unit 105 = .ok (.ireturn, 1) := dk_172 (dk_at dksX6_unit_4 10 rfl rfl)
abbrev cX6_undo : ByteArray := prog_16_method_114_code
def yX6_undo : MethodName := ⟨RX6, "undo", "()I"⟩
def dkwX6_undo_2 : List UInt8 := [132, 1, 1, 167, 255, 227, 42, 180, 1, 135, 172]
abbrev dktX6_undo_2 : List UInt8 := dkwX6_undo_2 ++ []
def dkwX6_undo_1 : List UInt8 := [162, 0, 29, 42, 180, 0, 66, 27, 42, 180, 0, 106, 16, 64, 42, 180, 1, 135, 104, 27, 96, 47, 80]
abbrev dktX6_undo_1 : List UInt8 := dkwX6_undo_1 ++ dktX6_undo_2
def dkwX6_undo_0 : List UInt8 := [42, 180, 1, 135, 154, 0, 5, 2, 172, 42, 89, 180, 1, 135, 4, 100, 181, 1, 135, 3, 60, 27, 16, 64]
abbrev dktX6_undo_0 : List UInt8 := dkwX6_undo_0 ++ dktX6_undo_1
theorem dksX6_undo_0 : cX6_undo.data.toList.drop 0 = dktX6_undo_0 := by decide +kernel
theorem dksX6_undo_1 : cX6_undo.data.toList.drop 24 = dktX6_undo_1 := dk_seg dksX6_undo_0 24 rfl rfl
theorem dksX6_undo_2 : cX6_undo.data.toList.drop 47 = dktX6_undo_2 := dk_seg dksX6_undo_1 23 rfl rfl
theorem dX6_undo_0 : decode cX6_undo 0 = .ok (.aload_n 0, 1) := dk_42 (dk_at dksX6_undo_0 0 rfl rfl)
theorem dX6_undo_1 : decode cX6_undo 1 = .ok (.getfield 391, 3) := dk_180 1 135 (dk_at dksX6_undo_0 1 rfl rfl)
theorem dX6_undo_4 : decode cX6_undo 4 = .ok (.ifCond .ne 5, 3) := dk_154 0 5 (dk_at dksX6_undo_0 4 rfl rfl)
theorem dX6_undo_7 : decode cX6_undo 7 = .ok (.iconst (-1), 1) := dk_2 (dk_at dksX6_undo_0 7 rfl rfl)
theorem dX6_undo_8 : decode cX6_undo 8 = .ok (.ireturn, 1) := dk_172 (dk_at dksX6_undo_0 8 rfl rfl)
theorem dX6_undo_9 : decode cX6_undo 9 = .ok (.aload_n 0, 1) := dk_42 (dk_at dksX6_undo_0 9 rfl rfl)
theorem dX6_undo_10 : decode cX6_undo 10 = .ok (.dup, 1) := dk_89 (dk_at dksX6_undo_0 10 rfl rfl)
theorem dX6_undo_11 : decode cX6_undo 11 = .ok (.getfield 391, 3) := dk_180 1 135 (dk_at dksX6_undo_0 11 rfl rfl)
theorem dX6_undo_14 : decode cX6_undo 14 = .ok (.iconst 1, 1) := dk_4 (dk_at dksX6_undo_0 14 rfl rfl)
theorem dX6_undo_15 : decode cX6_undo 15 = .ok (.isub, 1) := dk_100 (dk_at dksX6_undo_0 15 rfl rfl)
theorem dX6_undo_16 : decode cX6_undo 16 = .ok (.putfield 391, 3) := dk_181 1 135 (dk_at dksX6_undo_0 16 rfl rfl)
theorem dX6_undo_19 : decode cX6_undo 19 = .ok (.iconst 0, 1) := dk_3 (dk_at dksX6_undo_0 19 rfl rfl)
theorem dX6_undo_20 : decode cX6_undo 20 = .ok (.istore_n 1, 1) := dk_60 (dk_at dksX6_undo_0 20 rfl rfl)
theorem dX6_undo_21 : decode cX6_undo 21 = .ok (.iload_n 1, 1) := dk_27 (dk_at dksX6_undo_0 21 rfl rfl)
theorem dX6_undo_22 : decode cX6_undo 22 = .ok (.bipush 64, 2) := dk_16 64 (dk_at dksX6_undo_0 22 rfl rfl)
theorem dX6_undo_24 : decode cX6_undo 24 = .ok (.if_icmp .ge 29, 3) := dk_162 0 29 (dk_at dksX6_undo_1 0 rfl rfl)
theorem dX6_undo_27 : decode cX6_undo 27 = .ok (.aload_n 0, 1) := dk_42 (dk_at dksX6_undo_1 3 rfl rfl)
theorem dX6_undo_28 : decode cX6_undo 28 = .ok (.getfield 66, 3) := dk_180 0 66 (dk_at dksX6_undo_1 4 rfl rfl)
theorem dX6_undo_31 : decode cX6_undo 31 = .ok (.iload_n 1, 1) := dk_27 (dk_at dksX6_undo_1 7 rfl rfl)
theorem dX6_undo_32 : decode cX6_undo 32 = .ok (.aload_n 0, 1) := dk_42 (dk_at dksX6_undo_1 8 rfl rfl)
theorem dX6_undo_33 : decode cX6_undo 33 = .ok (.getfield 106, 3) := dk_180 0 106 (dk_at dksX6_undo_1 9 rfl rfl)
theorem dX6_undo_36 : decode cX6_undo 36 = .ok (.bipush 64, 2) := dk_16 64 (dk_at dksX6_undo_1 12 rfl rfl)
theorem dX6_undo_38 : decode cX6_undo 38 = .ok (.aload_n 0, 1) := dk_42 (dk_at dksX6_undo_1 14 rfl rfl)
theorem dX6_undo_39 : decode cX6_undo 39 = .ok (.getfield 391, 3) := dk_180 1 135 (dk_at dksX6_undo_1 15 rfl rfl)
theorem dX6_undo_42 : decode cX6_undo 42 = .ok (.imul, 1) := dk_104 (dk_at dksX6_undo_1 18 rfl rfl)
theorem dX6_undo_43 : decode cX6_undo 43 = .ok (.iload_n 1, 1) := dk_27 (dk_at dksX6_undo_1 19 rfl rfl)
theorem dX6_undo_44 : decode cX6_undo 44 = .ok (.iadd, 1) := dk_96 (dk_at dksX6_undo_1 20 rfl rfl)
theorem dX6_undo_45 : decode cX6_undo 45 = .ok (.laload, 1) := dk_47 (dk_at dksX6_undo_1 21 rfl rfl)
theorem dX6_undo_46 : decode cX6_undo 46 = .ok (.lastore, 1) := dk_80 (dk_at dksX6_undo_1 22 rfl rfl)
theorem dX6_undo_47 : decode cX6_undo 47 = .ok (.iinc 1 1, 3) := dk_132 1 1 (dk_at dksX6_undo_2 0 rfl rfl)
theorem dX6_undo_50 : decode cX6_undo 50 = .ok (.goto (-29), 3) := dk_167 255 227 (dk_at dksX6_undo_2 3 rfl rfl)
theorem dX6_undo_53 : decode cX6_undo 53 = .ok (.aload_n 0, 1) := dk_42 (dk_at dksX6_undo_2 6 rfl rfl)
theorem dX6_undo_54 : decode cX6_undo 54 = .ok (.getfield 391, 3) := dk_180 1 135 (dk_at dksX6_undo_2 7 rfl rfl)
theorem dX6_undo_57 : decode cX6_undo 57 = .ok (.ireturn, 1) := dk_172 (dk_at dksX6_undo_2 10 rfl rfl)
abbrev cX6_named : ByteArray := prog_16_method_116_code
def yX6_named : MethodName := ⟨RX6, "named", "(II)J"⟩
def dkwX6_named_1 : List UInt8 := [42, 180, 0, 84, 16, 64, 27, 104, 28, 96, 47, 167, 0, 6, 20, 1, 214, 173]
abbrev dktX6_named_1 : List UInt8 := dkwX6_named_1 ++ []
def dkwX6_named_0 : List UInt8 := [27, 133, 9, 42, 180, 1, 132, 4, 100, 133, 184, 0, 131, 153, 0, 25, 42, 28, 182, 1, 158, 153, 0, 17]
abbrev dktX6_named_0 : List UInt8 := dkwX6_named_0 ++ dktX6_named_1
theorem dksX6_named_0 : cX6_named.data.toList.drop 0 = dktX6_named_0 := by decide +kernel
theorem dksX6_named_1 : cX6_named.data.toList.drop 24 = dktX6_named_1 := dk_seg dksX6_named_0 24 rfl rfl
theorem dX6_named_0 : decode cX6_named 0 = .ok (.iload_n 1, 1) := dk_27 (dk_at dksX6_named_0 0 rfl rfl)
theorem dX6_named_1 : decode cX6_named 1 = .ok (.i2l, 1) := dk_133 (dk_at dksX6_named_0 1 rfl rfl)
theorem dX6_named_2 : decode cX6_named 2 = .ok (.lconst 0, 1) := dk_9 (dk_at dksX6_named_0 2 rfl rfl)
theorem dX6_named_3 : decode cX6_named 3 = .ok (.aload_n 0, 1) := dk_42 (dk_at dksX6_named_0 3 rfl rfl)
theorem dX6_named_4 : decode cX6_named 4 = .ok (.getfield 388, 3) := dk_180 1 132 (dk_at dksX6_named_0 4 rfl rfl)
theorem dX6_named_7 : decode cX6_named 7 = .ok (.iconst 1, 1) := dk_4 (dk_at dksX6_named_0 7 rfl rfl)
theorem dX6_named_8 : decode cX6_named 8 = .ok (.isub, 1) := dk_100 (dk_at dksX6_named_0 8 rfl rfl)
theorem dX6_named_9 : decode cX6_named 9 = .ok (.i2l, 1) := dk_133 (dk_at dksX6_named_0 9 rfl rfl)
theorem dX6_named_10 : decode cX6_named 10 = .ok (.invokestatic 131, 3) := dk_184 0 131 (dk_at dksX6_named_0 10 rfl rfl)
theorem dX6_named_13 : decode cX6_named 13 = .ok (.ifCond .eq 25, 3) := dk_153 0 25 (dk_at dksX6_named_0 13 rfl rfl)
theorem dX6_named_16 : decode cX6_named 16 = .ok (.aload_n 0, 1) := dk_42 (dk_at dksX6_named_0 16 rfl rfl)
theorem dX6_named_17 : decode cX6_named 17 = .ok (.iload_n 2, 1) := dk_28 (dk_at dksX6_named_0 17 rfl rfl)
theorem dX6_named_18 : decode cX6_named 18 = .ok (.invokevirtual 414, 3) := dk_182 1 158 (dk_at dksX6_named_0 18 rfl rfl)
theorem dX6_named_21 : decode cX6_named 21 = .ok (.ifCond .eq 17, 3) := dk_153 0 17 (dk_at dksX6_named_0 21 rfl rfl)
theorem dX6_named_24 : decode cX6_named 24 = .ok (.aload_n 0, 1) := dk_42 (dk_at dksX6_named_1 0 rfl rfl)
theorem dX6_named_25 : decode cX6_named 25 = .ok (.getfield 84, 3) := dk_180 0 84 (dk_at dksX6_named_1 1 rfl rfl)
theorem dX6_named_28 : decode cX6_named 28 = .ok (.bipush 64, 2) := dk_16 64 (dk_at dksX6_named_1 4 rfl rfl)
theorem dX6_named_30 : decode cX6_named 30 = .ok (.iload_n 1, 1) := dk_27 (dk_at dksX6_named_1 6 rfl rfl)
theorem dX6_named_31 : decode cX6_named 31 = .ok (.imul, 1) := dk_104 (dk_at dksX6_named_1 7 rfl rfl)
theorem dX6_named_32 : decode cX6_named 32 = .ok (.iload_n 2, 1) := dk_28 (dk_at dksX6_named_1 8 rfl rfl)
theorem dX6_named_33 : decode cX6_named 33 = .ok (.iadd, 1) := dk_96 (dk_at dksX6_named_1 9 rfl rfl)
theorem dX6_named_34 : decode cX6_named 34 = .ok (.laload, 1) := dk_47 (dk_at dksX6_named_1 10 rfl rfl)
theorem dX6_named_35 : decode cX6_named 35 = .ok (.goto 6, 3) := dk_167 0 6 (dk_at dksX6_named_1 11 rfl rfl)
theorem dX6_named_38 : decode cX6_named 38 = .ok (.ldc2_w 470, 3) := dk_20 1 214 (dk_at dksX6_named_1 14 rfl rfl)
theorem dX6_named_41 : decode cX6_named 41 = .ok (.lreturn, 1) := dk_173 (dk_at dksX6_named_1 17 rfl rfl)
abbrev cX6_has : ByteArray := prog_16_method_117_code
def yX6_has : MethodName := ⟨RX6, "has", "(I)J"⟩
def dkwX6_has_0 : List UInt8 := [42, 27, 182, 1, 158, 153, 0, 12, 42, 180, 0, 66, 27, 47, 167, 0, 6, 20, 1, 214, 173]
abbrev dktX6_has_0 : List UInt8 := dkwX6_has_0 ++ []
theorem dksX6_has_0 : cX6_has.data.toList.drop 0 = dktX6_has_0 := by decide +kernel
theorem dX6_has_0 : decode cX6_has 0 = .ok (.aload_n 0, 1) := dk_42 (dk_at dksX6_has_0 0 rfl rfl)
theorem dX6_has_1 : decode cX6_has 1 = .ok (.iload_n 1, 1) := dk_27 (dk_at dksX6_has_0 1 rfl rfl)
theorem dX6_has_2 : decode cX6_has 2 = .ok (.invokevirtual 414, 3) := dk_182 1 158 (dk_at dksX6_has_0 2 rfl rfl)
theorem dX6_has_5 : decode cX6_has 5 = .ok (.ifCond .eq 12, 3) := dk_153 0 12 (dk_at dksX6_has_0 5 rfl rfl)
theorem dX6_has_8 : decode cX6_has 8 = .ok (.aload_n 0, 1) := dk_42 (dk_at dksX6_has_0 8 rfl rfl)
theorem dX6_has_9 : decode cX6_has 9 = .ok (.getfield 66, 3) := dk_180 0 66 (dk_at dksX6_has_0 9 rfl rfl)
theorem dX6_has_12 : decode cX6_has 12 = .ok (.iload_n 1, 1) := dk_27 (dk_at dksX6_has_0 12 rfl rfl)
theorem dX6_has_13 : decode cX6_has 13 = .ok (.laload, 1) := dk_47 (dk_at dksX6_has_0 13 rfl rfl)
theorem dX6_has_14 : decode cX6_has 14 = .ok (.goto 6, 3) := dk_167 0 6 (dk_at dksX6_has_0 14 rfl rfl)
theorem dX6_has_17 : decode cX6_has 17 = .ok (.ldc2_w 470, 3) := dk_20 1 214 (dk_at dksX6_has_0 17 rfl rfl)
theorem dX6_has_20 : decode cX6_has 20 = .ok (.lreturn, 1) := dk_173 (dk_at dksX6_has_0 20 rfl rfl)
abbrev cX6_marked : ByteArray := prog_16_method_118_code
def yX6_marked : MethodName := ⟨RX6, "marked", "(I)J"⟩
def dkwX6_marked_1 : List UInt8 := [173]
abbrev dktX6_marked_1 : List UInt8 := dkwX6_marked_1 ++ []
def dkwX6_marked_0 : List UInt8 := [42, 27, 182, 1, 158, 153, 0, 16, 42, 42, 180, 0, 66, 3, 27, 182, 1, 8, 167, 0, 6, 20, 1, 214]
abbrev dktX6_marked_0 : List UInt8 := dkwX6_marked_0 ++ dktX6_marked_1
theorem dksX6_marked_0 : cX6_marked.data.toList.drop 0 = dktX6_marked_0 := by decide +kernel
theorem dksX6_marked_1 : cX6_marked.data.toList.drop 24 = dktX6_marked_1 := dk_seg dksX6_marked_0 24 rfl rfl
theorem dX6_marked_0 : decode cX6_marked 0 = .ok (.aload_n 0, 1) := dk_42 (dk_at dksX6_marked_0 0 rfl rfl)
theorem dX6_marked_1 : decode cX6_marked 1 = .ok (.iload_n 1, 1) := dk_27 (dk_at dksX6_marked_0 1 rfl rfl)
theorem dX6_marked_2 : decode cX6_marked 2 = .ok (.invokevirtual 414, 3) := dk_182 1 158 (dk_at dksX6_marked_0 2 rfl rfl)
theorem dX6_marked_5 : decode cX6_marked 5 = .ok (.ifCond .eq 16, 3) := dk_153 0 16 (dk_at dksX6_marked_0 5 rfl rfl)
theorem dX6_marked_8 : decode cX6_marked 8 = .ok (.aload_n 0, 1) := dk_42 (dk_at dksX6_marked_0 8 rfl rfl)
theorem dX6_marked_9 : decode cX6_marked 9 = .ok (.aload_n 0, 1) := dk_42 (dk_at dksX6_marked_0 9 rfl rfl)
theorem dX6_marked_10 : decode cX6_marked 10 = .ok (.getfield 66, 3) := dk_180 0 66 (dk_at dksX6_marked_0 10 rfl rfl)
theorem dX6_marked_13 : decode cX6_marked 13 = .ok (.iconst 0, 1) := dk_3 (dk_at dksX6_marked_0 13 rfl rfl)
theorem dX6_marked_14 : decode cX6_marked 14 = .ok (.iload_n 1, 1) := dk_27 (dk_at dksX6_marked_0 14 rfl rfl)
theorem dX6_marked_15 : decode cX6_marked 15 = .ok (.invokevirtual 264, 3) := dk_182 1 8 (dk_at dksX6_marked_0 15 rfl rfl)
theorem dX6_marked_18 : decode cX6_marked 18 = .ok (.goto 6, 3) := dk_167 0 6 (dk_at dksX6_marked_0 18 rfl rfl)
theorem dX6_marked_21 : decode cX6_marked 21 = .ok (.ldc2_w 470, 3) := dk_20 1 214 (dk_at dksX6_marked_0 21 rfl rfl)
theorem dX6_marked_24 : decode cX6_marked 24 = .ok (.lreturn, 1) := dk_173 (dk_at dksX6_marked_1 0 rfl rfl)
abbrev cX6_character : ByteArray := prog_16_method_119_code
def yX6_character : MethodName := ⟨RX6, "character", "(I)J"⟩
def dkwX6_character_1 : List UInt8 := [182, 1, 155, 182, 1, 8, 167, 0, 6, 20, 1, 214, 173]
abbrev dktX6_character_1 : List UInt8 := dkwX6_character_1 ++ []
def dkwX6_character_0 : List UInt8 := [42, 27, 182, 1, 144, 153, 0, 26, 42, 42, 180, 0, 66, 3, 42, 42, 4, 27, 120, 182, 0, 229]
abbrev dktX6_character_0 : List UInt8 := dkwX6_character_0 ++ dktX6_character_1
theorem dksX6_character_0 : cX6_character.data.toList.drop 0 = dktX6_character_0 := by decide +kernel
theorem dksX6_character_1 : cX6_character.data.toList.drop 22 = dktX6_character_1 := dk_seg dksX6_character_0 22 rfl rfl
theorem dX6_character_0 : decode cX6_character 0 = .ok (.aload_n 0, 1) := dk_42 (dk_at dksX6_character_0 0 rfl rfl)
theorem dX6_character_1 : decode cX6_character 1 = .ok (.iload_n 1, 1) := dk_27 (dk_at dksX6_character_0 1 rfl rfl)
theorem dX6_character_2 : decode cX6_character 2 = .ok (.invokevirtual 400, 3) := dk_182 1 144 (dk_at dksX6_character_0 2 rfl rfl)
theorem dX6_character_5 : decode cX6_character 5 = .ok (.ifCond .eq 26, 3) := dk_153 0 26 (dk_at dksX6_character_0 5 rfl rfl)
theorem dX6_character_8 : decode cX6_character 8 = .ok (.aload_n 0, 1) := dk_42 (dk_at dksX6_character_0 8 rfl rfl)
theorem dX6_character_9 : decode cX6_character 9 = .ok (.aload_n 0, 1) := dk_42 (dk_at dksX6_character_0 9 rfl rfl)
theorem dX6_character_10 : decode cX6_character 10 = .ok (.getfield 66, 3) := dk_180 0 66 (dk_at dksX6_character_0 10 rfl rfl)
theorem dX6_character_13 : decode cX6_character 13 = .ok (.iconst 0, 1) := dk_3 (dk_at dksX6_character_0 13 rfl rfl)
theorem dX6_character_14 : decode cX6_character 14 = .ok (.aload_n 0, 1) := dk_42 (dk_at dksX6_character_0 14 rfl rfl)
theorem dX6_character_15 : decode cX6_character 15 = .ok (.aload_n 0, 1) := dk_42 (dk_at dksX6_character_0 15 rfl rfl)
theorem dX6_character_16 : decode cX6_character 16 = .ok (.iconst 1, 1) := dk_4 (dk_at dksX6_character_0 16 rfl rfl)
theorem dX6_character_17 : decode cX6_character 17 = .ok (.iload_n 1, 1) := dk_27 (dk_at dksX6_character_0 17 rfl rfl)
theorem dX6_character_18 : decode cX6_character 18 = .ok (.ishl, 1) := dk_120 (dk_at dksX6_character_0 18 rfl rfl)
theorem dX6_character_19 : decode cX6_character 19 = .ok (.invokevirtual 229, 3) := dk_182 0 229 (dk_at dksX6_character_0 19 rfl rfl)
theorem dX6_character_22 : decode cX6_character 22 = .ok (.invokevirtual 411, 3) := dk_182 1 155 (dk_at dksX6_character_1 0 rfl rfl)
theorem dX6_character_25 : decode cX6_character 25 = .ok (.invokevirtual 264, 3) := dk_182 1 8 (dk_at dksX6_character_1 3 rfl rfl)
theorem dX6_character_28 : decode cX6_character 28 = .ok (.goto 6, 3) := dk_167 0 6 (dk_at dksX6_character_1 6 rfl rfl)
theorem dX6_character_31 : decode cX6_character 31 = .ok (.ldc2_w 470, 3) := dk_20 1 214 (dk_at dksX6_character_1 9 rfl rfl)
theorem dX6_character_34 : decode cX6_character 34 = .ok (.lreturn, 1) := dk_173 (dk_at dksX6_character_1 12 rfl rfl)
abbrev cX6_parts : ByteArray := prog_16_method_120_code
def yX6_parts : MethodName := ⟨RX6, "parts", "()I"⟩
def dkwX6_parts_1 : List UInt8 := [4, 167, 0, 4, 3, 184, 1, 0, 96, 60, 132, 2, 1, 167, 255, 223, 27, 172]
abbrev dktX6_parts_1 : List UInt8 := dkwX6_parts_1 ++ []
def dkwX6_parts_0 : List UInt8 := [3, 60, 3, 61, 28, 42, 180, 0, 235, 162, 0, 31, 27, 42, 180, 0, 66, 28, 47, 9, 148, 153, 0, 7]
abbrev dktX6_parts_0 : List UInt8 := dkwX6_parts_0 ++ dktX6_parts_1
theorem dksX6_parts_0 : cX6_parts.data.toList.drop 0 = dktX6_parts_0 := by decide +kernel
theorem dksX6_parts_1 : cX6_parts.data.toList.drop 24 = dktX6_parts_1 := dk_seg dksX6_parts_0 24 rfl rfl
theorem dX6_parts_0 : decode cX6_parts 0 = .ok (.iconst 0, 1) := dk_3 (dk_at dksX6_parts_0 0 rfl rfl)
theorem dX6_parts_1 : decode cX6_parts 1 = .ok (.istore_n 1, 1) := dk_60 (dk_at dksX6_parts_0 1 rfl rfl)
theorem dX6_parts_2 : decode cX6_parts 2 = .ok (.iconst 0, 1) := dk_3 (dk_at dksX6_parts_0 2 rfl rfl)
theorem dX6_parts_3 : decode cX6_parts 3 = .ok (.istore_n 2, 1) := dk_61 (dk_at dksX6_parts_0 3 rfl rfl)
theorem dX6_parts_4 : decode cX6_parts 4 = .ok (.iload_n 2, 1) := dk_28 (dk_at dksX6_parts_0 4 rfl rfl)
theorem dX6_parts_5 : decode cX6_parts 5 = .ok (.aload_n 0, 1) := dk_42 (dk_at dksX6_parts_0 5 rfl rfl)
theorem dX6_parts_6 : decode cX6_parts 6 = .ok (.getfield 235, 3) := dk_180 0 235 (dk_at dksX6_parts_0 6 rfl rfl)
theorem dX6_parts_9 : decode cX6_parts 9 = .ok (.if_icmp .ge 31, 3) := dk_162 0 31 (dk_at dksX6_parts_0 9 rfl rfl)
theorem dX6_parts_12 : decode cX6_parts 12 = .ok (.iload_n 1, 1) := dk_27 (dk_at dksX6_parts_0 12 rfl rfl)
theorem dX6_parts_13 : decode cX6_parts 13 = .ok (.aload_n 0, 1) := dk_42 (dk_at dksX6_parts_0 13 rfl rfl)
theorem dX6_parts_14 : decode cX6_parts 14 = .ok (.getfield 66, 3) := dk_180 0 66 (dk_at dksX6_parts_0 14 rfl rfl)
theorem dX6_parts_17 : decode cX6_parts 17 = .ok (.iload_n 2, 1) := dk_28 (dk_at dksX6_parts_0 17 rfl rfl)
theorem dX6_parts_18 : decode cX6_parts 18 = .ok (.laload, 1) := dk_47 (dk_at dksX6_parts_0 18 rfl rfl)
theorem dX6_parts_19 : decode cX6_parts 19 = .ok (.lconst 0, 1) := dk_9 (dk_at dksX6_parts_0 19 rfl rfl)
theorem dX6_parts_20 : decode cX6_parts 20 = .ok (.lcmp, 1) := dk_148 (dk_at dksX6_parts_0 20 rfl rfl)
theorem dX6_parts_21 : decode cX6_parts 21 = .ok (.ifCond .eq 7, 3) := dk_153 0 7 (dk_at dksX6_parts_0 21 rfl rfl)
theorem dX6_parts_24 : decode cX6_parts 24 = .ok (.iconst 1, 1) := dk_4 (dk_at dksX6_parts_1 0 rfl rfl)
theorem dX6_parts_25 : decode cX6_parts 25 = .ok (.goto 4, 3) := dk_167 0 4 (dk_at dksX6_parts_1 1 rfl rfl)
theorem dX6_parts_28 : decode cX6_parts 28 = .ok (.iconst 0, 1) := dk_3 (dk_at dksX6_parts_1 4 rfl rfl)
theorem dX6_parts_29 : decode cX6_parts 29 = .ok (.invokestatic 256, 3) := dk_184 1 0 (dk_at dksX6_parts_1 5 rfl rfl)
theorem dX6_parts_32 : decode cX6_parts 32 = .ok (.iadd, 1) := dk_96 (dk_at dksX6_parts_1 8 rfl rfl)
theorem dX6_parts_33 : decode cX6_parts 33 = .ok (.istore_n 1, 1) := dk_60 (dk_at dksX6_parts_1 9 rfl rfl)
theorem dX6_parts_34 : decode cX6_parts 34 = .ok (.iinc 2 1, 3) := dk_132 2 1 (dk_at dksX6_parts_1 10 rfl rfl)
theorem dX6_parts_37 : decode cX6_parts 37 = .ok (.goto (-33), 3) := dk_167 255 223 (dk_at dksX6_parts_1 13 rfl rfl)
theorem dX6_parts_40 : decode cX6_parts 40 = .ok (.iload_n 1, 1) := dk_27 (dk_at dksX6_parts_1 16 rfl rfl)
theorem dX6_parts_41 : decode cX6_parts 41 = .ok (.ireturn, 1) := dk_172 (dk_at dksX6_parts_1 17 rfl rfl)
abbrev cX6_congruence : ByteArray := prog_16_method_121_code
def yX6_congruence : MethodName := ⟨RX6, "congruence", "(I)J"⟩
def dkwX6_congruence_1 : List UInt8 := [182, 1, 219, 42, 180, 1, 197, 133, 109, 173]
abbrev dktX6_congruence_1 : List UInt8 := dkwX6_congruence_1 ++ []
def dkwX6_congruence_0 : List UInt8 := [42, 27, 182, 1, 158, 154, 0, 7, 20, 1, 214, 173, 42, 182, 1, 216, 42, 42, 180, 0, 69, 27]
abbrev dktX6_congruence_0 : List UInt8 := dkwX6_congruence_0 ++ dktX6_congruence_1
theorem dksX6_congruence_0 : cX6_congruence.data.toList.drop 0 = dktX6_congruence_0 := by decide +kernel
theorem dksX6_congruence_1 : cX6_congruence.data.toList.drop 22 = dktX6_congruence_1 := dk_seg dksX6_congruence_0 22 rfl rfl
theorem dX6_congruence_0 : decode cX6_congruence 0 = .ok (.aload_n 0, 1) := dk_42 (dk_at dksX6_congruence_0 0 rfl rfl)
theorem dX6_congruence_1 : decode cX6_congruence 1 = .ok (.iload_n 1, 1) := dk_27 (dk_at dksX6_congruence_0 1 rfl rfl)
theorem dX6_congruence_2 : decode cX6_congruence 2 = .ok (.invokevirtual 414, 3) := dk_182 1 158 (dk_at dksX6_congruence_0 2 rfl rfl)
theorem dX6_congruence_5 : decode cX6_congruence 5 = .ok (.ifCond .ne 7, 3) := dk_154 0 7 (dk_at dksX6_congruence_0 5 rfl rfl)
theorem dX6_congruence_8 : decode cX6_congruence 8 = .ok (.ldc2_w 470, 3) := dk_20 1 214 (dk_at dksX6_congruence_0 8 rfl rfl)
theorem dX6_congruence_11 : decode cX6_congruence 11 = .ok (.lreturn, 1) := dk_173 (dk_at dksX6_congruence_0 11 rfl rfl)
theorem dX6_congruence_12 : decode cX6_congruence 12 = .ok (.aload_n 0, 1) := dk_42 (dk_at dksX6_congruence_0 12 rfl rfl)
theorem dX6_congruence_13 : decode cX6_congruence 13 = .ok (.invokevirtual 472, 3) := dk_182 1 216 (dk_at dksX6_congruence_0 13 rfl rfl)
theorem dX6_congruence_16 : decode cX6_congruence 16 = .ok (.aload_n 0, 1) := dk_42 (dk_at dksX6_congruence_0 16 rfl rfl)
theorem dX6_congruence_17 : decode cX6_congruence 17 = .ok (.aload_n 0, 1) := dk_42 (dk_at dksX6_congruence_0 17 rfl rfl)
theorem dX6_congruence_18 : decode cX6_congruence 18 = .ok (.getfield 69, 3) := dk_180 0 69 (dk_at dksX6_congruence_0 18 rfl rfl)
theorem dX6_congruence_21 : decode cX6_congruence 21 = .ok (.iload_n 1, 1) := dk_27 (dk_at dksX6_congruence_0 21 rfl rfl)
theorem dX6_congruence_22 : decode cX6_congruence 22 = .ok (.invokevirtual 475, 3) := dk_182 1 219 (dk_at dksX6_congruence_1 0 rfl rfl)
theorem dX6_congruence_25 : decode cX6_congruence 25 = .ok (.aload_n 0, 1) := dk_42 (dk_at dksX6_congruence_1 3 rfl rfl)
theorem dX6_congruence_26 : decode cX6_congruence 26 = .ok (.getfield 453, 3) := dk_180 1 197 (dk_at dksX6_congruence_1 4 rfl rfl)
theorem dX6_congruence_29 : decode cX6_congruence 29 = .ok (.i2l, 1) := dk_133 (dk_at dksX6_congruence_1 7 rfl rfl)
theorem dX6_congruence_30 : decode cX6_congruence 30 = .ok (.ldiv, 1) := dk_109 (dk_at dksX6_congruence_1 8 rfl rfl)
theorem dX6_congruence_31 : decode cX6_congruence 31 = .ok (.lreturn, 1) := dk_173 (dk_at dksX6_congruence_1 9 rfl rfl)
abbrev cX6_laysMarks : ByteArray := prog_16_method_115_code
def yX6_laysMarks : MethodName := ⟨RX6, "laysMarks", "()V"⟩
def dkwX6_laysMarks_1 : List UInt8 := [182, 1, 8, 80, 132, 1, 1, 167, 255, 229, 177]
abbrev dktX6_laysMarks_1 : List UInt8 := dkwX6_laysMarks_1 ++ []
def dkwX6_laysMarks_0 : List UInt8 := [3, 60, 27, 42, 180, 0, 235, 162, 0, 25, 42, 180, 0, 69, 27, 42, 42, 180, 0, 66, 3, 27]
abbrev dktX6_laysMarks_0 : List UInt8 := dkwX6_laysMarks_0 ++ dktX6_laysMarks_1
theorem dksX6_laysMarks_0 : cX6_laysMarks.data.toList.drop 0 = dktX6_laysMarks_0 := by decide +kernel
theorem dksX6_laysMarks_1 : cX6_laysMarks.data.toList.drop 22 = dktX6_laysMarks_1 := dk_seg dksX6_laysMarks_0 22 rfl rfl
theorem dX6_laysMarks_0 : decode cX6_laysMarks 0 = .ok (.iconst 0, 1) := dk_3 (dk_at dksX6_laysMarks_0 0 rfl rfl)
theorem dX6_laysMarks_1 : decode cX6_laysMarks 1 = .ok (.istore_n 1, 1) := dk_60 (dk_at dksX6_laysMarks_0 1 rfl rfl)
theorem dX6_laysMarks_2 : decode cX6_laysMarks 2 = .ok (.iload_n 1, 1) := dk_27 (dk_at dksX6_laysMarks_0 2 rfl rfl)
theorem dX6_laysMarks_3 : decode cX6_laysMarks 3 = .ok (.aload_n 0, 1) := dk_42 (dk_at dksX6_laysMarks_0 3 rfl rfl)
theorem dX6_laysMarks_4 : decode cX6_laysMarks 4 = .ok (.getfield 235, 3) := dk_180 0 235 (dk_at dksX6_laysMarks_0 4 rfl rfl)
theorem dX6_laysMarks_7 : decode cX6_laysMarks 7 = .ok (.if_icmp .ge 25, 3) := dk_162 0 25 (dk_at dksX6_laysMarks_0 7 rfl rfl)
theorem dX6_laysMarks_10 : decode cX6_laysMarks 10 = .ok (.aload_n 0, 1) := dk_42 (dk_at dksX6_laysMarks_0 10 rfl rfl)
theorem dX6_laysMarks_11 : decode cX6_laysMarks 11 = .ok (.getfield 69, 3) := dk_180 0 69 (dk_at dksX6_laysMarks_0 11 rfl rfl)
theorem dX6_laysMarks_14 : decode cX6_laysMarks 14 = .ok (.iload_n 1, 1) := dk_27 (dk_at dksX6_laysMarks_0 14 rfl rfl)
theorem dX6_laysMarks_15 : decode cX6_laysMarks 15 = .ok (.aload_n 0, 1) := dk_42 (dk_at dksX6_laysMarks_0 15 rfl rfl)
theorem dX6_laysMarks_16 : decode cX6_laysMarks 16 = .ok (.aload_n 0, 1) := dk_42 (dk_at dksX6_laysMarks_0 16 rfl rfl)
theorem dX6_laysMarks_17 : decode cX6_laysMarks 17 = .ok (.getfield 66, 3) := dk_180 0 66 (dk_at dksX6_laysMarks_0 17 rfl rfl)
theorem dX6_laysMarks_20 : decode cX6_laysMarks 20 = .ok (.iconst 0, 1) := dk_3 (dk_at dksX6_laysMarks_0 20 rfl rfl)
theorem dX6_laysMarks_21 : decode cX6_laysMarks 21 = .ok (.iload_n 1, 1) := dk_27 (dk_at dksX6_laysMarks_0 21 rfl rfl)
theorem dX6_laysMarks_22 : decode cX6_laysMarks 22 = .ok (.invokevirtual 264, 3) := dk_182 1 8 (dk_at dksX6_laysMarks_1 0 rfl rfl)
theorem dX6_laysMarks_25 : decode cX6_laysMarks 25 = .ok (.lastore, 1) := dk_80 (dk_at dksX6_laysMarks_1 3 rfl rfl)
theorem dX6_laysMarks_26 : decode cX6_laysMarks 26 = .ok (.iinc 1 1, 3) := dk_132 1 1 (dk_at dksX6_laysMarks_1 4 rfl rfl)
theorem dX6_laysMarks_29 : decode cX6_laysMarks 29 = .ok (.goto (-27), 3) := dk_167 255 229 (dk_at dksX6_laysMarks_1 7 rfl rfl)
theorem dX6_laysMarks_32 : decode cX6_laysMarks 32 = .ok (.return_, 1) := dk_177 (dk_at dksX6_laysMarks_1 10 rfl rfl)
abbrev cX6_congruenceOf : ByteArray := prog_16_method_108_code
def yX6_congruenceOf : MethodName := ⟨RX6, "congruenceOf", "([JI)J"⟩
def dkwX6_congruenceOf_1 : List UInt8 := [180, 0, 99, 21, 5, 46, 47, 97, 66, 132, 5, 1, 167, 255, 232, 33, 173]
abbrev dktX6_congruenceOf_1 : List UInt8 := dkwX6_congruenceOf_1 ++ []
def dkwX6_congruenceOf_0 : List UInt8 := [42, 28, 182, 1, 200, 9, 66, 3, 54, 5, 21, 5, 42, 180, 1, 197, 162, 0, 21, 33, 43, 42]
abbrev dktX6_congruenceOf_0 : List UInt8 := dkwX6_congruenceOf_0 ++ dktX6_congruenceOf_1
theorem dksX6_congruenceOf_0 : cX6_congruenceOf.data.toList.drop 0 = dktX6_congruenceOf_0 := by decide +kernel
theorem dksX6_congruenceOf_1 : cX6_congruenceOf.data.toList.drop 22 = dktX6_congruenceOf_1 := dk_seg dksX6_congruenceOf_0 22 rfl rfl
theorem dX6_congruenceOf_0 : decode cX6_congruenceOf 0 = .ok (.aload_n 0, 1) := dk_42 (dk_at dksX6_congruenceOf_0 0 rfl rfl)
theorem dX6_congruenceOf_1 : decode cX6_congruenceOf 1 = .ok (.iload_n 2, 1) := dk_28 (dk_at dksX6_congruenceOf_0 1 rfl rfl)
theorem dX6_congruenceOf_2 : decode cX6_congruenceOf 2 = .ok (.invokevirtual 456, 3) := dk_182 1 200 (dk_at dksX6_congruenceOf_0 2 rfl rfl)
theorem dX6_congruenceOf_5 : decode cX6_congruenceOf 5 = .ok (.lconst 0, 1) := dk_9 (dk_at dksX6_congruenceOf_0 5 rfl rfl)
theorem dX6_congruenceOf_6 : decode cX6_congruenceOf 6 = .ok (.lstore_n 3, 1) := dk_66 (dk_at dksX6_congruenceOf_0 6 rfl rfl)
theorem dX6_congruenceOf_7 : decode cX6_congruenceOf 7 = .ok (.iconst 0, 1) := dk_3 (dk_at dksX6_congruenceOf_0 7 rfl rfl)
theorem dX6_congruenceOf_8 : decode cX6_congruenceOf 8 = .ok (.istore 5, 2) := dk_54 5 (dk_at dksX6_congruenceOf_0 8 rfl rfl)
theorem dX6_congruenceOf_10 : decode cX6_congruenceOf 10 = .ok (.iload 5, 2) := dk_21 5 (dk_at dksX6_congruenceOf_0 10 rfl rfl)
theorem dX6_congruenceOf_12 : decode cX6_congruenceOf 12 = .ok (.aload_n 0, 1) := dk_42 (dk_at dksX6_congruenceOf_0 12 rfl rfl)
theorem dX6_congruenceOf_13 : decode cX6_congruenceOf 13 = .ok (.getfield 453, 3) := dk_180 1 197 (dk_at dksX6_congruenceOf_0 13 rfl rfl)
theorem dX6_congruenceOf_16 : decode cX6_congruenceOf 16 = .ok (.if_icmp .ge 21, 3) := dk_162 0 21 (dk_at dksX6_congruenceOf_0 16 rfl rfl)
theorem dX6_congruenceOf_19 : decode cX6_congruenceOf 19 = .ok (.lload_n 3, 1) := dk_33 (dk_at dksX6_congruenceOf_0 19 rfl rfl)
theorem dX6_congruenceOf_20 : decode cX6_congruenceOf 20 = .ok (.aload_n 1, 1) := dk_43 (dk_at dksX6_congruenceOf_0 20 rfl rfl)
theorem dX6_congruenceOf_21 : decode cX6_congruenceOf 21 = .ok (.aload_n 0, 1) := dk_42 (dk_at dksX6_congruenceOf_0 21 rfl rfl)
theorem dX6_congruenceOf_22 : decode cX6_congruenceOf 22 = .ok (.getfield 99, 3) := dk_180 0 99 (dk_at dksX6_congruenceOf_1 0 rfl rfl)
theorem dX6_congruenceOf_25 : decode cX6_congruenceOf 25 = .ok (.iload 5, 2) := dk_21 5 (dk_at dksX6_congruenceOf_1 3 rfl rfl)
theorem dX6_congruenceOf_27 : decode cX6_congruenceOf 27 = .ok (.iaload, 1) := dk_46 (dk_at dksX6_congruenceOf_1 5 rfl rfl)
theorem dX6_congruenceOf_28 : decode cX6_congruenceOf 28 = .ok (.laload, 1) := dk_47 (dk_at dksX6_congruenceOf_1 6 rfl rfl)
theorem dX6_congruenceOf_29 : decode cX6_congruenceOf 29 = .ok (.ladd, 1) := dk_97 (dk_at dksX6_congruenceOf_1 7 rfl rfl)
theorem dX6_congruenceOf_30 : decode cX6_congruenceOf 30 = .ok (.lstore_n 3, 1) := dk_66 (dk_at dksX6_congruenceOf_1 8 rfl rfl)
theorem dX6_congruenceOf_31 : decode cX6_congruenceOf 31 = .ok (.iinc 5 1, 3) := dk_132 5 1 (dk_at dksX6_congruenceOf_1 9 rfl rfl)
theorem dX6_congruenceOf_34 : decode cX6_congruenceOf 34 = .ok (.goto (-24), 3) := dk_167 255 232 (dk_at dksX6_congruenceOf_1 12 rfl rfl)
theorem dX6_congruenceOf_37 : decode cX6_congruenceOf 37 = .ok (.lload_n 3, 1) := dk_33 (dk_at dksX6_congruenceOf_1 15 rfl rfl)
theorem dX6_congruenceOf_38 : decode cX6_congruenceOf 38 = .ok (.lreturn, 1) := dk_173 (dk_at dksX6_congruenceOf_1 16 rfl rfl)
abbrev cX6_is : ByteArray := prog_16_method_122_code
def yX6_is : MethodName := ⟨RX6, "is", "(I)I"⟩
def dkwX6_is_8 : List UInt8 := [172]
abbrev dktX6_is_8 : List UInt8 := dkwX6_is_8 ++ []
def dkwX6_is_7 : List UInt8 := [167, 0, 4, 3, 62, 132, 4, 1, 167, 255, 111, 27, 6, 160, 0, 7, 29, 167, 0, 4, 28, 184, 1, 0]
abbrev dktX6_is_7 : List UInt8 := dkwX6_is_7 ++ dktX6_is_8
def dkwX6_is_6 : List UInt8 := [153, 0, 12, 21, 7, 153, 0, 7, 4, 167, 0, 4, 3, 61, 29, 154, 0, 8, 21, 7, 153, 0, 7, 4]
abbrev dktX6_is_6 : List UInt8 := dkwX6_is_6 ++ dktX6_is_7
def dkwX6_is_5 : List UInt8 := [4, 167, 0, 19, 3, 167, 0, 15, 22, 5, 9, 148, 154, 0, 7, 4, 167, 0, 4, 3, 54, 7, 28]
abbrev dktX6_is_5 : List UInt8 := dkwX6_is_5 ++ dktX6_is_6
def dkwX6_is_4 : List UInt8 := [167, 0, 44, 27, 5, 160, 0, 27, 22, 5, 10, 148, 153, 0, 12, 22, 5, 20, 1, 212, 148, 154, 0, 7]
abbrev dktX6_is_4 : List UInt8 := dkwX6_is_4 ++ dktX6_is_5
def dkwX6_is_3 : List UInt8 := [160, 0, 25, 22, 5, 9, 148, 153, 0, 10, 22, 5, 10, 148, 154, 0, 7, 4, 167, 0, 48, 3]
abbrev dktX6_is_3 : List UInt8 := dkwX6_is_3 ++ dktX6_is_4
def dkwX6_is_2 : List UInt8 := [42, 180, 0, 66, 21, 4, 47, 9, 148, 155, 0, 7, 4, 167, 0, 75, 3, 167, 0, 71, 27, 4]
abbrev dktX6_is_2 : List UInt8 := dkwX6_is_2 ++ dktX6_is_3
def dkwX6_is_1 : List UInt8 := [54, 4, 21, 4, 42, 180, 0, 235, 162, 0, 142, 42, 180, 0, 69, 21, 4, 47, 55, 5, 27, 154, 0, 23]
abbrev dktX6_is_1 : List UInt8 := dkwX6_is_1 ++ dktX6_is_2
def dkwX6_is_0 : List UInt8 := [27, 133, 9, 20, 1, 223, 184, 0, 131, 154, 0, 5, 2, 172, 42, 182, 1, 216, 4, 61, 3, 62, 3]
abbrev dktX6_is_0 : List UInt8 := dkwX6_is_0 ++ dktX6_is_1
theorem dksX6_is_0 : cX6_is.data.toList.drop 0 = dktX6_is_0 := by decide +kernel
theorem dksX6_is_1 : cX6_is.data.toList.drop 23 = dktX6_is_1 := dk_seg dksX6_is_0 23 rfl rfl
theorem dksX6_is_2 : cX6_is.data.toList.drop 47 = dktX6_is_2 := dk_seg dksX6_is_1 24 rfl rfl
theorem dksX6_is_3 : cX6_is.data.toList.drop 69 = dktX6_is_3 := dk_seg dksX6_is_2 22 rfl rfl
theorem dksX6_is_4 : cX6_is.data.toList.drop 91 = dktX6_is_4 := dk_seg dksX6_is_3 22 rfl rfl
theorem dksX6_is_5 : cX6_is.data.toList.drop 115 = dktX6_is_5 := dk_seg dksX6_is_4 24 rfl rfl
theorem dksX6_is_6 : cX6_is.data.toList.drop 138 = dktX6_is_6 := dk_seg dksX6_is_5 23 rfl rfl
theorem dksX6_is_7 : cX6_is.data.toList.drop 162 = dktX6_is_7 := dk_seg dksX6_is_6 24 rfl rfl
theorem dksX6_is_8 : cX6_is.data.toList.drop 186 = dktX6_is_8 := dk_seg dksX6_is_7 24 rfl rfl
theorem dX6_is_0 : decode cX6_is 0 = .ok (.iload_n 1, 1) := dk_27 (dk_at dksX6_is_0 0 rfl rfl)
theorem dX6_is_1 : decode cX6_is 1 = .ok (.i2l, 1) := dk_133 (dk_at dksX6_is_0 1 rfl rfl)
theorem dX6_is_2 : decode cX6_is 2 = .ok (.lconst 0, 1) := dk_9 (dk_at dksX6_is_0 2 rfl rfl)
theorem dX6_is_3 : decode cX6_is 3 = .ok (.ldc2_w 479, 3) := dk_20 1 223 (dk_at dksX6_is_0 3 rfl rfl)
theorem dX6_is_6 : decode cX6_is 6 = .ok (.invokestatic 131, 3) := dk_184 0 131 (dk_at dksX6_is_0 6 rfl rfl)
theorem dX6_is_9 : decode cX6_is 9 = .ok (.ifCond .ne 5, 3) := dk_154 0 5 (dk_at dksX6_is_0 9 rfl rfl)
theorem dX6_is_12 : decode cX6_is 12 = .ok (.iconst (-1), 1) := dk_2 (dk_at dksX6_is_0 12 rfl rfl)
theorem dX6_is_13 : decode cX6_is 13 = .ok (.ireturn, 1) := dk_172 (dk_at dksX6_is_0 13 rfl rfl)
theorem dX6_is_14 : decode cX6_is 14 = .ok (.aload_n 0, 1) := dk_42 (dk_at dksX6_is_0 14 rfl rfl)
theorem dX6_is_15 : decode cX6_is 15 = .ok (.invokevirtual 472, 3) := dk_182 1 216 (dk_at dksX6_is_0 15 rfl rfl)
theorem dX6_is_18 : decode cX6_is 18 = .ok (.iconst 1, 1) := dk_4 (dk_at dksX6_is_0 18 rfl rfl)
theorem dX6_is_19 : decode cX6_is 19 = .ok (.istore_n 2, 1) := dk_61 (dk_at dksX6_is_0 19 rfl rfl)
theorem dX6_is_20 : decode cX6_is 20 = .ok (.iconst 0, 1) := dk_3 (dk_at dksX6_is_0 20 rfl rfl)
theorem dX6_is_21 : decode cX6_is 21 = .ok (.istore_n 3, 1) := dk_62 (dk_at dksX6_is_0 21 rfl rfl)
theorem dX6_is_22 : decode cX6_is 22 = .ok (.iconst 0, 1) := dk_3 (dk_at dksX6_is_0 22 rfl rfl)
theorem dX6_is_23 : decode cX6_is 23 = .ok (.istore 4, 2) := dk_54 4 (dk_at dksX6_is_1 0 rfl rfl)
theorem dX6_is_25 : decode cX6_is 25 = .ok (.iload 4, 2) := dk_21 4 (dk_at dksX6_is_1 2 rfl rfl)
theorem dX6_is_27 : decode cX6_is 27 = .ok (.aload_n 0, 1) := dk_42 (dk_at dksX6_is_1 4 rfl rfl)
theorem dX6_is_28 : decode cX6_is 28 = .ok (.getfield 235, 3) := dk_180 0 235 (dk_at dksX6_is_1 5 rfl rfl)
theorem dX6_is_31 : decode cX6_is 31 = .ok (.if_icmp .ge 142, 3) := dk_162 0 142 (dk_at dksX6_is_1 8 rfl rfl)
theorem dX6_is_34 : decode cX6_is 34 = .ok (.aload_n 0, 1) := dk_42 (dk_at dksX6_is_1 11 rfl rfl)
theorem dX6_is_35 : decode cX6_is 35 = .ok (.getfield 69, 3) := dk_180 0 69 (dk_at dksX6_is_1 12 rfl rfl)
theorem dX6_is_38 : decode cX6_is 38 = .ok (.iload 4, 2) := dk_21 4 (dk_at dksX6_is_1 15 rfl rfl)
theorem dX6_is_40 : decode cX6_is 40 = .ok (.laload, 1) := dk_47 (dk_at dksX6_is_1 17 rfl rfl)
theorem dX6_is_41 : decode cX6_is 41 = .ok (.lstore 5, 2) := dk_55 5 (dk_at dksX6_is_1 18 rfl rfl)
theorem dX6_is_43 : decode cX6_is 43 = .ok (.iload_n 1, 1) := dk_27 (dk_at dksX6_is_1 20 rfl rfl)
theorem dX6_is_44 : decode cX6_is 44 = .ok (.ifCond .ne 23, 3) := dk_154 0 23 (dk_at dksX6_is_1 21 rfl rfl)
theorem dX6_is_47 : decode cX6_is 47 = .ok (.aload_n 0, 1) := dk_42 (dk_at dksX6_is_2 0 rfl rfl)
theorem dX6_is_48 : decode cX6_is 48 = .ok (.getfield 66, 3) := dk_180 0 66 (dk_at dksX6_is_2 1 rfl rfl)
theorem dX6_is_51 : decode cX6_is 51 = .ok (.iload 4, 2) := dk_21 4 (dk_at dksX6_is_2 4 rfl rfl)
theorem dX6_is_53 : decode cX6_is 53 = .ok (.laload, 1) := dk_47 (dk_at dksX6_is_2 6 rfl rfl)
theorem dX6_is_54 : decode cX6_is 54 = .ok (.lconst 0, 1) := dk_9 (dk_at dksX6_is_2 7 rfl rfl)
theorem dX6_is_55 : decode cX6_is 55 = .ok (.lcmp, 1) := dk_148 (dk_at dksX6_is_2 8 rfl rfl)
theorem dX6_is_56 : decode cX6_is 56 = .ok (.ifCond .lt 7, 3) := dk_155 0 7 (dk_at dksX6_is_2 9 rfl rfl)
theorem dX6_is_59 : decode cX6_is 59 = .ok (.iconst 1, 1) := dk_4 (dk_at dksX6_is_2 12 rfl rfl)
theorem dX6_is_60 : decode cX6_is 60 = .ok (.goto 75, 3) := dk_167 0 75 (dk_at dksX6_is_2 13 rfl rfl)
theorem dX6_is_63 : decode cX6_is 63 = .ok (.iconst 0, 1) := dk_3 (dk_at dksX6_is_2 16 rfl rfl)
theorem dX6_is_64 : decode cX6_is 64 = .ok (.goto 71, 3) := dk_167 0 71 (dk_at dksX6_is_2 17 rfl rfl)
theorem dX6_is_67 : decode cX6_is 67 = .ok (.iload_n 1, 1) := dk_27 (dk_at dksX6_is_2 20 rfl rfl)
theorem dX6_is_68 : decode cX6_is 68 = .ok (.iconst 1, 1) := dk_4 (dk_at dksX6_is_2 21 rfl rfl)
theorem dX6_is_69 : decode cX6_is 69 = .ok (.if_icmp .ne 25, 3) := dk_160 0 25 (dk_at dksX6_is_3 0 rfl rfl)
theorem dX6_is_72 : decode cX6_is 72 = .ok (.lload 5, 2) := dk_22 5 (dk_at dksX6_is_3 3 rfl rfl)
theorem dX6_is_74 : decode cX6_is 74 = .ok (.lconst 0, 1) := dk_9 (dk_at dksX6_is_3 5 rfl rfl)
theorem dX6_is_75 : decode cX6_is 75 = .ok (.lcmp, 1) := dk_148 (dk_at dksX6_is_3 6 rfl rfl)
theorem dX6_is_76 : decode cX6_is 76 = .ok (.ifCond .eq 10, 3) := dk_153 0 10 (dk_at dksX6_is_3 7 rfl rfl)
theorem dX6_is_79 : decode cX6_is 79 = .ok (.lload 5, 2) := dk_22 5 (dk_at dksX6_is_3 10 rfl rfl)
theorem dX6_is_81 : decode cX6_is 81 = .ok (.lconst 1, 1) := dk_10 (dk_at dksX6_is_3 12 rfl rfl)
theorem dX6_is_82 : decode cX6_is 82 = .ok (.lcmp, 1) := dk_148 (dk_at dksX6_is_3 13 rfl rfl)
theorem dX6_is_83 : decode cX6_is 83 = .ok (.ifCond .ne 7, 3) := dk_154 0 7 (dk_at dksX6_is_3 14 rfl rfl)
theorem dX6_is_86 : decode cX6_is 86 = .ok (.iconst 1, 1) := dk_4 (dk_at dksX6_is_3 17 rfl rfl)
theorem dX6_is_87 : decode cX6_is 87 = .ok (.goto 48, 3) := dk_167 0 48 (dk_at dksX6_is_3 18 rfl rfl)
theorem dX6_is_90 : decode cX6_is 90 = .ok (.iconst 0, 1) := dk_3 (dk_at dksX6_is_3 21 rfl rfl)
theorem dX6_is_91 : decode cX6_is 91 = .ok (.goto 44, 3) := dk_167 0 44 (dk_at dksX6_is_4 0 rfl rfl)
theorem dX6_is_94 : decode cX6_is 94 = .ok (.iload_n 1, 1) := dk_27 (dk_at dksX6_is_4 3 rfl rfl)
theorem dX6_is_95 : decode cX6_is 95 = .ok (.iconst 2, 1) := dk_5 (dk_at dksX6_is_4 4 rfl rfl)
theorem dX6_is_96 : decode cX6_is 96 = .ok (.if_icmp .ne 27, 3) := dk_160 0 27 (dk_at dksX6_is_4 5 rfl rfl)
theorem dX6_is_99 : decode cX6_is 99 = .ok (.lload 5, 2) := dk_22 5 (dk_at dksX6_is_4 8 rfl rfl)
theorem dX6_is_101 : decode cX6_is 101 = .ok (.lconst 1, 1) := dk_10 (dk_at dksX6_is_4 10 rfl rfl)
theorem dX6_is_102 : decode cX6_is 102 = .ok (.lcmp, 1) := dk_148 (dk_at dksX6_is_4 11 rfl rfl)
theorem dX6_is_103 : decode cX6_is 103 = .ok (.ifCond .eq 12, 3) := dk_153 0 12 (dk_at dksX6_is_4 12 rfl rfl)
theorem dX6_is_106 : decode cX6_is 106 = .ok (.lload 5, 2) := dk_22 5 (dk_at dksX6_is_4 15 rfl rfl)
theorem dX6_is_108 : decode cX6_is 108 = .ok (.ldc2_w 468, 3) := dk_20 1 212 (dk_at dksX6_is_4 17 rfl rfl)
theorem dX6_is_111 : decode cX6_is 111 = .ok (.lcmp, 1) := dk_148 (dk_at dksX6_is_4 20 rfl rfl)
theorem dX6_is_112 : decode cX6_is 112 = .ok (.ifCond .ne 7, 3) := dk_154 0 7 (dk_at dksX6_is_4 21 rfl rfl)
theorem dX6_is_115 : decode cX6_is 115 = .ok (.iconst 1, 1) := dk_4 (dk_at dksX6_is_5 0 rfl rfl)
theorem dX6_is_116 : decode cX6_is 116 = .ok (.goto 19, 3) := dk_167 0 19 (dk_at dksX6_is_5 1 rfl rfl)
theorem dX6_is_119 : decode cX6_is 119 = .ok (.iconst 0, 1) := dk_3 (dk_at dksX6_is_5 4 rfl rfl)
theorem dX6_is_120 : decode cX6_is 120 = .ok (.goto 15, 3) := dk_167 0 15 (dk_at dksX6_is_5 5 rfl rfl)
theorem dX6_is_123 : decode cX6_is 123 = .ok (.lload 5, 2) := dk_22 5 (dk_at dksX6_is_5 8 rfl rfl)
theorem dX6_is_125 : decode cX6_is 125 = .ok (.lconst 0, 1) := dk_9 (dk_at dksX6_is_5 10 rfl rfl)
theorem dX6_is_126 : decode cX6_is 126 = .ok (.lcmp, 1) := dk_148 (dk_at dksX6_is_5 11 rfl rfl)
theorem dX6_is_127 : decode cX6_is 127 = .ok (.ifCond .ne 7, 3) := dk_154 0 7 (dk_at dksX6_is_5 12 rfl rfl)
theorem dX6_is_130 : decode cX6_is 130 = .ok (.iconst 1, 1) := dk_4 (dk_at dksX6_is_5 15 rfl rfl)
theorem dX6_is_131 : decode cX6_is 131 = .ok (.goto 4, 3) := dk_167 0 4 (dk_at dksX6_is_5 16 rfl rfl)
theorem dX6_is_134 : decode cX6_is 134 = .ok (.iconst 0, 1) := dk_3 (dk_at dksX6_is_5 19 rfl rfl)
theorem dX6_is_135 : decode cX6_is 135 = .ok (.istore 7, 2) := dk_54 7 (dk_at dksX6_is_5 20 rfl rfl)
theorem dX6_is_137 : decode cX6_is 137 = .ok (.iload_n 2, 1) := dk_28 (dk_at dksX6_is_5 22 rfl rfl)
theorem dX6_is_138 : decode cX6_is 138 = .ok (.ifCond .eq 12, 3) := dk_153 0 12 (dk_at dksX6_is_6 0 rfl rfl)
theorem dX6_is_141 : decode cX6_is 141 = .ok (.iload 7, 2) := dk_21 7 (dk_at dksX6_is_6 3 rfl rfl)
theorem dX6_is_143 : decode cX6_is 143 = .ok (.ifCond .eq 7, 3) := dk_153 0 7 (dk_at dksX6_is_6 5 rfl rfl)
theorem dX6_is_146 : decode cX6_is 146 = .ok (.iconst 1, 1) := dk_4 (dk_at dksX6_is_6 8 rfl rfl)
theorem dX6_is_147 : decode cX6_is 147 = .ok (.goto 4, 3) := dk_167 0 4 (dk_at dksX6_is_6 9 rfl rfl)
theorem dX6_is_150 : decode cX6_is 150 = .ok (.iconst 0, 1) := dk_3 (dk_at dksX6_is_6 12 rfl rfl)
theorem dX6_is_151 : decode cX6_is 151 = .ok (.istore_n 2, 1) := dk_61 (dk_at dksX6_is_6 13 rfl rfl)
theorem dX6_is_152 : decode cX6_is 152 = .ok (.iload_n 3, 1) := dk_29 (dk_at dksX6_is_6 14 rfl rfl)
theorem dX6_is_153 : decode cX6_is 153 = .ok (.ifCond .ne 8, 3) := dk_154 0 8 (dk_at dksX6_is_6 15 rfl rfl)
theorem dX6_is_156 : decode cX6_is 156 = .ok (.iload 7, 2) := dk_21 7 (dk_at dksX6_is_6 18 rfl rfl)
theorem dX6_is_158 : decode cX6_is 158 = .ok (.ifCond .eq 7, 3) := dk_153 0 7 (dk_at dksX6_is_6 20 rfl rfl)
theorem dX6_is_161 : decode cX6_is 161 = .ok (.iconst 1, 1) := dk_4 (dk_at dksX6_is_6 23 rfl rfl)
theorem dX6_is_162 : decode cX6_is 162 = .ok (.goto 4, 3) := dk_167 0 4 (dk_at dksX6_is_7 0 rfl rfl)
theorem dX6_is_165 : decode cX6_is 165 = .ok (.iconst 0, 1) := dk_3 (dk_at dksX6_is_7 3 rfl rfl)
theorem dX6_is_166 : decode cX6_is 166 = .ok (.istore_n 3, 1) := dk_62 (dk_at dksX6_is_7 4 rfl rfl)
theorem dX6_is_167 : decode cX6_is 167 = .ok (.iinc 4 1, 3) := dk_132 4 1 (dk_at dksX6_is_7 5 rfl rfl)
theorem dX6_is_170 : decode cX6_is 170 = .ok (.goto (-145), 3) := dk_167 255 111 (dk_at dksX6_is_7 8 rfl rfl)
theorem dX6_is_173 : decode cX6_is 173 = .ok (.iload_n 1, 1) := dk_27 (dk_at dksX6_is_7 11 rfl rfl)
theorem dX6_is_174 : decode cX6_is 174 = .ok (.iconst 3, 1) := dk_6 (dk_at dksX6_is_7 12 rfl rfl)
theorem dX6_is_175 : decode cX6_is 175 = .ok (.if_icmp .ne 7, 3) := dk_160 0 7 (dk_at dksX6_is_7 13 rfl rfl)
theorem dX6_is_178 : decode cX6_is 178 = .ok (.iload_n 3, 1) := dk_29 (dk_at dksX6_is_7 16 rfl rfl)
theorem dX6_is_179 : decode cX6_is 179 = .ok (.goto 4, 3) := dk_167 0 4 (dk_at dksX6_is_7 17 rfl rfl)
theorem dX6_is_182 : decode cX6_is 182 = .ok (.iload_n 2, 1) := dk_28 (dk_at dksX6_is_7 20 rfl rfl)
theorem dX6_is_183 : decode cX6_is 183 = .ok (.invokestatic 256, 3) := dk_184 1 0 (dk_at dksX6_is_7 21 rfl rfl)
theorem dX6_is_186 : decode cX6_is 186 = .ok (.ireturn, 1) := dk_172 (dk_at dksX6_is_8 0 rfl rfl)
abbrev cX6_makes : ByteArray := prog_16_method_123_code
def yX6_makes : MethodName := ⟨RX6, "makes", "()I"⟩
def dkwX6_makes_4 : List UInt8 := [182, 1, 228, 172]
abbrev dktX6_makes_4 : List UInt8 := dkwX6_makes_4 ++ []
def dkwX6_makes_3 : List UInt8 := [162, 0, 21, 42, 180, 0, 66, 27, 42, 180, 0, 56, 27, 47, 80, 132, 1, 1, 167, 255, 233, 42]
abbrev dktX6_makes_3 : List UInt8 := dkwX6_makes_3 ++ dktX6_makes_4
def dkwX6_makes_2 : List UInt8 := [42, 182, 1, 117, 42, 180, 0, 172, 158, 0, 5, 2, 172, 42, 182, 1, 225, 3, 60, 27, 42, 180, 0, 235]
abbrev dktX6_makes_2 : List UInt8 := dkwX6_makes_2 ++ dktX6_makes_3
def dkwX6_makes_1 : List UInt8 := [182, 0, 190, 42, 182, 0, 183, 153, 0, 17, 42, 180, 1, 19, 153, 0, 10, 42, 16, 6, 3, 182, 0, 168]
abbrev dktX6_makes_1 : List UInt8 := dkwX6_makes_1 ++ dktX6_makes_2
def dkwX6_makes_0 : List UInt8 := [42, 182, 1, 111, 42, 182, 1, 102, 42, 182, 0, 183, 153, 0, 15, 42, 180, 0, 155, 153, 0, 8, 42, 5]
abbrev dktX6_makes_0 : List UInt8 := dkwX6_makes_0 ++ dktX6_makes_1
theorem dksX6_makes_0 : cX6_makes.data.toList.drop 0 = dktX6_makes_0 := by decide +kernel
theorem dksX6_makes_1 : cX6_makes.data.toList.drop 24 = dktX6_makes_1 := dk_seg dksX6_makes_0 24 rfl rfl
theorem dksX6_makes_2 : cX6_makes.data.toList.drop 48 = dktX6_makes_2 := dk_seg dksX6_makes_1 24 rfl rfl
theorem dksX6_makes_3 : cX6_makes.data.toList.drop 72 = dktX6_makes_3 := dk_seg dksX6_makes_2 24 rfl rfl
theorem dksX6_makes_4 : cX6_makes.data.toList.drop 94 = dktX6_makes_4 := dk_seg dksX6_makes_3 22 rfl rfl
theorem dX6_makes_0 : decode cX6_makes 0 = .ok (.aload_n 0, 1) := dk_42 (dk_at dksX6_makes_0 0 rfl rfl)
theorem dX6_makes_1 : decode cX6_makes 1 = .ok (.invokevirtual 367, 3) := dk_182 1 111 (dk_at dksX6_makes_0 1 rfl rfl)
theorem dX6_makes_4 : decode cX6_makes 4 = .ok (.aload_n 0, 1) := dk_42 (dk_at dksX6_makes_0 4 rfl rfl)
theorem dX6_makes_5 : decode cX6_makes 5 = .ok (.invokevirtual 358, 3) := dk_182 1 102 (dk_at dksX6_makes_0 5 rfl rfl)
theorem dX6_makes_8 : decode cX6_makes 8 = .ok (.aload_n 0, 1) := dk_42 (dk_at dksX6_makes_0 8 rfl rfl)
theorem dX6_makes_9 : decode cX6_makes 9 = .ok (.invokevirtual 183, 3) := dk_182 0 183 (dk_at dksX6_makes_0 9 rfl rfl)
theorem dX6_makes_12 : decode cX6_makes 12 = .ok (.ifCond .eq 15, 3) := dk_153 0 15 (dk_at dksX6_makes_0 12 rfl rfl)
theorem dX6_makes_15 : decode cX6_makes 15 = .ok (.aload_n 0, 1) := dk_42 (dk_at dksX6_makes_0 15 rfl rfl)
theorem dX6_makes_16 : decode cX6_makes 16 = .ok (.getfield 155, 3) := dk_180 0 155 (dk_at dksX6_makes_0 16 rfl rfl)
theorem dX6_makes_19 : decode cX6_makes 19 = .ok (.ifCond .eq 8, 3) := dk_153 0 8 (dk_at dksX6_makes_0 19 rfl rfl)
theorem dX6_makes_22 : decode cX6_makes 22 = .ok (.aload_n 0, 1) := dk_42 (dk_at dksX6_makes_0 22 rfl rfl)
theorem dX6_makes_23 : decode cX6_makes 23 = .ok (.iconst 2, 1) := dk_5 (dk_at dksX6_makes_0 23 rfl rfl)
theorem dX6_makes_24 : decode cX6_makes 24 = .ok (.invokevirtual 190, 3) := dk_182 0 190 (dk_at dksX6_makes_1 0 rfl rfl)
theorem dX6_makes_27 : decode cX6_makes 27 = .ok (.aload_n 0, 1) := dk_42 (dk_at dksX6_makes_1 3 rfl rfl)
theorem dX6_makes_28 : decode cX6_makes 28 = .ok (.invokevirtual 183, 3) := dk_182 0 183 (dk_at dksX6_makes_1 4 rfl rfl)
theorem dX6_makes_31 : decode cX6_makes 31 = .ok (.ifCond .eq 17, 3) := dk_153 0 17 (dk_at dksX6_makes_1 7 rfl rfl)
theorem dX6_makes_34 : decode cX6_makes 34 = .ok (.aload_n 0, 1) := dk_42 (dk_at dksX6_makes_1 10 rfl rfl)
theorem dX6_makes_35 : decode cX6_makes 35 = .ok (.getfield 275, 3) := dk_180 1 19 (dk_at dksX6_makes_1 11 rfl rfl)
theorem dX6_makes_38 : decode cX6_makes 38 = .ok (.ifCond .eq 10, 3) := dk_153 0 10 (dk_at dksX6_makes_1 14 rfl rfl)
theorem dX6_makes_41 : decode cX6_makes 41 = .ok (.aload_n 0, 1) := dk_42 (dk_at dksX6_makes_1 17 rfl rfl)
theorem dX6_makes_42 : decode cX6_makes 42 = .ok (.bipush 6, 2) := dk_16 6 (dk_at dksX6_makes_1 18 rfl rfl)
theorem dX6_makes_44 : decode cX6_makes 44 = .ok (.iconst 0, 1) := dk_3 (dk_at dksX6_makes_1 20 rfl rfl)
theorem dX6_makes_45 : decode cX6_makes 45 = .ok (.invokevirtual 168, 3) := dk_182 0 168 (dk_at dksX6_makes_1 21 rfl rfl)
theorem dX6_makes_48 : decode cX6_makes 48 = .ok (.aload_n 0, 1) := dk_42 (dk_at dksX6_makes_2 0 rfl rfl)
theorem dX6_makes_49 : decode cX6_makes 49 = .ok (.invokevirtual 373, 3) := dk_182 1 117 (dk_at dksX6_makes_2 1 rfl rfl)
theorem dX6_makes_52 : decode cX6_makes 52 = .ok (.aload_n 0, 1) := dk_42 (dk_at dksX6_makes_2 4 rfl rfl)
theorem dX6_makes_53 : decode cX6_makes 53 = .ok (.getfield 172, 3) := dk_180 0 172 (dk_at dksX6_makes_2 5 rfl rfl)
theorem dX6_makes_56 : decode cX6_makes 56 = .ok (.ifCond .le 5, 3) := dk_158 0 5 (dk_at dksX6_makes_2 8 rfl rfl)
theorem dX6_makes_59 : decode cX6_makes 59 = .ok (.iconst (-1), 1) := dk_2 (dk_at dksX6_makes_2 11 rfl rfl)
theorem dX6_makes_60 : decode cX6_makes 60 = .ok (.ireturn, 1) := dk_172 (dk_at dksX6_makes_2 12 rfl rfl)
theorem dX6_makes_61 : decode cX6_makes 61 = .ok (.aload_n 0, 1) := dk_42 (dk_at dksX6_makes_2 13 rfl rfl)
theorem dX6_makes_62 : decode cX6_makes 62 = .ok (.invokevirtual 481, 3) := dk_182 1 225 (dk_at dksX6_makes_2 14 rfl rfl)
theorem dX6_makes_65 : decode cX6_makes 65 = .ok (.iconst 0, 1) := dk_3 (dk_at dksX6_makes_2 17 rfl rfl)
theorem dX6_makes_66 : decode cX6_makes 66 = .ok (.istore_n 1, 1) := dk_60 (dk_at dksX6_makes_2 18 rfl rfl)
theorem dX6_makes_67 : decode cX6_makes 67 = .ok (.iload_n 1, 1) := dk_27 (dk_at dksX6_makes_2 19 rfl rfl)
theorem dX6_makes_68 : decode cX6_makes 68 = .ok (.aload_n 0, 1) := dk_42 (dk_at dksX6_makes_2 20 rfl rfl)
theorem dX6_makes_69 : decode cX6_makes 69 = .ok (.getfield 235, 3) := dk_180 0 235 (dk_at dksX6_makes_2 21 rfl rfl)
theorem dX6_makes_72 : decode cX6_makes 72 = .ok (.if_icmp .ge 21, 3) := dk_162 0 21 (dk_at dksX6_makes_3 0 rfl rfl)
theorem dX6_makes_75 : decode cX6_makes 75 = .ok (.aload_n 0, 1) := dk_42 (dk_at dksX6_makes_3 3 rfl rfl)
theorem dX6_makes_76 : decode cX6_makes 76 = .ok (.getfield 66, 3) := dk_180 0 66 (dk_at dksX6_makes_3 4 rfl rfl)
theorem dX6_makes_79 : decode cX6_makes 79 = .ok (.iload_n 1, 1) := dk_27 (dk_at dksX6_makes_3 7 rfl rfl)
theorem dX6_makes_80 : decode cX6_makes 80 = .ok (.aload_n 0, 1) := dk_42 (dk_at dksX6_makes_3 8 rfl rfl)
theorem dX6_makes_81 : decode cX6_makes 81 = .ok (.getfield 56, 3) := dk_180 0 56 (dk_at dksX6_makes_3 9 rfl rfl)
theorem dX6_makes_84 : decode cX6_makes 84 = .ok (.iload_n 1, 1) := dk_27 (dk_at dksX6_makes_3 12 rfl rfl)
theorem dX6_makes_85 : decode cX6_makes 85 = .ok (.laload, 1) := dk_47 (dk_at dksX6_makes_3 13 rfl rfl)
theorem dX6_makes_86 : decode cX6_makes 86 = .ok (.lastore, 1) := dk_80 (dk_at dksX6_makes_3 14 rfl rfl)
theorem dX6_makes_87 : decode cX6_makes 87 = .ok (.iinc 1 1, 3) := dk_132 1 1 (dk_at dksX6_makes_3 15 rfl rfl)
theorem dX6_makes_90 : decode cX6_makes 90 = .ok (.goto (-23), 3) := dk_167 255 233 (dk_at dksX6_makes_3 18 rfl rfl)
theorem dX6_makes_93 : decode cX6_makes 93 = .ok (.aload_n 0, 1) := dk_42 (dk_at dksX6_makes_3 21 rfl rfl)
theorem dX6_makes_94 : decode cX6_makes 94 = .ok (.invokevirtual 484, 3) := dk_182 1 228 (dk_at dksX6_makes_4 0 rfl rfl)
theorem dX6_makes_97 : decode cX6_makes 97 = .ok (.ireturn, 1) := dk_172 (dk_at dksX6_makes_4 3 rfl rfl)
abbrev cX6_act : ByteArray := prog_16_method_113_code
def yX6_act : MethodName := ⟨RX6, "act", "()V"⟩
def dkwX6_act_3 : List UInt8 := [42, 180, 0, 66, 27, 47, 80, 132, 1, 1, 167, 255, 227, 42, 89, 180, 1, 135, 4, 96, 181, 1, 135, 177]
abbrev dktX6_act_3 : List UInt8 := dkwX6_act_3 ++ []
def dkwX6_act_2 : List UInt8 := [181, 1, 135, 3, 60, 27, 16, 64, 162, 0, 29, 42, 180, 0, 106, 16, 64, 42, 180, 1, 135, 104, 27, 96]
abbrev dktX6_act_2 : List UInt8 := dkwX6_act_2 ++ dktX6_act_3
def dkwX6_act_1 : List UInt8 := [16, 64, 100, 42, 180, 0, 106, 27, 47, 80, 132, 1, 1, 167, 255, 231, 42, 89, 180, 1, 135, 4, 100]
abbrev dktX6_act_1 : List UInt8 := dkwX6_act_1 ++ dktX6_act_2
def dkwX6_act_0 : List UInt8 := [42, 180, 1, 135, 16, 12, 160, 0, 44, 16, 64, 60, 27, 17, 3, 0, 162, 0, 24, 42, 180, 0, 106, 27]
abbrev dktX6_act_0 : List UInt8 := dkwX6_act_0 ++ dktX6_act_1
theorem dksX6_act_0 : cX6_act.data.toList.drop 0 = dktX6_act_0 := by decide +kernel
theorem dksX6_act_1 : cX6_act.data.toList.drop 24 = dktX6_act_1 := dk_seg dksX6_act_0 24 rfl rfl
theorem dksX6_act_2 : cX6_act.data.toList.drop 47 = dktX6_act_2 := dk_seg dksX6_act_1 23 rfl rfl
theorem dksX6_act_3 : cX6_act.data.toList.drop 71 = dktX6_act_3 := dk_seg dksX6_act_2 24 rfl rfl
theorem dX6_act_0 : decode cX6_act 0 = .ok (.aload_n 0, 1) := dk_42 (dk_at dksX6_act_0 0 rfl rfl)
theorem dX6_act_1 : decode cX6_act 1 = .ok (.getfield 391, 3) := dk_180 1 135 (dk_at dksX6_act_0 1 rfl rfl)
theorem dX6_act_4 : decode cX6_act 4 = .ok (.bipush 12, 2) := dk_16 12 (dk_at dksX6_act_0 4 rfl rfl)
theorem dX6_act_6 : decode cX6_act 6 = .ok (.if_icmp .ne 44, 3) := dk_160 0 44 (dk_at dksX6_act_0 6 rfl rfl)
theorem dX6_act_9 : decode cX6_act 9 = .ok (.bipush 64, 2) := dk_16 64 (dk_at dksX6_act_0 9 rfl rfl)
theorem dX6_act_11 : decode cX6_act 11 = .ok (.istore_n 1, 1) := dk_60 (dk_at dksX6_act_0 11 rfl rfl)
theorem dX6_act_12 : decode cX6_act 12 = .ok (.iload_n 1, 1) := dk_27 (dk_at dksX6_act_0 12 rfl rfl)
theorem dX6_act_13 : decode cX6_act 13 = .ok (.sipush 768, 3) := dk_17 3 0 (dk_at dksX6_act_0 13 rfl rfl)
theorem dX6_act_16 : decode cX6_act 16 = .ok (.if_icmp .ge 24, 3) := dk_162 0 24 (dk_at dksX6_act_0 16 rfl rfl)
theorem dX6_act_19 : decode cX6_act 19 = .ok (.aload_n 0, 1) := dk_42 (dk_at dksX6_act_0 19 rfl rfl)
theorem dX6_act_20 : decode cX6_act 20 = .ok (.getfield 106, 3) := dk_180 0 106 (dk_at dksX6_act_0 20 rfl rfl)
theorem dX6_act_23 : decode cX6_act 23 = .ok (.iload_n 1, 1) := dk_27 (dk_at dksX6_act_0 23 rfl rfl)
theorem dX6_act_24 : decode cX6_act 24 = .ok (.bipush 64, 2) := dk_16 64 (dk_at dksX6_act_1 0 rfl rfl)
theorem dX6_act_26 : decode cX6_act 26 = .ok (.isub, 1) := dk_100 (dk_at dksX6_act_1 2 rfl rfl)
theorem dX6_act_27 : decode cX6_act 27 = .ok (.aload_n 0, 1) := dk_42 (dk_at dksX6_act_1 3 rfl rfl)
theorem dX6_act_28 : decode cX6_act 28 = .ok (.getfield 106, 3) := dk_180 0 106 (dk_at dksX6_act_1 4 rfl rfl)
theorem dX6_act_31 : decode cX6_act 31 = .ok (.iload_n 1, 1) := dk_27 (dk_at dksX6_act_1 7 rfl rfl)
theorem dX6_act_32 : decode cX6_act 32 = .ok (.laload, 1) := dk_47 (dk_at dksX6_act_1 8 rfl rfl)
theorem dX6_act_33 : decode cX6_act 33 = .ok (.lastore, 1) := dk_80 (dk_at dksX6_act_1 9 rfl rfl)
theorem dX6_act_34 : decode cX6_act 34 = .ok (.iinc 1 1, 3) := dk_132 1 1 (dk_at dksX6_act_1 10 rfl rfl)
theorem dX6_act_37 : decode cX6_act 37 = .ok (.goto (-25), 3) := dk_167 255 231 (dk_at dksX6_act_1 13 rfl rfl)
theorem dX6_act_40 : decode cX6_act 40 = .ok (.aload_n 0, 1) := dk_42 (dk_at dksX6_act_1 16 rfl rfl)
theorem dX6_act_41 : decode cX6_act 41 = .ok (.dup, 1) := dk_89 (dk_at dksX6_act_1 17 rfl rfl)
theorem dX6_act_42 : decode cX6_act 42 = .ok (.getfield 391, 3) := dk_180 1 135 (dk_at dksX6_act_1 18 rfl rfl)
theorem dX6_act_45 : decode cX6_act 45 = .ok (.iconst 1, 1) := dk_4 (dk_at dksX6_act_1 21 rfl rfl)
theorem dX6_act_46 : decode cX6_act 46 = .ok (.isub, 1) := dk_100 (dk_at dksX6_act_1 22 rfl rfl)
theorem dX6_act_47 : decode cX6_act 47 = .ok (.putfield 391, 3) := dk_181 1 135 (dk_at dksX6_act_2 0 rfl rfl)
theorem dX6_act_50 : decode cX6_act 50 = .ok (.iconst 0, 1) := dk_3 (dk_at dksX6_act_2 3 rfl rfl)
theorem dX6_act_51 : decode cX6_act 51 = .ok (.istore_n 1, 1) := dk_60 (dk_at dksX6_act_2 4 rfl rfl)
theorem dX6_act_52 : decode cX6_act 52 = .ok (.iload_n 1, 1) := dk_27 (dk_at dksX6_act_2 5 rfl rfl)
theorem dX6_act_53 : decode cX6_act 53 = .ok (.bipush 64, 2) := dk_16 64 (dk_at dksX6_act_2 6 rfl rfl)
theorem dX6_act_55 : decode cX6_act 55 = .ok (.if_icmp .ge 29, 3) := dk_162 0 29 (dk_at dksX6_act_2 8 rfl rfl)
theorem dX6_act_58 : decode cX6_act 58 = .ok (.aload_n 0, 1) := dk_42 (dk_at dksX6_act_2 11 rfl rfl)
theorem dX6_act_59 : decode cX6_act 59 = .ok (.getfield 106, 3) := dk_180 0 106 (dk_at dksX6_act_2 12 rfl rfl)
theorem dX6_act_62 : decode cX6_act 62 = .ok (.bipush 64, 2) := dk_16 64 (dk_at dksX6_act_2 15 rfl rfl)
theorem dX6_act_64 : decode cX6_act 64 = .ok (.aload_n 0, 1) := dk_42 (dk_at dksX6_act_2 17 rfl rfl)
theorem dX6_act_65 : decode cX6_act 65 = .ok (.getfield 391, 3) := dk_180 1 135 (dk_at dksX6_act_2 18 rfl rfl)
theorem dX6_act_68 : decode cX6_act 68 = .ok (.imul, 1) := dk_104 (dk_at dksX6_act_2 21 rfl rfl)
theorem dX6_act_69 : decode cX6_act 69 = .ok (.iload_n 1, 1) := dk_27 (dk_at dksX6_act_2 22 rfl rfl)
theorem dX6_act_70 : decode cX6_act 70 = .ok (.iadd, 1) := dk_96 (dk_at dksX6_act_2 23 rfl rfl)
theorem dX6_act_71 : decode cX6_act 71 = .ok (.aload_n 0, 1) := dk_42 (dk_at dksX6_act_3 0 rfl rfl)
theorem dX6_act_72 : decode cX6_act 72 = .ok (.getfield 66, 3) := dk_180 0 66 (dk_at dksX6_act_3 1 rfl rfl)
theorem dX6_act_75 : decode cX6_act 75 = .ok (.iload_n 1, 1) := dk_27 (dk_at dksX6_act_3 4 rfl rfl)
theorem dX6_act_76 : decode cX6_act 76 = .ok (.laload, 1) := dk_47 (dk_at dksX6_act_3 5 rfl rfl)
theorem dX6_act_77 : decode cX6_act 77 = .ok (.lastore, 1) := dk_80 (dk_at dksX6_act_3 6 rfl rfl)
theorem dX6_act_78 : decode cX6_act 78 = .ok (.iinc 1 1, 3) := dk_132 1 1 (dk_at dksX6_act_3 7 rfl rfl)
theorem dX6_act_81 : decode cX6_act 81 = .ok (.goto (-29), 3) := dk_167 255 227 (dk_at dksX6_act_3 10 rfl rfl)
theorem dX6_act_84 : decode cX6_act 84 = .ok (.aload_n 0, 1) := dk_42 (dk_at dksX6_act_3 13 rfl rfl)
theorem dX6_act_85 : decode cX6_act 85 = .ok (.dup, 1) := dk_89 (dk_at dksX6_act_3 14 rfl rfl)
theorem dX6_act_86 : decode cX6_act 86 = .ok (.getfield 391, 3) := dk_180 1 135 (dk_at dksX6_act_3 15 rfl rfl)
theorem dX6_act_89 : decode cX6_act 89 = .ok (.iconst 1, 1) := dk_4 (dk_at dksX6_act_3 18 rfl rfl)
theorem dX6_act_90 : decode cX6_act 90 = .ok (.iadd, 1) := dk_96 (dk_at dksX6_act_3 19 rfl rfl)
theorem dX6_act_91 : decode cX6_act 91 = .ok (.putfield 391, 3) := dk_181 1 135 (dk_at dksX6_act_3 20 rfl rfl)
theorem dX6_act_94 : decode cX6_act 94 = .ok (.return_, 1) := dk_177 (dk_at dksX6_act_3 23 rfl rfl)
abbrev cX6_take : ByteArray := prog_16_method_127_code
def yX6_take : MethodName := ⟨RX6, "take", "(II)I"⟩
def dkwX6_take_3 : List UInt8 := [182, 1, 225, 42, 42, 180, 0, 60, 42, 180, 0, 66, 3, 182, 1, 33, 42, 180, 0, 60, 3, 47, 136, 172]
abbrev dktX6_take_3 : List UInt8 := dkwX6_take_3 ++ []
def dkwX6_take_2 : List UInt8 := [46, 182, 1, 241, 42, 180, 0, 60, 29, 42, 27, 28, 182, 1, 244, 80, 132, 3, 1, 167, 255, 223, 42]
abbrev dktX6_take_2 : List UInt8 := dkwX6_take_2 ++ dktX6_take_3
def dkwX6_take_1 : List UInt8 := [184, 0, 131, 154, 0, 5, 2, 172, 3, 62, 29, 42, 180, 0, 235, 162, 0, 31, 42, 42, 180, 0, 44, 29]
abbrev dktX6_take_1 : List UInt8 := dkwX6_take_1 ++ dktX6_take_2
def dkwX6_take_0 : List UInt8 := [27, 133, 9, 20, 1, 237, 184, 0, 131, 153, 0, 19, 27, 158, 0, 17, 28, 133, 9, 20, 1, 239]
abbrev dktX6_take_0 : List UInt8 := dkwX6_take_0 ++ dktX6_take_1
theorem dksX6_take_0 : cX6_take.data.toList.drop 0 = dktX6_take_0 := by decide +kernel
theorem dksX6_take_1 : cX6_take.data.toList.drop 22 = dktX6_take_1 := dk_seg dksX6_take_0 22 rfl rfl
theorem dksX6_take_2 : cX6_take.data.toList.drop 46 = dktX6_take_2 := dk_seg dksX6_take_1 24 rfl rfl
theorem dksX6_take_3 : cX6_take.data.toList.drop 69 = dktX6_take_3 := dk_seg dksX6_take_2 23 rfl rfl
theorem dX6_take_0 : decode cX6_take 0 = .ok (.iload_n 1, 1) := dk_27 (dk_at dksX6_take_0 0 rfl rfl)
theorem dX6_take_1 : decode cX6_take 1 = .ok (.i2l, 1) := dk_133 (dk_at dksX6_take_0 1 rfl rfl)
theorem dX6_take_2 : decode cX6_take 2 = .ok (.lconst 0, 1) := dk_9 (dk_at dksX6_take_0 2 rfl rfl)
theorem dX6_take_3 : decode cX6_take 3 = .ok (.ldc2_w 493, 3) := dk_20 1 237 (dk_at dksX6_take_0 3 rfl rfl)
theorem dX6_take_6 : decode cX6_take 6 = .ok (.invokestatic 131, 3) := dk_184 0 131 (dk_at dksX6_take_0 6 rfl rfl)
theorem dX6_take_9 : decode cX6_take 9 = .ok (.ifCond .eq 19, 3) := dk_153 0 19 (dk_at dksX6_take_0 9 rfl rfl)
theorem dX6_take_12 : decode cX6_take 12 = .ok (.iload_n 1, 1) := dk_27 (dk_at dksX6_take_0 12 rfl rfl)
theorem dX6_take_13 : decode cX6_take 13 = .ok (.ifCond .le 17, 3) := dk_158 0 17 (dk_at dksX6_take_0 13 rfl rfl)
theorem dX6_take_16 : decode cX6_take 16 = .ok (.iload_n 2, 1) := dk_28 (dk_at dksX6_take_0 16 rfl rfl)
theorem dX6_take_17 : decode cX6_take 17 = .ok (.i2l, 1) := dk_133 (dk_at dksX6_take_0 17 rfl rfl)
theorem dX6_take_18 : decode cX6_take 18 = .ok (.lconst 0, 1) := dk_9 (dk_at dksX6_take_0 18 rfl rfl)
theorem dX6_take_19 : decode cX6_take 19 = .ok (.ldc2_w 495, 3) := dk_20 1 239 (dk_at dksX6_take_0 19 rfl rfl)
theorem dX6_take_22 : decode cX6_take 22 = .ok (.invokestatic 131, 3) := dk_184 0 131 (dk_at dksX6_take_1 0 rfl rfl)
theorem dX6_take_25 : decode cX6_take 25 = .ok (.ifCond .ne 5, 3) := dk_154 0 5 (dk_at dksX6_take_1 3 rfl rfl)
theorem dX6_take_28 : decode cX6_take 28 = .ok (.iconst (-1), 1) := dk_2 (dk_at dksX6_take_1 6 rfl rfl)
theorem dX6_take_29 : decode cX6_take 29 = .ok (.ireturn, 1) := dk_172 (dk_at dksX6_take_1 7 rfl rfl)
theorem dX6_take_30 : decode cX6_take 30 = .ok (.iconst 0, 1) := dk_3 (dk_at dksX6_take_1 8 rfl rfl)
theorem dX6_take_31 : decode cX6_take 31 = .ok (.istore_n 3, 1) := dk_62 (dk_at dksX6_take_1 9 rfl rfl)
theorem dX6_take_32 : decode cX6_take 32 = .ok (.iload_n 3, 1) := dk_29 (dk_at dksX6_take_1 10 rfl rfl)
theorem dX6_take_33 : decode cX6_take 33 = .ok (.aload_n 0, 1) := dk_42 (dk_at dksX6_take_1 11 rfl rfl)
theorem dX6_take_34 : decode cX6_take 34 = .ok (.getfield 235, 3) := dk_180 0 235 (dk_at dksX6_take_1 12 rfl rfl)
theorem dX6_take_37 : decode cX6_take 37 = .ok (.if_icmp .ge 31, 3) := dk_162 0 31 (dk_at dksX6_take_1 15 rfl rfl)
theorem dX6_take_40 : decode cX6_take 40 = .ok (.aload_n 0, 1) := dk_42 (dk_at dksX6_take_1 18 rfl rfl)
theorem dX6_take_41 : decode cX6_take 41 = .ok (.aload_n 0, 1) := dk_42 (dk_at dksX6_take_1 19 rfl rfl)
theorem dX6_take_42 : decode cX6_take 42 = .ok (.getfield 44, 3) := dk_180 0 44 (dk_at dksX6_take_1 20 rfl rfl)
theorem dX6_take_45 : decode cX6_take 45 = .ok (.iload_n 3, 1) := dk_29 (dk_at dksX6_take_1 23 rfl rfl)
theorem dX6_take_46 : decode cX6_take 46 = .ok (.iaload, 1) := dk_46 (dk_at dksX6_take_2 0 rfl rfl)
theorem dX6_take_47 : decode cX6_take 47 = .ok (.invokevirtual 497, 3) := dk_182 1 241 (dk_at dksX6_take_2 1 rfl rfl)
theorem dX6_take_50 : decode cX6_take 50 = .ok (.aload_n 0, 1) := dk_42 (dk_at dksX6_take_2 4 rfl rfl)
theorem dX6_take_51 : decode cX6_take 51 = .ok (.getfield 60, 3) := dk_180 0 60 (dk_at dksX6_take_2 5 rfl rfl)
theorem dX6_take_54 : decode cX6_take 54 = .ok (.iload_n 3, 1) := dk_29 (dk_at dksX6_take_2 8 rfl rfl)
theorem dX6_take_55 : decode cX6_take 55 = .ok (.aload_n 0, 1) := dk_42 (dk_at dksX6_take_2 9 rfl rfl)
theorem dX6_take_56 : decode cX6_take 56 = .ok (.iload_n 1, 1) := dk_27 (dk_at dksX6_take_2 10 rfl rfl)
theorem dX6_take_57 : decode cX6_take 57 = .ok (.iload_n 2, 1) := dk_28 (dk_at dksX6_take_2 11 rfl rfl)
theorem dX6_take_58 : decode cX6_take 58 = .ok (.invokevirtual 500, 3) := dk_182 1 244 (dk_at dksX6_take_2 12 rfl rfl)
theorem dX6_take_61 : decode cX6_take 61 = .ok (.lastore, 1) := dk_80 (dk_at dksX6_take_2 15 rfl rfl)
theorem dX6_take_62 : decode cX6_take 62 = .ok (.iinc 3 1, 3) := dk_132 3 1 (dk_at dksX6_take_2 16 rfl rfl)
theorem dX6_take_65 : decode cX6_take 65 = .ok (.goto (-33), 3) := dk_167 255 223 (dk_at dksX6_take_2 19 rfl rfl)
theorem dX6_take_68 : decode cX6_take 68 = .ok (.aload_n 0, 1) := dk_42 (dk_at dksX6_take_2 22 rfl rfl)
theorem dX6_take_69 : decode cX6_take 69 = .ok (.invokevirtual 481, 3) := dk_182 1 225 (dk_at dksX6_take_3 0 rfl rfl)
theorem dX6_take_72 : decode cX6_take 72 = .ok (.aload_n 0, 1) := dk_42 (dk_at dksX6_take_3 3 rfl rfl)
theorem dX6_take_73 : decode cX6_take 73 = .ok (.aload_n 0, 1) := dk_42 (dk_at dksX6_take_3 4 rfl rfl)
theorem dX6_take_74 : decode cX6_take 74 = .ok (.getfield 60, 3) := dk_180 0 60 (dk_at dksX6_take_3 5 rfl rfl)
theorem dX6_take_77 : decode cX6_take 77 = .ok (.aload_n 0, 1) := dk_42 (dk_at dksX6_take_3 8 rfl rfl)
theorem dX6_take_78 : decode cX6_take 78 = .ok (.getfield 66, 3) := dk_180 0 66 (dk_at dksX6_take_3 9 rfl rfl)
theorem dX6_take_81 : decode cX6_take 81 = .ok (.iconst 0, 1) := dk_3 (dk_at dksX6_take_3 12 rfl rfl)
theorem dX6_take_82 : decode cX6_take 82 = .ok (.invokevirtual 289, 3) := dk_182 1 33 (dk_at dksX6_take_3 13 rfl rfl)
theorem dX6_take_85 : decode cX6_take 85 = .ok (.aload_n 0, 1) := dk_42 (dk_at dksX6_take_3 16 rfl rfl)
theorem dX6_take_86 : decode cX6_take 86 = .ok (.getfield 60, 3) := dk_180 0 60 (dk_at dksX6_take_3 17 rfl rfl)
theorem dX6_take_89 : decode cX6_take 89 = .ok (.iconst 0, 1) := dk_3 (dk_at dksX6_take_3 20 rfl rfl)
theorem dX6_take_90 : decode cX6_take 90 = .ok (.laload, 1) := dk_47 (dk_at dksX6_take_3 21 rfl rfl)
theorem dX6_take_91 : decode cX6_take 91 = .ok (.l2i, 1) := dk_136 (dk_at dksX6_take_3 22 rfl rfl)
theorem dX6_take_92 : decode cX6_take 92 = .ok (.ireturn, 1) := dk_172 (dk_at dksX6_take_3 23 rfl rfl)
abbrev cX6_laysParts : ByteArray := prog_16_method_124_code
def yX6_laysParts : MethodName := ⟨RX6, "laysParts", "(I)V"⟩
def dkwX6_laysParts_4 : List UInt8 := [180, 1, 231, 4, 96, 181, 1, 231, 28, 21, 4, 128, 61, 132, 3, 1, 167, 255, 156, 177]
abbrev dktX6_laysParts_4 : List UInt8 := dkwX6_laysParts_4 ++ []
def dkwX6_laysParts_3 : List UInt8 := [54, 4, 132, 5, 1, 167, 255, 216, 42, 180, 0, 109, 42, 180, 1, 231, 21, 4, 184, 0, 253, 79, 42, 89]
abbrev dktX6_laysParts_3 : List UInt8 := dkwX6_laysParts_3 ++ dktX6_laysParts_4
def dkwX6_laysParts_2 : List UInt8 := [184, 0, 213, 153, 0, 22, 21, 4, 4, 42, 180, 0, 26, 16, 6, 21, 5, 104, 29, 96, 46, 120, 128]
abbrev dktX6_laysParts_2 : List UInt8 := dkwX6_laysParts_2 ++ dktX6_laysParts_3
def dkwX6_laysParts_1 : List UInt8 := [153, 0, 6, 167, 0, 81, 3, 54, 4, 3, 54, 5, 21, 5, 42, 180, 0, 196, 162, 0, 37, 27, 21, 5]
abbrev dktX6_laysParts_1 : List UInt8 := dkwX6_laysParts_1 ++ dktX6_laysParts_2
def dkwX6_laysParts_0 : List UInt8 := [42, 3, 181, 1, 231, 3, 61, 3, 62, 29, 42, 180, 1, 126, 162, 0, 98, 28, 29, 184, 0, 213]
abbrev dktX6_laysParts_0 : List UInt8 := dkwX6_laysParts_0 ++ dktX6_laysParts_1
theorem dksX6_laysParts_0 : cX6_laysParts.data.toList.drop 0 = dktX6_laysParts_0 := by decide +kernel
theorem dksX6_laysParts_1 : cX6_laysParts.data.toList.drop 22 = dktX6_laysParts_1 := dk_seg dksX6_laysParts_0 22 rfl rfl
theorem dksX6_laysParts_2 : cX6_laysParts.data.toList.drop 46 = dktX6_laysParts_2 := dk_seg dksX6_laysParts_1 24 rfl rfl
theorem dksX6_laysParts_3 : cX6_laysParts.data.toList.drop 69 = dktX6_laysParts_3 := dk_seg dksX6_laysParts_2 23 rfl rfl
theorem dksX6_laysParts_4 : cX6_laysParts.data.toList.drop 93 = dktX6_laysParts_4 := dk_seg dksX6_laysParts_3 24 rfl rfl
theorem dX6_laysParts_0 : decode cX6_laysParts 0 = .ok (.aload_n 0, 1) := dk_42 (dk_at dksX6_laysParts_0 0 rfl rfl)
theorem dX6_laysParts_1 : decode cX6_laysParts 1 = .ok (.iconst 0, 1) := dk_3 (dk_at dksX6_laysParts_0 1 rfl rfl)
theorem dX6_laysParts_2 : decode cX6_laysParts 2 = .ok (.putfield 487, 3) := dk_181 1 231 (dk_at dksX6_laysParts_0 2 rfl rfl)
theorem dX6_laysParts_5 : decode cX6_laysParts 5 = .ok (.iconst 0, 1) := dk_3 (dk_at dksX6_laysParts_0 5 rfl rfl)
theorem dX6_laysParts_6 : decode cX6_laysParts 6 = .ok (.istore_n 2, 1) := dk_61 (dk_at dksX6_laysParts_0 6 rfl rfl)
theorem dX6_laysParts_7 : decode cX6_laysParts 7 = .ok (.iconst 0, 1) := dk_3 (dk_at dksX6_laysParts_0 7 rfl rfl)
theorem dX6_laysParts_8 : decode cX6_laysParts 8 = .ok (.istore_n 3, 1) := dk_62 (dk_at dksX6_laysParts_0 8 rfl rfl)
theorem dX6_laysParts_9 : decode cX6_laysParts 9 = .ok (.iload_n 3, 1) := dk_29 (dk_at dksX6_laysParts_0 9 rfl rfl)
theorem dX6_laysParts_10 : decode cX6_laysParts 10 = .ok (.aload_n 0, 1) := dk_42 (dk_at dksX6_laysParts_0 10 rfl rfl)
theorem dX6_laysParts_11 : decode cX6_laysParts 11 = .ok (.getfield 382, 3) := dk_180 1 126 (dk_at dksX6_laysParts_0 11 rfl rfl)
theorem dX6_laysParts_14 : decode cX6_laysParts 14 = .ok (.if_icmp .ge 98, 3) := dk_162 0 98 (dk_at dksX6_laysParts_0 14 rfl rfl)
theorem dX6_laysParts_17 : decode cX6_laysParts 17 = .ok (.iload_n 2, 1) := dk_28 (dk_at dksX6_laysParts_0 17 rfl rfl)
theorem dX6_laysParts_18 : decode cX6_laysParts 18 = .ok (.iload_n 3, 1) := dk_29 (dk_at dksX6_laysParts_0 18 rfl rfl)
theorem dX6_laysParts_19 : decode cX6_laysParts 19 = .ok (.invokestatic 213, 3) := dk_184 0 213 (dk_at dksX6_laysParts_0 19 rfl rfl)
theorem dX6_laysParts_22 : decode cX6_laysParts 22 = .ok (.ifCond .eq 6, 3) := dk_153 0 6 (dk_at dksX6_laysParts_1 0 rfl rfl)
theorem dX6_laysParts_25 : decode cX6_laysParts 25 = .ok (.goto 81, 3) := dk_167 0 81 (dk_at dksX6_laysParts_1 3 rfl rfl)
theorem dX6_laysParts_28 : decode cX6_laysParts 28 = .ok (.iconst 0, 1) := dk_3 (dk_at dksX6_laysParts_1 6 rfl rfl)
theorem dX6_laysParts_29 : decode cX6_laysParts 29 = .ok (.istore 4, 2) := dk_54 4 (dk_at dksX6_laysParts_1 7 rfl rfl)
theorem dX6_laysParts_31 : decode cX6_laysParts 31 = .ok (.iconst 0, 1) := dk_3 (dk_at dksX6_laysParts_1 9 rfl rfl)
theorem dX6_laysParts_32 : decode cX6_laysParts 32 = .ok (.istore 5, 2) := dk_54 5 (dk_at dksX6_laysParts_1 10 rfl rfl)
theorem dX6_laysParts_34 : decode cX6_laysParts 34 = .ok (.iload 5, 2) := dk_21 5 (dk_at dksX6_laysParts_1 12 rfl rfl)
theorem dX6_laysParts_36 : decode cX6_laysParts 36 = .ok (.aload_n 0, 1) := dk_42 (dk_at dksX6_laysParts_1 14 rfl rfl)
theorem dX6_laysParts_37 : decode cX6_laysParts 37 = .ok (.getfield 196, 3) := dk_180 0 196 (dk_at dksX6_laysParts_1 15 rfl rfl)
theorem dX6_laysParts_40 : decode cX6_laysParts 40 = .ok (.if_icmp .ge 37, 3) := dk_162 0 37 (dk_at dksX6_laysParts_1 18 rfl rfl)
theorem dX6_laysParts_43 : decode cX6_laysParts 43 = .ok (.iload_n 1, 1) := dk_27 (dk_at dksX6_laysParts_1 21 rfl rfl)
theorem dX6_laysParts_44 : decode cX6_laysParts 44 = .ok (.iload 5, 2) := dk_21 5 (dk_at dksX6_laysParts_1 22 rfl rfl)
theorem dX6_laysParts_46 : decode cX6_laysParts 46 = .ok (.invokestatic 213, 3) := dk_184 0 213 (dk_at dksX6_laysParts_2 0 rfl rfl)
theorem dX6_laysParts_49 : decode cX6_laysParts 49 = .ok (.ifCond .eq 22, 3) := dk_153 0 22 (dk_at dksX6_laysParts_2 3 rfl rfl)
theorem dX6_laysParts_52 : decode cX6_laysParts 52 = .ok (.iload 4, 2) := dk_21 4 (dk_at dksX6_laysParts_2 6 rfl rfl)
theorem dX6_laysParts_54 : decode cX6_laysParts 54 = .ok (.iconst 1, 1) := dk_4 (dk_at dksX6_laysParts_2 8 rfl rfl)
theorem dX6_laysParts_55 : decode cX6_laysParts 55 = .ok (.aload_n 0, 1) := dk_42 (dk_at dksX6_laysParts_2 9 rfl rfl)
theorem dX6_laysParts_56 : decode cX6_laysParts 56 = .ok (.getfield 26, 3) := dk_180 0 26 (dk_at dksX6_laysParts_2 10 rfl rfl)
theorem dX6_laysParts_59 : decode cX6_laysParts 59 = .ok (.bipush 6, 2) := dk_16 6 (dk_at dksX6_laysParts_2 13 rfl rfl)
theorem dX6_laysParts_61 : decode cX6_laysParts 61 = .ok (.iload 5, 2) := dk_21 5 (dk_at dksX6_laysParts_2 15 rfl rfl)
theorem dX6_laysParts_63 : decode cX6_laysParts 63 = .ok (.imul, 1) := dk_104 (dk_at dksX6_laysParts_2 17 rfl rfl)
theorem dX6_laysParts_64 : decode cX6_laysParts 64 = .ok (.iload_n 3, 1) := dk_29 (dk_at dksX6_laysParts_2 18 rfl rfl)
theorem dX6_laysParts_65 : decode cX6_laysParts 65 = .ok (.iadd, 1) := dk_96 (dk_at dksX6_laysParts_2 19 rfl rfl)
theorem dX6_laysParts_66 : decode cX6_laysParts 66 = .ok (.iaload, 1) := dk_46 (dk_at dksX6_laysParts_2 20 rfl rfl)
theorem dX6_laysParts_67 : decode cX6_laysParts 67 = .ok (.ishl, 1) := dk_120 (dk_at dksX6_laysParts_2 21 rfl rfl)
theorem dX6_laysParts_68 : decode cX6_laysParts 68 = .ok (.ior, 1) := dk_128 (dk_at dksX6_laysParts_2 22 rfl rfl)
theorem dX6_laysParts_69 : decode cX6_laysParts 69 = .ok (.istore 4, 2) := dk_54 4 (dk_at dksX6_laysParts_3 0 rfl rfl)
theorem dX6_laysParts_71 : decode cX6_laysParts 71 = .ok (.iinc 5 1, 3) := dk_132 5 1 (dk_at dksX6_laysParts_3 2 rfl rfl)
theorem dX6_laysParts_74 : decode cX6_laysParts 74 = .ok (.goto (-40), 3) := dk_167 255 216 (dk_at dksX6_laysParts_3 5 rfl rfl)
theorem dX6_laysParts_77 : decode cX6_laysParts 77 = .ok (.aload_n 0, 1) := dk_42 (dk_at dksX6_laysParts_3 8 rfl rfl)
theorem dX6_laysParts_78 : decode cX6_laysParts 78 = .ok (.getfield 109, 3) := dk_180 0 109 (dk_at dksX6_laysParts_3 9 rfl rfl)
theorem dX6_laysParts_81 : decode cX6_laysParts 81 = .ok (.aload_n 0, 1) := dk_42 (dk_at dksX6_laysParts_3 12 rfl rfl)
theorem dX6_laysParts_82 : decode cX6_laysParts 82 = .ok (.getfield 487, 3) := dk_180 1 231 (dk_at dksX6_laysParts_3 13 rfl rfl)
theorem dX6_laysParts_85 : decode cX6_laysParts 85 = .ok (.iload 4, 2) := dk_21 4 (dk_at dksX6_laysParts_3 16 rfl rfl)
theorem dX6_laysParts_87 : decode cX6_laysParts 87 = .ok (.invokestatic 253, 3) := dk_184 0 253 (dk_at dksX6_laysParts_3 18 rfl rfl)
theorem dX6_laysParts_90 : decode cX6_laysParts 90 = .ok (.iastore, 1) := dk_79 (dk_at dksX6_laysParts_3 21 rfl rfl)
theorem dX6_laysParts_91 : decode cX6_laysParts 91 = .ok (.aload_n 0, 1) := dk_42 (dk_at dksX6_laysParts_3 22 rfl rfl)
theorem dX6_laysParts_92 : decode cX6_laysParts 92 = .ok (.dup, 1) := dk_89 (dk_at dksX6_laysParts_3 23 rfl rfl)
theorem dX6_laysParts_93 : decode cX6_laysParts 93 = .ok (.getfield 487, 3) := dk_180 1 231 (dk_at dksX6_laysParts_4 0 rfl rfl)
theorem dX6_laysParts_96 : decode cX6_laysParts 96 = .ok (.iconst 1, 1) := dk_4 (dk_at dksX6_laysParts_4 3 rfl rfl)
theorem dX6_laysParts_97 : decode cX6_laysParts 97 = .ok (.iadd, 1) := dk_96 (dk_at dksX6_laysParts_4 4 rfl rfl)
theorem dX6_laysParts_98 : decode cX6_laysParts 98 = .ok (.putfield 487, 3) := dk_181 1 231 (dk_at dksX6_laysParts_4 5 rfl rfl)
theorem dX6_laysParts_101 : decode cX6_laysParts 101 = .ok (.iload_n 2, 1) := dk_28 (dk_at dksX6_laysParts_4 8 rfl rfl)
theorem dX6_laysParts_102 : decode cX6_laysParts 102 = .ok (.iload 4, 2) := dk_21 4 (dk_at dksX6_laysParts_4 9 rfl rfl)
theorem dX6_laysParts_104 : decode cX6_laysParts 104 = .ok (.ior, 1) := dk_128 (dk_at dksX6_laysParts_4 11 rfl rfl)
theorem dX6_laysParts_105 : decode cX6_laysParts 105 = .ok (.istore_n 2, 1) := dk_61 (dk_at dksX6_laysParts_4 12 rfl rfl)
theorem dX6_laysParts_106 : decode cX6_laysParts 106 = .ok (.iinc 3 1, 3) := dk_132 3 1 (dk_at dksX6_laysParts_4 13 rfl rfl)
theorem dX6_laysParts_109 : decode cX6_laysParts 109 = .ok (.goto (-100), 3) := dk_167 255 156 (dk_at dksX6_laysParts_4 16 rfl rfl)
theorem dX6_laysParts_112 : decode cX6_laysParts 112 = .ok (.return_, 1) := dk_177 (dk_at dksX6_laysParts_4 19 rfl rfl)
abbrev cX6_fixedBy : ByteArray := prog_16_method_126_code
def yX6_fixedBy : MethodName := ⟨RX6, "fixedBy", "(II)J"⟩
def dkwX6_fixedBy_3 : List UInt8 := [28, 182, 1, 234, 133, 167, 0, 4, 33, 173]
abbrev dktX6_fixedBy_3 : List UInt8 := dkwX6_fixedBy_3 ++ []
def dkwX6_fixedBy_2 : List UInt8 := [97, 66, 27, 5, 160, 0, 8, 33, 28, 133, 105, 66, 132, 5, 1, 167, 255, 207, 27, 4, 160, 0, 12, 42]
abbrev dktX6_fixedBy_2 : List UInt8 := dkwX6_fixedBy_2 ++ dktX6_fixedBy_3
def dkwX6_fixedBy_1 : List UInt8 := [154, 0, 26, 33, 42, 180, 0, 109, 21, 5, 46, 4, 160, 0, 7, 4, 167, 0, 4, 3, 184, 1, 0, 133]
abbrev dktX6_fixedBy_1 : List UInt8 := dkwX6_fixedBy_1 ++ dktX6_fixedBy_2
def dkwX6_fixedBy_0 : List UInt8 := [27, 5, 160, 0, 7, 10, 167, 0, 4, 9, 66, 3, 54, 5, 21, 5, 42, 180, 1, 231, 162, 0, 46, 27]
abbrev dktX6_fixedBy_0 : List UInt8 := dkwX6_fixedBy_0 ++ dktX6_fixedBy_1
theorem dksX6_fixedBy_0 : cX6_fixedBy.data.toList.drop 0 = dktX6_fixedBy_0 := by decide +kernel
theorem dksX6_fixedBy_1 : cX6_fixedBy.data.toList.drop 24 = dktX6_fixedBy_1 := dk_seg dksX6_fixedBy_0 24 rfl rfl
theorem dksX6_fixedBy_2 : cX6_fixedBy.data.toList.drop 48 = dktX6_fixedBy_2 := dk_seg dksX6_fixedBy_1 24 rfl rfl
theorem dksX6_fixedBy_3 : cX6_fixedBy.data.toList.drop 72 = dktX6_fixedBy_3 := dk_seg dksX6_fixedBy_2 24 rfl rfl
theorem dX6_fixedBy_0 : decode cX6_fixedBy 0 = .ok (.iload_n 1, 1) := dk_27 (dk_at dksX6_fixedBy_0 0 rfl rfl)
theorem dX6_fixedBy_1 : decode cX6_fixedBy 1 = .ok (.iconst 2, 1) := dk_5 (dk_at dksX6_fixedBy_0 1 rfl rfl)
theorem dX6_fixedBy_2 : decode cX6_fixedBy 2 = .ok (.if_icmp .ne 7, 3) := dk_160 0 7 (dk_at dksX6_fixedBy_0 2 rfl rfl)
theorem dX6_fixedBy_5 : decode cX6_fixedBy 5 = .ok (.lconst 1, 1) := dk_10 (dk_at dksX6_fixedBy_0 5 rfl rfl)
theorem dX6_fixedBy_6 : decode cX6_fixedBy 6 = .ok (.goto 4, 3) := dk_167 0 4 (dk_at dksX6_fixedBy_0 6 rfl rfl)
theorem dX6_fixedBy_9 : decode cX6_fixedBy 9 = .ok (.lconst 0, 1) := dk_9 (dk_at dksX6_fixedBy_0 9 rfl rfl)
theorem dX6_fixedBy_10 : decode cX6_fixedBy 10 = .ok (.lstore_n 3, 1) := dk_66 (dk_at dksX6_fixedBy_0 10 rfl rfl)
theorem dX6_fixedBy_11 : decode cX6_fixedBy 11 = .ok (.iconst 0, 1) := dk_3 (dk_at dksX6_fixedBy_0 11 rfl rfl)
theorem dX6_fixedBy_12 : decode cX6_fixedBy 12 = .ok (.istore 5, 2) := dk_54 5 (dk_at dksX6_fixedBy_0 12 rfl rfl)
theorem dX6_fixedBy_14 : decode cX6_fixedBy 14 = .ok (.iload 5, 2) := dk_21 5 (dk_at dksX6_fixedBy_0 14 rfl rfl)
theorem dX6_fixedBy_16 : decode cX6_fixedBy 16 = .ok (.aload_n 0, 1) := dk_42 (dk_at dksX6_fixedBy_0 16 rfl rfl)
theorem dX6_fixedBy_17 : decode cX6_fixedBy 17 = .ok (.getfield 487, 3) := dk_180 1 231 (dk_at dksX6_fixedBy_0 17 rfl rfl)
theorem dX6_fixedBy_20 : decode cX6_fixedBy 20 = .ok (.if_icmp .ge 46, 3) := dk_162 0 46 (dk_at dksX6_fixedBy_0 20 rfl rfl)
theorem dX6_fixedBy_23 : decode cX6_fixedBy 23 = .ok (.iload_n 1, 1) := dk_27 (dk_at dksX6_fixedBy_0 23 rfl rfl)
theorem dX6_fixedBy_24 : decode cX6_fixedBy 24 = .ok (.ifCond .ne 26, 3) := dk_154 0 26 (dk_at dksX6_fixedBy_1 0 rfl rfl)
theorem dX6_fixedBy_27 : decode cX6_fixedBy 27 = .ok (.lload_n 3, 1) := dk_33 (dk_at dksX6_fixedBy_1 3 rfl rfl)
theorem dX6_fixedBy_28 : decode cX6_fixedBy 28 = .ok (.aload_n 0, 1) := dk_42 (dk_at dksX6_fixedBy_1 4 rfl rfl)
theorem dX6_fixedBy_29 : decode cX6_fixedBy 29 = .ok (.getfield 109, 3) := dk_180 0 109 (dk_at dksX6_fixedBy_1 5 rfl rfl)
theorem dX6_fixedBy_32 : decode cX6_fixedBy 32 = .ok (.iload 5, 2) := dk_21 5 (dk_at dksX6_fixedBy_1 8 rfl rfl)
theorem dX6_fixedBy_34 : decode cX6_fixedBy 34 = .ok (.iaload, 1) := dk_46 (dk_at dksX6_fixedBy_1 10 rfl rfl)
theorem dX6_fixedBy_35 : decode cX6_fixedBy 35 = .ok (.iconst 1, 1) := dk_4 (dk_at dksX6_fixedBy_1 11 rfl rfl)
theorem dX6_fixedBy_36 : decode cX6_fixedBy 36 = .ok (.if_icmp .ne 7, 3) := dk_160 0 7 (dk_at dksX6_fixedBy_1 12 rfl rfl)
theorem dX6_fixedBy_39 : decode cX6_fixedBy 39 = .ok (.iconst 1, 1) := dk_4 (dk_at dksX6_fixedBy_1 15 rfl rfl)
theorem dX6_fixedBy_40 : decode cX6_fixedBy 40 = .ok (.goto 4, 3) := dk_167 0 4 (dk_at dksX6_fixedBy_1 16 rfl rfl)
theorem dX6_fixedBy_43 : decode cX6_fixedBy 43 = .ok (.iconst 0, 1) := dk_3 (dk_at dksX6_fixedBy_1 19 rfl rfl)
theorem dX6_fixedBy_44 : decode cX6_fixedBy 44 = .ok (.invokestatic 256, 3) := dk_184 1 0 (dk_at dksX6_fixedBy_1 20 rfl rfl)
theorem dX6_fixedBy_47 : decode cX6_fixedBy 47 = .ok (.i2l, 1) := dk_133 (dk_at dksX6_fixedBy_1 23 rfl rfl)
theorem dX6_fixedBy_48 : decode cX6_fixedBy 48 = .ok (.ladd, 1) := dk_97 (dk_at dksX6_fixedBy_2 0 rfl rfl)
theorem dX6_fixedBy_49 : decode cX6_fixedBy 49 = .ok (.lstore_n 3, 1) := dk_66 (dk_at dksX6_fixedBy_2 1 rfl rfl)
theorem dX6_fixedBy_50 : decode cX6_fixedBy 50 = .ok (.iload_n 1, 1) := dk_27 (dk_at dksX6_fixedBy_2 2 rfl rfl)
theorem dX6_fixedBy_51 : decode cX6_fixedBy 51 = .ok (.iconst 2, 1) := dk_5 (dk_at dksX6_fixedBy_2 3 rfl rfl)
theorem dX6_fixedBy_52 : decode cX6_fixedBy 52 = .ok (.if_icmp .ne 8, 3) := dk_160 0 8 (dk_at dksX6_fixedBy_2 4 rfl rfl)
theorem dX6_fixedBy_55 : decode cX6_fixedBy 55 = .ok (.lload_n 3, 1) := dk_33 (dk_at dksX6_fixedBy_2 7 rfl rfl)
theorem dX6_fixedBy_56 : decode cX6_fixedBy 56 = .ok (.iload_n 2, 1) := dk_28 (dk_at dksX6_fixedBy_2 8 rfl rfl)
theorem dX6_fixedBy_57 : decode cX6_fixedBy 57 = .ok (.i2l, 1) := dk_133 (dk_at dksX6_fixedBy_2 9 rfl rfl)
theorem dX6_fixedBy_58 : decode cX6_fixedBy 58 = .ok (.lmul, 1) := dk_105 (dk_at dksX6_fixedBy_2 10 rfl rfl)
theorem dX6_fixedBy_59 : decode cX6_fixedBy 59 = .ok (.lstore_n 3, 1) := dk_66 (dk_at dksX6_fixedBy_2 11 rfl rfl)
theorem dX6_fixedBy_60 : decode cX6_fixedBy 60 = .ok (.iinc 5 1, 3) := dk_132 5 1 (dk_at dksX6_fixedBy_2 12 rfl rfl)
theorem dX6_fixedBy_63 : decode cX6_fixedBy 63 = .ok (.goto (-49), 3) := dk_167 255 207 (dk_at dksX6_fixedBy_2 15 rfl rfl)
theorem dX6_fixedBy_66 : decode cX6_fixedBy 66 = .ok (.iload_n 1, 1) := dk_27 (dk_at dksX6_fixedBy_2 18 rfl rfl)
theorem dX6_fixedBy_67 : decode cX6_fixedBy 67 = .ok (.iconst 1, 1) := dk_4 (dk_at dksX6_fixedBy_2 19 rfl rfl)
theorem dX6_fixedBy_68 : decode cX6_fixedBy 68 = .ok (.if_icmp .ne 12, 3) := dk_160 0 12 (dk_at dksX6_fixedBy_2 20 rfl rfl)
theorem dX6_fixedBy_71 : decode cX6_fixedBy 71 = .ok (.aload_n 0, 1) := dk_42 (dk_at dksX6_fixedBy_2 23 rfl rfl)
theorem dX6_fixedBy_72 : decode cX6_fixedBy 72 = .ok (.iload_n 2, 1) := dk_28 (dk_at dksX6_fixedBy_3 0 rfl rfl)
theorem dX6_fixedBy_73 : decode cX6_fixedBy 73 = .ok (.invokevirtual 490, 3) := dk_182 1 234 (dk_at dksX6_fixedBy_3 1 rfl rfl)
theorem dX6_fixedBy_76 : decode cX6_fixedBy 76 = .ok (.i2l, 1) := dk_133 (dk_at dksX6_fixedBy_3 4 rfl rfl)
theorem dX6_fixedBy_77 : decode cX6_fixedBy 77 = .ok (.goto 4, 3) := dk_167 0 4 (dk_at dksX6_fixedBy_3 5 rfl rfl)
theorem dX6_fixedBy_80 : decode cX6_fixedBy 80 = .ok (.lload_n 3, 1) := dk_33 (dk_at dksX6_fixedBy_3 8 rfl rfl)
theorem dX6_fixedBy_81 : decode cX6_fixedBy 81 = .ok (.lreturn, 1) := dk_173 (dk_at dksX6_fixedBy_3 9 rfl rfl)
abbrev cX6_setsOf : ByteArray := prog_16_method_125_code
def yX6_setsOf : MethodName := ⟨RX6, "setsOf", "(I)I"⟩
def dkwX6_setsOf_4 : List UInt8 := [180, 0, 112, 27, 46, 172]
abbrev dktX6_setsOf_4 : List UInt8 := dkwX6_setsOf_4 ++ []
def dkwX6_setsOf_3 : List UInt8 := [180, 0, 109, 28, 46, 100, 46, 96, 79, 132, 3, 255, 167, 255, 221, 132, 2, 1, 167, 255, 204, 42]
abbrev dktX6_setsOf_3 : List UInt8 := dkwX6_setsOf_3 ++ dktX6_setsOf_4
def dkwX6_setsOf_2 : List UInt8 := [42, 180, 0, 109, 28, 46, 161, 0, 31, 42, 180, 0, 112, 29, 92, 46, 42, 180, 0, 112, 29, 42]
abbrev dktX6_setsOf_2 : List UInt8 := dkwX6_setsOf_2 ++ dktX6_setsOf_3
def dkwX6_setsOf_1 : List UInt8 := [184, 1, 0, 79, 132, 2, 1, 167, 255, 229, 3, 61, 28, 42, 180, 1, 231, 162, 0, 50, 16, 6, 62, 29]
abbrev dktX6_setsOf_1 : List UInt8 := dkwX6_setsOf_1 ++ dktX6_setsOf_2
def dkwX6_setsOf_0 : List UInt8 := [3, 61, 28, 16, 7, 162, 0, 27, 42, 180, 0, 112, 28, 28, 154, 0, 7, 4, 167, 0, 4, 3]
abbrev dktX6_setsOf_0 : List UInt8 := dkwX6_setsOf_0 ++ dktX6_setsOf_1
theorem dksX6_setsOf_0 : cX6_setsOf.data.toList.drop 0 = dktX6_setsOf_0 := by decide +kernel
theorem dksX6_setsOf_1 : cX6_setsOf.data.toList.drop 22 = dktX6_setsOf_1 := dk_seg dksX6_setsOf_0 22 rfl rfl
theorem dksX6_setsOf_2 : cX6_setsOf.data.toList.drop 46 = dktX6_setsOf_2 := dk_seg dksX6_setsOf_1 24 rfl rfl
theorem dksX6_setsOf_3 : cX6_setsOf.data.toList.drop 68 = dktX6_setsOf_3 := dk_seg dksX6_setsOf_2 22 rfl rfl
theorem dksX6_setsOf_4 : cX6_setsOf.data.toList.drop 90 = dktX6_setsOf_4 := dk_seg dksX6_setsOf_3 22 rfl rfl
theorem dX6_setsOf_0 : decode cX6_setsOf 0 = .ok (.iconst 0, 1) := dk_3 (dk_at dksX6_setsOf_0 0 rfl rfl)
theorem dX6_setsOf_1 : decode cX6_setsOf 1 = .ok (.istore_n 2, 1) := dk_61 (dk_at dksX6_setsOf_0 1 rfl rfl)
theorem dX6_setsOf_2 : decode cX6_setsOf 2 = .ok (.iload_n 2, 1) := dk_28 (dk_at dksX6_setsOf_0 2 rfl rfl)
theorem dX6_setsOf_3 : decode cX6_setsOf 3 = .ok (.bipush 7, 2) := dk_16 7 (dk_at dksX6_setsOf_0 3 rfl rfl)
theorem dX6_setsOf_5 : decode cX6_setsOf 5 = .ok (.if_icmp .ge 27, 3) := dk_162 0 27 (dk_at dksX6_setsOf_0 5 rfl rfl)
theorem dX6_setsOf_8 : decode cX6_setsOf 8 = .ok (.aload_n 0, 1) := dk_42 (dk_at dksX6_setsOf_0 8 rfl rfl)
theorem dX6_setsOf_9 : decode cX6_setsOf 9 = .ok (.getfield 112, 3) := dk_180 0 112 (dk_at dksX6_setsOf_0 9 rfl rfl)
theorem dX6_setsOf_12 : decode cX6_setsOf 12 = .ok (.iload_n 2, 1) := dk_28 (dk_at dksX6_setsOf_0 12 rfl rfl)
theorem dX6_setsOf_13 : decode cX6_setsOf 13 = .ok (.iload_n 2, 1) := dk_28 (dk_at dksX6_setsOf_0 13 rfl rfl)
theorem dX6_setsOf_14 : decode cX6_setsOf 14 = .ok (.ifCond .ne 7, 3) := dk_154 0 7 (dk_at dksX6_setsOf_0 14 rfl rfl)
theorem dX6_setsOf_17 : decode cX6_setsOf 17 = .ok (.iconst 1, 1) := dk_4 (dk_at dksX6_setsOf_0 17 rfl rfl)
theorem dX6_setsOf_18 : decode cX6_setsOf 18 = .ok (.goto 4, 3) := dk_167 0 4 (dk_at dksX6_setsOf_0 18 rfl rfl)
theorem dX6_setsOf_21 : decode cX6_setsOf 21 = .ok (.iconst 0, 1) := dk_3 (dk_at dksX6_setsOf_0 21 rfl rfl)
theorem dX6_setsOf_22 : decode cX6_setsOf 22 = .ok (.invokestatic 256, 3) := dk_184 1 0 (dk_at dksX6_setsOf_1 0 rfl rfl)
theorem dX6_setsOf_25 : decode cX6_setsOf 25 = .ok (.iastore, 1) := dk_79 (dk_at dksX6_setsOf_1 3 rfl rfl)
theorem dX6_setsOf_26 : decode cX6_setsOf 26 = .ok (.iinc 2 1, 3) := dk_132 2 1 (dk_at dksX6_setsOf_1 4 rfl rfl)
theorem dX6_setsOf_29 : decode cX6_setsOf 29 = .ok (.goto (-27), 3) := dk_167 255 229 (dk_at dksX6_setsOf_1 7 rfl rfl)
theorem dX6_setsOf_32 : decode cX6_setsOf 32 = .ok (.iconst 0, 1) := dk_3 (dk_at dksX6_setsOf_1 10 rfl rfl)
theorem dX6_setsOf_33 : decode cX6_setsOf 33 = .ok (.istore_n 2, 1) := dk_61 (dk_at dksX6_setsOf_1 11 rfl rfl)
theorem dX6_setsOf_34 : decode cX6_setsOf 34 = .ok (.iload_n 2, 1) := dk_28 (dk_at dksX6_setsOf_1 12 rfl rfl)
theorem dX6_setsOf_35 : decode cX6_setsOf 35 = .ok (.aload_n 0, 1) := dk_42 (dk_at dksX6_setsOf_1 13 rfl rfl)
theorem dX6_setsOf_36 : decode cX6_setsOf 36 = .ok (.getfield 487, 3) := dk_180 1 231 (dk_at dksX6_setsOf_1 14 rfl rfl)
theorem dX6_setsOf_39 : decode cX6_setsOf 39 = .ok (.if_icmp .ge 50, 3) := dk_162 0 50 (dk_at dksX6_setsOf_1 17 rfl rfl)
theorem dX6_setsOf_42 : decode cX6_setsOf 42 = .ok (.bipush 6, 2) := dk_16 6 (dk_at dksX6_setsOf_1 20 rfl rfl)
theorem dX6_setsOf_44 : decode cX6_setsOf 44 = .ok (.istore_n 3, 1) := dk_62 (dk_at dksX6_setsOf_1 22 rfl rfl)
theorem dX6_setsOf_45 : decode cX6_setsOf 45 = .ok (.iload_n 3, 1) := dk_29 (dk_at dksX6_setsOf_1 23 rfl rfl)
theorem dX6_setsOf_46 : decode cX6_setsOf 46 = .ok (.aload_n 0, 1) := dk_42 (dk_at dksX6_setsOf_2 0 rfl rfl)
theorem dX6_setsOf_47 : decode cX6_setsOf 47 = .ok (.getfield 109, 3) := dk_180 0 109 (dk_at dksX6_setsOf_2 1 rfl rfl)
theorem dX6_setsOf_50 : decode cX6_setsOf 50 = .ok (.iload_n 2, 1) := dk_28 (dk_at dksX6_setsOf_2 4 rfl rfl)
theorem dX6_setsOf_51 : decode cX6_setsOf 51 = .ok (.iaload, 1) := dk_46 (dk_at dksX6_setsOf_2 5 rfl rfl)
theorem dX6_setsOf_52 : decode cX6_setsOf 52 = .ok (.if_icmp .lt 31, 3) := dk_161 0 31 (dk_at dksX6_setsOf_2 6 rfl rfl)
theorem dX6_setsOf_55 : decode cX6_setsOf 55 = .ok (.aload_n 0, 1) := dk_42 (dk_at dksX6_setsOf_2 9 rfl rfl)
theorem dX6_setsOf_56 : decode cX6_setsOf 56 = .ok (.getfield 112, 3) := dk_180 0 112 (dk_at dksX6_setsOf_2 10 rfl rfl)
theorem dX6_setsOf_59 : decode cX6_setsOf 59 = .ok (.iload_n 3, 1) := dk_29 (dk_at dksX6_setsOf_2 13 rfl rfl)
theorem dX6_setsOf_60 : decode cX6_setsOf 60 = .ok (.dup2, 1) := dk_92 (dk_at dksX6_setsOf_2 14 rfl rfl)
theorem dX6_setsOf_61 : decode cX6_setsOf 61 = .ok (.iaload, 1) := dk_46 (dk_at dksX6_setsOf_2 15 rfl rfl)
theorem dX6_setsOf_62 : decode cX6_setsOf 62 = .ok (.aload_n 0, 1) := dk_42 (dk_at dksX6_setsOf_2 16 rfl rfl)
theorem dX6_setsOf_63 : decode cX6_setsOf 63 = .ok (.getfield 112, 3) := dk_180 0 112 (dk_at dksX6_setsOf_2 17 rfl rfl)
theorem dX6_setsOf_66 : decode cX6_setsOf 66 = .ok (.iload_n 3, 1) := dk_29 (dk_at dksX6_setsOf_2 20 rfl rfl)
theorem dX6_setsOf_67 : decode cX6_setsOf 67 = .ok (.aload_n 0, 1) := dk_42 (dk_at dksX6_setsOf_2 21 rfl rfl)
theorem dX6_setsOf_68 : decode cX6_setsOf 68 = .ok (.getfield 109, 3) := dk_180 0 109 (dk_at dksX6_setsOf_3 0 rfl rfl)
theorem dX6_setsOf_71 : decode cX6_setsOf 71 = .ok (.iload_n 2, 1) := dk_28 (dk_at dksX6_setsOf_3 3 rfl rfl)
theorem dX6_setsOf_72 : decode cX6_setsOf 72 = .ok (.iaload, 1) := dk_46 (dk_at dksX6_setsOf_3 4 rfl rfl)
theorem dX6_setsOf_73 : decode cX6_setsOf 73 = .ok (.isub, 1) := dk_100 (dk_at dksX6_setsOf_3 5 rfl rfl)
theorem dX6_setsOf_74 : decode cX6_setsOf 74 = .ok (.iaload, 1) := dk_46 (dk_at dksX6_setsOf_3 6 rfl rfl)
theorem dX6_setsOf_75 : decode cX6_setsOf 75 = .ok (.iadd, 1) := dk_96 (dk_at dksX6_setsOf_3 7 rfl rfl)
theorem dX6_setsOf_76 : decode cX6_setsOf 76 = .ok (.iastore, 1) := dk_79 (dk_at dksX6_setsOf_3 8 rfl rfl)
theorem dX6_setsOf_77 : decode cX6_setsOf 77 = .ok (.iinc 3 (-1), 3) := dk_132 3 255 (dk_at dksX6_setsOf_3 9 rfl rfl)
theorem dX6_setsOf_80 : decode cX6_setsOf 80 = .ok (.goto (-35), 3) := dk_167 255 221 (dk_at dksX6_setsOf_3 12 rfl rfl)
theorem dX6_setsOf_83 : decode cX6_setsOf 83 = .ok (.iinc 2 1, 3) := dk_132 2 1 (dk_at dksX6_setsOf_3 15 rfl rfl)
theorem dX6_setsOf_86 : decode cX6_setsOf 86 = .ok (.goto (-52), 3) := dk_167 255 204 (dk_at dksX6_setsOf_3 18 rfl rfl)
theorem dX6_setsOf_89 : decode cX6_setsOf 89 = .ok (.aload_n 0, 1) := dk_42 (dk_at dksX6_setsOf_3 21 rfl rfl)
theorem dX6_setsOf_90 : decode cX6_setsOf 90 = .ok (.getfield 112, 3) := dk_180 0 112 (dk_at dksX6_setsOf_4 0 rfl rfl)
theorem dX6_setsOf_93 : decode cX6_setsOf 93 = .ok (.iload_n 1, 1) := dk_27 (dk_at dksX6_setsOf_4 3 rfl rfl)
theorem dX6_setsOf_94 : decode cX6_setsOf 94 = .ok (.iaload, 1) := dk_46 (dk_at dksX6_setsOf_4 4 rfl rfl)
theorem dX6_setsOf_95 : decode cX6_setsOf 95 = .ok (.ireturn, 1) := dk_172 (dk_at dksX6_setsOf_4 5 rfl rfl)
abbrev cX6_marks : ByteArray := prog_16_method_131_code
def yX6_marks : MethodName := ⟨RX6, "marks", "()I"⟩
def dkwX6_marks_3 : List UInt8 := [42, 180, 0, 66, 3, 182, 1, 33, 3, 172]
abbrev dktX6_marks_3 : List UInt8 := dkwX6_marks_3 ++ []
def dkwX6_marks_2 : List UInt8 := [9, 148, 153, 0, 7, 28, 4, 96, 172, 132, 2, 1, 167, 255, 219, 42, 182, 1, 225, 42, 42, 180, 0, 69]
abbrev dktX6_marks_2 : List UInt8 := dkwX6_marks_2 ++ dktX6_marks_3
def dkwX6_marks_1 : List UInt8 := [42, 180, 0, 235, 162, 0, 35, 42, 42, 180, 0, 69, 28, 182, 1, 219, 66, 33, 42, 180, 1, 197, 133, 113]
abbrev dktX6_marks_1 : List UInt8 := dkwX6_marks_1 ++ dktX6_marks_2
def dkwX6_marks_0 : List UInt8 := [42, 180, 0, 124, 60, 42, 3, 181, 0, 124, 42, 27, 182, 2, 8, 154, 0, 6, 16, 254, 172, 3, 61, 28]
abbrev dktX6_marks_0 : List UInt8 := dkwX6_marks_0 ++ dktX6_marks_1
theorem dksX6_marks_0 : cX6_marks.data.toList.drop 0 = dktX6_marks_0 := by decide +kernel
theorem dksX6_marks_1 : cX6_marks.data.toList.drop 24 = dktX6_marks_1 := dk_seg dksX6_marks_0 24 rfl rfl
theorem dksX6_marks_2 : cX6_marks.data.toList.drop 48 = dktX6_marks_2 := dk_seg dksX6_marks_1 24 rfl rfl
theorem dksX6_marks_3 : cX6_marks.data.toList.drop 72 = dktX6_marks_3 := dk_seg dksX6_marks_2 24 rfl rfl
theorem dX6_marks_0 : decode cX6_marks 0 = .ok (.aload_n 0, 1) := dk_42 (dk_at dksX6_marks_0 0 rfl rfl)
theorem dX6_marks_1 : decode cX6_marks 1 = .ok (.getfield 124, 3) := dk_180 0 124 (dk_at dksX6_marks_0 1 rfl rfl)
theorem dX6_marks_4 : decode cX6_marks 4 = .ok (.istore_n 1, 1) := dk_60 (dk_at dksX6_marks_0 4 rfl rfl)
theorem dX6_marks_5 : decode cX6_marks 5 = .ok (.aload_n 0, 1) := dk_42 (dk_at dksX6_marks_0 5 rfl rfl)
theorem dX6_marks_6 : decode cX6_marks 6 = .ok (.iconst 0, 1) := dk_3 (dk_at dksX6_marks_0 6 rfl rfl)
theorem dX6_marks_7 : decode cX6_marks 7 = .ok (.putfield 124, 3) := dk_181 0 124 (dk_at dksX6_marks_0 7 rfl rfl)
theorem dX6_marks_10 : decode cX6_marks 10 = .ok (.aload_n 0, 1) := dk_42 (dk_at dksX6_marks_0 10 rfl rfl)
theorem dX6_marks_11 : decode cX6_marks 11 = .ok (.iload_n 1, 1) := dk_27 (dk_at dksX6_marks_0 11 rfl rfl)
theorem dX6_marks_12 : decode cX6_marks 12 = .ok (.invokevirtual 520, 3) := dk_182 2 8 (dk_at dksX6_marks_0 12 rfl rfl)
theorem dX6_marks_15 : decode cX6_marks 15 = .ok (.ifCond .ne 6, 3) := dk_154 0 6 (dk_at dksX6_marks_0 15 rfl rfl)
theorem dX6_marks_18 : decode cX6_marks 18 = .ok (.bipush (-2), 2) := dk_16 254 (dk_at dksX6_marks_0 18 rfl rfl)
theorem dX6_marks_20 : decode cX6_marks 20 = .ok (.ireturn, 1) := dk_172 (dk_at dksX6_marks_0 20 rfl rfl)
theorem dX6_marks_21 : decode cX6_marks 21 = .ok (.iconst 0, 1) := dk_3 (dk_at dksX6_marks_0 21 rfl rfl)
theorem dX6_marks_22 : decode cX6_marks 22 = .ok (.istore_n 2, 1) := dk_61 (dk_at dksX6_marks_0 22 rfl rfl)
theorem dX6_marks_23 : decode cX6_marks 23 = .ok (.iload_n 2, 1) := dk_28 (dk_at dksX6_marks_0 23 rfl rfl)
theorem dX6_marks_24 : decode cX6_marks 24 = .ok (.aload_n 0, 1) := dk_42 (dk_at dksX6_marks_1 0 rfl rfl)
theorem dX6_marks_25 : decode cX6_marks 25 = .ok (.getfield 235, 3) := dk_180 0 235 (dk_at dksX6_marks_1 1 rfl rfl)
theorem dX6_marks_28 : decode cX6_marks 28 = .ok (.if_icmp .ge 35, 3) := dk_162 0 35 (dk_at dksX6_marks_1 4 rfl rfl)
theorem dX6_marks_31 : decode cX6_marks 31 = .ok (.aload_n 0, 1) := dk_42 (dk_at dksX6_marks_1 7 rfl rfl)
theorem dX6_marks_32 : decode cX6_marks 32 = .ok (.aload_n 0, 1) := dk_42 (dk_at dksX6_marks_1 8 rfl rfl)
theorem dX6_marks_33 : decode cX6_marks 33 = .ok (.getfield 69, 3) := dk_180 0 69 (dk_at dksX6_marks_1 9 rfl rfl)
theorem dX6_marks_36 : decode cX6_marks 36 = .ok (.iload_n 2, 1) := dk_28 (dk_at dksX6_marks_1 12 rfl rfl)
theorem dX6_marks_37 : decode cX6_marks 37 = .ok (.invokevirtual 475, 3) := dk_182 1 219 (dk_at dksX6_marks_1 13 rfl rfl)
theorem dX6_marks_40 : decode cX6_marks 40 = .ok (.lstore_n 3, 1) := dk_66 (dk_at dksX6_marks_1 16 rfl rfl)
theorem dX6_marks_41 : decode cX6_marks 41 = .ok (.lload_n 3, 1) := dk_33 (dk_at dksX6_marks_1 17 rfl rfl)
theorem dX6_marks_42 : decode cX6_marks 42 = .ok (.aload_n 0, 1) := dk_42 (dk_at dksX6_marks_1 18 rfl rfl)
theorem dX6_marks_43 : decode cX6_marks 43 = .ok (.getfield 453, 3) := dk_180 1 197 (dk_at dksX6_marks_1 19 rfl rfl)
theorem dX6_marks_46 : decode cX6_marks 46 = .ok (.i2l, 1) := dk_133 (dk_at dksX6_marks_1 22 rfl rfl)
theorem dX6_marks_47 : decode cX6_marks 47 = .ok (.lrem, 1) := dk_113 (dk_at dksX6_marks_1 23 rfl rfl)
theorem dX6_marks_48 : decode cX6_marks 48 = .ok (.lconst 0, 1) := dk_9 (dk_at dksX6_marks_2 0 rfl rfl)
theorem dX6_marks_49 : decode cX6_marks 49 = .ok (.lcmp, 1) := dk_148 (dk_at dksX6_marks_2 1 rfl rfl)
theorem dX6_marks_50 : decode cX6_marks 50 = .ok (.ifCond .eq 7, 3) := dk_153 0 7 (dk_at dksX6_marks_2 2 rfl rfl)
theorem dX6_marks_53 : decode cX6_marks 53 = .ok (.iload_n 2, 1) := dk_28 (dk_at dksX6_marks_2 5 rfl rfl)
theorem dX6_marks_54 : decode cX6_marks 54 = .ok (.iconst 1, 1) := dk_4 (dk_at dksX6_marks_2 6 rfl rfl)
theorem dX6_marks_55 : decode cX6_marks 55 = .ok (.iadd, 1) := dk_96 (dk_at dksX6_marks_2 7 rfl rfl)
theorem dX6_marks_56 : decode cX6_marks 56 = .ok (.ireturn, 1) := dk_172 (dk_at dksX6_marks_2 8 rfl rfl)
theorem dX6_marks_57 : decode cX6_marks 57 = .ok (.iinc 2 1, 3) := dk_132 2 1 (dk_at dksX6_marks_2 9 rfl rfl)
theorem dX6_marks_60 : decode cX6_marks 60 = .ok (.goto (-37), 3) := dk_167 255 219 (dk_at dksX6_marks_2 12 rfl rfl)
theorem dX6_marks_63 : decode cX6_marks 63 = .ok (.aload_n 0, 1) := dk_42 (dk_at dksX6_marks_2 15 rfl rfl)
theorem dX6_marks_64 : decode cX6_marks 64 = .ok (.invokevirtual 481, 3) := dk_182 1 225 (dk_at dksX6_marks_2 16 rfl rfl)
theorem dX6_marks_67 : decode cX6_marks 67 = .ok (.aload_n 0, 1) := dk_42 (dk_at dksX6_marks_2 19 rfl rfl)
theorem dX6_marks_68 : decode cX6_marks 68 = .ok (.aload_n 0, 1) := dk_42 (dk_at dksX6_marks_2 20 rfl rfl)
theorem dX6_marks_69 : decode cX6_marks 69 = .ok (.getfield 69, 3) := dk_180 0 69 (dk_at dksX6_marks_2 21 rfl rfl)
theorem dX6_marks_72 : decode cX6_marks 72 = .ok (.aload_n 0, 1) := dk_42 (dk_at dksX6_marks_3 0 rfl rfl)
theorem dX6_marks_73 : decode cX6_marks 73 = .ok (.getfield 66, 3) := dk_180 0 66 (dk_at dksX6_marks_3 1 rfl rfl)
theorem dX6_marks_76 : decode cX6_marks 76 = .ok (.iconst 0, 1) := dk_3 (dk_at dksX6_marks_3 4 rfl rfl)
theorem dX6_marks_77 : decode cX6_marks 77 = .ok (.invokevirtual 289, 3) := dk_182 1 33 (dk_at dksX6_marks_3 5 rfl rfl)
theorem dX6_marks_80 : decode cX6_marks 80 = .ok (.iconst 0, 1) := dk_3 (dk_at dksX6_marks_3 8 rfl rfl)
theorem dX6_marks_81 : decode cX6_marks 81 = .ok (.ireturn, 1) := dk_172 (dk_at dksX6_marks_3 9 rfl rfl)
abbrev cX6_readsMarks : ByteArray := prog_16_method_130_code
def yX6_readsMarks : MethodName := ⟨RX6, "readsMarks", "(I)Z"⟩
def dkwX6_readsMarks_4 : List UInt8 := [160, 0, 7, 4, 167, 0, 4, 3, 172]
abbrev dktX6_readsMarks_4 : List UInt8 := dkwX6_readsMarks_4 ++ []
def dkwX6_readsMarks_3 : List UInt8 := [153, 255, 215, 42, 89, 180, 1, 248, 4, 96, 181, 1, 248, 167, 255, 238, 42, 180, 1, 255, 42, 180, 0, 235]
abbrev dktX6_readsMarks_3 : List UInt8 := dkwX6_readsMarks_3 ++ dktX6_readsMarks_4
def dkwX6_readsMarks_2 : List UInt8 := [172, 42, 180, 1, 248, 27, 162, 0, 13, 42, 27, 182, 2, 2, 154, 0, 5, 3, 172, 42, 27, 182, 2, 2]
abbrev dktX6_readsMarks_2 : List UInt8 := dkwX6_readsMarks_2 ++ dktX6_readsMarks_3
def dkwX6_readsMarks_1 : List UInt8 := [96, 181, 1, 248, 167, 255, 238, 42, 180, 1, 248, 27, 162, 0, 52, 42, 27, 182, 2, 5, 154, 0, 5, 3]
abbrev dktX6_readsMarks_1 : List UInt8 := dkwX6_readsMarks_1 ++ dktX6_readsMarks_2
def dkwX6_readsMarks_0 : List UInt8 := [42, 3, 181, 1, 248, 42, 3, 181, 1, 255, 42, 27, 182, 2, 2, 153, 0, 16, 42, 89, 180, 1, 248, 4]
abbrev dktX6_readsMarks_0 : List UInt8 := dkwX6_readsMarks_0 ++ dktX6_readsMarks_1
theorem dksX6_readsMarks_0 : cX6_readsMarks.data.toList.drop 0 = dktX6_readsMarks_0 := by decide +kernel
theorem dksX6_readsMarks_1 : cX6_readsMarks.data.toList.drop 24 = dktX6_readsMarks_1 := dk_seg dksX6_readsMarks_0 24 rfl rfl
theorem dksX6_readsMarks_2 : cX6_readsMarks.data.toList.drop 48 = dktX6_readsMarks_2 := dk_seg dksX6_readsMarks_1 24 rfl rfl
theorem dksX6_readsMarks_3 : cX6_readsMarks.data.toList.drop 72 = dktX6_readsMarks_3 := dk_seg dksX6_readsMarks_2 24 rfl rfl
theorem dksX6_readsMarks_4 : cX6_readsMarks.data.toList.drop 96 = dktX6_readsMarks_4 := dk_seg dksX6_readsMarks_3 24 rfl rfl
theorem dX6_readsMarks_0 : decode cX6_readsMarks 0 = .ok (.aload_n 0, 1) := dk_42 (dk_at dksX6_readsMarks_0 0 rfl rfl)
theorem dX6_readsMarks_1 : decode cX6_readsMarks 1 = .ok (.iconst 0, 1) := dk_3 (dk_at dksX6_readsMarks_0 1 rfl rfl)
theorem dX6_readsMarks_2 : decode cX6_readsMarks 2 = .ok (.putfield 504, 3) := dk_181 1 248 (dk_at dksX6_readsMarks_0 2 rfl rfl)
theorem dX6_readsMarks_5 : decode cX6_readsMarks 5 = .ok (.aload_n 0, 1) := dk_42 (dk_at dksX6_readsMarks_0 5 rfl rfl)
theorem dX6_readsMarks_6 : decode cX6_readsMarks 6 = .ok (.iconst 0, 1) := dk_3 (dk_at dksX6_readsMarks_0 6 rfl rfl)
theorem dX6_readsMarks_7 : decode cX6_readsMarks 7 = .ok (.putfield 511, 3) := dk_181 1 255 (dk_at dksX6_readsMarks_0 7 rfl rfl)
theorem dX6_readsMarks_10 : decode cX6_readsMarks 10 = .ok (.aload_n 0, 1) := dk_42 (dk_at dksX6_readsMarks_0 10 rfl rfl)
theorem dX6_readsMarks_11 : decode cX6_readsMarks 11 = .ok (.iload_n 1, 1) := dk_27 (dk_at dksX6_readsMarks_0 11 rfl rfl)
theorem dX6_readsMarks_12 : decode cX6_readsMarks 12 = .ok (.invokevirtual 514, 3) := dk_182 2 2 (dk_at dksX6_readsMarks_0 12 rfl rfl)
theorem dX6_readsMarks_15 : decode cX6_readsMarks 15 = .ok (.ifCond .eq 16, 3) := dk_153 0 16 (dk_at dksX6_readsMarks_0 15 rfl rfl)
theorem dX6_readsMarks_18 : decode cX6_readsMarks 18 = .ok (.aload_n 0, 1) := dk_42 (dk_at dksX6_readsMarks_0 18 rfl rfl)
theorem dX6_readsMarks_19 : decode cX6_readsMarks 19 = .ok (.dup, 1) := dk_89 (dk_at dksX6_readsMarks_0 19 rfl rfl)
theorem dX6_readsMarks_20 : decode cX6_readsMarks 20 = .ok (.getfield 504, 3) := dk_180 1 248 (dk_at dksX6_readsMarks_0 20 rfl rfl)
theorem dX6_readsMarks_23 : decode cX6_readsMarks 23 = .ok (.iconst 1, 1) := dk_4 (dk_at dksX6_readsMarks_0 23 rfl rfl)
theorem dX6_readsMarks_24 : decode cX6_readsMarks 24 = .ok (.iadd, 1) := dk_96 (dk_at dksX6_readsMarks_1 0 rfl rfl)
theorem dX6_readsMarks_25 : decode cX6_readsMarks 25 = .ok (.putfield 504, 3) := dk_181 1 248 (dk_at dksX6_readsMarks_1 1 rfl rfl)
theorem dX6_readsMarks_28 : decode cX6_readsMarks 28 = .ok (.goto (-18), 3) := dk_167 255 238 (dk_at dksX6_readsMarks_1 4 rfl rfl)
theorem dX6_readsMarks_31 : decode cX6_readsMarks 31 = .ok (.aload_n 0, 1) := dk_42 (dk_at dksX6_readsMarks_1 7 rfl rfl)
theorem dX6_readsMarks_32 : decode cX6_readsMarks 32 = .ok (.getfield 504, 3) := dk_180 1 248 (dk_at dksX6_readsMarks_1 8 rfl rfl)
theorem dX6_readsMarks_35 : decode cX6_readsMarks 35 = .ok (.iload_n 1, 1) := dk_27 (dk_at dksX6_readsMarks_1 11 rfl rfl)
theorem dX6_readsMarks_36 : decode cX6_readsMarks 36 = .ok (.if_icmp .ge 52, 3) := dk_162 0 52 (dk_at dksX6_readsMarks_1 12 rfl rfl)
theorem dX6_readsMarks_39 : decode cX6_readsMarks 39 = .ok (.aload_n 0, 1) := dk_42 (dk_at dksX6_readsMarks_1 15 rfl rfl)
theorem dX6_readsMarks_40 : decode cX6_readsMarks 40 = .ok (.iload_n 1, 1) := dk_27 (dk_at dksX6_readsMarks_1 16 rfl rfl)
theorem dX6_readsMarks_41 : decode cX6_readsMarks 41 = .ok (.invokevirtual 517, 3) := dk_182 2 5 (dk_at dksX6_readsMarks_1 17 rfl rfl)
theorem dX6_readsMarks_44 : decode cX6_readsMarks 44 = .ok (.ifCond .ne 5, 3) := dk_154 0 5 (dk_at dksX6_readsMarks_1 20 rfl rfl)
theorem dX6_readsMarks_47 : decode cX6_readsMarks 47 = .ok (.iconst 0, 1) := dk_3 (dk_at dksX6_readsMarks_1 23 rfl rfl)
theorem dX6_readsMarks_48 : decode cX6_readsMarks 48 = .ok (.ireturn, 1) := dk_172 (dk_at dksX6_readsMarks_2 0 rfl rfl)
theorem dX6_readsMarks_49 : decode cX6_readsMarks 49 = .ok (.aload_n 0, 1) := dk_42 (dk_at dksX6_readsMarks_2 1 rfl rfl)
theorem dX6_readsMarks_50 : decode cX6_readsMarks 50 = .ok (.getfield 504, 3) := dk_180 1 248 (dk_at dksX6_readsMarks_2 2 rfl rfl)
theorem dX6_readsMarks_53 : decode cX6_readsMarks 53 = .ok (.iload_n 1, 1) := dk_27 (dk_at dksX6_readsMarks_2 5 rfl rfl)
theorem dX6_readsMarks_54 : decode cX6_readsMarks 54 = .ok (.if_icmp .ge 13, 3) := dk_162 0 13 (dk_at dksX6_readsMarks_2 6 rfl rfl)
theorem dX6_readsMarks_57 : decode cX6_readsMarks 57 = .ok (.aload_n 0, 1) := dk_42 (dk_at dksX6_readsMarks_2 9 rfl rfl)
theorem dX6_readsMarks_58 : decode cX6_readsMarks 58 = .ok (.iload_n 1, 1) := dk_27 (dk_at dksX6_readsMarks_2 10 rfl rfl)
theorem dX6_readsMarks_59 : decode cX6_readsMarks 59 = .ok (.invokevirtual 514, 3) := dk_182 2 2 (dk_at dksX6_readsMarks_2 11 rfl rfl)
theorem dX6_readsMarks_62 : decode cX6_readsMarks 62 = .ok (.ifCond .ne 5, 3) := dk_154 0 5 (dk_at dksX6_readsMarks_2 14 rfl rfl)
theorem dX6_readsMarks_65 : decode cX6_readsMarks 65 = .ok (.iconst 0, 1) := dk_3 (dk_at dksX6_readsMarks_2 17 rfl rfl)
theorem dX6_readsMarks_66 : decode cX6_readsMarks 66 = .ok (.ireturn, 1) := dk_172 (dk_at dksX6_readsMarks_2 18 rfl rfl)
theorem dX6_readsMarks_67 : decode cX6_readsMarks 67 = .ok (.aload_n 0, 1) := dk_42 (dk_at dksX6_readsMarks_2 19 rfl rfl)
theorem dX6_readsMarks_68 : decode cX6_readsMarks 68 = .ok (.iload_n 1, 1) := dk_27 (dk_at dksX6_readsMarks_2 20 rfl rfl)
theorem dX6_readsMarks_69 : decode cX6_readsMarks 69 = .ok (.invokevirtual 514, 3) := dk_182 2 2 (dk_at dksX6_readsMarks_2 21 rfl rfl)
theorem dX6_readsMarks_72 : decode cX6_readsMarks 72 = .ok (.ifCond .eq (-41), 3) := dk_153 255 215 (dk_at dksX6_readsMarks_3 0 rfl rfl)
theorem dX6_readsMarks_75 : decode cX6_readsMarks 75 = .ok (.aload_n 0, 1) := dk_42 (dk_at dksX6_readsMarks_3 3 rfl rfl)
theorem dX6_readsMarks_76 : decode cX6_readsMarks 76 = .ok (.dup, 1) := dk_89 (dk_at dksX6_readsMarks_3 4 rfl rfl)
theorem dX6_readsMarks_77 : decode cX6_readsMarks 77 = .ok (.getfield 504, 3) := dk_180 1 248 (dk_at dksX6_readsMarks_3 5 rfl rfl)
theorem dX6_readsMarks_80 : decode cX6_readsMarks 80 = .ok (.iconst 1, 1) := dk_4 (dk_at dksX6_readsMarks_3 8 rfl rfl)
theorem dX6_readsMarks_81 : decode cX6_readsMarks 81 = .ok (.iadd, 1) := dk_96 (dk_at dksX6_readsMarks_3 9 rfl rfl)
theorem dX6_readsMarks_82 : decode cX6_readsMarks 82 = .ok (.putfield 504, 3) := dk_181 1 248 (dk_at dksX6_readsMarks_3 10 rfl rfl)
theorem dX6_readsMarks_85 : decode cX6_readsMarks 85 = .ok (.goto (-18), 3) := dk_167 255 238 (dk_at dksX6_readsMarks_3 13 rfl rfl)
theorem dX6_readsMarks_88 : decode cX6_readsMarks 88 = .ok (.aload_n 0, 1) := dk_42 (dk_at dksX6_readsMarks_3 16 rfl rfl)
theorem dX6_readsMarks_89 : decode cX6_readsMarks 89 = .ok (.getfield 511, 3) := dk_180 1 255 (dk_at dksX6_readsMarks_3 17 rfl rfl)
theorem dX6_readsMarks_92 : decode cX6_readsMarks 92 = .ok (.aload_n 0, 1) := dk_42 (dk_at dksX6_readsMarks_3 20 rfl rfl)
theorem dX6_readsMarks_93 : decode cX6_readsMarks 93 = .ok (.getfield 235, 3) := dk_180 0 235 (dk_at dksX6_readsMarks_3 21 rfl rfl)
theorem dX6_readsMarks_96 : decode cX6_readsMarks 96 = .ok (.if_icmp .ne 7, 3) := dk_160 0 7 (dk_at dksX6_readsMarks_4 0 rfl rfl)
theorem dX6_readsMarks_99 : decode cX6_readsMarks 99 = .ok (.iconst 1, 1) := dk_4 (dk_at dksX6_readsMarks_4 3 rfl rfl)
theorem dX6_readsMarks_100 : decode cX6_readsMarks 100 = .ok (.goto 4, 3) := dk_167 0 4 (dk_at dksX6_readsMarks_4 4 rfl rfl)
theorem dX6_readsMarks_103 : decode cX6_readsMarks 103 = .ok (.iconst 0, 1) := dk_3 (dk_at dksX6_readsMarks_4 7 rfl rfl)
theorem dX6_readsMarks_104 : decode cX6_readsMarks 104 = .ok (.ireturn, 1) := dk_172 (dk_at dksX6_readsMarks_4 8 rfl rfl)
abbrev cX6_isBlank : ByteArray := prog_16_method_129_code
def yX6_isBlank : MethodName := ⟨RX6, "isBlank", "(I)Z"⟩
def dkwX6_isBlank_1 : List UInt8 := [180, 0, 7, 42, 180, 1, 248, 46, 16, 10, 160, 0, 7, 4, 167, 0, 4, 3, 172]
abbrev dktX6_isBlank_1 : List UInt8 := dkwX6_isBlank_1 ++ []
def dkwX6_isBlank_0 : List UInt8 := [42, 180, 1, 248, 27, 162, 0, 35, 42, 180, 0, 7, 42, 180, 1, 248, 46, 16, 32, 159, 0, 17, 42]
abbrev dktX6_isBlank_0 : List UInt8 := dkwX6_isBlank_0 ++ dktX6_isBlank_1
theorem dksX6_isBlank_0 : cX6_isBlank.data.toList.drop 0 = dktX6_isBlank_0 := by decide +kernel
theorem dksX6_isBlank_1 : cX6_isBlank.data.toList.drop 23 = dktX6_isBlank_1 := dk_seg dksX6_isBlank_0 23 rfl rfl
theorem dX6_isBlank_0 : decode cX6_isBlank 0 = .ok (.aload_n 0, 1) := dk_42 (dk_at dksX6_isBlank_0 0 rfl rfl)
theorem dX6_isBlank_1 : decode cX6_isBlank 1 = .ok (.getfield 504, 3) := dk_180 1 248 (dk_at dksX6_isBlank_0 1 rfl rfl)
theorem dX6_isBlank_4 : decode cX6_isBlank 4 = .ok (.iload_n 1, 1) := dk_27 (dk_at dksX6_isBlank_0 4 rfl rfl)
theorem dX6_isBlank_5 : decode cX6_isBlank 5 = .ok (.if_icmp .ge 35, 3) := dk_162 0 35 (dk_at dksX6_isBlank_0 5 rfl rfl)
theorem dX6_isBlank_8 : decode cX6_isBlank 8 = .ok (.aload_n 0, 1) := dk_42 (dk_at dksX6_isBlank_0 8 rfl rfl)
theorem dX6_isBlank_9 : decode cX6_isBlank 9 = .ok (.getfield 7, 3) := dk_180 0 7 (dk_at dksX6_isBlank_0 9 rfl rfl)
theorem dX6_isBlank_12 : decode cX6_isBlank 12 = .ok (.aload_n 0, 1) := dk_42 (dk_at dksX6_isBlank_0 12 rfl rfl)
theorem dX6_isBlank_13 : decode cX6_isBlank 13 = .ok (.getfield 504, 3) := dk_180 1 248 (dk_at dksX6_isBlank_0 13 rfl rfl)
theorem dX6_isBlank_16 : decode cX6_isBlank 16 = .ok (.iaload, 1) := dk_46 (dk_at dksX6_isBlank_0 16 rfl rfl)
theorem dX6_isBlank_17 : decode cX6_isBlank 17 = .ok (.bipush 32, 2) := dk_16 32 (dk_at dksX6_isBlank_0 17 rfl rfl)
theorem dX6_isBlank_19 : decode cX6_isBlank 19 = .ok (.if_icmp .eq 17, 3) := dk_159 0 17 (dk_at dksX6_isBlank_0 19 rfl rfl)
theorem dX6_isBlank_22 : decode cX6_isBlank 22 = .ok (.aload_n 0, 1) := dk_42 (dk_at dksX6_isBlank_0 22 rfl rfl)
theorem dX6_isBlank_23 : decode cX6_isBlank 23 = .ok (.getfield 7, 3) := dk_180 0 7 (dk_at dksX6_isBlank_1 0 rfl rfl)
theorem dX6_isBlank_26 : decode cX6_isBlank 26 = .ok (.aload_n 0, 1) := dk_42 (dk_at dksX6_isBlank_1 3 rfl rfl)
theorem dX6_isBlank_27 : decode cX6_isBlank 27 = .ok (.getfield 504, 3) := dk_180 1 248 (dk_at dksX6_isBlank_1 4 rfl rfl)
theorem dX6_isBlank_30 : decode cX6_isBlank 30 = .ok (.iaload, 1) := dk_46 (dk_at dksX6_isBlank_1 7 rfl rfl)
theorem dX6_isBlank_31 : decode cX6_isBlank 31 = .ok (.bipush 10, 2) := dk_16 10 (dk_at dksX6_isBlank_1 8 rfl rfl)
theorem dX6_isBlank_33 : decode cX6_isBlank 33 = .ok (.if_icmp .ne 7, 3) := dk_160 0 7 (dk_at dksX6_isBlank_1 10 rfl rfl)
theorem dX6_isBlank_36 : decode cX6_isBlank 36 = .ok (.iconst 1, 1) := dk_4 (dk_at dksX6_isBlank_1 13 rfl rfl)
theorem dX6_isBlank_37 : decode cX6_isBlank 37 = .ok (.goto 4, 3) := dk_167 0 4 (dk_at dksX6_isBlank_1 14 rfl rfl)
theorem dX6_isBlank_40 : decode cX6_isBlank 40 = .ok (.iconst 0, 1) := dk_3 (dk_at dksX6_isBlank_1 17 rfl rfl)
theorem dX6_isBlank_41 : decode cX6_isBlank 41 = .ok (.ireturn, 1) := dk_172 (dk_at dksX6_isBlank_1 18 rfl rfl)
abbrev cX6_readsNumber : ByteArray := prog_16_method_128_code
def yX6_readsNumber : MethodName := ⟨RX6, "readsNumber", "(I)Z"⟩
def dkwX6_readsNumber_7 : List UInt8 := [96, 181, 1, 255, 4, 172]
abbrev dktX6_readsNumber_7 : List UInt8 := dkwX6_readsNumber_7 ++ []
def dkwX6_readsNumber_6 : List UInt8 := [180, 0, 69, 42, 180, 1, 255, 28, 153, 0, 8, 33, 117, 167, 0, 4, 33, 80, 42, 89, 180, 1, 255, 4]
abbrev dktX6_readsNumber_6 : List UInt8 := dkwX6_readsNumber_6 ++ dktX6_readsNumber_7
def dkwX6_readsNumber_5 : List UInt8 := [153, 0, 21, 21, 5, 16, 6, 163, 0, 14, 42, 180, 1, 255, 42, 180, 0, 235, 160, 0, 5, 3, 172, 42]
abbrev dktX6_readsNumber_5 : List UInt8 := dkwX6_readsNumber_5 ++ dktX6_readsNumber_6
def dkwX6_readsNumber_4 : List UInt8 := [20, 1, 253, 101, 66, 132, 5, 1, 42, 89, 180, 1, 248, 4, 96, 181, 1, 248, 167, 255, 192, 21, 5]
abbrev dktX6_readsNumber_4 : List UInt8 := dkwX6_readsNumber_4 ++ dktX6_readsNumber_5
def dkwX6_readsNumber_3 : List UInt8 := [21, 5, 16, 6, 163, 0, 40, 20, 1, 251, 33, 105, 42, 180, 0, 7, 42, 180, 1, 248, 46, 133, 97]
abbrev dktX6_readsNumber_3 : List UInt8 := dkwX6_readsNumber_3 ++ dktX6_readsNumber_4
def dkwX6_readsNumber_2 : List UInt8 := [42, 180, 1, 248, 27, 162, 0, 62, 42, 180, 0, 7, 42, 180, 1, 248, 46, 184, 0, 162, 153, 0, 47]
abbrev dktX6_readsNumber_2 : List UInt8 := dkwX6_readsNumber_2 ++ dktX6_readsNumber_3
def dkwX6_readsNumber_1 : List UInt8 := [167, 0, 4, 3, 61, 28, 153, 0, 13, 42, 89, 180, 1, 248, 4, 96, 181, 1, 248, 9, 66, 3, 54, 5]
abbrev dktX6_readsNumber_1 : List UInt8 := dkwX6_readsNumber_1 ++ dktX6_readsNumber_2
def dkwX6_readsNumber_0 : List UInt8 := [42, 180, 1, 248, 27, 162, 0, 21, 42, 180, 0, 7, 42, 180, 1, 248, 46, 16, 45, 160, 0, 7, 4]
abbrev dktX6_readsNumber_0 : List UInt8 := dkwX6_readsNumber_0 ++ dktX6_readsNumber_1
theorem dksX6_readsNumber_0 : cX6_readsNumber.data.toList.drop 0 = dktX6_readsNumber_0 := by decide +kernel
theorem dksX6_readsNumber_1 : cX6_readsNumber.data.toList.drop 23 = dktX6_readsNumber_1 := dk_seg dksX6_readsNumber_0 23 rfl rfl
theorem dksX6_readsNumber_2 : cX6_readsNumber.data.toList.drop 47 = dktX6_readsNumber_2 := dk_seg dksX6_readsNumber_1 24 rfl rfl
theorem dksX6_readsNumber_3 : cX6_readsNumber.data.toList.drop 70 = dktX6_readsNumber_3 := dk_seg dksX6_readsNumber_2 23 rfl rfl
theorem dksX6_readsNumber_4 : cX6_readsNumber.data.toList.drop 93 = dktX6_readsNumber_4 := dk_seg dksX6_readsNumber_3 23 rfl rfl
theorem dksX6_readsNumber_5 : cX6_readsNumber.data.toList.drop 116 = dktX6_readsNumber_5 := dk_seg dksX6_readsNumber_4 23 rfl rfl
theorem dksX6_readsNumber_6 : cX6_readsNumber.data.toList.drop 140 = dktX6_readsNumber_6 := dk_seg dksX6_readsNumber_5 24 rfl rfl
theorem dksX6_readsNumber_7 : cX6_readsNumber.data.toList.drop 164 = dktX6_readsNumber_7 := dk_seg dksX6_readsNumber_6 24 rfl rfl
theorem dX6_readsNumber_0 : decode cX6_readsNumber 0 = .ok (.aload_n 0, 1) := dk_42 (dk_at dksX6_readsNumber_0 0 rfl rfl)
theorem dX6_readsNumber_1 : decode cX6_readsNumber 1 = .ok (.getfield 504, 3) := dk_180 1 248 (dk_at dksX6_readsNumber_0 1 rfl rfl)
theorem dX6_readsNumber_4 : decode cX6_readsNumber 4 = .ok (.iload_n 1, 1) := dk_27 (dk_at dksX6_readsNumber_0 4 rfl rfl)
theorem dX6_readsNumber_5 : decode cX6_readsNumber 5 = .ok (.if_icmp .ge 21, 3) := dk_162 0 21 (dk_at dksX6_readsNumber_0 5 rfl rfl)
theorem dX6_readsNumber_8 : decode cX6_readsNumber 8 = .ok (.aload_n 0, 1) := dk_42 (dk_at dksX6_readsNumber_0 8 rfl rfl)
theorem dX6_readsNumber_9 : decode cX6_readsNumber 9 = .ok (.getfield 7, 3) := dk_180 0 7 (dk_at dksX6_readsNumber_0 9 rfl rfl)
theorem dX6_readsNumber_12 : decode cX6_readsNumber 12 = .ok (.aload_n 0, 1) := dk_42 (dk_at dksX6_readsNumber_0 12 rfl rfl)
theorem dX6_readsNumber_13 : decode cX6_readsNumber 13 = .ok (.getfield 504, 3) := dk_180 1 248 (dk_at dksX6_readsNumber_0 13 rfl rfl)
theorem dX6_readsNumber_16 : decode cX6_readsNumber 16 = .ok (.iaload, 1) := dk_46 (dk_at dksX6_readsNumber_0 16 rfl rfl)
theorem dX6_readsNumber_17 : decode cX6_readsNumber 17 = .ok (.bipush 45, 2) := dk_16 45 (dk_at dksX6_readsNumber_0 17 rfl rfl)
theorem dX6_readsNumber_19 : decode cX6_readsNumber 19 = .ok (.if_icmp .ne 7, 3) := dk_160 0 7 (dk_at dksX6_readsNumber_0 19 rfl rfl)
theorem dX6_readsNumber_22 : decode cX6_readsNumber 22 = .ok (.iconst 1, 1) := dk_4 (dk_at dksX6_readsNumber_0 22 rfl rfl)
theorem dX6_readsNumber_23 : decode cX6_readsNumber 23 = .ok (.goto 4, 3) := dk_167 0 4 (dk_at dksX6_readsNumber_1 0 rfl rfl)
theorem dX6_readsNumber_26 : decode cX6_readsNumber 26 = .ok (.iconst 0, 1) := dk_3 (dk_at dksX6_readsNumber_1 3 rfl rfl)
theorem dX6_readsNumber_27 : decode cX6_readsNumber 27 = .ok (.istore_n 2, 1) := dk_61 (dk_at dksX6_readsNumber_1 4 rfl rfl)
theorem dX6_readsNumber_28 : decode cX6_readsNumber 28 = .ok (.iload_n 2, 1) := dk_28 (dk_at dksX6_readsNumber_1 5 rfl rfl)
theorem dX6_readsNumber_29 : decode cX6_readsNumber 29 = .ok (.ifCond .eq 13, 3) := dk_153 0 13 (dk_at dksX6_readsNumber_1 6 rfl rfl)
theorem dX6_readsNumber_32 : decode cX6_readsNumber 32 = .ok (.aload_n 0, 1) := dk_42 (dk_at dksX6_readsNumber_1 9 rfl rfl)
theorem dX6_readsNumber_33 : decode cX6_readsNumber 33 = .ok (.dup, 1) := dk_89 (dk_at dksX6_readsNumber_1 10 rfl rfl)
theorem dX6_readsNumber_34 : decode cX6_readsNumber 34 = .ok (.getfield 504, 3) := dk_180 1 248 (dk_at dksX6_readsNumber_1 11 rfl rfl)
theorem dX6_readsNumber_37 : decode cX6_readsNumber 37 = .ok (.iconst 1, 1) := dk_4 (dk_at dksX6_readsNumber_1 14 rfl rfl)
theorem dX6_readsNumber_38 : decode cX6_readsNumber 38 = .ok (.iadd, 1) := dk_96 (dk_at dksX6_readsNumber_1 15 rfl rfl)
theorem dX6_readsNumber_39 : decode cX6_readsNumber 39 = .ok (.putfield 504, 3) := dk_181 1 248 (dk_at dksX6_readsNumber_1 16 rfl rfl)
theorem dX6_readsNumber_42 : decode cX6_readsNumber 42 = .ok (.lconst 0, 1) := dk_9 (dk_at dksX6_readsNumber_1 19 rfl rfl)
theorem dX6_readsNumber_43 : decode cX6_readsNumber 43 = .ok (.lstore_n 3, 1) := dk_66 (dk_at dksX6_readsNumber_1 20 rfl rfl)
theorem dX6_readsNumber_44 : decode cX6_readsNumber 44 = .ok (.iconst 0, 1) := dk_3 (dk_at dksX6_readsNumber_1 21 rfl rfl)
theorem dX6_readsNumber_45 : decode cX6_readsNumber 45 = .ok (.istore 5, 2) := dk_54 5 (dk_at dksX6_readsNumber_1 22 rfl rfl)
theorem dX6_readsNumber_47 : decode cX6_readsNumber 47 = .ok (.aload_n 0, 1) := dk_42 (dk_at dksX6_readsNumber_2 0 rfl rfl)
theorem dX6_readsNumber_48 : decode cX6_readsNumber 48 = .ok (.getfield 504, 3) := dk_180 1 248 (dk_at dksX6_readsNumber_2 1 rfl rfl)
theorem dX6_readsNumber_51 : decode cX6_readsNumber 51 = .ok (.iload_n 1, 1) := dk_27 (dk_at dksX6_readsNumber_2 4 rfl rfl)
theorem dX6_readsNumber_52 : decode cX6_readsNumber 52 = .ok (.if_icmp .ge 62, 3) := dk_162 0 62 (dk_at dksX6_readsNumber_2 5 rfl rfl)
theorem dX6_readsNumber_55 : decode cX6_readsNumber 55 = .ok (.aload_n 0, 1) := dk_42 (dk_at dksX6_readsNumber_2 8 rfl rfl)
theorem dX6_readsNumber_56 : decode cX6_readsNumber 56 = .ok (.getfield 7, 3) := dk_180 0 7 (dk_at dksX6_readsNumber_2 9 rfl rfl)
theorem dX6_readsNumber_59 : decode cX6_readsNumber 59 = .ok (.aload_n 0, 1) := dk_42 (dk_at dksX6_readsNumber_2 12 rfl rfl)
theorem dX6_readsNumber_60 : decode cX6_readsNumber 60 = .ok (.getfield 504, 3) := dk_180 1 248 (dk_at dksX6_readsNumber_2 13 rfl rfl)
theorem dX6_readsNumber_63 : decode cX6_readsNumber 63 = .ok (.iaload, 1) := dk_46 (dk_at dksX6_readsNumber_2 16 rfl rfl)
theorem dX6_readsNumber_64 : decode cX6_readsNumber 64 = .ok (.invokestatic 162, 3) := dk_184 0 162 (dk_at dksX6_readsNumber_2 17 rfl rfl)
theorem dX6_readsNumber_67 : decode cX6_readsNumber 67 = .ok (.ifCond .eq 47, 3) := dk_153 0 47 (dk_at dksX6_readsNumber_2 20 rfl rfl)
theorem dX6_readsNumber_70 : decode cX6_readsNumber 70 = .ok (.iload 5, 2) := dk_21 5 (dk_at dksX6_readsNumber_3 0 rfl rfl)
theorem dX6_readsNumber_72 : decode cX6_readsNumber 72 = .ok (.bipush 6, 2) := dk_16 6 (dk_at dksX6_readsNumber_3 2 rfl rfl)
theorem dX6_readsNumber_74 : decode cX6_readsNumber 74 = .ok (.if_icmp .gt 40, 3) := dk_163 0 40 (dk_at dksX6_readsNumber_3 4 rfl rfl)
theorem dX6_readsNumber_77 : decode cX6_readsNumber 77 = .ok (.ldc2_w 507, 3) := dk_20 1 251 (dk_at dksX6_readsNumber_3 7 rfl rfl)
theorem dX6_readsNumber_80 : decode cX6_readsNumber 80 = .ok (.lload_n 3, 1) := dk_33 (dk_at dksX6_readsNumber_3 10 rfl rfl)
theorem dX6_readsNumber_81 : decode cX6_readsNumber 81 = .ok (.lmul, 1) := dk_105 (dk_at dksX6_readsNumber_3 11 rfl rfl)
theorem dX6_readsNumber_82 : decode cX6_readsNumber 82 = .ok (.aload_n 0, 1) := dk_42 (dk_at dksX6_readsNumber_3 12 rfl rfl)
theorem dX6_readsNumber_83 : decode cX6_readsNumber 83 = .ok (.getfield 7, 3) := dk_180 0 7 (dk_at dksX6_readsNumber_3 13 rfl rfl)
theorem dX6_readsNumber_86 : decode cX6_readsNumber 86 = .ok (.aload_n 0, 1) := dk_42 (dk_at dksX6_readsNumber_3 16 rfl rfl)
theorem dX6_readsNumber_87 : decode cX6_readsNumber 87 = .ok (.getfield 504, 3) := dk_180 1 248 (dk_at dksX6_readsNumber_3 17 rfl rfl)
theorem dX6_readsNumber_90 : decode cX6_readsNumber 90 = .ok (.iaload, 1) := dk_46 (dk_at dksX6_readsNumber_3 20 rfl rfl)
theorem dX6_readsNumber_91 : decode cX6_readsNumber 91 = .ok (.i2l, 1) := dk_133 (dk_at dksX6_readsNumber_3 21 rfl rfl)
theorem dX6_readsNumber_92 : decode cX6_readsNumber 92 = .ok (.ladd, 1) := dk_97 (dk_at dksX6_readsNumber_3 22 rfl rfl)
theorem dX6_readsNumber_93 : decode cX6_readsNumber 93 = .ok (.ldc2_w 509, 3) := dk_20 1 253 (dk_at dksX6_readsNumber_4 0 rfl rfl)
theorem dX6_readsNumber_96 : decode cX6_readsNumber 96 = .ok (.lsub, 1) := dk_101 (dk_at dksX6_readsNumber_4 3 rfl rfl)
theorem dX6_readsNumber_97 : decode cX6_readsNumber 97 = .ok (.lstore_n 3, 1) := dk_66 (dk_at dksX6_readsNumber_4 4 rfl rfl)
theorem dX6_readsNumber_98 : decode cX6_readsNumber 98 = .ok (.iinc 5 1, 3) := dk_132 5 1 (dk_at dksX6_readsNumber_4 5 rfl rfl)
theorem dX6_readsNumber_101 : decode cX6_readsNumber 101 = .ok (.aload_n 0, 1) := dk_42 (dk_at dksX6_readsNumber_4 8 rfl rfl)
theorem dX6_readsNumber_102 : decode cX6_readsNumber 102 = .ok (.dup, 1) := dk_89 (dk_at dksX6_readsNumber_4 9 rfl rfl)
theorem dX6_readsNumber_103 : decode cX6_readsNumber 103 = .ok (.getfield 504, 3) := dk_180 1 248 (dk_at dksX6_readsNumber_4 10 rfl rfl)
theorem dX6_readsNumber_106 : decode cX6_readsNumber 106 = .ok (.iconst 1, 1) := dk_4 (dk_at dksX6_readsNumber_4 13 rfl rfl)
theorem dX6_readsNumber_107 : decode cX6_readsNumber 107 = .ok (.iadd, 1) := dk_96 (dk_at dksX6_readsNumber_4 14 rfl rfl)
theorem dX6_readsNumber_108 : decode cX6_readsNumber 108 = .ok (.putfield 504, 3) := dk_181 1 248 (dk_at dksX6_readsNumber_4 15 rfl rfl)
theorem dX6_readsNumber_111 : decode cX6_readsNumber 111 = .ok (.goto (-64), 3) := dk_167 255 192 (dk_at dksX6_readsNumber_4 18 rfl rfl)
theorem dX6_readsNumber_114 : decode cX6_readsNumber 114 = .ok (.iload 5, 2) := dk_21 5 (dk_at dksX6_readsNumber_4 21 rfl rfl)
theorem dX6_readsNumber_116 : decode cX6_readsNumber 116 = .ok (.ifCond .eq 21, 3) := dk_153 0 21 (dk_at dksX6_readsNumber_5 0 rfl rfl)
theorem dX6_readsNumber_119 : decode cX6_readsNumber 119 = .ok (.iload 5, 2) := dk_21 5 (dk_at dksX6_readsNumber_5 3 rfl rfl)
theorem dX6_readsNumber_121 : decode cX6_readsNumber 121 = .ok (.bipush 6, 2) := dk_16 6 (dk_at dksX6_readsNumber_5 5 rfl rfl)
theorem dX6_readsNumber_123 : decode cX6_readsNumber 123 = .ok (.if_icmp .gt 14, 3) := dk_163 0 14 (dk_at dksX6_readsNumber_5 7 rfl rfl)
theorem dX6_readsNumber_126 : decode cX6_readsNumber 126 = .ok (.aload_n 0, 1) := dk_42 (dk_at dksX6_readsNumber_5 10 rfl rfl)
theorem dX6_readsNumber_127 : decode cX6_readsNumber 127 = .ok (.getfield 511, 3) := dk_180 1 255 (dk_at dksX6_readsNumber_5 11 rfl rfl)
theorem dX6_readsNumber_130 : decode cX6_readsNumber 130 = .ok (.aload_n 0, 1) := dk_42 (dk_at dksX6_readsNumber_5 14 rfl rfl)
theorem dX6_readsNumber_131 : decode cX6_readsNumber 131 = .ok (.getfield 235, 3) := dk_180 0 235 (dk_at dksX6_readsNumber_5 15 rfl rfl)
theorem dX6_readsNumber_134 : decode cX6_readsNumber 134 = .ok (.if_icmp .ne 5, 3) := dk_160 0 5 (dk_at dksX6_readsNumber_5 18 rfl rfl)
theorem dX6_readsNumber_137 : decode cX6_readsNumber 137 = .ok (.iconst 0, 1) := dk_3 (dk_at dksX6_readsNumber_5 21 rfl rfl)
theorem dX6_readsNumber_138 : decode cX6_readsNumber 138 = .ok (.ireturn, 1) := dk_172 (dk_at dksX6_readsNumber_5 22 rfl rfl)
theorem dX6_readsNumber_139 : decode cX6_readsNumber 139 = .ok (.aload_n 0, 1) := dk_42 (dk_at dksX6_readsNumber_5 23 rfl rfl)
theorem dX6_readsNumber_140 : decode cX6_readsNumber 140 = .ok (.getfield 69, 3) := dk_180 0 69 (dk_at dksX6_readsNumber_6 0 rfl rfl)
theorem dX6_readsNumber_143 : decode cX6_readsNumber 143 = .ok (.aload_n 0, 1) := dk_42 (dk_at dksX6_readsNumber_6 3 rfl rfl)
theorem dX6_readsNumber_144 : decode cX6_readsNumber 144 = .ok (.getfield 511, 3) := dk_180 1 255 (dk_at dksX6_readsNumber_6 4 rfl rfl)
theorem dX6_readsNumber_147 : decode cX6_readsNumber 147 = .ok (.iload_n 2, 1) := dk_28 (dk_at dksX6_readsNumber_6 7 rfl rfl)
theorem dX6_readsNumber_148 : decode cX6_readsNumber 148 = .ok (.ifCond .eq 8, 3) := dk_153 0 8 (dk_at dksX6_readsNumber_6 8 rfl rfl)
theorem dX6_readsNumber_151 : decode cX6_readsNumber 151 = .ok (.lload_n 3, 1) := dk_33 (dk_at dksX6_readsNumber_6 11 rfl rfl)
theorem dX6_readsNumber_152 : decode cX6_readsNumber 152 = .ok (.lneg, 1) := dk_117 (dk_at dksX6_readsNumber_6 12 rfl rfl)
theorem dX6_readsNumber_153 : decode cX6_readsNumber 153 = .ok (.goto 4, 3) := dk_167 0 4 (dk_at dksX6_readsNumber_6 13 rfl rfl)
theorem dX6_readsNumber_156 : decode cX6_readsNumber 156 = .ok (.lload_n 3, 1) := dk_33 (dk_at dksX6_readsNumber_6 16 rfl rfl)
theorem dX6_readsNumber_157 : decode cX6_readsNumber 157 = .ok (.lastore, 1) := dk_80 (dk_at dksX6_readsNumber_6 17 rfl rfl)
theorem dX6_readsNumber_158 : decode cX6_readsNumber 158 = .ok (.aload_n 0, 1) := dk_42 (dk_at dksX6_readsNumber_6 18 rfl rfl)
theorem dX6_readsNumber_159 : decode cX6_readsNumber 159 = .ok (.dup, 1) := dk_89 (dk_at dksX6_readsNumber_6 19 rfl rfl)
theorem dX6_readsNumber_160 : decode cX6_readsNumber 160 = .ok (.getfield 511, 3) := dk_180 1 255 (dk_at dksX6_readsNumber_6 20 rfl rfl)
theorem dX6_readsNumber_163 : decode cX6_readsNumber 163 = .ok (.iconst 1, 1) := dk_4 (dk_at dksX6_readsNumber_6 23 rfl rfl)
theorem dX6_readsNumber_164 : decode cX6_readsNumber 164 = .ok (.iadd, 1) := dk_96 (dk_at dksX6_readsNumber_7 0 rfl rfl)
theorem dX6_readsNumber_165 : decode cX6_readsNumber 165 = .ok (.putfield 511, 3) := dk_181 1 255 (dk_at dksX6_readsNumber_7 1 rfl rfl)
theorem dX6_readsNumber_168 : decode cX6_readsNumber 168 = .ok (.iconst 1, 1) := dk_4 (dk_at dksX6_readsNumber_7 4 rfl rfl)
theorem dX6_readsNumber_169 : decode cX6_readsNumber 169 = .ok (.ireturn, 1) := dk_172 (dk_at dksX6_readsNumber_7 5 rfl rfl)
abbrev cX6_uses : ByteArray := prog_16_method_132_code
def yX6_uses : MethodName := ⟨RX6, "uses", "(I)I"⟩
def dkwX6_uses_2 : List UInt8 := [80, 132, 2, 1, 167, 255, 228, 42, 182, 1, 228, 172]
abbrev dktX6_uses_2 : List UInt8 := dkwX6_uses_2 ++ []
def dkwX6_uses_1 : List UInt8 := [28, 42, 180, 0, 235, 162, 0, 26, 42, 180, 0, 66, 28, 42, 180, 0, 84, 16, 64, 27, 104, 28, 96, 47]
abbrev dktX6_uses_1 : List UInt8 := dkwX6_uses_1 ++ dktX6_uses_2
def dkwX6_uses_0 : List UInt8 := [27, 133, 9, 42, 180, 1, 132, 4, 100, 133, 184, 0, 131, 154, 0, 5, 2, 172, 42, 182, 1, 225, 3, 61]
abbrev dktX6_uses_0 : List UInt8 := dkwX6_uses_0 ++ dktX6_uses_1
theorem dksX6_uses_0 : cX6_uses.data.toList.drop 0 = dktX6_uses_0 := by decide +kernel
theorem dksX6_uses_1 : cX6_uses.data.toList.drop 24 = dktX6_uses_1 := dk_seg dksX6_uses_0 24 rfl rfl
theorem dksX6_uses_2 : cX6_uses.data.toList.drop 48 = dktX6_uses_2 := dk_seg dksX6_uses_1 24 rfl rfl
theorem dX6_uses_0 : decode cX6_uses 0 = .ok (.iload_n 1, 1) := dk_27 (dk_at dksX6_uses_0 0 rfl rfl)
theorem dX6_uses_1 : decode cX6_uses 1 = .ok (.i2l, 1) := dk_133 (dk_at dksX6_uses_0 1 rfl rfl)
theorem dX6_uses_2 : decode cX6_uses 2 = .ok (.lconst 0, 1) := dk_9 (dk_at dksX6_uses_0 2 rfl rfl)
theorem dX6_uses_3 : decode cX6_uses 3 = .ok (.aload_n 0, 1) := dk_42 (dk_at dksX6_uses_0 3 rfl rfl)
theorem dX6_uses_4 : decode cX6_uses 4 = .ok (.getfield 388, 3) := dk_180 1 132 (dk_at dksX6_uses_0 4 rfl rfl)
theorem dX6_uses_7 : decode cX6_uses 7 = .ok (.iconst 1, 1) := dk_4 (dk_at dksX6_uses_0 7 rfl rfl)
theorem dX6_uses_8 : decode cX6_uses 8 = .ok (.isub, 1) := dk_100 (dk_at dksX6_uses_0 8 rfl rfl)
theorem dX6_uses_9 : decode cX6_uses 9 = .ok (.i2l, 1) := dk_133 (dk_at dksX6_uses_0 9 rfl rfl)
theorem dX6_uses_10 : decode cX6_uses 10 = .ok (.invokestatic 131, 3) := dk_184 0 131 (dk_at dksX6_uses_0 10 rfl rfl)
theorem dX6_uses_13 : decode cX6_uses 13 = .ok (.ifCond .ne 5, 3) := dk_154 0 5 (dk_at dksX6_uses_0 13 rfl rfl)
theorem dX6_uses_16 : decode cX6_uses 16 = .ok (.iconst (-1), 1) := dk_2 (dk_at dksX6_uses_0 16 rfl rfl)
theorem dX6_uses_17 : decode cX6_uses 17 = .ok (.ireturn, 1) := dk_172 (dk_at dksX6_uses_0 17 rfl rfl)
theorem dX6_uses_18 : decode cX6_uses 18 = .ok (.aload_n 0, 1) := dk_42 (dk_at dksX6_uses_0 18 rfl rfl)
theorem dX6_uses_19 : decode cX6_uses 19 = .ok (.invokevirtual 481, 3) := dk_182 1 225 (dk_at dksX6_uses_0 19 rfl rfl)
theorem dX6_uses_22 : decode cX6_uses 22 = .ok (.iconst 0, 1) := dk_3 (dk_at dksX6_uses_0 22 rfl rfl)
theorem dX6_uses_23 : decode cX6_uses 23 = .ok (.istore_n 2, 1) := dk_61 (dk_at dksX6_uses_0 23 rfl rfl)
theorem dX6_uses_24 : decode cX6_uses 24 = .ok (.iload_n 2, 1) := dk_28 (dk_at dksX6_uses_1 0 rfl rfl)
theorem dX6_uses_25 : decode cX6_uses 25 = .ok (.aload_n 0, 1) := dk_42 (dk_at dksX6_uses_1 1 rfl rfl)
theorem dX6_uses_26 : decode cX6_uses 26 = .ok (.getfield 235, 3) := dk_180 0 235 (dk_at dksX6_uses_1 2 rfl rfl)
theorem dX6_uses_29 : decode cX6_uses 29 = .ok (.if_icmp .ge 26, 3) := dk_162 0 26 (dk_at dksX6_uses_1 5 rfl rfl)
theorem dX6_uses_32 : decode cX6_uses 32 = .ok (.aload_n 0, 1) := dk_42 (dk_at dksX6_uses_1 8 rfl rfl)
theorem dX6_uses_33 : decode cX6_uses 33 = .ok (.getfield 66, 3) := dk_180 0 66 (dk_at dksX6_uses_1 9 rfl rfl)
theorem dX6_uses_36 : decode cX6_uses 36 = .ok (.iload_n 2, 1) := dk_28 (dk_at dksX6_uses_1 12 rfl rfl)
theorem dX6_uses_37 : decode cX6_uses 37 = .ok (.aload_n 0, 1) := dk_42 (dk_at dksX6_uses_1 13 rfl rfl)
theorem dX6_uses_38 : decode cX6_uses 38 = .ok (.getfield 84, 3) := dk_180 0 84 (dk_at dksX6_uses_1 14 rfl rfl)
theorem dX6_uses_41 : decode cX6_uses 41 = .ok (.bipush 64, 2) := dk_16 64 (dk_at dksX6_uses_1 17 rfl rfl)
theorem dX6_uses_43 : decode cX6_uses 43 = .ok (.iload_n 1, 1) := dk_27 (dk_at dksX6_uses_1 19 rfl rfl)
theorem dX6_uses_44 : decode cX6_uses 44 = .ok (.imul, 1) := dk_104 (dk_at dksX6_uses_1 20 rfl rfl)
theorem dX6_uses_45 : decode cX6_uses 45 = .ok (.iload_n 2, 1) := dk_28 (dk_at dksX6_uses_1 21 rfl rfl)
theorem dX6_uses_46 : decode cX6_uses 46 = .ok (.iadd, 1) := dk_96 (dk_at dksX6_uses_1 22 rfl rfl)
theorem dX6_uses_47 : decode cX6_uses 47 = .ok (.laload, 1) := dk_47 (dk_at dksX6_uses_1 23 rfl rfl)
theorem dX6_uses_48 : decode cX6_uses 48 = .ok (.lastore, 1) := dk_80 (dk_at dksX6_uses_2 0 rfl rfl)
theorem dX6_uses_49 : decode cX6_uses 49 = .ok (.iinc 2 1, 3) := dk_132 2 1 (dk_at dksX6_uses_2 1 rfl rfl)
theorem dX6_uses_52 : decode cX6_uses 52 = .ok (.goto (-28), 3) := dk_167 255 228 (dk_at dksX6_uses_2 4 rfl rfl)
theorem dX6_uses_55 : decode cX6_uses 55 = .ok (.aload_n 0, 1) := dk_42 (dk_at dksX6_uses_2 7 rfl rfl)
theorem dX6_uses_56 : decode cX6_uses 56 = .ok (.invokevirtual 484, 3) := dk_182 1 228 (dk_at dksX6_uses_2 8 rfl rfl)
theorem dX6_uses_59 : decode cX6_uses 59 = .ok (.ireturn, 1) := dk_172 (dk_at dksX6_uses_2 11 rfl rfl)
abbrev cX6_grows : ByteArray := prog_16_method_133_code
def yX6_grows : MethodName := ⟨RX6, "grows", "(III)J"⟩
def dkwX6_grows_6 : List UInt8 := [180, 0, 66, 29, 47, 173]
abbrev dktX6_grows_6 : List UInt8 := dkwX6_grows_6 ++ []
def dkwX6_grows_5 : List UInt8 := [162, 0, 23, 42, 180, 0, 66, 21, 4, 42, 180, 0, 87, 21, 4, 47, 80, 132, 4, 1, 167, 255, 230, 42]
abbrev dktX6_grows_5 : List UInt8 := dkwX6_grows_5 ++ dktX6_grows_6
def dkwX6_grows_4 : List UInt8 := [182, 1, 15, 154, 0, 7, 20, 1, 214, 173, 42, 182, 1, 225, 3, 54, 4, 21, 4, 42, 180, 0, 235]
abbrev dktX6_grows_4 : List UInt8 := dkwX6_grows_4 ++ dktX6_grows_5
def dkwX6_grows_3 : List UInt8 := [29, 160, 0, 7, 28, 167, 0, 4, 3, 133, 97, 80, 132, 4, 1, 167, 255, 214, 42, 42, 180, 0, 87, 3]
abbrev dktX6_grows_3 : List UInt8 := dkwX6_grows_3 ++ dktX6_grows_4
def dkwX6_grows_2 : List UInt8 := [180, 0, 235, 162, 0, 39, 42, 180, 0, 87, 21, 4, 27, 133, 42, 180, 0, 66, 21, 4, 47, 105, 21, 4]
abbrev dktX6_grows_2 : List UInt8 := dkwX6_grows_2 ++ dktX6_grows_3
def dkwX6_grows_1 : List UInt8 := [20, 2, 15, 20, 2, 17, 184, 0, 131, 154, 0, 7, 20, 1, 214, 173, 3, 54, 4, 21, 4, 42]
abbrev dktX6_grows_1 : List UInt8 := dkwX6_grows_1 ++ dktX6_grows_2
def dkwX6_grows_0 : List UInt8 := [42, 29, 182, 1, 158, 153, 0, 31, 27, 133, 20, 2, 11, 20, 2, 13, 184, 0, 131, 153, 0, 17, 28, 133]
abbrev dktX6_grows_0 : List UInt8 := dkwX6_grows_0 ++ dktX6_grows_1
theorem dksX6_grows_0 : cX6_grows.data.toList.drop 0 = dktX6_grows_0 := by decide +kernel
theorem dksX6_grows_1 : cX6_grows.data.toList.drop 24 = dktX6_grows_1 := dk_seg dksX6_grows_0 24 rfl rfl
theorem dksX6_grows_2 : cX6_grows.data.toList.drop 46 = dktX6_grows_2 := dk_seg dksX6_grows_1 22 rfl rfl
theorem dksX6_grows_3 : cX6_grows.data.toList.drop 70 = dktX6_grows_3 := dk_seg dksX6_grows_2 24 rfl rfl
theorem dksX6_grows_4 : cX6_grows.data.toList.drop 94 = dktX6_grows_4 := dk_seg dksX6_grows_3 24 rfl rfl
theorem dksX6_grows_5 : cX6_grows.data.toList.drop 117 = dktX6_grows_5 := dk_seg dksX6_grows_4 23 rfl rfl
theorem dksX6_grows_6 : cX6_grows.data.toList.drop 141 = dktX6_grows_6 := dk_seg dksX6_grows_5 24 rfl rfl
theorem dX6_grows_0 : decode cX6_grows 0 = .ok (.aload_n 0, 1) := dk_42 (dk_at dksX6_grows_0 0 rfl rfl)
theorem dX6_grows_1 : decode cX6_grows 1 = .ok (.iload_n 3, 1) := dk_29 (dk_at dksX6_grows_0 1 rfl rfl)
theorem dX6_grows_2 : decode cX6_grows 2 = .ok (.invokevirtual 414, 3) := dk_182 1 158 (dk_at dksX6_grows_0 2 rfl rfl)
theorem dX6_grows_5 : decode cX6_grows 5 = .ok (.ifCond .eq 31, 3) := dk_153 0 31 (dk_at dksX6_grows_0 5 rfl rfl)
theorem dX6_grows_8 : decode cX6_grows 8 = .ok (.iload_n 1, 1) := dk_27 (dk_at dksX6_grows_0 8 rfl rfl)
theorem dX6_grows_9 : decode cX6_grows 9 = .ok (.i2l, 1) := dk_133 (dk_at dksX6_grows_0 9 rfl rfl)
theorem dX6_grows_10 : decode cX6_grows 10 = .ok (.ldc2_w 523, 3) := dk_20 2 11 (dk_at dksX6_grows_0 10 rfl rfl)
theorem dX6_grows_13 : decode cX6_grows 13 = .ok (.ldc2_w 525, 3) := dk_20 2 13 (dk_at dksX6_grows_0 13 rfl rfl)
theorem dX6_grows_16 : decode cX6_grows 16 = .ok (.invokestatic 131, 3) := dk_184 0 131 (dk_at dksX6_grows_0 16 rfl rfl)
theorem dX6_grows_19 : decode cX6_grows 19 = .ok (.ifCond .eq 17, 3) := dk_153 0 17 (dk_at dksX6_grows_0 19 rfl rfl)
theorem dX6_grows_22 : decode cX6_grows 22 = .ok (.iload_n 2, 1) := dk_28 (dk_at dksX6_grows_0 22 rfl rfl)
theorem dX6_grows_23 : decode cX6_grows 23 = .ok (.i2l, 1) := dk_133 (dk_at dksX6_grows_0 23 rfl rfl)
theorem dX6_grows_24 : decode cX6_grows 24 = .ok (.ldc2_w 527, 3) := dk_20 2 15 (dk_at dksX6_grows_1 0 rfl rfl)
theorem dX6_grows_27 : decode cX6_grows 27 = .ok (.ldc2_w 529, 3) := dk_20 2 17 (dk_at dksX6_grows_1 3 rfl rfl)
theorem dX6_grows_30 : decode cX6_grows 30 = .ok (.invokestatic 131, 3) := dk_184 0 131 (dk_at dksX6_grows_1 6 rfl rfl)
theorem dX6_grows_33 : decode cX6_grows 33 = .ok (.ifCond .ne 7, 3) := dk_154 0 7 (dk_at dksX6_grows_1 9 rfl rfl)
theorem dX6_grows_36 : decode cX6_grows 36 = .ok (.ldc2_w 470, 3) := dk_20 1 214 (dk_at dksX6_grows_1 12 rfl rfl)
theorem dX6_grows_39 : decode cX6_grows 39 = .ok (.lreturn, 1) := dk_173 (dk_at dksX6_grows_1 15 rfl rfl)
theorem dX6_grows_40 : decode cX6_grows 40 = .ok (.iconst 0, 1) := dk_3 (dk_at dksX6_grows_1 16 rfl rfl)
theorem dX6_grows_41 : decode cX6_grows 41 = .ok (.istore 4, 2) := dk_54 4 (dk_at dksX6_grows_1 17 rfl rfl)
theorem dX6_grows_43 : decode cX6_grows 43 = .ok (.iload 4, 2) := dk_21 4 (dk_at dksX6_grows_1 19 rfl rfl)
theorem dX6_grows_45 : decode cX6_grows 45 = .ok (.aload_n 0, 1) := dk_42 (dk_at dksX6_grows_1 21 rfl rfl)
theorem dX6_grows_46 : decode cX6_grows 46 = .ok (.getfield 235, 3) := dk_180 0 235 (dk_at dksX6_grows_2 0 rfl rfl)
theorem dX6_grows_49 : decode cX6_grows 49 = .ok (.if_icmp .ge 39, 3) := dk_162 0 39 (dk_at dksX6_grows_2 3 rfl rfl)
theorem dX6_grows_52 : decode cX6_grows 52 = .ok (.aload_n 0, 1) := dk_42 (dk_at dksX6_grows_2 6 rfl rfl)
theorem dX6_grows_53 : decode cX6_grows 53 = .ok (.getfield 87, 3) := dk_180 0 87 (dk_at dksX6_grows_2 7 rfl rfl)
theorem dX6_grows_56 : decode cX6_grows 56 = .ok (.iload 4, 2) := dk_21 4 (dk_at dksX6_grows_2 10 rfl rfl)
theorem dX6_grows_58 : decode cX6_grows 58 = .ok (.iload_n 1, 1) := dk_27 (dk_at dksX6_grows_2 12 rfl rfl)
theorem dX6_grows_59 : decode cX6_grows 59 = .ok (.i2l, 1) := dk_133 (dk_at dksX6_grows_2 13 rfl rfl)
theorem dX6_grows_60 : decode cX6_grows 60 = .ok (.aload_n 0, 1) := dk_42 (dk_at dksX6_grows_2 14 rfl rfl)
theorem dX6_grows_61 : decode cX6_grows 61 = .ok (.getfield 66, 3) := dk_180 0 66 (dk_at dksX6_grows_2 15 rfl rfl)
theorem dX6_grows_64 : decode cX6_grows 64 = .ok (.iload 4, 2) := dk_21 4 (dk_at dksX6_grows_2 18 rfl rfl)
theorem dX6_grows_66 : decode cX6_grows 66 = .ok (.laload, 1) := dk_47 (dk_at dksX6_grows_2 20 rfl rfl)
theorem dX6_grows_67 : decode cX6_grows 67 = .ok (.lmul, 1) := dk_105 (dk_at dksX6_grows_2 21 rfl rfl)
theorem dX6_grows_68 : decode cX6_grows 68 = .ok (.iload 4, 2) := dk_21 4 (dk_at dksX6_grows_2 22 rfl rfl)
theorem dX6_grows_70 : decode cX6_grows 70 = .ok (.iload_n 3, 1) := dk_29 (dk_at dksX6_grows_3 0 rfl rfl)
theorem dX6_grows_71 : decode cX6_grows 71 = .ok (.if_icmp .ne 7, 3) := dk_160 0 7 (dk_at dksX6_grows_3 1 rfl rfl)
theorem dX6_grows_74 : decode cX6_grows 74 = .ok (.iload_n 2, 1) := dk_28 (dk_at dksX6_grows_3 4 rfl rfl)
theorem dX6_grows_75 : decode cX6_grows 75 = .ok (.goto 4, 3) := dk_167 0 4 (dk_at dksX6_grows_3 5 rfl rfl)
theorem dX6_grows_78 : decode cX6_grows 78 = .ok (.iconst 0, 1) := dk_3 (dk_at dksX6_grows_3 8 rfl rfl)
theorem dX6_grows_79 : decode cX6_grows 79 = .ok (.i2l, 1) := dk_133 (dk_at dksX6_grows_3 9 rfl rfl)
theorem dX6_grows_80 : decode cX6_grows 80 = .ok (.ladd, 1) := dk_97 (dk_at dksX6_grows_3 10 rfl rfl)
theorem dX6_grows_81 : decode cX6_grows 81 = .ok (.lastore, 1) := dk_80 (dk_at dksX6_grows_3 11 rfl rfl)
theorem dX6_grows_82 : decode cX6_grows 82 = .ok (.iinc 4 1, 3) := dk_132 4 1 (dk_at dksX6_grows_3 12 rfl rfl)
theorem dX6_grows_85 : decode cX6_grows 85 = .ok (.goto (-42), 3) := dk_167 255 214 (dk_at dksX6_grows_3 15 rfl rfl)
theorem dX6_grows_88 : decode cX6_grows 88 = .ok (.aload_n 0, 1) := dk_42 (dk_at dksX6_grows_3 18 rfl rfl)
theorem dX6_grows_89 : decode cX6_grows 89 = .ok (.aload_n 0, 1) := dk_42 (dk_at dksX6_grows_3 19 rfl rfl)
theorem dX6_grows_90 : decode cX6_grows 90 = .ok (.getfield 87, 3) := dk_180 0 87 (dk_at dksX6_grows_3 20 rfl rfl)
theorem dX6_grows_93 : decode cX6_grows 93 = .ok (.iconst 0, 1) := dk_3 (dk_at dksX6_grows_3 23 rfl rfl)
theorem dX6_grows_94 : decode cX6_grows 94 = .ok (.invokevirtual 271, 3) := dk_182 1 15 (dk_at dksX6_grows_4 0 rfl rfl)
theorem dX6_grows_97 : decode cX6_grows 97 = .ok (.ifCond .ne 7, 3) := dk_154 0 7 (dk_at dksX6_grows_4 3 rfl rfl)
theorem dX6_grows_100 : decode cX6_grows 100 = .ok (.ldc2_w 470, 3) := dk_20 1 214 (dk_at dksX6_grows_4 6 rfl rfl)
theorem dX6_grows_103 : decode cX6_grows 103 = .ok (.lreturn, 1) := dk_173 (dk_at dksX6_grows_4 9 rfl rfl)
theorem dX6_grows_104 : decode cX6_grows 104 = .ok (.aload_n 0, 1) := dk_42 (dk_at dksX6_grows_4 10 rfl rfl)
theorem dX6_grows_105 : decode cX6_grows 105 = .ok (.invokevirtual 481, 3) := dk_182 1 225 (dk_at dksX6_grows_4 11 rfl rfl)
theorem dX6_grows_108 : decode cX6_grows 108 = .ok (.iconst 0, 1) := dk_3 (dk_at dksX6_grows_4 14 rfl rfl)
theorem dX6_grows_109 : decode cX6_grows 109 = .ok (.istore 4, 2) := dk_54 4 (dk_at dksX6_grows_4 15 rfl rfl)
theorem dX6_grows_111 : decode cX6_grows 111 = .ok (.iload 4, 2) := dk_21 4 (dk_at dksX6_grows_4 17 rfl rfl)
theorem dX6_grows_113 : decode cX6_grows 113 = .ok (.aload_n 0, 1) := dk_42 (dk_at dksX6_grows_4 19 rfl rfl)
theorem dX6_grows_114 : decode cX6_grows 114 = .ok (.getfield 235, 3) := dk_180 0 235 (dk_at dksX6_grows_4 20 rfl rfl)
theorem dX6_grows_117 : decode cX6_grows 117 = .ok (.if_icmp .ge 23, 3) := dk_162 0 23 (dk_at dksX6_grows_5 0 rfl rfl)
theorem dX6_grows_120 : decode cX6_grows 120 = .ok (.aload_n 0, 1) := dk_42 (dk_at dksX6_grows_5 3 rfl rfl)
theorem dX6_grows_121 : decode cX6_grows 121 = .ok (.getfield 66, 3) := dk_180 0 66 (dk_at dksX6_grows_5 4 rfl rfl)
theorem dX6_grows_124 : decode cX6_grows 124 = .ok (.iload 4, 2) := dk_21 4 (dk_at dksX6_grows_5 7 rfl rfl)
theorem dX6_grows_126 : decode cX6_grows 126 = .ok (.aload_n 0, 1) := dk_42 (dk_at dksX6_grows_5 9 rfl rfl)
theorem dX6_grows_127 : decode cX6_grows 127 = .ok (.getfield 87, 3) := dk_180 0 87 (dk_at dksX6_grows_5 10 rfl rfl)
theorem dX6_grows_130 : decode cX6_grows 130 = .ok (.iload 4, 2) := dk_21 4 (dk_at dksX6_grows_5 13 rfl rfl)
theorem dX6_grows_132 : decode cX6_grows 132 = .ok (.laload, 1) := dk_47 (dk_at dksX6_grows_5 15 rfl rfl)
theorem dX6_grows_133 : decode cX6_grows 133 = .ok (.lastore, 1) := dk_80 (dk_at dksX6_grows_5 16 rfl rfl)
theorem dX6_grows_134 : decode cX6_grows 134 = .ok (.iinc 4 1, 3) := dk_132 4 1 (dk_at dksX6_grows_5 17 rfl rfl)
theorem dX6_grows_137 : decode cX6_grows 137 = .ok (.goto (-26), 3) := dk_167 255 230 (dk_at dksX6_grows_5 20 rfl rfl)
theorem dX6_grows_140 : decode cX6_grows 140 = .ok (.aload_n 0, 1) := dk_42 (dk_at dksX6_grows_5 23 rfl rfl)
theorem dX6_grows_141 : decode cX6_grows 141 = .ok (.getfield 66, 3) := dk_180 0 66 (dk_at dksX6_grows_6 0 rfl rfl)
theorem dX6_grows_144 : decode cX6_grows 144 = .ok (.iload_n 3, 1) := dk_29 (dk_at dksX6_grows_6 3 rfl rfl)
theorem dX6_grows_145 : decode cX6_grows 145 = .ok (.laload, 1) := dk_47 (dk_at dksX6_grows_6 4 rfl rfl)
theorem dX6_grows_146 : decode cX6_grows 146 = .ok (.lreturn, 1) := dk_173 (dk_at dksX6_grows_6 5 rfl rfl)
theorem q169 : (Jvm.Cond.initialized "TroupeSumsModel") ∈ lw_all := lw_g (lw_at lw_m1 36 rfl) rfl
theorem q842 : (Jvm.Cond.selects "TroupeSumsModel" ({ cls := "java/lang/Object", name := "getClass", desc := "()Ljava/lang/Class;" } : Jvm.MethodName) ({ cls := "java/lang/Object", name := "getClass", desc := "()Ljava/lang/Class;" } : Jvm.MethodName)) ∈ lw_all := lw_g (lw_at lw_m3 229 rfl) rfl
theorem q974 : (Jvm.Cond.selects "TroupeSumsModel" ({ cls := "java/lang/Object", name := "equals", desc := "(Ljava/lang/Object;)Z" } : Jvm.MethodName) ({ cls := "java/lang/Object", name := "equals", desc := "(Ljava/lang/Object;)Z" } : Jvm.MethodName)) ∈ lw_all := lw_g (lw_at lw_m4 121 rfl) rfl
theorem q2421 : (Jvm.Cond.instantiable "TroupeSumsModel" (66 : Nat)) ∈ lw_all := lw_g (lw_at lw_m10 128 rfl) rfl
theorem q2423 : (Jvm.Cond.instanceMethod ({ cls := "TroupeSumsModel", name := "<init>", desc := "()V" } : Jvm.MethodName)) ∈ lw_all := lw_g (lw_at lw_m10 130 rfl) rfl
theorem q2424 : (Jvm.Cond.code ({ cls := "TroupeSumsModel", name := "<init>", desc := "()V" } : Jvm.MethodName) prog_16_method_1_code (1 : Nat) (Option.none : Option Jvm.ClassFile.FieldType)) ∈ lw_all := lw_g (lw_at lw_m10 131 rfl) rfl
theorem q2425 : (Jvm.Cond.methodLink "TroupeSumsModel" (1 : Nat) ({ cls := "java/lang/Object", name := "<init>", desc := "()V" } : Jvm.MethodName)) ∈ lw_all := lw_g (lw_at lw_m10 132 rfl) rfl
theorem q2426 : (Jvm.Cond.constant "TroupeSumsModel" (102 : Nat) (65536 : Int32)) ∈ lw_all := lw_g (lw_at lw_m10 133 rfl) rfl
theorem q2427 : (Jvm.Cond.methodLink "TroupeSumsModel" (118 : Nat) ({ cls := "TroupeSumsModel", name := "builds", desc := "()V" } : Jvm.MethodName)) ∈ lw_all := lw_g (lw_at lw_m10 134 rfl) rfl
theorem q2428 : (Jvm.Cond.privateMethod ({ cls := "TroupeSumsModel", name := "builds", desc := "()V" } : Jvm.MethodName)) ∈ lw_tbl := lw_at lw_m10 135 rfl
theorem q2429 : (Jvm.Cond.instanceMethod ({ cls := "TroupeSumsModel", name := "builds", desc := "()V" } : Jvm.MethodName)) ∈ lw_all := lw_g (lw_at lw_m10 136 rfl) rfl
theorem q2430 : (Jvm.Cond.code ({ cls := "TroupeSumsModel", name := "builds", desc := "()V" } : Jvm.MethodName) prog_16_method_31_code (4 : Nat) (Option.none : Option Jvm.ClassFile.FieldType)) ∈ lw_all := lw_g (lw_at lw_m10 137 rfl) rfl
theorem q2431 : (Jvm.Cond.methodLink "TroupeSumsModel" (226 : Nat) ({ cls := "TroupeSumsModel", name := "buildsMembers", desc := "()Z" } : Jvm.MethodName)) ∈ lw_all := lw_g (lw_at lw_m10 138 rfl) rfl
theorem q2432 : (Jvm.Cond.privateMethod ({ cls := "TroupeSumsModel", name := "buildsMembers", desc := "()Z" } : Jvm.MethodName)) ∈ lw_tbl := lw_at lw_m10 139 rfl
theorem q2433 : (Jvm.Cond.instanceMethod ({ cls := "TroupeSumsModel", name := "buildsMembers", desc := "()Z" } : Jvm.MethodName)) ∈ lw_all := lw_g (lw_at lw_m10 140 rfl) rfl
theorem q2434 : (Jvm.Cond.code ({ cls := "TroupeSumsModel", name := "buildsMembers", desc := "()Z" } : Jvm.MethodName) prog_16_method_25_code (4 : Nat) (Option.some Jvm.ClassFile.FieldType.boolean)) ∈ lw_all := lw_g (lw_at lw_m10 141 rfl) rfl
theorem q2435 : (Jvm.Cond.methodLink "TroupeSumsModel" (202 : Nat) ({ cls := "TroupeSumsModel", name := "indexOf", desc := "()I" } : Jvm.MethodName)) ∈ lw_all := lw_g (lw_at lw_m10 142 rfl) rfl
theorem q2436 : (Jvm.Cond.privateMethod ({ cls := "TroupeSumsModel", name := "indexOf", desc := "()I" } : Jvm.MethodName)) ∈ lw_tbl := lw_at lw_m10 143 rfl
theorem q2437 : (Jvm.Cond.instanceMethod ({ cls := "TroupeSumsModel", name := "indexOf", desc := "()I" } : Jvm.MethodName)) ∈ lw_all := lw_g (lw_at lw_m10 144 rfl) rfl
theorem q2438 : (Jvm.Cond.code ({ cls := "TroupeSumsModel", name := "indexOf", desc := "()I" } : Jvm.MethodName) prog_16_method_22_code (4 : Nat) (Option.some Jvm.ClassFile.FieldType.int)) ∈ lw_all := lw_g (lw_at lw_m10 145 rfl) rfl
theorem q2439 : (Jvm.Cond.methodLink "TroupeSumsModel" (206 : Nat) ({ cls := "TroupeSumsModel", name := "isBehind", desc := "(II)Z" } : Jvm.MethodName)) ∈ lw_all := lw_g (lw_at lw_m10 146 rfl) rfl
theorem q2440 : (Jvm.Cond.privateMethod ({ cls := "TroupeSumsModel", name := "isBehind", desc := "(II)Z" } : Jvm.MethodName)) ∈ lw_tbl := lw_at lw_m10 147 rfl
theorem q2441 : (Jvm.Cond.instanceMethod ({ cls := "TroupeSumsModel", name := "isBehind", desc := "(II)Z" } : Jvm.MethodName)) ∈ lw_all := lw_g (lw_at lw_m10 148 rfl) rfl
theorem q2442 : (Jvm.Cond.code ({ cls := "TroupeSumsModel", name := "isBehind", desc := "(II)Z" } : Jvm.MethodName) prog_16_method_23_code (4 : Nat) (Option.some Jvm.ClassFile.FieldType.boolean)) ∈ lw_all := lw_g (lw_at lw_m10 149 rfl) rfl
theorem q2443 : (Jvm.Cond.methodLink "TroupeSumsModel" (210 : Nat) ({ cls := "TroupeSumsModel", name := "exchanges", desc := "(II)V" } : Jvm.MethodName)) ∈ lw_all := lw_g (lw_at lw_m10 150 rfl) rfl
theorem q2444 : (Jvm.Cond.privateMethod ({ cls := "TroupeSumsModel", name := "exchanges", desc := "(II)V" } : Jvm.MethodName)) ∈ lw_tbl := lw_at lw_m10 151 rfl
theorem q2445 : (Jvm.Cond.instanceMethod ({ cls := "TroupeSumsModel", name := "exchanges", desc := "(II)V" } : Jvm.MethodName)) ∈ lw_all := lw_g (lw_at lw_m10 152 rfl) rfl
theorem q2446 : (Jvm.Cond.code ({ cls := "TroupeSumsModel", name := "exchanges", desc := "(II)V" } : Jvm.MethodName) prog_16_method_24_code (5 : Nat) (Option.none : Option Jvm.ClassFile.FieldType)) ∈ lw_all := lw_g (lw_at lw_m10 153 rfl) rfl
theorem q2447 : (Jvm.Cond.methodLink "TroupeSumsModel" (213 : Nat) ({ cls := "TroupeSumsModel", name := "holds", desc := "(II)Z" } : Jvm.MethodName)) ∈ lw_all := lw_g (lw_at lw_m10 154 rfl) rfl
theorem q2448 : (Jvm.Cond.static ({ cls := "TroupeSumsModel", name := "holds", desc := "(II)Z" } : Jvm.MethodName)) ∈ lw_all := lw_g (lw_at lw_m10 155 rfl) rfl
theorem q2449 : (Jvm.Cond.code ({ cls := "TroupeSumsModel", name := "holds", desc := "(II)Z" } : Jvm.MethodName) prog_16_method_4_code (2 : Nat) (Option.some Jvm.ClassFile.FieldType.boolean)) ∈ lw_all := lw_g (lw_at lw_m10 156 rfl) rfl
theorem q2450 : (Jvm.Cond.methodLink "TroupeSumsModel" (229 : Nat) ({ cls := "TroupeSumsModel", name := "closed", desc := "(I)I" } : Jvm.MethodName)) ∈ lw_all := lw_g (lw_at lw_m10 157 rfl) rfl
theorem q2451 : (Jvm.Cond.privateMethod ({ cls := "TroupeSumsModel", name := "closed", desc := "(I)I" } : Jvm.MethodName)) ∈ lw_tbl := lw_at lw_m10 158 rfl
theorem q2452 : (Jvm.Cond.instanceMethod ({ cls := "TroupeSumsModel", name := "closed", desc := "(I)I" } : Jvm.MethodName)) ∈ lw_all := lw_g (lw_at lw_m10 159 rfl) rfl
theorem q2453 : (Jvm.Cond.code ({ cls := "TroupeSumsModel", name := "closed", desc := "(I)I" } : Jvm.MethodName) prog_16_method_27_code (6 : Nat) (Option.some Jvm.ClassFile.FieldType.int)) ∈ lw_all := lw_g (lw_at lw_m10 160 rfl) rfl
theorem q2454 : (Jvm.Cond.methodLink "TroupeSumsModel" (216 : Nat) ({ cls := "TroupeSumsModel", name := "by", desc := "(II)I" } : Jvm.MethodName)) ∈ lw_all := lw_g (lw_at lw_m10 161 rfl) rfl
theorem q2455 : (Jvm.Cond.privateMethod ({ cls := "TroupeSumsModel", name := "by", desc := "(II)I" } : Jvm.MethodName)) ∈ lw_tbl := lw_at lw_m10 162 rfl
theorem q2456 : (Jvm.Cond.instanceMethod ({ cls := "TroupeSumsModel", name := "by", desc := "(II)I" } : Jvm.MethodName)) ∈ lw_all := lw_g (lw_at lw_m10 163 rfl) rfl
theorem q2457 : (Jvm.Cond.code ({ cls := "TroupeSumsModel", name := "by", desc := "(II)I" } : Jvm.MethodName) prog_16_method_26_code (3 : Nat) (Option.some Jvm.ClassFile.FieldType.int)) ∈ lw_all := lw_g (lw_at lw_m10 164 rfl) rfl
theorem q2458 : (Jvm.Cond.methodLink "TroupeSumsModel" (232 : Nat) ({ cls := "TroupeSumsModel", name := "subIndex", desc := "(I)I" } : Jvm.MethodName)) ∈ lw_all := lw_g (lw_at lw_m10 165 rfl) rfl
theorem q2459 : (Jvm.Cond.privateMethod ({ cls := "TroupeSumsModel", name := "subIndex", desc := "(I)I" } : Jvm.MethodName)) ∈ lw_tbl := lw_at lw_m10 166 rfl
theorem q2460 : (Jvm.Cond.instanceMethod ({ cls := "TroupeSumsModel", name := "subIndex", desc := "(I)I" } : Jvm.MethodName)) ∈ lw_all := lw_g (lw_at lw_m10 167 rfl) rfl
theorem q2461 : (Jvm.Cond.code ({ cls := "TroupeSumsModel", name := "subIndex", desc := "(I)I" } : Jvm.MethodName) prog_16_method_29_code (3 : Nat) (Option.some Jvm.ClassFile.FieldType.int)) ∈ lw_all := lw_g (lw_at lw_m10 168 rfl) rfl
theorem q2462 : (Jvm.Cond.methodLink "TroupeSumsModel" (238 : Nat) ({ cls := "TroupeSumsModel", name := "leastTurned", desc := "(I)I" } : Jvm.MethodName)) ∈ lw_all := lw_g (lw_at lw_m10 169 rfl) rfl
theorem q2463 : (Jvm.Cond.privateMethod ({ cls := "TroupeSumsModel", name := "leastTurned", desc := "(I)I" } : Jvm.MethodName)) ∈ lw_tbl := lw_at lw_m10 170 rfl
theorem q2464 : (Jvm.Cond.instanceMethod ({ cls := "TroupeSumsModel", name := "leastTurned", desc := "(I)I" } : Jvm.MethodName)) ∈ lw_all := lw_g (lw_at lw_m10 171 rfl) rfl
theorem q2465 : (Jvm.Cond.code ({ cls := "TroupeSumsModel", name := "leastTurned", desc := "(I)I" } : Jvm.MethodName) prog_16_method_30_code (5 : Nat) (Option.some Jvm.ClassFile.FieldType.int)) ∈ lw_all := lw_g (lw_at lw_m10 172 rfl) rfl
theorem q2466 : (Jvm.Cond.methodLink "TroupeSumsModel" (223 : Nat) ({ cls := "TroupeSumsModel", name := "turned", desc := "(II)I" } : Jvm.MethodName)) ∈ lw_all := lw_g (lw_at lw_m10 173 rfl) rfl
theorem q2467 : (Jvm.Cond.privateMethod ({ cls := "TroupeSumsModel", name := "turned", desc := "(II)I" } : Jvm.MethodName)) ∈ lw_tbl := lw_at lw_m10 174 rfl
theorem q2468 : (Jvm.Cond.instanceMethod ({ cls := "TroupeSumsModel", name := "turned", desc := "(II)I" } : Jvm.MethodName)) ∈ lw_all := lw_g (lw_at lw_m10 175 rfl) rfl
theorem q2469 : (Jvm.Cond.code ({ cls := "TroupeSumsModel", name := "turned", desc := "(II)I" } : Jvm.MethodName) prog_16_method_28_code (5 : Nat) (Option.some Jvm.ClassFile.FieldType.int)) ∈ lw_all := lw_g (lw_at lw_m10 176 rfl) rfl
theorem q2470 : (Jvm.Cond.methodLink "TroupeSumsModel" (241 : Nat) ({ cls := "TroupeSumsModel", name := "comesSort", desc := "(I)V" } : Jvm.MethodName)) ∈ lw_all := lw_g (lw_at lw_m10 177 rfl) rfl
theorem q2471 : (Jvm.Cond.privateMethod ({ cls := "TroupeSumsModel", name := "comesSort", desc := "(I)V" } : Jvm.MethodName)) ∈ lw_tbl := lw_at lw_m10 178 rfl
theorem q2472 : (Jvm.Cond.instanceMethod ({ cls := "TroupeSumsModel", name := "comesSort", desc := "(I)V" } : Jvm.MethodName)) ∈ lw_all := lw_g (lw_at lw_m10 179 rfl) rfl
theorem q2473 : (Jvm.Cond.code ({ cls := "TroupeSumsModel", name := "comesSort", desc := "(I)V" } : Jvm.MethodName) prog_16_method_32_code (3 : Nat) (Option.none : Option Jvm.ClassFile.FieldType)) ∈ lw_all := lw_g (lw_at lw_m10 180 rfl) rfl
theorem q2474 : (Jvm.Cond.methodLink "TroupeSumsModel" (253 : Nat) ({ cls := "TroupeSumsModel", name := "ones", desc := "(I)I" } : Jvm.MethodName)) ∈ lw_all := lw_g (lw_at lw_m10 181 rfl) rfl
theorem q2475 : (Jvm.Cond.static ({ cls := "TroupeSumsModel", name := "ones", desc := "(I)I" } : Jvm.MethodName)) ∈ lw_all := lw_g (lw_at lw_m10 182 rfl) rfl
theorem q2476 : (Jvm.Cond.code ({ cls := "TroupeSumsModel", name := "ones", desc := "(I)I" } : Jvm.MethodName) prog_16_method_5_code (3 : Nat) (Option.some Jvm.ClassFile.FieldType.int)) ∈ lw_all := lw_g (lw_at lw_m10 183 rfl) rfl
theorem q2477 : (Jvm.Cond.methodLink "TroupeSumsModel" (244 : Nat) ({ cls := "TroupeSumsModel", name := "sortOfFirst", desc := "(I)I" } : Jvm.MethodName)) ∈ lw_all := lw_g (lw_at lw_m10 184 rfl) rfl
theorem q2478 : (Jvm.Cond.privateMethod ({ cls := "TroupeSumsModel", name := "sortOfFirst", desc := "(I)I" } : Jvm.MethodName)) ∈ lw_tbl := lw_at lw_m10 185 rfl
theorem q2479 : (Jvm.Cond.instanceMethod ({ cls := "TroupeSumsModel", name := "sortOfFirst", desc := "(I)I" } : Jvm.MethodName)) ∈ lw_all := lw_g (lw_at lw_m10 186 rfl) rfl
theorem q2480 : (Jvm.Cond.code ({ cls := "TroupeSumsModel", name := "sortOfFirst", desc := "(I)I" } : Jvm.MethodName) prog_16_method_33_code (3 : Nat) (Option.some Jvm.ClassFile.FieldType.int)) ∈ lw_all := lw_g (lw_at lw_m10 187 rfl) rfl
theorem q2481 : (Jvm.Cond.methodLink "TroupeSumsModel" (247 : Nat) ({ cls := "TroupeSumsModel", name := "leastOf", desc := "(II)I" } : Jvm.MethodName)) ∈ lw_all := lw_g (lw_at lw_m10 188 rfl) rfl
theorem q2482 : (Jvm.Cond.privateMethod ({ cls := "TroupeSumsModel", name := "leastOf", desc := "(II)I" } : Jvm.MethodName)) ∈ lw_tbl := lw_at lw_m10 189 rfl
theorem q2483 : (Jvm.Cond.instanceMethod ({ cls := "TroupeSumsModel", name := "leastOf", desc := "(II)I" } : Jvm.MethodName)) ∈ lw_all := lw_g (lw_at lw_m10 190 rfl) rfl
theorem q2484 : (Jvm.Cond.code ({ cls := "TroupeSumsModel", name := "leastOf", desc := "(II)I" } : Jvm.MethodName) prog_16_method_34_code (5 : Nat) (Option.some Jvm.ClassFile.FieldType.int)) ∈ lw_all := lw_g (lw_at lw_m10 191 rfl) rfl
theorem q2485 : (Jvm.Cond.methodLink "TroupeSumsModel" (250 : Nat) ({ cls := "TroupeSumsModel", name := "fixedOf", desc := "(II)I" } : Jvm.MethodName)) ∈ lw_all := lw_g (lw_at lw_m10 192 rfl) rfl
theorem q2486 : (Jvm.Cond.privateMethod ({ cls := "TroupeSumsModel", name := "fixedOf", desc := "(II)I" } : Jvm.MethodName)) ∈ lw_tbl := lw_at lw_m10 193 rfl
theorem q2487 : (Jvm.Cond.instanceMethod ({ cls := "TroupeSumsModel", name := "fixedOf", desc := "(II)I" } : Jvm.MethodName)) ∈ lw_all := lw_g (lw_at lw_m10 194 rfl) rfl
theorem q2488 : (Jvm.Cond.code ({ cls := "TroupeSumsModel", name := "fixedOf", desc := "(II)I" } : Jvm.MethodName) prog_16_method_35_code (7 : Nat) (Option.some Jvm.ClassFile.FieldType.int)) ∈ lw_all := lw_g (lw_at lw_m10 195 rfl) rfl
theorem q2489 : (Jvm.Cond.methodLink "TroupeSumsModel" (256 : Nat) ({ cls := "TroupeSumsModel", name := "truth", desc := "(Z)I" } : Jvm.MethodName)) ∈ lw_all := lw_g (lw_at lw_m10 196 rfl) rfl
theorem q2490 : (Jvm.Cond.static ({ cls := "TroupeSumsModel", name := "truth", desc := "(Z)I" } : Jvm.MethodName)) ∈ lw_all := lw_g (lw_at lw_m10 197 rfl) rfl
theorem q2491 : (Jvm.Cond.code ({ cls := "TroupeSumsModel", name := "truth", desc := "(Z)I" } : Jvm.MethodName) prog_16_method_3_code (1 : Nat) (Option.some Jvm.ClassFile.FieldType.int)) ∈ lw_all := lw_g (lw_at lw_m10 198 rfl) rfl
theorem q2492 : (Jvm.Cond.methodLink "TroupeSumsModel" (121 : Nat) ({ cls := "TroupeSumsModel", name := "inForce", desc := "()V" } : Jvm.MethodName)) ∈ lw_all := lw_g (lw_at lw_m10 199 rfl) rfl
theorem q2493 : (Jvm.Cond.privateMethod ({ cls := "TroupeSumsModel", name := "inForce", desc := "()V" } : Jvm.MethodName)) ∈ lw_tbl := lw_at lw_m10 200 rfl
theorem q2494 : (Jvm.Cond.instanceMethod ({ cls := "TroupeSumsModel", name := "inForce", desc := "()V" } : Jvm.MethodName)) ∈ lw_all := lw_g (lw_at lw_m10 201 rfl) rfl
theorem q2495 : (Jvm.Cond.code ({ cls := "TroupeSumsModel", name := "inForce", desc := "()V" } : Jvm.MethodName) prog_16_method_65_code (2 : Nat) (Option.none : Option Jvm.ClassFile.FieldType)) ∈ lw_all := lw_g (lw_at lw_m10 202 rfl) rfl
theorem q2496 : (Jvm.Cond.fieldLink "TroupeSumsModel" (7 : Nat) "TroupeSumsModel" "tape" "[I") ∈ lw_all := lw_g (lw_at lw_m10 203 rfl) rfl
theorem q2497 : (Jvm.Cond.fieldLink "TroupeSumsModel" (124 : Nat) "TroupeSumsModel" "taped" "I") ∈ lw_all := lw_g (lw_at lw_m10 204 rfl) rfl
theorem q2498 : (Jvm.Cond.fieldLink "TroupeSumsModel" (138 : Nat) "TroupeSumsModel" "bytes" "I") ∈ lw_all := lw_g (lw_at lw_m10 205 rfl) rfl
theorem q2499 : (Jvm.Cond.fieldLink "TroupeSumsModel" (135 : Nat) "TroupeSumsModel" "at" "I") ∈ lw_all := lw_g (lw_at lw_m10 206 rfl) rfl
theorem q2500 : (Jvm.Cond.fieldLink "TroupeSumsModel" (145 : Nat) "TroupeSumsModel" "place" "I") ∈ lw_all := lw_g (lw_at lw_m10 207 rfl) rfl
theorem q2501 : (Jvm.Cond.fieldLink "TroupeSumsModel" (155 : Nat) "TroupeSumsModel" "sort" "I") ∈ lw_all := lw_g (lw_at lw_m10 208 rfl) rfl
theorem q2502 : (Jvm.Cond.fieldLink "TroupeSumsModel" (152 : Nat) "TroupeSumsModel" "value" "I") ∈ lw_all := lw_g (lw_at lw_m10 209 rfl) rfl
theorem q2503 : (Jvm.Cond.fieldLink "TroupeSumsModel" (172 : Nat) "TroupeSumsModel" "fault" "I") ∈ lw_all := lw_g (lw_at lw_m10 210 rfl) rfl
theorem q2504 : (Jvm.Cond.fieldLink "TroupeSumsModel" (13 : Nat) "TroupeSumsModel" "faultPlace" "I") ∈ lw_all := lw_g (lw_at lw_m10 211 rfl) rfl
theorem q2505 : (Jvm.Cond.fieldLink "TroupeSumsModel" (379 : Nat) "TroupeSumsModel" "toldFault" "I") ∈ lw_all := lw_g (lw_at lw_m10 212 rfl) rfl
theorem q2506 : (Jvm.Cond.fieldLink "TroupeSumsModel" (17 : Nat) "TroupeSumsModel" "toldPlace" "I") ∈ lw_all := lw_g (lw_at lw_m10 213 rfl) rfl
theorem q2507 : (Jvm.Cond.fieldLink "TroupeSumsModel" (148 : Nat) "TroupeSumsModel" "word" "J") ∈ lw_all := lw_g (lw_at lw_m10 214 rfl) rfl
theorem q2508 : (Jvm.Cond.fieldLink "TroupeSumsModel" (115 : Nat) "TroupeSumsModel" "rPlaces" "I") ∈ lw_all := lw_g (lw_at lw_m10 215 rfl) rfl
theorem q2509 : (Jvm.Cond.fieldLink "TroupeSumsModel" (199 : Nat) "TroupeSumsModel" "rMoves" "I") ∈ lw_all := lw_g (lw_at lw_m10 216 rfl) rfl
theorem q2510 : (Jvm.Cond.fieldLink "TroupeSumsModel" (299 : Nat) "TroupeSumsModel" "rNames" "I") ∈ lw_all := lw_g (lw_at lw_m10 217 rfl) rfl
theorem q2511 : (Jvm.Cond.fieldLink "TroupeSumsModel" (20 : Nat) "TroupeSumsModel" "rMove" "[I") ∈ lw_all := lw_g (lw_at lw_m10 218 rfl) rfl
theorem q2512 : (Jvm.Cond.fieldLink "TroupeSumsModel" (382 : Nat) "TroupeSumsModel" "places" "I") ∈ lw_all := lw_g (lw_at lw_m10 219 rfl) rfl
theorem q2513 : (Jvm.Cond.fieldLink "TroupeSumsModel" (385 : Nat) "TroupeSumsModel" "moves" "I") ∈ lw_all := lw_g (lw_at lw_m10 220 rfl) rfl
theorem q2514 : (Jvm.Cond.fieldLink "TroupeSumsModel" (388 : Nat) "TroupeSumsModel" "names" "I") ∈ lw_all := lw_g (lw_at lw_m10 221 rfl) rfl
theorem q2515 : (Jvm.Cond.fieldLink "TroupeSumsModel" (23 : Nat) "TroupeSumsModel" "move" "[I") ∈ lw_all := lw_g (lw_at lw_m10 222 rfl) rfl
theorem q2516 : (Jvm.Cond.fieldLink "TroupeSumsModel" (196 : Nat) "TroupeSumsModel" "order" "I") ∈ lw_all := lw_g (lw_at lw_m10 223 rfl) rfl
theorem q2517 : (Jvm.Cond.fieldLink "TroupeSumsModel" (26 : Nat) "TroupeSumsModel" "member" "[I") ∈ lw_all := lw_g (lw_at lw_m10 224 rfl) rfl
theorem q2518 : (Jvm.Cond.fieldLink "TroupeSumsModel" (29 : Nat) "TroupeSumsModel" "coming" "[I") ∈ lw_all := lw_g (lw_at lw_m10 225 rfl) rfl
theorem q2519 : (Jvm.Cond.fieldLink "TroupeSumsModel" (32 : Nat) "TroupeSumsModel" "product" "[I") ∈ lw_all := lw_g (lw_at lw_m10 226 rfl) rfl
theorem q2520 : (Jvm.Cond.fieldLink "TroupeSumsModel" (35 : Nat) "TroupeSumsModel" "undoes" "[I") ∈ lw_all := lw_g (lw_at lw_m10 227 rfl) rfl
theorem q2521 : (Jvm.Cond.fieldLink "TroupeSumsModel" (220 : Nat) "TroupeSumsModel" "subMany" "I") ∈ lw_all := lw_g (lw_at lw_m10 228 rfl) rfl
theorem q2522 : (Jvm.Cond.fieldLink "TroupeSumsModel" (235 : Nat) "TroupeSumsModel" "sortMany" "I") ∈ lw_all := lw_g (lw_at lw_m10 229 rfl) rfl
theorem q2523 : (Jvm.Cond.fieldLink "TroupeSumsModel" (38 : Nat) "TroupeSumsModel" "sub" "[I") ∈ lw_all := lw_g (lw_at lw_m10 230 rfl) rfl
theorem q2524 : (Jvm.Cond.fieldLink "TroupeSumsModel" (41 : Nat) "TroupeSumsModel" "subSort" "[I") ∈ lw_all := lw_g (lw_at lw_m10 231 rfl) rfl
theorem q2525 : (Jvm.Cond.fieldLink "TroupeSumsModel" (44 : Nat) "TroupeSumsModel" "first" "[I") ∈ lw_all := lw_g (lw_at lw_m10 232 rfl) rfl
theorem q2526 : (Jvm.Cond.fieldLink "TroupeSumsModel" (47 : Nat) "TroupeSumsModel" "subsOf" "[I") ∈ lw_all := lw_g (lw_at lw_m10 233 rfl) rfl
theorem q2527 : (Jvm.Cond.fieldLink "TroupeSumsModel" (50 : Nat) "TroupeSumsModel" "mark" "[I") ∈ lw_all := lw_g (lw_at lw_m10 234 rfl) rfl
theorem q2528 : (Jvm.Cond.fieldLink "TroupeSumsModel" (53 : Nat) "TroupeSumsModel" "cosetOf" "[I") ∈ lw_all := lw_g (lw_at lw_m10 235 rfl) rfl
theorem q2529 : (Jvm.Cond.fieldLink "TroupeSumsModel" (56 : Nat) "TroupeSumsModel" "pile" "[J") ∈ lw_all := lw_g (lw_at lw_m10 236 rfl) rfl
theorem q2530 : (Jvm.Cond.fieldLink "TroupeSumsModel" (60 : Nat) "TroupeSumsModel" "mulA" "[J") ∈ lw_all := lw_g (lw_at lw_m10 237 rfl) rfl
theorem q2531 : (Jvm.Cond.fieldLink "TroupeSumsModel" (63 : Nat) "TroupeSumsModel" "mulB" "[J") ∈ lw_all := lw_g (lw_at lw_m10 238 rfl) rfl
theorem q2532 : (Jvm.Cond.fieldLink "TroupeSumsModel" (66 : Nat) "TroupeSumsModel" "its" "[J") ∈ lw_all := lw_g (lw_at lw_m10 239 rfl) rfl
theorem q2533 : (Jvm.Cond.fieldLink "TroupeSumsModel" (69 : Nat) "TroupeSumsModel" "itsMarks" "[J") ∈ lw_all := lw_g (lw_at lw_m11 0 rfl) rfl
theorem q2534 : (Jvm.Cond.fieldLink "TroupeSumsModel" (268 : Nat) "TroupeSumsModel" "high" "I") ∈ lw_all := lw_g (lw_at lw_m11 1 rfl) rfl
theorem q2535 : (Jvm.Cond.fieldLink "TroupeSumsModel" (275 : Nat) "TroupeSumsModel" "isBig" "Z") ∈ lw_all := lw_g (lw_at lw_m11 2 rfl) rfl
theorem q2536 : (Jvm.Cond.fieldLink "TroupeSumsModel" (72 : Nat) "TroupeSumsModel" "waits" "[I") ∈ lw_all := lw_g (lw_at lw_m11 3 rfl) rfl
theorem q2537 : (Jvm.Cond.fieldLink "TroupeSumsModel" (305 : Nat) "TroupeSumsModel" "waiting" "I") ∈ lw_all := lw_g (lw_at lw_m11 4 rfl) rfl
theorem q2538 : (Jvm.Cond.fieldLink "TroupeSumsModel" (296 : Nat) "TroupeSumsModel" "deep" "I") ∈ lw_all := lw_g (lw_at lw_m11 5 rfl) rfl
theorem q2539 : (Jvm.Cond.fieldLink "TroupeSumsModel" (293 : Nat) "TroupeSumsModel" "units" "I") ∈ lw_all := lw_g (lw_at lw_m11 6 rfl) rfl
theorem q2540 : (Jvm.Cond.fieldLink "TroupeSumsModel" (75 : Nat) "TroupeSumsModel" "rName" "[J") ∈ lw_all := lw_g (lw_at lw_m11 7 rfl) rfl
theorem q2541 : (Jvm.Cond.fieldLink "TroupeSumsModel" (78 : Nat) "TroupeSumsModel" "rSum" "[J") ∈ lw_all := lw_g (lw_at lw_m11 8 rfl) rfl
theorem q2542 : (Jvm.Cond.fieldLink "TroupeSumsModel" (81 : Nat) "TroupeSumsModel" "name" "[J") ∈ lw_all := lw_g (lw_at lw_m11 9 rfl) rfl
theorem q2543 : (Jvm.Cond.fieldLink "TroupeSumsModel" (84 : Nat) "TroupeSumsModel" "sum" "[J") ∈ lw_all := lw_g (lw_at lw_m11 10 rfl) rfl
theorem q2544 : (Jvm.Cond.fieldLink "TroupeSumsModel" (87 : Nat) "TroupeSumsModel" "worked" "[J") ∈ lw_all := lw_g (lw_at lw_m11 11 rfl) rfl
theorem q2545 : (Jvm.Cond.fieldLink "TroupeSumsModel" (90 : Nat) "TroupeSumsModel" "moebius" "[I") ∈ lw_all := lw_g (lw_at lw_m11 12 rfl) rfl
theorem q2546 : (Jvm.Cond.fieldLink "TroupeSumsModel" (93 : Nat) "TroupeSumsModel" "above" "[J") ∈ lw_all := lw_g (lw_at lw_m11 13 rfl) rfl
theorem q2547 : (Jvm.Cond.fieldLink "TroupeSumsModel" (96 : Nat) "TroupeSumsModel" "below" "[J") ∈ lw_all := lw_g (lw_at lw_m11 14 rfl) rfl
theorem q2548 : (Jvm.Cond.fieldLink "TroupeSumsModel" (436 : Nat) "TroupeSumsModel" "sumAbove" "J") ∈ lw_all := lw_g (lw_at lw_m11 15 rfl) rfl
theorem q2549 : (Jvm.Cond.fieldLink "TroupeSumsModel" (439 : Nat) "TroupeSumsModel" "sumBelow" "J") ∈ lw_all := lw_g (lw_at lw_m11 16 rfl) rfl
theorem q2550 : (Jvm.Cond.fieldLink "TroupeSumsModel" (99 : Nat) "TroupeSumsModel" "madeOf" "[I") ∈ lw_all := lw_g (lw_at lw_m11 17 rfl) rfl
theorem q2551 : (Jvm.Cond.fieldLink "TroupeSumsModel" (453 : Nat) "TroupeSumsModel" "madeMany" "I") ∈ lw_all := lw_g (lw_at lw_m11 18 rfl) rfl
theorem q2552 : (Jvm.Cond.fieldLink "TroupeSumsModel" (103 : Nat) "TroupeSumsModel" "unitSet" "[I") ∈ lw_all := lw_g (lw_at lw_m11 19 rfl) rfl
theorem q2553 : (Jvm.Cond.fieldLink "TroupeSumsModel" (459 : Nat) "TroupeSumsModel" "unitMany" "I") ∈ lw_all := lw_g (lw_at lw_m11 20 rfl) rfl
theorem q2554 : (Jvm.Cond.fieldLink "TroupeSumsModel" (394 : Nat) "TroupeSumsModel" "areUnits" "Z") ∈ lw_all := lw_g (lw_at lw_m11 21 rfl) rfl
theorem q2555 : (Jvm.Cond.fieldLink "TroupeSumsModel" (106 : Nat) "TroupeSumsModel" "past" "[J") ∈ lw_all := lw_g (lw_at lw_m11 22 rfl) rfl
theorem q2556 : (Jvm.Cond.fieldLink "TroupeSumsModel" (391 : Nat) "TroupeSumsModel" "acts" "I") ∈ lw_all := lw_g (lw_at lw_m11 23 rfl) rfl
theorem q2557 : (Jvm.Cond.fieldLink "TroupeSumsModel" (109 : Nat) "TroupeSumsModel" "partOf" "[I") ∈ lw_all := lw_g (lw_at lw_m11 24 rfl) rfl
theorem q2558 : (Jvm.Cond.fieldLink "TroupeSumsModel" (112 : Nat) "TroupeSumsModel" "many" "[I") ∈ lw_all := lw_g (lw_at lw_m11 25 rfl) rfl
theorem q2559 : (Jvm.Cond.fieldLink "TroupeSumsModel" (487 : Nat) "TroupeSumsModel" "partMany" "I") ∈ lw_all := lw_g (lw_at lw_m11 26 rfl) rfl
theorem q2560 : (Jvm.Cond.fieldLink "TroupeSumsModel" (504 : Nat) "TroupeSumsModel" "numberAt" "I") ∈ lw_all := lw_g (lw_at lw_m11 27 rfl) rfl
theorem q2561 : (Jvm.Cond.fieldLink "TroupeSumsModel" (511 : Nat) "TroupeSumsModel" "numberMany" "I") ∈ lw_all := lw_g (lw_at lw_m11 28 rfl) rfl
theorem q2562 : (Jvm.Cond.laysFinal "TroupeSumsModel" "TroupeSumsModel" "tape" "[I") ∈ lw_all := lw_g (lw_at lw_m11 29 rfl) rfl
theorem q2563 : (Jvm.Cond.soleField "TroupeSumsModel" "tape") ∈ lw_all := lw_g (lw_at lw_m11 30 rfl) rfl
theorem q2564 : (Jvm.Cond.lays "TroupeSumsModel" "TroupeSumsModel" "taped" "I") ∈ lw_all := lw_g (lw_at lw_m11 31 rfl) rfl
theorem q2565 : (Jvm.Cond.soleField "TroupeSumsModel" "taped") ∈ lw_all := lw_g (lw_at lw_m11 32 rfl) rfl
theorem q2566 : (Jvm.Cond.lays "TroupeSumsModel" "TroupeSumsModel" "bytes" "I") ∈ lw_all := lw_g (lw_at lw_m11 33 rfl) rfl
theorem q2567 : (Jvm.Cond.soleField "TroupeSumsModel" "bytes") ∈ lw_all := lw_g (lw_at lw_m11 34 rfl) rfl
theorem q2568 : (Jvm.Cond.lays "TroupeSumsModel" "TroupeSumsModel" "at" "I") ∈ lw_all := lw_g (lw_at lw_m11 35 rfl) rfl
theorem q2569 : (Jvm.Cond.soleField "TroupeSumsModel" "at") ∈ lw_all := lw_g (lw_at lw_m11 36 rfl) rfl
theorem q2570 : (Jvm.Cond.lays "TroupeSumsModel" "TroupeSumsModel" "place" "I") ∈ lw_all := lw_g (lw_at lw_m11 37 rfl) rfl
theorem q2571 : (Jvm.Cond.soleField "TroupeSumsModel" "place") ∈ lw_all := lw_g (lw_at lw_m11 38 rfl) rfl
theorem q2572 : (Jvm.Cond.lays "TroupeSumsModel" "TroupeSumsModel" "sort" "I") ∈ lw_all := lw_g (lw_at lw_m11 39 rfl) rfl
theorem q2573 : (Jvm.Cond.soleField "TroupeSumsModel" "sort") ∈ lw_all := lw_g (lw_at lw_m11 40 rfl) rfl
theorem q2574 : (Jvm.Cond.lays "TroupeSumsModel" "TroupeSumsModel" "value" "I") ∈ lw_all := lw_g (lw_at lw_m11 41 rfl) rfl
theorem q2575 : (Jvm.Cond.soleField "TroupeSumsModel" "value") ∈ lw_all := lw_g (lw_at lw_m11 42 rfl) rfl
theorem q2576 : (Jvm.Cond.lays "TroupeSumsModel" "TroupeSumsModel" "fault" "I") ∈ lw_all := lw_g (lw_at lw_m11 43 rfl) rfl
theorem q2577 : (Jvm.Cond.soleField "TroupeSumsModel" "fault") ∈ lw_all := lw_g (lw_at lw_m11 44 rfl) rfl
theorem q2578 : (Jvm.Cond.lays "TroupeSumsModel" "TroupeSumsModel" "faultPlace" "I") ∈ lw_all := lw_g (lw_at lw_m11 45 rfl) rfl
theorem q2579 : (Jvm.Cond.soleField "TroupeSumsModel" "faultPlace") ∈ lw_all := lw_g (lw_at lw_m11 46 rfl) rfl
theorem q2580 : (Jvm.Cond.lays "TroupeSumsModel" "TroupeSumsModel" "toldFault" "I") ∈ lw_all := lw_g (lw_at lw_m11 47 rfl) rfl
theorem q2581 : (Jvm.Cond.soleField "TroupeSumsModel" "toldFault") ∈ lw_all := lw_g (lw_at lw_m11 48 rfl) rfl
theorem q2582 : (Jvm.Cond.lays "TroupeSumsModel" "TroupeSumsModel" "toldPlace" "I") ∈ lw_all := lw_g (lw_at lw_m11 49 rfl) rfl
theorem q2583 : (Jvm.Cond.soleField "TroupeSumsModel" "toldPlace") ∈ lw_all := lw_g (lw_at lw_m11 50 rfl) rfl
theorem q2584 : (Jvm.Cond.lays "TroupeSumsModel" "TroupeSumsModel" "word" "J") ∈ lw_all := lw_g (lw_at lw_m11 51 rfl) rfl
theorem q2585 : (Jvm.Cond.soleField "TroupeSumsModel" "word") ∈ lw_all := lw_g (lw_at lw_m11 52 rfl) rfl
theorem q2586 : (Jvm.Cond.lays "TroupeSumsModel" "TroupeSumsModel" "rPlaces" "I") ∈ lw_all := lw_g (lw_at lw_m11 53 rfl) rfl
theorem q2587 : (Jvm.Cond.soleField "TroupeSumsModel" "rPlaces") ∈ lw_all := lw_g (lw_at lw_m11 54 rfl) rfl
theorem q2588 : (Jvm.Cond.lays "TroupeSumsModel" "TroupeSumsModel" "rMoves" "I") ∈ lw_all := lw_g (lw_at lw_m11 55 rfl) rfl
theorem q2589 : (Jvm.Cond.soleField "TroupeSumsModel" "rMoves") ∈ lw_all := lw_g (lw_at lw_m11 56 rfl) rfl
theorem q2590 : (Jvm.Cond.lays "TroupeSumsModel" "TroupeSumsModel" "rNames" "I") ∈ lw_all := lw_g (lw_at lw_m11 57 rfl) rfl
theorem q2591 : (Jvm.Cond.soleField "TroupeSumsModel" "rNames") ∈ lw_all := lw_g (lw_at lw_m11 58 rfl) rfl
theorem q2592 : (Jvm.Cond.laysFinal "TroupeSumsModel" "TroupeSumsModel" "rMove" "[I") ∈ lw_all := lw_g (lw_at lw_m11 59 rfl) rfl
theorem q2593 : (Jvm.Cond.soleField "TroupeSumsModel" "rMove") ∈ lw_all := lw_g (lw_at lw_m11 60 rfl) rfl
theorem q2594 : (Jvm.Cond.lays "TroupeSumsModel" "TroupeSumsModel" "places" "I") ∈ lw_all := lw_g (lw_at lw_m11 61 rfl) rfl
theorem q2595 : (Jvm.Cond.soleField "TroupeSumsModel" "places") ∈ lw_all := lw_g (lw_at lw_m11 62 rfl) rfl
theorem q2596 : (Jvm.Cond.lays "TroupeSumsModel" "TroupeSumsModel" "moves" "I") ∈ lw_all := lw_g (lw_at lw_m11 63 rfl) rfl
theorem q2597 : (Jvm.Cond.soleField "TroupeSumsModel" "moves") ∈ lw_all := lw_g (lw_at lw_m11 64 rfl) rfl
theorem q2598 : (Jvm.Cond.lays "TroupeSumsModel" "TroupeSumsModel" "names" "I") ∈ lw_all := lw_g (lw_at lw_m11 65 rfl) rfl
theorem q2599 : (Jvm.Cond.soleField "TroupeSumsModel" "names") ∈ lw_all := lw_g (lw_at lw_m11 66 rfl) rfl
theorem q2600 : (Jvm.Cond.laysFinal "TroupeSumsModel" "TroupeSumsModel" "move" "[I") ∈ lw_all := lw_g (lw_at lw_m11 67 rfl) rfl
theorem q2601 : (Jvm.Cond.soleField "TroupeSumsModel" "move") ∈ lw_all := lw_g (lw_at lw_m11 68 rfl) rfl
theorem q2602 : (Jvm.Cond.lays "TroupeSumsModel" "TroupeSumsModel" "order" "I") ∈ lw_all := lw_g (lw_at lw_m11 69 rfl) rfl
theorem q2603 : (Jvm.Cond.soleField "TroupeSumsModel" "order") ∈ lw_all := lw_g (lw_at lw_m11 70 rfl) rfl
theorem q2604 : (Jvm.Cond.laysFinal "TroupeSumsModel" "TroupeSumsModel" "member" "[I") ∈ lw_all := lw_g (lw_at lw_m11 71 rfl) rfl
theorem q2605 : (Jvm.Cond.soleField "TroupeSumsModel" "member") ∈ lw_all := lw_g (lw_at lw_m11 72 rfl) rfl
theorem q2606 : (Jvm.Cond.laysFinal "TroupeSumsModel" "TroupeSumsModel" "coming" "[I") ∈ lw_all := lw_g (lw_at lw_m11 73 rfl) rfl
theorem q2607 : (Jvm.Cond.soleField "TroupeSumsModel" "coming") ∈ lw_all := lw_g (lw_at lw_m11 74 rfl) rfl
theorem q2608 : (Jvm.Cond.laysFinal "TroupeSumsModel" "TroupeSumsModel" "product" "[I") ∈ lw_all := lw_g (lw_at lw_m11 75 rfl) rfl
theorem q2609 : (Jvm.Cond.soleField "TroupeSumsModel" "product") ∈ lw_all := lw_g (lw_at lw_m11 76 rfl) rfl
theorem q2610 : (Jvm.Cond.laysFinal "TroupeSumsModel" "TroupeSumsModel" "undoes" "[I") ∈ lw_all := lw_g (lw_at lw_m11 77 rfl) rfl
theorem q2611 : (Jvm.Cond.soleField "TroupeSumsModel" "undoes") ∈ lw_all := lw_g (lw_at lw_m11 78 rfl) rfl
theorem q2612 : (Jvm.Cond.lays "TroupeSumsModel" "TroupeSumsModel" "subMany" "I") ∈ lw_all := lw_g (lw_at lw_m11 79 rfl) rfl
theorem q2613 : (Jvm.Cond.soleField "TroupeSumsModel" "subMany") ∈ lw_all := lw_g (lw_at lw_m11 80 rfl) rfl
theorem q2614 : (Jvm.Cond.lays "TroupeSumsModel" "TroupeSumsModel" "sortMany" "I") ∈ lw_all := lw_g (lw_at lw_m11 81 rfl) rfl
theorem q2615 : (Jvm.Cond.soleField "TroupeSumsModel" "sortMany") ∈ lw_all := lw_g (lw_at lw_m11 82 rfl) rfl
theorem q2616 : (Jvm.Cond.laysFinal "TroupeSumsModel" "TroupeSumsModel" "sub" "[I") ∈ lw_all := lw_g (lw_at lw_m11 83 rfl) rfl
theorem q2617 : (Jvm.Cond.soleField "TroupeSumsModel" "sub") ∈ lw_all := lw_g (lw_at lw_m11 84 rfl) rfl
theorem q2618 : (Jvm.Cond.laysFinal "TroupeSumsModel" "TroupeSumsModel" "subSort" "[I") ∈ lw_all := lw_g (lw_at lw_m11 85 rfl) rfl
theorem q2619 : (Jvm.Cond.soleField "TroupeSumsModel" "subSort") ∈ lw_all := lw_g (lw_at lw_m11 86 rfl) rfl
theorem q2620 : (Jvm.Cond.laysFinal "TroupeSumsModel" "TroupeSumsModel" "first" "[I") ∈ lw_all := lw_g (lw_at lw_m11 87 rfl) rfl
theorem q2621 : (Jvm.Cond.soleField "TroupeSumsModel" "first") ∈ lw_all := lw_g (lw_at lw_m11 88 rfl) rfl
theorem q2622 : (Jvm.Cond.laysFinal "TroupeSumsModel" "TroupeSumsModel" "subsOf" "[I") ∈ lw_all := lw_g (lw_at lw_m11 89 rfl) rfl
theorem q2623 : (Jvm.Cond.soleField "TroupeSumsModel" "subsOf") ∈ lw_all := lw_g (lw_at lw_m11 90 rfl) rfl
theorem q2624 : (Jvm.Cond.laysFinal "TroupeSumsModel" "TroupeSumsModel" "mark" "[I") ∈ lw_all := lw_g (lw_at lw_m11 91 rfl) rfl
theorem q2625 : (Jvm.Cond.soleField "TroupeSumsModel" "mark") ∈ lw_all := lw_g (lw_at lw_m11 92 rfl) rfl
theorem q2626 : (Jvm.Cond.laysFinal "TroupeSumsModel" "TroupeSumsModel" "cosetOf" "[I") ∈ lw_all := lw_g (lw_at lw_m11 93 rfl) rfl
theorem q2627 : (Jvm.Cond.soleField "TroupeSumsModel" "cosetOf") ∈ lw_all := lw_g (lw_at lw_m11 94 rfl) rfl
theorem q2628 : (Jvm.Cond.laysFinal "TroupeSumsModel" "TroupeSumsModel" "pile" "[J") ∈ lw_all := lw_g (lw_at lw_m11 95 rfl) rfl
theorem q2629 : (Jvm.Cond.soleField "TroupeSumsModel" "pile") ∈ lw_all := lw_g (lw_at lw_m11 96 rfl) rfl
theorem q2630 : (Jvm.Cond.laysFinal "TroupeSumsModel" "TroupeSumsModel" "mulA" "[J") ∈ lw_all := lw_g (lw_at lw_m11 97 rfl) rfl
theorem q2631 : (Jvm.Cond.soleField "TroupeSumsModel" "mulA") ∈ lw_all := lw_g (lw_at lw_m11 98 rfl) rfl
theorem q2632 : (Jvm.Cond.laysFinal "TroupeSumsModel" "TroupeSumsModel" "mulB" "[J") ∈ lw_all := lw_g (lw_at lw_m11 99 rfl) rfl
theorem q2633 : (Jvm.Cond.soleField "TroupeSumsModel" "mulB") ∈ lw_all := lw_g (lw_at lw_m11 100 rfl) rfl
theorem q2634 : (Jvm.Cond.laysFinal "TroupeSumsModel" "TroupeSumsModel" "its" "[J") ∈ lw_all := lw_g (lw_at lw_m11 101 rfl) rfl
theorem q2635 : (Jvm.Cond.soleField "TroupeSumsModel" "its") ∈ lw_all := lw_g (lw_at lw_m11 102 rfl) rfl
theorem q2636 : (Jvm.Cond.laysFinal "TroupeSumsModel" "TroupeSumsModel" "itsMarks" "[J") ∈ lw_all := lw_g (lw_at lw_m11 103 rfl) rfl
theorem q2637 : (Jvm.Cond.soleField "TroupeSumsModel" "itsMarks") ∈ lw_all := lw_g (lw_at lw_m11 104 rfl) rfl
theorem q2638 : (Jvm.Cond.lays "TroupeSumsModel" "TroupeSumsModel" "high" "I") ∈ lw_all := lw_g (lw_at lw_m11 105 rfl) rfl
theorem q2639 : (Jvm.Cond.soleField "TroupeSumsModel" "high") ∈ lw_all := lw_g (lw_at lw_m11 106 rfl) rfl
theorem q2640 : (Jvm.Cond.lays "TroupeSumsModel" "TroupeSumsModel" "isBig" "Z") ∈ lw_all := lw_g (lw_at lw_m11 107 rfl) rfl
theorem q2641 : (Jvm.Cond.soleField "TroupeSumsModel" "isBig") ∈ lw_all := lw_g (lw_at lw_m11 108 rfl) rfl
theorem q2642 : (Jvm.Cond.laysFinal "TroupeSumsModel" "TroupeSumsModel" "waits" "[I") ∈ lw_all := lw_g (lw_at lw_m11 109 rfl) rfl
theorem q2643 : (Jvm.Cond.soleField "TroupeSumsModel" "waits") ∈ lw_all := lw_g (lw_at lw_m11 110 rfl) rfl
theorem q2644 : (Jvm.Cond.lays "TroupeSumsModel" "TroupeSumsModel" "waiting" "I") ∈ lw_all := lw_g (lw_at lw_m11 111 rfl) rfl
theorem q2645 : (Jvm.Cond.soleField "TroupeSumsModel" "waiting") ∈ lw_all := lw_g (lw_at lw_m11 112 rfl) rfl
theorem q2646 : (Jvm.Cond.lays "TroupeSumsModel" "TroupeSumsModel" "deep" "I") ∈ lw_all := lw_g (lw_at lw_m11 113 rfl) rfl
theorem q2647 : (Jvm.Cond.soleField "TroupeSumsModel" "deep") ∈ lw_all := lw_g (lw_at lw_m11 114 rfl) rfl
theorem q2648 : (Jvm.Cond.lays "TroupeSumsModel" "TroupeSumsModel" "units" "I") ∈ lw_all := lw_g (lw_at lw_m11 115 rfl) rfl
theorem q2649 : (Jvm.Cond.soleField "TroupeSumsModel" "units") ∈ lw_all := lw_g (lw_at lw_m11 116 rfl) rfl
theorem q2650 : (Jvm.Cond.laysFinal "TroupeSumsModel" "TroupeSumsModel" "rName" "[J") ∈ lw_all := lw_g (lw_at lw_m11 117 rfl) rfl
theorem q2651 : (Jvm.Cond.soleField "TroupeSumsModel" "rName") ∈ lw_all := lw_g (lw_at lw_m11 118 rfl) rfl
theorem q2652 : (Jvm.Cond.laysFinal "TroupeSumsModel" "TroupeSumsModel" "rSum" "[J") ∈ lw_all := lw_g (lw_at lw_m11 119 rfl) rfl
theorem q2653 : (Jvm.Cond.soleField "TroupeSumsModel" "rSum") ∈ lw_all := lw_g (lw_at lw_m11 120 rfl) rfl
theorem q2654 : (Jvm.Cond.laysFinal "TroupeSumsModel" "TroupeSumsModel" "name" "[J") ∈ lw_all := lw_g (lw_at lw_m11 121 rfl) rfl
theorem q2655 : (Jvm.Cond.soleField "TroupeSumsModel" "name") ∈ lw_all := lw_g (lw_at lw_m11 122 rfl) rfl
theorem q2656 : (Jvm.Cond.laysFinal "TroupeSumsModel" "TroupeSumsModel" "sum" "[J") ∈ lw_all := lw_g (lw_at lw_m11 123 rfl) rfl
theorem q2657 : (Jvm.Cond.soleField "TroupeSumsModel" "sum") ∈ lw_all := lw_g (lw_at lw_m11 124 rfl) rfl
theorem q2658 : (Jvm.Cond.laysFinal "TroupeSumsModel" "TroupeSumsModel" "worked" "[J") ∈ lw_all := lw_g (lw_at lw_m11 125 rfl) rfl
theorem q2659 : (Jvm.Cond.soleField "TroupeSumsModel" "worked") ∈ lw_all := lw_g (lw_at lw_m11 126 rfl) rfl
theorem q2660 : (Jvm.Cond.laysFinal "TroupeSumsModel" "TroupeSumsModel" "moebius" "[I") ∈ lw_all := lw_g (lw_at lw_m11 127 rfl) rfl
theorem q2661 : (Jvm.Cond.soleField "TroupeSumsModel" "moebius") ∈ lw_all := lw_g (lw_at lw_m11 128 rfl) rfl
theorem q2662 : (Jvm.Cond.laysFinal "TroupeSumsModel" "TroupeSumsModel" "above" "[J") ∈ lw_all := lw_g (lw_at lw_m11 129 rfl) rfl
theorem q2663 : (Jvm.Cond.soleField "TroupeSumsModel" "above") ∈ lw_all := lw_g (lw_at lw_m11 130 rfl) rfl
theorem q2664 : (Jvm.Cond.laysFinal "TroupeSumsModel" "TroupeSumsModel" "below" "[J") ∈ lw_all := lw_g (lw_at lw_m11 131 rfl) rfl
theorem q2665 : (Jvm.Cond.soleField "TroupeSumsModel" "below") ∈ lw_all := lw_g (lw_at lw_m11 132 rfl) rfl
theorem q2666 : (Jvm.Cond.lays "TroupeSumsModel" "TroupeSumsModel" "sumAbove" "J") ∈ lw_all := lw_g (lw_at lw_m11 133 rfl) rfl
theorem q2667 : (Jvm.Cond.soleField "TroupeSumsModel" "sumAbove") ∈ lw_all := lw_g (lw_at lw_m11 134 rfl) rfl
theorem q2668 : (Jvm.Cond.lays "TroupeSumsModel" "TroupeSumsModel" "sumBelow" "J") ∈ lw_all := lw_g (lw_at lw_m11 135 rfl) rfl
theorem q2669 : (Jvm.Cond.soleField "TroupeSumsModel" "sumBelow") ∈ lw_all := lw_g (lw_at lw_m11 136 rfl) rfl
theorem q2670 : (Jvm.Cond.laysFinal "TroupeSumsModel" "TroupeSumsModel" "madeOf" "[I") ∈ lw_all := lw_g (lw_at lw_m11 137 rfl) rfl
theorem q2671 : (Jvm.Cond.soleField "TroupeSumsModel" "madeOf") ∈ lw_all := lw_g (lw_at lw_m11 138 rfl) rfl
theorem q2672 : (Jvm.Cond.lays "TroupeSumsModel" "TroupeSumsModel" "madeMany" "I") ∈ lw_all := lw_g (lw_at lw_m11 139 rfl) rfl
theorem q2673 : (Jvm.Cond.soleField "TroupeSumsModel" "madeMany") ∈ lw_all := lw_g (lw_at lw_m11 140 rfl) rfl
theorem q2674 : (Jvm.Cond.laysFinal "TroupeSumsModel" "TroupeSumsModel" "unitSet" "[I") ∈ lw_all := lw_g (lw_at lw_m11 141 rfl) rfl
theorem q2675 : (Jvm.Cond.soleField "TroupeSumsModel" "unitSet") ∈ lw_all := lw_g (lw_at lw_m11 142 rfl) rfl
theorem q2676 : (Jvm.Cond.lays "TroupeSumsModel" "TroupeSumsModel" "unitMany" "I") ∈ lw_all := lw_g (lw_at lw_m11 143 rfl) rfl
theorem q2677 : (Jvm.Cond.soleField "TroupeSumsModel" "unitMany") ∈ lw_all := lw_g (lw_at lw_m11 144 rfl) rfl
theorem q2678 : (Jvm.Cond.lays "TroupeSumsModel" "TroupeSumsModel" "areUnits" "Z") ∈ lw_all := lw_g (lw_at lw_m11 145 rfl) rfl
theorem q2679 : (Jvm.Cond.soleField "TroupeSumsModel" "areUnits") ∈ lw_all := lw_g (lw_at lw_m11 146 rfl) rfl
theorem q2680 : (Jvm.Cond.laysFinal "TroupeSumsModel" "TroupeSumsModel" "past" "[J") ∈ lw_all := lw_g (lw_at lw_m11 147 rfl) rfl
theorem q2681 : (Jvm.Cond.soleField "TroupeSumsModel" "past") ∈ lw_all := lw_g (lw_at lw_m11 148 rfl) rfl
theorem q2682 : (Jvm.Cond.lays "TroupeSumsModel" "TroupeSumsModel" "acts" "I") ∈ lw_all := lw_g (lw_at lw_m11 149 rfl) rfl
theorem q2683 : (Jvm.Cond.soleField "TroupeSumsModel" "acts") ∈ lw_all := lw_g (lw_at lw_m11 150 rfl) rfl
theorem q2684 : (Jvm.Cond.laysFinal "TroupeSumsModel" "TroupeSumsModel" "partOf" "[I") ∈ lw_all := lw_g (lw_at lw_m11 151 rfl) rfl
theorem q2685 : (Jvm.Cond.soleField "TroupeSumsModel" "partOf") ∈ lw_all := lw_g (lw_at lw_m11 152 rfl) rfl
theorem q2686 : (Jvm.Cond.laysFinal "TroupeSumsModel" "TroupeSumsModel" "many" "[I") ∈ lw_all := lw_g (lw_at lw_m11 153 rfl) rfl
theorem q2687 : (Jvm.Cond.soleField "TroupeSumsModel" "many") ∈ lw_all := lw_g (lw_at lw_m11 154 rfl) rfl
theorem q2688 : (Jvm.Cond.lays "TroupeSumsModel" "TroupeSumsModel" "partMany" "I") ∈ lw_all := lw_g (lw_at lw_m11 155 rfl) rfl
theorem q2689 : (Jvm.Cond.soleField "TroupeSumsModel" "partMany") ∈ lw_all := lw_g (lw_at lw_m11 156 rfl) rfl
theorem q2690 : (Jvm.Cond.lays "TroupeSumsModel" "TroupeSumsModel" "numberAt" "I") ∈ lw_all := lw_g (lw_at lw_m11 157 rfl) rfl
theorem q2691 : (Jvm.Cond.soleField "TroupeSumsModel" "numberAt") ∈ lw_all := lw_g (lw_at lw_m11 158 rfl) rfl
theorem q2692 : (Jvm.Cond.lays "TroupeSumsModel" "TroupeSumsModel" "numberMany" "I") ∈ lw_all := lw_g (lw_at lw_m11 159 rfl) rfl
theorem q2693 : (Jvm.Cond.soleField "TroupeSumsModel" "numberMany") ∈ lw_all := lw_g (lw_at lw_m11 160 rfl) rfl
theorem q2694 : (Jvm.Cond.superclass "TroupeSumsModel" "java/lang/Object") ∈ lw_all := lw_g (lw_at lw_m11 161 rfl) rfl
theorem q2696 : (Jvm.Cond.instanceMethod ({ cls := "TroupeSumsModel", name := "feed", desc := "(IIIII)I" } : Jvm.MethodName)) ∈ lw_all := lw_g (lw_at lw_m11 163 rfl) rfl
theorem q2697 : (Jvm.Cond.selects "TroupeSumsModel" ({ cls := "TroupeSumsModel", name := "feed", desc := "(IIIII)I" } : Jvm.MethodName) ({ cls := "TroupeSumsModel", name := "feed", desc := "(IIIII)I" } : Jvm.MethodName)) ∈ lw_all := lw_g (lw_at lw_m11 164 rfl) rfl
theorem q2698 : (Jvm.Cond.code ({ cls := "TroupeSumsModel", name := "feed", desc := "(IIIII)I" } : Jvm.MethodName) prog_16_method_6_code (6 : Nat) (Option.some Jvm.ClassFile.FieldType.int)) ∈ lw_all := lw_g (lw_at lw_m11 165 rfl) rfl
theorem q2699 : (Jvm.Cond.methodLink "TroupeSumsModel" (127 : Nat) ({ cls := "TroupeSumsModel", name := "four", desc := "(I)V" } : Jvm.MethodName)) ∈ lw_all := lw_g (lw_at lw_m11 166 rfl) rfl
theorem q2700 : (Jvm.Cond.privateMethod ({ cls := "TroupeSumsModel", name := "four", desc := "(I)V" } : Jvm.MethodName)) ∈ lw_tbl := lw_at lw_m11 167 rfl
theorem q2701 : (Jvm.Cond.instanceMethod ({ cls := "TroupeSumsModel", name := "four", desc := "(I)V" } : Jvm.MethodName)) ∈ lw_all := lw_g (lw_at lw_m11 168 rfl) rfl
theorem q2702 : (Jvm.Cond.code ({ cls := "TroupeSumsModel", name := "four", desc := "(I)V" } : Jvm.MethodName) prog_16_method_7_code (3 : Nat) (Option.none : Option Jvm.ClassFile.FieldType)) ∈ lw_all := lw_g (lw_at lw_m11 169 rfl) rfl
theorem q2704 : (Jvm.Cond.instanceMethod ({ cls := "TroupeSumsModel", name := "end", desc := "(I)I" } : Jvm.MethodName)) ∈ lw_all := lw_g (lw_at lw_m11 171 rfl) rfl
theorem q2705 : (Jvm.Cond.selects "TroupeSumsModel" ({ cls := "TroupeSumsModel", name := "end", desc := "(I)I" } : Jvm.MethodName) ({ cls := "TroupeSumsModel", name := "end", desc := "(I)I" } : Jvm.MethodName)) ∈ lw_all := lw_g (lw_at lw_m11 172 rfl) rfl
theorem q2706 : (Jvm.Cond.code ({ cls := "TroupeSumsModel", name := "end", desc := "(I)I" } : Jvm.MethodName) prog_16_method_8_code (2 : Nat) (Option.some Jvm.ClassFile.FieldType.int)) ∈ lw_all := lw_g (lw_at lw_m11 173 rfl) rfl
theorem q2707 : (Jvm.Cond.methodLink "TroupeSumsModel" (131 : Nat) ({ cls := "TroupeSumsModel", name := "isIn", desc := "(JJJ)Z" } : Jvm.MethodName)) ∈ lw_all := lw_g (lw_at lw_m11 174 rfl) rfl
theorem q2708 : (Jvm.Cond.static ({ cls := "TroupeSumsModel", name := "isIn", desc := "(JJJ)Z" } : Jvm.MethodName)) ∈ lw_all := lw_g (lw_at lw_m11 175 rfl) rfl
theorem q2709 : (Jvm.Cond.code ({ cls := "TroupeSumsModel", name := "isIn", desc := "(JJJ)Z" } : Jvm.MethodName) prog_16_method_2_code (6 : Nat) (Option.some Jvm.ClassFile.FieldType.boolean)) ∈ lw_all := lw_g (lw_at lw_m11 176 rfl) rfl
theorem q2711 : (Jvm.Cond.instanceMethod ({ cls := "TroupeSumsModel", name := "troupe", desc := "()I" } : Jvm.MethodName)) ∈ lw_all := lw_g (lw_at lw_m11 178 rfl) rfl
theorem q2712 : (Jvm.Cond.selects "TroupeSumsModel" ({ cls := "TroupeSumsModel", name := "troupe", desc := "()I" } : Jvm.MethodName) ({ cls := "TroupeSumsModel", name := "troupe", desc := "()I" } : Jvm.MethodName)) ∈ lw_all := lw_g (lw_at lw_m11 179 rfl) rfl
theorem q2713 : (Jvm.Cond.code ({ cls := "TroupeSumsModel", name := "troupe", desc := "()I" } : Jvm.MethodName) prog_16_method_62_code (1 : Nat) (Option.some Jvm.ClassFile.FieldType.int)) ∈ lw_all := lw_g (lw_at lw_m11 180 rfl) rfl
theorem q2714 : (Jvm.Cond.methodLink "TroupeSumsModel" (367 : Nat) ({ cls := "TroupeSumsModel", name := "begins", desc := "()V" } : Jvm.MethodName)) ∈ lw_all := lw_g (lw_at lw_m11 181 rfl) rfl
theorem q2715 : (Jvm.Cond.privateMethod ({ cls := "TroupeSumsModel", name := "begins", desc := "()V" } : Jvm.MethodName)) ∈ lw_tbl := lw_at lw_m11 182 rfl
theorem q2716 : (Jvm.Cond.instanceMethod ({ cls := "TroupeSumsModel", name := "begins", desc := "()V" } : Jvm.MethodName)) ∈ lw_all := lw_g (lw_at lw_m11 183 rfl) rfl
theorem q2717 : (Jvm.Cond.code ({ cls := "TroupeSumsModel", name := "begins", desc := "()V" } : Jvm.MethodName) prog_16_method_63_code (1 : Nat) (Option.none : Option Jvm.ClassFile.FieldType)) ∈ lw_all := lw_g (lw_at lw_m11 184 rfl) rfl
theorem q2718 : (Jvm.Cond.methodLink "TroupeSumsModel" (193 : Nat) ({ cls := "TroupeSumsModel", name := "goOn", desc := "()V" } : Jvm.MethodName)) ∈ lw_all := lw_g (lw_at lw_m11 185 rfl) rfl
theorem q2719 : (Jvm.Cond.privateMethod ({ cls := "TroupeSumsModel", name := "goOn", desc := "()V" } : Jvm.MethodName)) ∈ lw_tbl := lw_at lw_m11 186 rfl
theorem q2720 : (Jvm.Cond.instanceMethod ({ cls := "TroupeSumsModel", name := "goOn", desc := "()V" } : Jvm.MethodName)) ∈ lw_all := lw_g (lw_at lw_m11 187 rfl) rfl
theorem q2721 : (Jvm.Cond.code ({ cls := "TroupeSumsModel", name := "goOn", desc := "()V" } : Jvm.MethodName) prog_16_method_13_code (3 : Nat) (Option.none : Option Jvm.ClassFile.FieldType)) ∈ lw_all := lw_g (lw_at lw_m11 188 rfl) rfl
theorem q2722 : (Jvm.Cond.methodLink "TroupeSumsModel" (141 : Nat) ({ cls := "TroupeSumsModel", name := "here", desc := "(I)I" } : Jvm.MethodName)) ∈ lw_all := lw_g (lw_at lw_m11 189 rfl) rfl
theorem q2723 : (Jvm.Cond.privateMethod ({ cls := "TroupeSumsModel", name := "here", desc := "(I)I" } : Jvm.MethodName)) ∈ lw_tbl := lw_at lw_m11 190 rfl
theorem q2724 : (Jvm.Cond.instanceMethod ({ cls := "TroupeSumsModel", name := "here", desc := "(I)I" } : Jvm.MethodName)) ∈ lw_all := lw_g (lw_at lw_m11 191 rfl) rfl
theorem q2725 : (Jvm.Cond.code ({ cls := "TroupeSumsModel", name := "here", desc := "(I)I" } : Jvm.MethodName) prog_16_method_9_code (2 : Nat) (Option.some Jvm.ClassFile.FieldType.int)) ∈ lw_all := lw_g (lw_at lw_m11 192 rfl) rfl
theorem q2726 : (Jvm.Cond.methodLink "TroupeSumsModel" (158 : Nat) ({ cls := "TroupeSumsModel", name := "isLetter", desc := "(I)Z" } : Jvm.MethodName)) ∈ lw_all := lw_g (lw_at lw_m11 193 rfl) rfl
theorem q2727 : (Jvm.Cond.static ({ cls := "TroupeSumsModel", name := "isLetter", desc := "(I)Z" } : Jvm.MethodName)) ∈ lw_all := lw_g (lw_at lw_m11 194 rfl) rfl
theorem q2728 : (Jvm.Cond.code ({ cls := "TroupeSumsModel", name := "isLetter", desc := "(I)Z" } : Jvm.MethodName) prog_16_method_10_code (1 : Nat) (Option.some Jvm.ClassFile.FieldType.boolean)) ∈ lw_all := lw_g (lw_at lw_m11 195 rfl) rfl
theorem q2729 : (Jvm.Cond.methodLink "TroupeSumsModel" (162 : Nat) ({ cls := "TroupeSumsModel", name := "isDigit", desc := "(I)Z" } : Jvm.MethodName)) ∈ lw_all := lw_g (lw_at lw_m11 196 rfl) rfl
theorem q2730 : (Jvm.Cond.static ({ cls := "TroupeSumsModel", name := "isDigit", desc := "(I)Z" } : Jvm.MethodName)) ∈ lw_all := lw_g (lw_at lw_m11 197 rfl) rfl
theorem q2731 : (Jvm.Cond.code ({ cls := "TroupeSumsModel", name := "isDigit", desc := "(I)Z" } : Jvm.MethodName) prog_16_method_11_code (1 : Nat) (Option.some Jvm.ClassFile.FieldType.boolean)) ∈ lw_all := lw_g (lw_at lw_m11 198 rfl) rfl
theorem q2732 : (Jvm.Cond.methodLink "TroupeSumsModel" (165 : Nat) ({ cls := "TroupeSumsModel", name := "isSign", desc := "(I)Z" } : Jvm.MethodName)) ∈ lw_all := lw_g (lw_at lw_m11 199 rfl) rfl
theorem q2733 : (Jvm.Cond.static ({ cls := "TroupeSumsModel", name := "isSign", desc := "(I)Z" } : Jvm.MethodName)) ∈ lw_all := lw_g (lw_at lw_m11 200 rfl) rfl
theorem q2734 : (Jvm.Cond.code ({ cls := "TroupeSumsModel", name := "isSign", desc := "(I)Z" } : Jvm.MethodName) prog_16_method_12_code (1 : Nat) (Option.some Jvm.ClassFile.FieldType.boolean)) ∈ lw_all := lw_g (lw_at lw_m11 201 rfl) rfl
theorem q2735 : (Jvm.Cond.methodLink "TroupeSumsModel" (370 : Nat) ({ cls := "TroupeSumsModel", name := "reads", desc := "()V" } : Jvm.MethodName)) ∈ lw_all := lw_g (lw_at lw_m11 202 rfl) rfl
theorem q2736 : (Jvm.Cond.privateMethod ({ cls := "TroupeSumsModel", name := "reads", desc := "()V" } : Jvm.MethodName)) ∈ lw_tbl := lw_at lw_m11 203 rfl
theorem q2737 : (Jvm.Cond.instanceMethod ({ cls := "TroupeSumsModel", name := "reads", desc := "()V" } : Jvm.MethodName)) ∈ lw_all := lw_g (lw_at lw_m11 204 rfl) rfl
theorem q2738 : (Jvm.Cond.code ({ cls := "TroupeSumsModel", name := "reads", desc := "()V" } : Jvm.MethodName) prog_16_method_61_code (1 : Nat) (Option.none : Option Jvm.ClassFile.FieldType)) ∈ lw_all := lw_g (lw_at lw_m11 205 rfl) rfl
theorem q2739 : (Jvm.Cond.constantLong "TroupeSumsModel" (175 : Nat) (123610792682867 : Int64)) ∈ lw_all := lw_g (lw_at lw_m11 206 rfl) rfl
theorem q2740 : (Jvm.Cond.methodLink "TroupeSumsModel" (312 : Nat) ({ cls := "TroupeSumsModel", name := "isWord", desc := "(J)Z" } : Jvm.MethodName)) ∈ lw_all := lw_g (lw_at lw_m11 207 rfl) rfl
theorem q2741 : (Jvm.Cond.privateMethod ({ cls := "TroupeSumsModel", name := "isWord", desc := "(J)Z" } : Jvm.MethodName)) ∈ lw_tbl := lw_at lw_m11 208 rfl
theorem q2742 : (Jvm.Cond.instanceMethod ({ cls := "TroupeSumsModel", name := "isWord", desc := "(J)Z" } : Jvm.MethodName)) ∈ lw_all := lw_g (lw_at lw_m11 209 rfl) rfl
theorem q2743 : (Jvm.Cond.code ({ cls := "TroupeSumsModel", name := "isWord", desc := "(J)Z" } : Jvm.MethodName) prog_16_method_17_code (3 : Nat) (Option.some Jvm.ClassFile.FieldType.boolean)) ∈ lw_all := lw_g (lw_at lw_m11 210 rfl) rfl
theorem q2744 : (Jvm.Cond.methodLink "TroupeSumsModel" (190 : Nat) ({ cls := "TroupeSumsModel", name := "wrong", desc := "(I)V" } : Jvm.MethodName)) ∈ lw_all := lw_g (lw_at lw_m11 211 rfl) rfl
theorem q2745 : (Jvm.Cond.privateMethod ({ cls := "TroupeSumsModel", name := "wrong", desc := "(I)V" } : Jvm.MethodName)) ∈ lw_tbl := lw_at lw_m11 212 rfl
theorem q2746 : (Jvm.Cond.instanceMethod ({ cls := "TroupeSumsModel", name := "wrong", desc := "(I)V" } : Jvm.MethodName)) ∈ lw_all := lw_g (lw_at lw_m11 213 rfl) rfl
theorem q2747 : (Jvm.Cond.code ({ cls := "TroupeSumsModel", name := "wrong", desc := "(I)V" } : Jvm.MethodName) prog_16_method_14_code (2 : Nat) (Option.none : Option Jvm.ClassFile.FieldType)) ∈ lw_all := lw_g (lw_at lw_m11 214 rfl) rfl
theorem q2748 : (Jvm.Cond.methodLink "TroupeSumsModel" (168 : Nat) ({ cls := "TroupeSumsModel", name := "wrongAt", desc := "(II)V" } : Jvm.MethodName)) ∈ lw_all := lw_g (lw_at lw_m11 215 rfl) rfl
theorem q2749 : (Jvm.Cond.privateMethod ({ cls := "TroupeSumsModel", name := "wrongAt", desc := "(II)V" } : Jvm.MethodName)) ∈ lw_tbl := lw_at lw_m11 216 rfl
theorem q2750 : (Jvm.Cond.instanceMethod ({ cls := "TroupeSumsModel", name := "wrongAt", desc := "(II)V" } : Jvm.MethodName)) ∈ lw_all := lw_g (lw_at lw_m11 217 rfl) rfl
theorem q2751 : (Jvm.Cond.code ({ cls := "TroupeSumsModel", name := "wrongAt", desc := "(II)V" } : Jvm.MethodName) prog_16_method_15_code (3 : Nat) (Option.none : Option Jvm.ClassFile.FieldType)) ∈ lw_all := lw_g (lw_at lw_m11 218 rfl) rfl
theorem q2752 : (Jvm.Cond.methodLink "TroupeSumsModel" (183 : Nat) ({ cls := "TroupeSumsModel", name := "isGood", desc := "()Z" } : Jvm.MethodName)) ∈ lw_all := lw_g (lw_at lw_m11 219 rfl) rfl
theorem q2753 : (Jvm.Cond.privateMethod ({ cls := "TroupeSumsModel", name := "isGood", desc := "()Z" } : Jvm.MethodName)) ∈ lw_tbl := lw_at lw_m11 220 rfl
theorem q2754 : (Jvm.Cond.instanceMethod ({ cls := "TroupeSumsModel", name := "isGood", desc := "()Z" } : Jvm.MethodName)) ∈ lw_all := lw_g (lw_at lw_m11 221 rfl) rfl
theorem q2755 : (Jvm.Cond.code ({ cls := "TroupeSumsModel", name := "isGood", desc := "()Z" } : Jvm.MethodName) prog_16_method_16_code (1 : Nat) (Option.some Jvm.ClassFile.FieldType.boolean)) ∈ lw_all := lw_g (lw_at lw_m11 222 rfl) rfl
theorem q2756 : (Jvm.Cond.methodLink "TroupeSumsModel" (322 : Nat) ({ cls := "TroupeSumsModel", name := "number", desc := "(II)I" } : Jvm.MethodName)) ∈ lw_all := lw_g (lw_at lw_m11 223 rfl) rfl
theorem q2757 : (Jvm.Cond.privateMethod ({ cls := "TroupeSumsModel", name := "number", desc := "(II)I" } : Jvm.MethodName)) ∈ lw_tbl := lw_at lw_m11 224 rfl
theorem q2758 : (Jvm.Cond.instanceMethod ({ cls := "TroupeSumsModel", name := "number", desc := "(II)I" } : Jvm.MethodName)) ∈ lw_all := lw_g (lw_at lw_m11 225 rfl) rfl
theorem q2759 : (Jvm.Cond.code ({ cls := "TroupeSumsModel", name := "number", desc := "(II)I" } : Jvm.MethodName) prog_16_method_21_code (4 : Nat) (Option.some Jvm.ClassFile.FieldType.int)) ∈ lw_all := lw_g (lw_at lw_m11 226 rfl) rfl
theorem q2760 : (Jvm.Cond.methodLink "TroupeSumsModel" (355 : Nat) ({ cls := "TroupeSumsModel", name := "must", desc := "(I)V" } : Jvm.MethodName)) ∈ lw_all := lw_g (lw_at lw_m11 227 rfl) rfl
theorem q2761 : (Jvm.Cond.privateMethod ({ cls := "TroupeSumsModel", name := "must", desc := "(I)V" } : Jvm.MethodName)) ∈ lw_tbl := lw_at lw_m11 228 rfl
theorem q2762 : (Jvm.Cond.instanceMethod ({ cls := "TroupeSumsModel", name := "must", desc := "(I)V" } : Jvm.MethodName)) ∈ lw_all := lw_g (lw_at lw_m11 229 rfl) rfl
theorem q2763 : (Jvm.Cond.code ({ cls := "TroupeSumsModel", name := "must", desc := "(I)V" } : Jvm.MethodName) prog_16_method_20_code (2 : Nat) (Option.none : Option Jvm.ClassFile.FieldType)) ∈ lw_all := lw_g (lw_at lw_m11 230 rfl) rfl
theorem q2764 : (Jvm.Cond.methodLink "TroupeSumsModel" (187 : Nat) ({ cls := "TroupeSumsModel", name := "isSignHere", desc := "(I)Z" } : Jvm.MethodName)) ∈ lw_all := lw_g (lw_at lw_m11 231 rfl) rfl
theorem q2765 : (Jvm.Cond.privateMethod ({ cls := "TroupeSumsModel", name := "isSignHere", desc := "(I)Z" } : Jvm.MethodName)) ∈ lw_tbl := lw_at lw_m11 232 rfl
theorem q2766 : (Jvm.Cond.instanceMethod ({ cls := "TroupeSumsModel", name := "isSignHere", desc := "(I)Z" } : Jvm.MethodName)) ∈ lw_all := lw_g (lw_at lw_m11 233 rfl) rfl
theorem q2767 : (Jvm.Cond.code ({ cls := "TroupeSumsModel", name := "isSignHere", desc := "(I)Z" } : Jvm.MethodName) prog_16_method_18_code (2 : Nat) (Option.some Jvm.ClassFile.FieldType.boolean)) ∈ lw_all := lw_g (lw_at lw_m11 234 rfl) rfl
theorem q2768 : (Jvm.Cond.constantLong "TroupeSumsModel" (177 : Nat) (1836021349 : Int64)) ∈ lw_all := lw_g (lw_at lw_m11 235 rfl) rfl
theorem q2769 : (Jvm.Cond.methodLink "TroupeSumsModel" (361 : Nat) ({ cls := "TroupeSumsModel", name := "moveLine", desc := "()V" } : Jvm.MethodName)) ∈ lw_all := lw_g (lw_at lw_m11 236 rfl) rfl
theorem q2770 : (Jvm.Cond.privateMethod ({ cls := "TroupeSumsModel", name := "moveLine", desc := "()V" } : Jvm.MethodName)) ∈ lw_tbl := lw_at lw_m11 237 rfl
theorem q2771 : (Jvm.Cond.instanceMethod ({ cls := "TroupeSumsModel", name := "moveLine", desc := "()V" } : Jvm.MethodName)) ∈ lw_all := lw_g (lw_at lw_m11 238 rfl) rfl
theorem q2772 : (Jvm.Cond.code ({ cls := "TroupeSumsModel", name := "moveLine", desc := "()V" } : Jvm.MethodName) prog_16_method_59_code (5 : Nat) (Option.none : Option Jvm.ClassFile.FieldType)) ∈ lw_all := lw_g (lw_at lw_m11 239 rfl) rfl
theorem q2773 : (Jvm.Cond.constantLong "TroupeSumsModel" (179 : Nat) (7103860 : Int64)) ∈ lw_all := lw_g (lw_at lw_m12 0 rfl) rfl
theorem q2774 : (Jvm.Cond.methodLink "TroupeSumsModel" (364 : Nat) ({ cls := "TroupeSumsModel", name := "letLine", desc := "()V" } : Jvm.MethodName)) ∈ lw_all := lw_g (lw_at lw_m12 1 rfl) rfl
theorem q2775 : (Jvm.Cond.privateMethod ({ cls := "TroupeSumsModel", name := "letLine", desc := "()V" } : Jvm.MethodName)) ∈ lw_tbl := lw_at lw_m12 2 rfl
theorem q2776 : (Jvm.Cond.instanceMethod ({ cls := "TroupeSumsModel", name := "letLine", desc := "()V" } : Jvm.MethodName)) ∈ lw_all := lw_g (lw_at lw_m12 3 rfl) rfl
theorem q2777 : (Jvm.Cond.code ({ cls := "TroupeSumsModel", name := "letLine", desc := "()V" } : Jvm.MethodName) prog_16_method_60_code (5 : Nat) (Option.none : Option Jvm.ClassFile.FieldType)) ∈ lw_all := lw_g (lw_at lw_m12 4 rfl) rfl
theorem q2778 : (Jvm.Cond.methodLink "TroupeSumsModel" (316 : Nat) ({ cls := "TroupeSumsModel", name := "isName", desc := "()Z" } : Jvm.MethodName)) ∈ lw_all := lw_g (lw_at lw_m12 5 rfl) rfl
theorem q2779 : (Jvm.Cond.privateMethod ({ cls := "TroupeSumsModel", name := "isName", desc := "()Z" } : Jvm.MethodName)) ∈ lw_tbl := lw_at lw_m12 6 rfl
theorem q2780 : (Jvm.Cond.instanceMethod ({ cls := "TroupeSumsModel", name := "isName", desc := "()Z" } : Jvm.MethodName)) ∈ lw_all := lw_g (lw_at lw_m12 7 rfl) rfl
theorem q2781 : (Jvm.Cond.code ({ cls := "TroupeSumsModel", name := "isName", desc := "()Z" } : Jvm.MethodName) prog_16_method_19_code (1 : Nat) (Option.some Jvm.ClassFile.FieldType.boolean)) ∈ lw_all := lw_g (lw_at lw_m12 8 rfl) rfl
theorem q2782 : (Jvm.Cond.constantLong "TroupeSumsModel" (181 : Nat) (1936683636 : Int64)) ∈ lw_all := lw_g (lw_at lw_m12 9 rfl) rfl
theorem q2783 : (Jvm.Cond.methodLink "TroupeSumsModel" (319 : Nat) ({ cls := "TroupeSumsModel", name := "nameAt", desc := "()I" } : Jvm.MethodName)) ∈ lw_all := lw_g (lw_at lw_m12 10 rfl) rfl
theorem q2784 : (Jvm.Cond.privateMethod ({ cls := "TroupeSumsModel", name := "nameAt", desc := "()I" } : Jvm.MethodName)) ∈ lw_tbl := lw_at lw_m12 11 rfl
theorem q2785 : (Jvm.Cond.instanceMethod ({ cls := "TroupeSumsModel", name := "nameAt", desc := "()I" } : Jvm.MethodName)) ∈ lw_all := lw_g (lw_at lw_m12 12 rfl) rfl
theorem q2786 : (Jvm.Cond.code ({ cls := "TroupeSumsModel", name := "nameAt", desc := "()I" } : Jvm.MethodName) prog_16_method_51_code (2 : Nat) (Option.some Jvm.ClassFile.FieldType.int)) ∈ lw_all := lw_g (lw_at lw_m12 13 rfl) rfl
theorem q2787 : (Jvm.Cond.methodLink "TroupeSumsModel" (358 : Nat) ({ cls := "TroupeSumsModel", name := "formula", desc := "()V" } : Jvm.MethodName)) ∈ lw_all := lw_g (lw_at lw_m12 14 rfl) rfl
theorem q2788 : (Jvm.Cond.privateMethod ({ cls := "TroupeSumsModel", name := "formula", desc := "()V" } : Jvm.MethodName)) ∈ lw_tbl := lw_at lw_m12 15 rfl
theorem q2789 : (Jvm.Cond.instanceMethod ({ cls := "TroupeSumsModel", name := "formula", desc := "()V" } : Jvm.MethodName)) ∈ lw_all := lw_g (lw_at lw_m12 16 rfl) rfl
theorem q2790 : (Jvm.Cond.code ({ cls := "TroupeSumsModel", name := "formula", desc := "()V" } : Jvm.MethodName) prog_16_method_58_code (2 : Nat) (Option.none : Option Jvm.ClassFile.FieldType)) ∈ lw_all := lw_g (lw_at lw_m12 17 rfl) rfl
theorem q2791 : (Jvm.Cond.methodLink "TroupeSumsModel" (343 : Nat) ({ cls := "TroupeSumsModel", name := "operand", desc := "()Z" } : Jvm.MethodName)) ∈ lw_all := lw_g (lw_at lw_m12 18 rfl) rfl
theorem q2792 : (Jvm.Cond.privateMethod ({ cls := "TroupeSumsModel", name := "operand", desc := "()Z" } : Jvm.MethodName)) ∈ lw_tbl := lw_at lw_m12 19 rfl
theorem q2793 : (Jvm.Cond.instanceMethod ({ cls := "TroupeSumsModel", name := "operand", desc := "()Z" } : Jvm.MethodName)) ∈ lw_all := lw_g (lw_at lw_m12 20 rfl) rfl
theorem q2794 : (Jvm.Cond.code ({ cls := "TroupeSumsModel", name := "operand", desc := "()Z" } : Jvm.MethodName) prog_16_method_52_code (3 : Nat) (Option.some Jvm.ClassFile.FieldType.boolean)) ∈ lw_all := lw_g (lw_at lw_m12 21 rfl) rfl
theorem q2795 : (Jvm.Cond.methodLink "TroupeSumsModel" (302 : Nat) ({ cls := "TroupeSumsModel", name := "countsUnit", desc := "()V" } : Jvm.MethodName)) ∈ lw_all := lw_g (lw_at lw_m12 22 rfl) rfl
theorem q2796 : (Jvm.Cond.privateMethod ({ cls := "TroupeSumsModel", name := "countsUnit", desc := "()V" } : Jvm.MethodName)) ∈ lw_tbl := lw_at lw_m12 23 rfl
theorem q2797 : (Jvm.Cond.instanceMethod ({ cls := "TroupeSumsModel", name := "countsUnit", desc := "()V" } : Jvm.MethodName)) ∈ lw_all := lw_g (lw_at lw_m12 24 rfl) rfl
theorem q2798 : (Jvm.Cond.code ({ cls := "TroupeSumsModel", name := "countsUnit", desc := "()V" } : Jvm.MethodName) prog_16_method_50_code (1 : Nat) (Option.none : Option Jvm.ClassFile.FieldType)) ∈ lw_all := lw_g (lw_at lw_m12 25 rfl) rfl
theorem q2799 : (Jvm.Cond.methodLink "TroupeSumsModel" (308 : Nat) ({ cls := "TroupeSumsModel", name := "lays", desc := "(IJ)V" } : Jvm.MethodName)) ∈ lw_all := lw_g (lw_at lw_m12 26 rfl) rfl
theorem q2800 : (Jvm.Cond.privateMethod ({ cls := "TroupeSumsModel", name := "lays", desc := "(IJ)V" } : Jvm.MethodName)) ∈ lw_tbl := lw_at lw_m12 27 rfl
theorem q2801 : (Jvm.Cond.instanceMethod ({ cls := "TroupeSumsModel", name := "lays", desc := "(IJ)V" } : Jvm.MethodName)) ∈ lw_all := lw_g (lw_at lw_m12 28 rfl) rfl
theorem q2802 : (Jvm.Cond.code ({ cls := "TroupeSumsModel", name := "lays", desc := "(IJ)V" } : Jvm.MethodName) prog_16_method_42_code (5 : Nat) (Option.none : Option Jvm.ClassFile.FieldType)) ∈ lw_all := lw_g (lw_at lw_m12 29 rfl) rfl
theorem q2803 : (Jvm.Cond.methodLink "TroupeSumsModel" (279 : Nat) ({ cls := "TroupeSumsModel", name := "looks", desc := "()V" } : Jvm.MethodName)) ∈ lw_all := lw_g (lw_at lw_m12 30 rfl) rfl
theorem q2804 : (Jvm.Cond.privateMethod ({ cls := "TroupeSumsModel", name := "looks", desc := "()V" } : Jvm.MethodName)) ∈ lw_tbl := lw_at lw_m12 31 rfl
theorem q2805 : (Jvm.Cond.instanceMethod ({ cls := "TroupeSumsModel", name := "looks", desc := "()V" } : Jvm.MethodName)) ∈ lw_all := lw_g (lw_at lw_m12 32 rfl) rfl
theorem q2806 : (Jvm.Cond.code ({ cls := "TroupeSumsModel", name := "looks", desc := "()V" } : Jvm.MethodName) prog_16_method_41_code (2 : Nat) (Option.none : Option Jvm.ClassFile.FieldType)) ∈ lw_all := lw_g (lw_at lw_m12 33 rfl) rfl
theorem q2807 : (Jvm.Cond.methodLink "TroupeSumsModel" (271 : Nat) ({ cls := "TroupeSumsModel", name := "isFit", desc := "([JI)Z" } : Jvm.MethodName)) ∈ lw_all := lw_g (lw_at lw_m12 34 rfl) rfl
theorem q2808 : (Jvm.Cond.privateMethod ({ cls := "TroupeSumsModel", name := "isFit", desc := "([JI)Z" } : Jvm.MethodName)) ∈ lw_tbl := lw_at lw_m12 35 rfl
theorem q2809 : (Jvm.Cond.instanceMethod ({ cls := "TroupeSumsModel", name := "isFit", desc := "([JI)Z" } : Jvm.MethodName)) ∈ lw_all := lw_g (lw_at lw_m12 36 rfl) rfl
theorem q2810 : (Jvm.Cond.code ({ cls := "TroupeSumsModel", name := "isFit", desc := "([JI)Z" } : Jvm.MethodName) prog_16_method_40_code (5 : Nat) (Option.some Jvm.ClassFile.FieldType.boolean)) ∈ lw_all := lw_g (lw_at lw_m12 37 rfl) rfl
theorem q2811 : (Jvm.Cond.constantLong "TroupeSumsModel" (260 : Nat) (-1000000000000 : Int64)) ∈ lw_all := lw_g (lw_at lw_m12 38 rfl) rfl
theorem q2812 : (Jvm.Cond.constantLong "TroupeSumsModel" (262 : Nat) (1000000000000 : Int64)) ∈ lw_all := lw_g (lw_at lw_m12 39 rfl) rfl
theorem q2813 : (Jvm.Cond.methodLink "TroupeSumsModel" (264 : Nat) ({ cls := "TroupeSumsModel", name := "markAt", desc := "([JII)J" } : Jvm.MethodName)) ∈ lw_all := lw_g (lw_at lw_m12 40 rfl) rfl
theorem q2814 : (Jvm.Cond.privateMethod ({ cls := "TroupeSumsModel", name := "markAt", desc := "([JII)J" } : Jvm.MethodName)) ∈ lw_tbl := lw_at lw_m12 41 rfl
theorem q2815 : (Jvm.Cond.instanceMethod ({ cls := "TroupeSumsModel", name := "markAt", desc := "([JII)J" } : Jvm.MethodName)) ∈ lw_all := lw_g (lw_at lw_m12 42 rfl) rfl
theorem q2816 : (Jvm.Cond.code ({ cls := "TroupeSumsModel", name := "markAt", desc := "([JII)J" } : Jvm.MethodName) prog_16_method_39_code (7 : Nat) (Option.some Jvm.ClassFile.FieldType.long)) ∈ lw_all := lw_g (lw_at lw_m12 43 rfl) rfl
theorem q2817 : (Jvm.Cond.methodLink "TroupeSumsModel" (346 : Nat) ({ cls := "TroupeSumsModel", name := "closes", desc := "()V" } : Jvm.MethodName)) ∈ lw_all := lw_g (lw_at lw_m12 44 rfl) rfl
theorem q2818 : (Jvm.Cond.privateMethod ({ cls := "TroupeSumsModel", name := "closes", desc := "()V" } : Jvm.MethodName)) ∈ lw_tbl := lw_at lw_m12 45 rfl
theorem q2819 : (Jvm.Cond.instanceMethod ({ cls := "TroupeSumsModel", name := "closes", desc := "()V" } : Jvm.MethodName)) ∈ lw_all := lw_g (lw_at lw_m12 46 rfl) rfl
theorem q2820 : (Jvm.Cond.code ({ cls := "TroupeSumsModel", name := "closes", desc := "()V" } : Jvm.MethodName) prog_16_method_53_code (2 : Nat) (Option.none : Option Jvm.ClassFile.FieldType)) ∈ lw_all := lw_g (lw_at lw_m12 47 rfl) rfl
theorem q2821 : (Jvm.Cond.methodLink "TroupeSumsModel" (325 : Nat) ({ cls := "TroupeSumsModel", name := "powers", desc := "(I)V" } : Jvm.MethodName)) ∈ lw_all := lw_g (lw_at lw_m12 48 rfl) rfl
theorem q2822 : (Jvm.Cond.privateMethod ({ cls := "TroupeSumsModel", name := "powers", desc := "(I)V" } : Jvm.MethodName)) ∈ lw_tbl := lw_at lw_m12 49 rfl
theorem q2823 : (Jvm.Cond.instanceMethod ({ cls := "TroupeSumsModel", name := "powers", desc := "(I)V" } : Jvm.MethodName)) ∈ lw_all := lw_g (lw_at lw_m12 50 rfl) rfl
theorem q2824 : (Jvm.Cond.code ({ cls := "TroupeSumsModel", name := "powers", desc := "(I)V" } : Jvm.MethodName) prog_16_method_48_code (3 : Nat) (Option.none : Option Jvm.ClassFile.FieldType)) ∈ lw_all := lw_g (lw_at lw_m12 51 rfl) rfl
theorem q2825 : (Jvm.Cond.methodLink "TroupeSumsModel" (282 : Nat) ({ cls := "TroupeSumsModel", name := "marksOf", desc := "(I[J)V" } : Jvm.MethodName)) ∈ lw_all := lw_g (lw_at lw_m12 52 rfl) rfl
theorem q2826 : (Jvm.Cond.privateMethod ({ cls := "TroupeSumsModel", name := "marksOf", desc := "(I[J)V" } : Jvm.MethodName)) ∈ lw_tbl := lw_at lw_m12 53 rfl
theorem q2827 : (Jvm.Cond.instanceMethod ({ cls := "TroupeSumsModel", name := "marksOf", desc := "(I[J)V" } : Jvm.MethodName)) ∈ lw_all := lw_g (lw_at lw_m12 54 rfl) rfl
theorem q2828 : (Jvm.Cond.code ({ cls := "TroupeSumsModel", name := "marksOf", desc := "(I[J)V" } : Jvm.MethodName) prog_16_method_45_code (4 : Nat) (Option.none : Option Jvm.ClassFile.FieldType)) ∈ lw_all := lw_g (lw_at lw_m12 55 rfl) rfl
theorem q2829 : (Jvm.Cond.methodLink "TroupeSumsModel" (286 : Nat) ({ cls := "TroupeSumsModel", name := "multiplies", desc := "()V" } : Jvm.MethodName)) ∈ lw_all := lw_g (lw_at lw_m12 56 rfl) rfl
theorem q2830 : (Jvm.Cond.privateMethod ({ cls := "TroupeSumsModel", name := "multiplies", desc := "()V" } : Jvm.MethodName)) ∈ lw_tbl := lw_at lw_m12 57 rfl
theorem q2831 : (Jvm.Cond.instanceMethod ({ cls := "TroupeSumsModel", name := "multiplies", desc := "()V" } : Jvm.MethodName)) ∈ lw_all := lw_g (lw_at lw_m12 58 rfl) rfl
theorem q2832 : (Jvm.Cond.code ({ cls := "TroupeSumsModel", name := "multiplies", desc := "()V" } : Jvm.MethodName) prog_16_method_44_code (6 : Nat) (Option.none : Option Jvm.ClassFile.FieldType)) ∈ lw_all := lw_g (lw_at lw_m12 59 rfl) rfl
theorem q2833 : (Jvm.Cond.methodLink "TroupeSumsModel" (289 : Nat) ({ cls := "TroupeSumsModel", name := "numbers", desc := "([J[JI)V" } : Jvm.MethodName)) ∈ lw_all := lw_g (lw_at lw_m12 60 rfl) rfl
theorem q2834 : (Jvm.Cond.privateMethod ({ cls := "TroupeSumsModel", name := "numbers", desc := "([J[JI)V" } : Jvm.MethodName)) ∈ lw_tbl := lw_at lw_m12 61 rfl
theorem q2835 : (Jvm.Cond.instanceMethod ({ cls := "TroupeSumsModel", name := "numbers", desc := "([J[JI)V" } : Jvm.MethodName)) ∈ lw_all := lw_g (lw_at lw_m12 62 rfl) rfl
theorem q2836 : (Jvm.Cond.code ({ cls := "TroupeSumsModel", name := "numbers", desc := "([J[JI)V" } : Jvm.MethodName) prog_16_method_43_code (8 : Nat) (Option.none : Option Jvm.ClassFile.FieldType)) ∈ lw_all := lw_g (lw_at lw_m12 63 rfl) rfl
theorem q2837 : (Jvm.Cond.methodLink "TroupeSumsModel" (328 : Nat) ({ cls := "TroupeSumsModel", name := "negates", desc := "()V" } : Jvm.MethodName)) ∈ lw_all := lw_g (lw_at lw_m12 64 rfl) rfl
theorem q2838 : (Jvm.Cond.privateMethod ({ cls := "TroupeSumsModel", name := "negates", desc := "()V" } : Jvm.MethodName)) ∈ lw_tbl := lw_at lw_m12 65 rfl
theorem q2839 : (Jvm.Cond.instanceMethod ({ cls := "TroupeSumsModel", name := "negates", desc := "()V" } : Jvm.MethodName)) ∈ lw_all := lw_g (lw_at lw_m12 66 rfl) rfl
theorem q2840 : (Jvm.Cond.code ({ cls := "TroupeSumsModel", name := "negates", desc := "()V" } : Jvm.MethodName) prog_16_method_49_code (2 : Nat) (Option.none : Option Jvm.ClassFile.FieldType)) ∈ lw_all := lw_g (lw_at lw_m12 67 rfl) rfl
theorem q2841 : (Jvm.Cond.methodLink "TroupeSumsModel" (349 : Nat) ({ cls := "TroupeSumsModel", name := "goesOn", desc := "()Z" } : Jvm.MethodName)) ∈ lw_all := lw_g (lw_at lw_m12 68 rfl) rfl
theorem q2842 : (Jvm.Cond.privateMethod ({ cls := "TroupeSumsModel", name := "goesOn", desc := "()Z" } : Jvm.MethodName)) ∈ lw_tbl := lw_at lw_m12 69 rfl
theorem q2843 : (Jvm.Cond.instanceMethod ({ cls := "TroupeSumsModel", name := "goesOn", desc := "()Z" } : Jvm.MethodName)) ∈ lw_all := lw_g (lw_at lw_m12 70 rfl) rfl
theorem q2844 : (Jvm.Cond.code ({ cls := "TroupeSumsModel", name := "goesOn", desc := "()Z" } : Jvm.MethodName) prog_16_method_56_code (1 : Nat) (Option.some Jvm.ClassFile.FieldType.boolean)) ∈ lw_all := lw_g (lw_at lw_m12 71 rfl) rfl
theorem q2845 : (Jvm.Cond.methodLink "TroupeSumsModel" (340 : Nat) ({ cls := "TroupeSumsModel", name := "waitsFor", desc := "(I)V" } : Jvm.MethodName)) ∈ lw_all := lw_g (lw_at lw_m12 72 rfl) rfl
theorem q2846 : (Jvm.Cond.privateMethod ({ cls := "TroupeSumsModel", name := "waitsFor", desc := "(I)V" } : Jvm.MethodName)) ∈ lw_tbl := lw_at lw_m12 73 rfl
theorem q2847 : (Jvm.Cond.instanceMethod ({ cls := "TroupeSumsModel", name := "waitsFor", desc := "(I)V" } : Jvm.MethodName)) ∈ lw_all := lw_g (lw_at lw_m12 74 rfl) rfl
theorem q2848 : (Jvm.Cond.code ({ cls := "TroupeSumsModel", name := "waitsFor", desc := "(I)V" } : Jvm.MethodName) prog_16_method_55_code (2 : Nat) (Option.none : Option Jvm.ClassFile.FieldType)) ∈ lw_all := lw_g (lw_at lw_m12 75 rfl) rfl
theorem q2849 : (Jvm.Cond.methodLink "TroupeSumsModel" (337 : Nat) ({ cls := "TroupeSumsModel", name := "works", desc := "(I)V" } : Jvm.MethodName)) ∈ lw_all := lw_g (lw_at lw_m12 76 rfl) rfl
theorem q2850 : (Jvm.Cond.privateMethod ({ cls := "TroupeSumsModel", name := "works", desc := "(I)V" } : Jvm.MethodName)) ∈ lw_tbl := lw_at lw_m12 77 rfl
theorem q2851 : (Jvm.Cond.instanceMethod ({ cls := "TroupeSumsModel", name := "works", desc := "(I)V" } : Jvm.MethodName)) ∈ lw_all := lw_g (lw_at lw_m12 78 rfl) rfl
theorem q2852 : (Jvm.Cond.code ({ cls := "TroupeSumsModel", name := "works", desc := "(I)V" } : Jvm.MethodName) prog_16_method_54_code (3 : Nat) (Option.none : Option Jvm.ClassFile.FieldType)) ∈ lw_all := lw_g (lw_at lw_m12 79 rfl) rfl
theorem q2853 : (Jvm.Cond.methodLink "TroupeSumsModel" (331 : Nat) ({ cls := "TroupeSumsModel", name := "timesTwo", desc := "()V" } : Jvm.MethodName)) ∈ lw_all := lw_g (lw_at lw_m12 80 rfl) rfl
theorem q2854 : (Jvm.Cond.privateMethod ({ cls := "TroupeSumsModel", name := "timesTwo", desc := "()V" } : Jvm.MethodName)) ∈ lw_tbl := lw_at lw_m12 81 rfl
theorem q2855 : (Jvm.Cond.instanceMethod ({ cls := "TroupeSumsModel", name := "timesTwo", desc := "()V" } : Jvm.MethodName)) ∈ lw_all := lw_g (lw_at lw_m12 82 rfl) rfl
theorem q2856 : (Jvm.Cond.code ({ cls := "TroupeSumsModel", name := "timesTwo", desc := "()V" } : Jvm.MethodName) prog_16_method_47_code (1 : Nat) (Option.none : Option Jvm.ClassFile.FieldType)) ∈ lw_all := lw_g (lw_at lw_m12 83 rfl) rfl
theorem q2857 : (Jvm.Cond.methodLink "TroupeSumsModel" (334 : Nat) ({ cls := "TroupeSumsModel", name := "adds", desc := "(I)V" } : Jvm.MethodName)) ∈ lw_all := lw_g (lw_at lw_m12 84 rfl) rfl
theorem q2858 : (Jvm.Cond.privateMethod ({ cls := "TroupeSumsModel", name := "adds", desc := "(I)V" } : Jvm.MethodName)) ∈ lw_tbl := lw_at lw_m12 85 rfl
theorem q2859 : (Jvm.Cond.instanceMethod ({ cls := "TroupeSumsModel", name := "adds", desc := "(I)V" } : Jvm.MethodName)) ∈ lw_all := lw_g (lw_at lw_m12 86 rfl) rfl
theorem q2860 : (Jvm.Cond.code ({ cls := "TroupeSumsModel", name := "adds", desc := "(I)V" } : Jvm.MethodName) prog_16_method_46_code (3 : Nat) (Option.none : Option Jvm.ClassFile.FieldType)) ∈ lw_all := lw_g (lw_at lw_m12 87 rfl) rfl
theorem q2861 : (Jvm.Cond.methodLink "TroupeSumsModel" (352 : Nat) ({ cls := "TroupeSumsModel", name := "isOpen", desc := "()Z" } : Jvm.MethodName)) ∈ lw_all := lw_g (lw_at lw_m12 88 rfl) rfl
theorem q2862 : (Jvm.Cond.privateMethod ({ cls := "TroupeSumsModel", name := "isOpen", desc := "()Z" } : Jvm.MethodName)) ∈ lw_tbl := lw_at lw_m12 89 rfl
theorem q2863 : (Jvm.Cond.instanceMethod ({ cls := "TroupeSumsModel", name := "isOpen", desc := "()Z" } : Jvm.MethodName)) ∈ lw_all := lw_g (lw_at lw_m12 90 rfl) rfl
theorem q2864 : (Jvm.Cond.code ({ cls := "TroupeSumsModel", name := "isOpen", desc := "()Z" } : Jvm.MethodName) prog_16_method_57_code (2 : Nat) (Option.some Jvm.ClassFile.FieldType.boolean)) ∈ lw_all := lw_g (lw_at lw_m12 91 rfl) rfl
theorem q2865 : (Jvm.Cond.methodLink "TroupeSumsModel" (373 : Nat) ({ cls := "TroupeSumsModel", name := "tells", desc := "()V" } : Jvm.MethodName)) ∈ lw_all := lw_g (lw_at lw_m12 92 rfl) rfl
theorem q2866 : (Jvm.Cond.privateMethod ({ cls := "TroupeSumsModel", name := "tells", desc := "()V" } : Jvm.MethodName)) ∈ lw_tbl := lw_at lw_m12 93 rfl
theorem q2867 : (Jvm.Cond.instanceMethod ({ cls := "TroupeSumsModel", name := "tells", desc := "()V" } : Jvm.MethodName)) ∈ lw_all := lw_g (lw_at lw_m12 94 rfl) rfl
theorem q2868 : (Jvm.Cond.code ({ cls := "TroupeSumsModel", name := "tells", desc := "()V" } : Jvm.MethodName) prog_16_method_64_code (1 : Nat) (Option.none : Option Jvm.ClassFile.FieldType)) ∈ lw_all := lw_g (lw_at lw_m12 95 rfl) rfl
theorem q2869 : (Jvm.Cond.methodLink "TroupeSumsModel" (376 : Nat) ({ cls := "TroupeSumsModel", name := "goesBack", desc := "()V" } : Jvm.MethodName)) ∈ lw_all := lw_g (lw_at lw_m12 96 rfl) rfl
theorem q2870 : (Jvm.Cond.privateMethod ({ cls := "TroupeSumsModel", name := "goesBack", desc := "()V" } : Jvm.MethodName)) ∈ lw_tbl := lw_at lw_m12 97 rfl
theorem q2871 : (Jvm.Cond.instanceMethod ({ cls := "TroupeSumsModel", name := "goesBack", desc := "()V" } : Jvm.MethodName)) ∈ lw_all := lw_g (lw_at lw_m12 98 rfl) rfl
theorem q2872 : (Jvm.Cond.code ({ cls := "TroupeSumsModel", name := "goesBack", desc := "()V" } : Jvm.MethodName) prog_16_method_66_code (2 : Nat) (Option.none : Option Jvm.ClassFile.FieldType)) ∈ lw_all := lw_g (lw_at lw_m12 99 rfl) rfl
theorem q2874 : (Jvm.Cond.instanceMethod ({ cls := "TroupeSumsModel", name := "fault", desc := "(I)I" } : Jvm.MethodName)) ∈ lw_all := lw_g (lw_at lw_m12 101 rfl) rfl
theorem q2875 : (Jvm.Cond.selects "TroupeSumsModel" ({ cls := "TroupeSumsModel", name := "fault", desc := "(I)I" } : Jvm.MethodName) ({ cls := "TroupeSumsModel", name := "fault", desc := "(I)I" } : Jvm.MethodName)) ∈ lw_all := lw_g (lw_at lw_m12 102 rfl) rfl
theorem q2876 : (Jvm.Cond.code ({ cls := "TroupeSumsModel", name := "fault", desc := "(I)I" } : Jvm.MethodName) prog_16_method_67_code (2 : Nat) (Option.some Jvm.ClassFile.FieldType.int)) ∈ lw_all := lw_g (lw_at lw_m12 103 rfl) rfl
theorem q2878 : (Jvm.Cond.instanceMethod ({ cls := "TroupeSumsModel", name := "about", desc := "(I)I" } : Jvm.MethodName)) ∈ lw_all := lw_g (lw_at lw_m12 105 rfl) rfl
theorem q2879 : (Jvm.Cond.selects "TroupeSumsModel" ({ cls := "TroupeSumsModel", name := "about", desc := "(I)I" } : Jvm.MethodName) ({ cls := "TroupeSumsModel", name := "about", desc := "(I)I" } : Jvm.MethodName)) ∈ lw_all := lw_g (lw_at lw_m12 106 rfl) rfl
theorem q2880 : (Jvm.Cond.code ({ cls := "TroupeSumsModel", name := "about", desc := "(I)I" } : Jvm.MethodName) prog_16_method_68_code (2 : Nat) (Option.some Jvm.ClassFile.FieldType.int)) ∈ lw_all := lw_g (lw_at lw_m12 107 rfl) rfl
theorem q2881 : (Jvm.Cond.methodLink "TroupeSumsModel" (397 : Nat) ({ cls := "TroupeSumsModel", name := "areAlike", desc := "(I)Z" } : Jvm.MethodName)) ∈ lw_all := lw_g (lw_at lw_m12 108 rfl) rfl
theorem q2882 : (Jvm.Cond.privateMethod ({ cls := "TroupeSumsModel", name := "areAlike", desc := "(I)Z" } : Jvm.MethodName)) ∈ lw_tbl := lw_at lw_m12 109 rfl
theorem q2883 : (Jvm.Cond.instanceMethod ({ cls := "TroupeSumsModel", name := "areAlike", desc := "(I)Z" } : Jvm.MethodName)) ∈ lw_all := lw_g (lw_at lw_m12 110 rfl) rfl
theorem q2884 : (Jvm.Cond.code ({ cls := "TroupeSumsModel", name := "areAlike", desc := "(I)Z" } : Jvm.MethodName) prog_16_method_69_code (4 : Nat) (Option.some Jvm.ClassFile.FieldType.boolean)) ∈ lw_all := lw_g (lw_at lw_m12 111 rfl) rfl
theorem q2886 : (Jvm.Cond.instanceMethod ({ cls := "TroupeSumsModel", name := "moves", desc := "(II)I" } : Jvm.MethodName)) ∈ lw_all := lw_g (lw_at lw_m12 113 rfl) rfl
theorem q2887 : (Jvm.Cond.selects "TroupeSumsModel" ({ cls := "TroupeSumsModel", name := "moves", desc := "(II)I" } : Jvm.MethodName) ({ cls := "TroupeSumsModel", name := "moves", desc := "(II)I" } : Jvm.MethodName)) ∈ lw_all := lw_g (lw_at lw_m12 114 rfl) rfl
theorem q2888 : (Jvm.Cond.code ({ cls := "TroupeSumsModel", name := "moves", desc := "(II)I" } : Jvm.MethodName) prog_16_method_70_code (3 : Nat) (Option.some Jvm.ClassFile.FieldType.int)) ∈ lw_all := lw_g (lw_at lw_m12 115 rfl) rfl
theorem q2889 : (Jvm.Cond.methodLink "TroupeSumsModel" (400 : Nat) ({ cls := "TroupeSumsModel", name := "isMember", desc := "(I)Z" } : Jvm.MethodName)) ∈ lw_all := lw_g (lw_at lw_m12 116 rfl) rfl
theorem q2890 : (Jvm.Cond.privateMethod ({ cls := "TroupeSumsModel", name := "isMember", desc := "(I)Z" } : Jvm.MethodName)) ∈ lw_tbl := lw_at lw_m12 117 rfl
theorem q2891 : (Jvm.Cond.instanceMethod ({ cls := "TroupeSumsModel", name := "isMember", desc := "(I)Z" } : Jvm.MethodName)) ∈ lw_all := lw_g (lw_at lw_m12 118 rfl) rfl
theorem q2892 : (Jvm.Cond.code ({ cls := "TroupeSumsModel", name := "isMember", desc := "(I)Z" } : Jvm.MethodName) prog_16_method_38_code (2 : Nat) (Option.some Jvm.ClassFile.FieldType.boolean)) ∈ lw_all := lw_g (lw_at lw_m12 119 rfl) rfl
theorem q2894 : (Jvm.Cond.instanceMethod ({ cls := "TroupeSumsModel", name := "times", desc := "(II)I" } : Jvm.MethodName)) ∈ lw_all := lw_g (lw_at lw_m12 121 rfl) rfl
theorem q2895 : (Jvm.Cond.selects "TroupeSumsModel" ({ cls := "TroupeSumsModel", name := "times", desc := "(II)I" } : Jvm.MethodName) ({ cls := "TroupeSumsModel", name := "times", desc := "(II)I" } : Jvm.MethodName)) ∈ lw_all := lw_g (lw_at lw_m12 122 rfl) rfl
theorem q2896 : (Jvm.Cond.code ({ cls := "TroupeSumsModel", name := "times", desc := "(II)I" } : Jvm.MethodName) prog_16_method_71_code (3 : Nat) (Option.some Jvm.ClassFile.FieldType.int)) ∈ lw_all := lw_g (lw_at lw_m12 123 rfl) rfl
theorem q2898 : (Jvm.Cond.instanceMethod ({ cls := "TroupeSumsModel", name := "order", desc := "(I)I" } : Jvm.MethodName)) ∈ lw_all := lw_g (lw_at lw_m12 125 rfl) rfl
theorem q2899 : (Jvm.Cond.selects "TroupeSumsModel" ({ cls := "TroupeSumsModel", name := "order", desc := "(I)I" } : Jvm.MethodName) ({ cls := "TroupeSumsModel", name := "order", desc := "(I)I" } : Jvm.MethodName)) ∈ lw_all := lw_g (lw_at lw_m12 126 rfl) rfl
theorem q2900 : (Jvm.Cond.code ({ cls := "TroupeSumsModel", name := "order", desc := "(I)I" } : Jvm.MethodName) prog_16_method_73_code (2 : Nat) (Option.some Jvm.ClassFile.FieldType.int)) ∈ lw_all := lw_g (lw_at lw_m12 127 rfl) rfl
theorem q2901 : (Jvm.Cond.methodLink "TroupeSumsModel" (403 : Nat) ({ cls := "TroupeSumsModel", name := "timesOf", desc := "(I)I" } : Jvm.MethodName)) ∈ lw_all := lw_g (lw_at lw_m12 128 rfl) rfl
theorem q2902 : (Jvm.Cond.privateMethod ({ cls := "TroupeSumsModel", name := "timesOf", desc := "(I)I" } : Jvm.MethodName)) ∈ lw_tbl := lw_at lw_m12 129 rfl
theorem q2903 : (Jvm.Cond.instanceMethod ({ cls := "TroupeSumsModel", name := "timesOf", desc := "(I)I" } : Jvm.MethodName)) ∈ lw_all := lw_g (lw_at lw_m12 130 rfl) rfl
theorem q2904 : (Jvm.Cond.code ({ cls := "TroupeSumsModel", name := "timesOf", desc := "(I)I" } : Jvm.MethodName) prog_16_method_72_code (4 : Nat) (Option.some Jvm.ClassFile.FieldType.int)) ∈ lw_all := lw_g (lw_at lw_m12 131 rfl) rfl
theorem q2906 : (Jvm.Cond.instanceMethod ({ cls := "TroupeSumsModel", name := "orders", desc := "(I)I" } : Jvm.MethodName)) ∈ lw_all := lw_g (lw_at lw_m12 133 rfl) rfl
theorem q2907 : (Jvm.Cond.selects "TroupeSumsModel" ({ cls := "TroupeSumsModel", name := "orders", desc := "(I)I" } : Jvm.MethodName) ({ cls := "TroupeSumsModel", name := "orders", desc := "(I)I" } : Jvm.MethodName)) ∈ lw_all := lw_g (lw_at lw_m12 134 rfl) rfl
theorem q2908 : (Jvm.Cond.code ({ cls := "TroupeSumsModel", name := "orders", desc := "(I)I" } : Jvm.MethodName) prog_16_method_74_code (4 : Nat) (Option.some Jvm.ClassFile.FieldType.int)) ∈ lw_all := lw_g (lw_at lw_m12 135 rfl) rfl
theorem q2909 : (Jvm.Cond.constantLong "TroupeSumsModel" (406 : Nat) (24 : Int64)) ∈ lw_all := lw_g (lw_at lw_m12 136 rfl) rfl
theorem q2911 : (Jvm.Cond.instanceMethod ({ cls := "TroupeSumsModel", name := "alike", desc := "()I" } : Jvm.MethodName)) ∈ lw_all := lw_g (lw_at lw_m12 138 rfl) rfl
theorem q2912 : (Jvm.Cond.selects "TroupeSumsModel" ({ cls := "TroupeSumsModel", name := "alike", desc := "()I" } : Jvm.MethodName) ({ cls := "TroupeSumsModel", name := "alike", desc := "()I" } : Jvm.MethodName)) ∈ lw_all := lw_g (lw_at lw_m12 139 rfl) rfl
theorem q2913 : (Jvm.Cond.code ({ cls := "TroupeSumsModel", name := "alike", desc := "()I" } : Jvm.MethodName) prog_16_method_75_code (4 : Nat) (Option.some Jvm.ClassFile.FieldType.int)) ∈ lw_all := lw_g (lw_at lw_m12 140 rfl) rfl
theorem q2915 : (Jvm.Cond.instanceMethod ({ cls := "TroupeSumsModel", name := "makesOf", desc := "(I)I" } : Jvm.MethodName)) ∈ lw_all := lw_g (lw_at lw_m12 142 rfl) rfl
theorem q2916 : (Jvm.Cond.selects "TroupeSumsModel" ({ cls := "TroupeSumsModel", name := "makesOf", desc := "(I)I" } : Jvm.MethodName) ({ cls := "TroupeSumsModel", name := "makesOf", desc := "(I)I" } : Jvm.MethodName)) ∈ lw_all := lw_g (lw_at lw_m12 143 rfl) rfl
theorem q2917 : (Jvm.Cond.code ({ cls := "TroupeSumsModel", name := "makesOf", desc := "(I)I" } : Jvm.MethodName) prog_16_method_77_code (2 : Nat) (Option.some Jvm.ClassFile.FieldType.int)) ∈ lw_all := lw_g (lw_at lw_m12 144 rfl) rfl
theorem q2918 : (Jvm.Cond.methodLink "TroupeSumsModel" (408 : Nat) ({ cls := "TroupeSumsModel", name := "areMembers", desc := "(I)Z" } : Jvm.MethodName)) ∈ lw_all := lw_g (lw_at lw_m12 145 rfl) rfl
theorem q2919 : (Jvm.Cond.privateMethod ({ cls := "TroupeSumsModel", name := "areMembers", desc := "(I)Z" } : Jvm.MethodName)) ∈ lw_tbl := lw_at lw_m12 146 rfl
theorem q2920 : (Jvm.Cond.instanceMethod ({ cls := "TroupeSumsModel", name := "areMembers", desc := "(I)Z" } : Jvm.MethodName)) ∈ lw_all := lw_g (lw_at lw_m12 147 rfl) rfl
theorem q2921 : (Jvm.Cond.code ({ cls := "TroupeSumsModel", name := "areMembers", desc := "(I)Z" } : Jvm.MethodName) prog_16_method_76_code (2 : Nat) (Option.some Jvm.ClassFile.FieldType.boolean)) ∈ lw_all := lw_g (lw_at lw_m12 148 rfl) rfl
theorem q2923 : (Jvm.Cond.instanceMethod ({ cls := "TroupeSumsModel", name := "sortOf", desc := "(I)I" } : Jvm.MethodName)) ∈ lw_all := lw_g (lw_at lw_m12 150 rfl) rfl
theorem q2924 : (Jvm.Cond.selects "TroupeSumsModel" ({ cls := "TroupeSumsModel", name := "sortOf", desc := "(I)I" } : Jvm.MethodName) ({ cls := "TroupeSumsModel", name := "sortOf", desc := "(I)I" } : Jvm.MethodName)) ∈ lw_all := lw_g (lw_at lw_m12 151 rfl) rfl
theorem q2925 : (Jvm.Cond.code ({ cls := "TroupeSumsModel", name := "sortOf", desc := "(I)I" } : Jvm.MethodName) prog_16_method_78_code (2 : Nat) (Option.some Jvm.ClassFile.FieldType.int)) ∈ lw_all := lw_g (lw_at lw_m12 152 rfl) rfl
theorem q2926 : (Jvm.Cond.methodLink "TroupeSumsModel" (411 : Nat) ({ cls := "TroupeSumsModel", name := "sortOfSet", desc := "(I)I" } : Jvm.MethodName)) ∈ lw_all := lw_g (lw_at lw_m12 153 rfl) rfl
theorem q2927 : (Jvm.Cond.privateMethod ({ cls := "TroupeSumsModel", name := "sortOfSet", desc := "(I)I" } : Jvm.MethodName)) ∈ lw_tbl := lw_at lw_m12 154 rfl
theorem q2928 : (Jvm.Cond.instanceMethod ({ cls := "TroupeSumsModel", name := "sortOfSet", desc := "(I)I" } : Jvm.MethodName)) ∈ lw_all := lw_g (lw_at lw_m12 155 rfl) rfl
theorem q2929 : (Jvm.Cond.code ({ cls := "TroupeSumsModel", name := "sortOfSet", desc := "(I)I" } : Jvm.MethodName) prog_16_method_36_code (2 : Nat) (Option.some Jvm.ClassFile.FieldType.int)) ∈ lw_all := lw_g (lw_at lw_m12 156 rfl) rfl
theorem q2931 : (Jvm.Cond.instanceMethod ({ cls := "TroupeSumsModel", name := "sort", desc := "(II)I" } : Jvm.MethodName)) ∈ lw_all := lw_g (lw_at lw_m12 158 rfl) rfl
theorem q2932 : (Jvm.Cond.selects "TroupeSumsModel" ({ cls := "TroupeSumsModel", name := "sort", desc := "(II)I" } : Jvm.MethodName) ({ cls := "TroupeSumsModel", name := "sort", desc := "(II)I" } : Jvm.MethodName)) ∈ lw_all := lw_g (lw_at lw_m12 159 rfl) rfl
theorem q2933 : (Jvm.Cond.code ({ cls := "TroupeSumsModel", name := "sort", desc := "(II)I" } : Jvm.MethodName) prog_16_method_81_code (3 : Nat) (Option.some Jvm.ClassFile.FieldType.int)) ∈ lw_all := lw_g (lw_at lw_m12 160 rfl) rfl
theorem q2934 : (Jvm.Cond.methodLink "TroupeSumsModel" (414 : Nat) ({ cls := "TroupeSumsModel", name := "isSort", desc := "(I)Z" } : Jvm.MethodName)) ∈ lw_all := lw_g (lw_at lw_m12 161 rfl) rfl
theorem q2935 : (Jvm.Cond.privateMethod ({ cls := "TroupeSumsModel", name := "isSort", desc := "(I)Z" } : Jvm.MethodName)) ∈ lw_tbl := lw_at lw_m12 162 rfl
theorem q2936 : (Jvm.Cond.instanceMethod ({ cls := "TroupeSumsModel", name := "isSort", desc := "(I)Z" } : Jvm.MethodName)) ∈ lw_all := lw_g (lw_at lw_m12 163 rfl) rfl
theorem q2937 : (Jvm.Cond.code ({ cls := "TroupeSumsModel", name := "isSort", desc := "(I)Z" } : Jvm.MethodName) prog_16_method_37_code (2 : Nat) (Option.some Jvm.ClassFile.FieldType.boolean)) ∈ lw_all := lw_g (lw_at lw_m12 164 rfl) rfl
theorem q2938 : (Jvm.Cond.methodLink "TroupeSumsModel" (417 : Nat) ({ cls := "TroupeSumsModel", name := "normOf", desc := "(I)I" } : Jvm.MethodName)) ∈ lw_all := lw_g (lw_at lw_m12 165 rfl) rfl
theorem q2939 : (Jvm.Cond.privateMethod ({ cls := "TroupeSumsModel", name := "normOf", desc := "(I)I" } : Jvm.MethodName)) ∈ lw_tbl := lw_at lw_m12 166 rfl
theorem q2940 : (Jvm.Cond.instanceMethod ({ cls := "TroupeSumsModel", name := "normOf", desc := "(I)I" } : Jvm.MethodName)) ∈ lw_all := lw_g (lw_at lw_m12 167 rfl) rfl
theorem q2941 : (Jvm.Cond.code ({ cls := "TroupeSumsModel", name := "normOf", desc := "(I)I" } : Jvm.MethodName) prog_16_method_79_code (4 : Nat) (Option.some Jvm.ClassFile.FieldType.int)) ∈ lw_all := lw_g (lw_at lw_m12 168 rfl) rfl
theorem q2942 : (Jvm.Cond.methodLink "TroupeSumsModel" (420 : Nat) ({ cls := "TroupeSumsModel", name := "isOfOne", desc := "(I)Z" } : Jvm.MethodName)) ∈ lw_all := lw_g (lw_at lw_m12 169 rfl) rfl
theorem q2943 : (Jvm.Cond.privateMethod ({ cls := "TroupeSumsModel", name := "isOfOne", desc := "(I)Z" } : Jvm.MethodName)) ∈ lw_tbl := lw_at lw_m12 170 rfl
theorem q2944 : (Jvm.Cond.instanceMethod ({ cls := "TroupeSumsModel", name := "isOfOne", desc := "(I)Z" } : Jvm.MethodName)) ∈ lw_all := lw_g (lw_at lw_m12 171 rfl) rfl
theorem q2945 : (Jvm.Cond.code ({ cls := "TroupeSumsModel", name := "isOfOne", desc := "(I)Z" } : Jvm.MethodName) prog_16_method_80_code (3 : Nat) (Option.some Jvm.ClassFile.FieldType.boolean)) ∈ lw_all := lw_g (lw_at lw_m12 172 rfl) rfl
theorem q2947 : (Jvm.Cond.instanceMethod ({ cls := "TroupeSumsModel", name := "meet", desc := "(II)I" } : Jvm.MethodName)) ∈ lw_all := lw_g (lw_at lw_m12 174 rfl) rfl
theorem q2948 : (Jvm.Cond.selects "TroupeSumsModel" ({ cls := "TroupeSumsModel", name := "meet", desc := "(II)I" } : Jvm.MethodName) ({ cls := "TroupeSumsModel", name := "meet", desc := "(II)I" } : Jvm.MethodName)) ∈ lw_all := lw_g (lw_at lw_m12 175 rfl) rfl
theorem q2949 : (Jvm.Cond.code ({ cls := "TroupeSumsModel", name := "meet", desc := "(II)I" } : Jvm.MethodName) prog_16_method_82_code (3 : Nat) (Option.some Jvm.ClassFile.FieldType.int)) ∈ lw_all := lw_g (lw_at lw_m12 176 rfl) rfl
theorem q2951 : (Jvm.Cond.instanceMethod ({ cls := "TroupeSumsModel", name := "join", desc := "(II)I" } : Jvm.MethodName)) ∈ lw_all := lw_g (lw_at lw_m12 178 rfl) rfl
theorem q2952 : (Jvm.Cond.selects "TroupeSumsModel" ({ cls := "TroupeSumsModel", name := "join", desc := "(II)I" } : Jvm.MethodName) ({ cls := "TroupeSumsModel", name := "join", desc := "(II)I" } : Jvm.MethodName)) ∈ lw_all := lw_g (lw_at lw_m12 179 rfl) rfl
theorem q2953 : (Jvm.Cond.code ({ cls := "TroupeSumsModel", name := "join", desc := "(II)I" } : Jvm.MethodName) prog_16_method_83_code (3 : Nat) (Option.some Jvm.ClassFile.FieldType.int)) ∈ lw_all := lw_g (lw_at lw_m12 180 rfl) rfl
theorem q2955 : (Jvm.Cond.instanceMethod ({ cls := "TroupeSumsModel", name := "within", desc := "(II)I" } : Jvm.MethodName)) ∈ lw_all := lw_g (lw_at lw_m12 182 rfl) rfl
theorem q2956 : (Jvm.Cond.selects "TroupeSumsModel" ({ cls := "TroupeSumsModel", name := "within", desc := "(II)I" } : Jvm.MethodName) ({ cls := "TroupeSumsModel", name := "within", desc := "(II)I" } : Jvm.MethodName)) ∈ lw_all := lw_g (lw_at lw_m12 183 rfl) rfl
theorem q2957 : (Jvm.Cond.code ({ cls := "TroupeSumsModel", name := "within", desc := "(II)I" } : Jvm.MethodName) prog_16_method_84_code (5 : Nat) (Option.some Jvm.ClassFile.FieldType.int)) ∈ lw_all := lw_g (lw_at lw_m12 184 rfl) rfl
theorem q2959 : (Jvm.Cond.instanceMethod ({ cls := "TroupeSumsModel", name := "mark", desc := "(II)I" } : Jvm.MethodName)) ∈ lw_all := lw_g (lw_at lw_m12 186 rfl) rfl
theorem q2960 : (Jvm.Cond.selects "TroupeSumsModel" ({ cls := "TroupeSumsModel", name := "mark", desc := "(II)I" } : Jvm.MethodName) ({ cls := "TroupeSumsModel", name := "mark", desc := "(II)I" } : Jvm.MethodName)) ∈ lw_all := lw_g (lw_at lw_m12 187 rfl) rfl
theorem q2961 : (Jvm.Cond.code ({ cls := "TroupeSumsModel", name := "mark", desc := "(II)I" } : Jvm.MethodName) prog_16_method_85_code (3 : Nat) (Option.some Jvm.ClassFile.FieldType.int)) ∈ lw_all := lw_g (lw_at lw_m12 188 rfl) rfl
theorem q2963 : (Jvm.Cond.instanceMethod ({ cls := "TroupeSumsModel", name := "product", desc := "(III)I" } : Jvm.MethodName)) ∈ lw_all := lw_g (lw_at lw_m12 190 rfl) rfl
theorem q2964 : (Jvm.Cond.selects "TroupeSumsModel" ({ cls := "TroupeSumsModel", name := "product", desc := "(III)I" } : Jvm.MethodName) ({ cls := "TroupeSumsModel", name := "product", desc := "(III)I" } : Jvm.MethodName)) ∈ lw_all := lw_g (lw_at lw_m12 191 rfl) rfl
theorem q2965 : (Jvm.Cond.code ({ cls := "TroupeSumsModel", name := "product", desc := "(III)I" } : Jvm.MethodName) prog_16_method_87_code (4 : Nat) (Option.some Jvm.ClassFile.FieldType.int)) ∈ lw_all := lw_g (lw_at lw_m12 192 rfl) rfl
theorem q2966 : (Jvm.Cond.methodLink "TroupeSumsModel" (423 : Nat) ({ cls := "TroupeSumsModel", name := "worksProduct", desc := "(II)V" } : Jvm.MethodName)) ∈ lw_all := lw_g (lw_at lw_m12 193 rfl) rfl
theorem q2967 : (Jvm.Cond.privateMethod ({ cls := "TroupeSumsModel", name := "worksProduct", desc := "(II)V" } : Jvm.MethodName)) ∈ lw_tbl := lw_at lw_m12 194 rfl
theorem q2968 : (Jvm.Cond.instanceMethod ({ cls := "TroupeSumsModel", name := "worksProduct", desc := "(II)V" } : Jvm.MethodName)) ∈ lw_all := lw_g (lw_at lw_m12 195 rfl) rfl
theorem q2969 : (Jvm.Cond.code ({ cls := "TroupeSumsModel", name := "worksProduct", desc := "(II)V" } : Jvm.MethodName) prog_16_method_86_code (4 : Nat) (Option.none : Option Jvm.ClassFile.FieldType)) ∈ lw_all := lw_g (lw_at lw_m12 196 rfl) rfl
theorem q2971 : (Jvm.Cond.instanceMethod ({ cls := "TroupeSumsModel", name := "pairs", desc := "(II)I" } : Jvm.MethodName)) ∈ lw_all := lw_g (lw_at lw_m12 198 rfl) rfl
theorem q2972 : (Jvm.Cond.selects "TroupeSumsModel" ({ cls := "TroupeSumsModel", name := "pairs", desc := "(II)I" } : Jvm.MethodName) ({ cls := "TroupeSumsModel", name := "pairs", desc := "(II)I" } : Jvm.MethodName)) ∈ lw_all := lw_g (lw_at lw_m12 199 rfl) rfl
theorem q2973 : (Jvm.Cond.code ({ cls := "TroupeSumsModel", name := "pairs", desc := "(II)I" } : Jvm.MethodName) prog_16_method_88_code (6 : Nat) (Option.some Jvm.ClassFile.FieldType.int)) ∈ lw_all := lw_g (lw_at lw_m12 200 rfl) rfl
theorem q2975 : (Jvm.Cond.instanceMethod ({ cls := "TroupeSumsModel", name := "residue", desc := "(II)I" } : Jvm.MethodName)) ∈ lw_all := lw_g (lw_at lw_m12 202 rfl) rfl
theorem q2976 : (Jvm.Cond.selects "TroupeSumsModel" ({ cls := "TroupeSumsModel", name := "residue", desc := "(II)I" } : Jvm.MethodName) ({ cls := "TroupeSumsModel", name := "residue", desc := "(II)I" } : Jvm.MethodName)) ∈ lw_all := lw_g (lw_at lw_m12 203 rfl) rfl
theorem q2977 : (Jvm.Cond.code ({ cls := "TroupeSumsModel", name := "residue", desc := "(II)I" } : Jvm.MethodName) prog_16_method_91_code (3 : Nat) (Option.some Jvm.ClassFile.FieldType.int)) ∈ lw_all := lw_g (lw_at lw_m12 204 rfl) rfl
theorem q2978 : (Jvm.Cond.methodLink "TroupeSumsModel" (426 : Nat) ({ cls := "TroupeSumsModel", name := "isPrime", desc := "(I)Z" } : Jvm.MethodName)) ∈ lw_all := lw_g (lw_at lw_m12 205 rfl) rfl
theorem q2979 : (Jvm.Cond.static ({ cls := "TroupeSumsModel", name := "isPrime", desc := "(I)Z" } : Jvm.MethodName)) ∈ lw_all := lw_g (lw_at lw_m12 206 rfl) rfl
theorem q2980 : (Jvm.Cond.code ({ cls := "TroupeSumsModel", name := "isPrime", desc := "(I)Z" } : Jvm.MethodName) prog_16_method_89_code (1 : Nat) (Option.some Jvm.ClassFile.FieldType.boolean)) ∈ lw_all := lw_g (lw_at lw_m12 207 rfl) rfl
theorem q2981 : (Jvm.Cond.methodLink "TroupeSumsModel" (429 : Nat) ({ cls := "TroupeSumsModel", name := "residueOf", desc := "(II)I" } : Jvm.MethodName)) ∈ lw_all := lw_g (lw_at lw_m12 208 rfl) rfl
theorem q2982 : (Jvm.Cond.privateMethod ({ cls := "TroupeSumsModel", name := "residueOf", desc := "(II)I" } : Jvm.MethodName)) ∈ lw_tbl := lw_at lw_m12 209 rfl
theorem q2983 : (Jvm.Cond.instanceMethod ({ cls := "TroupeSumsModel", name := "residueOf", desc := "(II)I" } : Jvm.MethodName)) ∈ lw_all := lw_g (lw_at lw_m12 210 rfl) rfl
theorem q2984 : (Jvm.Cond.code ({ cls := "TroupeSumsModel", name := "residueOf", desc := "(II)I" } : Jvm.MethodName) prog_16_method_90_code (9 : Nat) (Option.some Jvm.ClassFile.FieldType.int)) ∈ lw_all := lw_g (lw_at lw_m12 211 rfl) rfl
theorem q2986 : (Jvm.Cond.instanceMethod ({ cls := "TroupeSumsModel", name := "block", desc := "(II)I" } : Jvm.MethodName)) ∈ lw_all := lw_g (lw_at lw_m12 213 rfl) rfl
theorem q2987 : (Jvm.Cond.selects "TroupeSumsModel" ({ cls := "TroupeSumsModel", name := "block", desc := "(II)I" } : Jvm.MethodName) ({ cls := "TroupeSumsModel", name := "block", desc := "(II)I" } : Jvm.MethodName)) ∈ lw_all := lw_g (lw_at lw_m12 214 rfl) rfl
theorem q2988 : (Jvm.Cond.code ({ cls := "TroupeSumsModel", name := "block", desc := "(II)I" } : Jvm.MethodName) prog_16_method_93_code (3 : Nat) (Option.some Jvm.ClassFile.FieldType.int)) ∈ lw_all := lw_g (lw_at lw_m12 215 rfl) rfl
theorem q2989 : (Jvm.Cond.methodLink "TroupeSumsModel" (432 : Nat) ({ cls := "TroupeSumsModel", name := "blockOf", desc := "(II)I" } : Jvm.MethodName)) ∈ lw_all := lw_g (lw_at lw_m12 216 rfl) rfl
theorem q2990 : (Jvm.Cond.privateMethod ({ cls := "TroupeSumsModel", name := "blockOf", desc := "(II)I" } : Jvm.MethodName)) ∈ lw_tbl := lw_at lw_m12 217 rfl
theorem q2991 : (Jvm.Cond.instanceMethod ({ cls := "TroupeSumsModel", name := "blockOf", desc := "(II)I" } : Jvm.MethodName)) ∈ lw_all := lw_g (lw_at lw_m12 218 rfl) rfl
theorem q2992 : (Jvm.Cond.code ({ cls := "TroupeSumsModel", name := "blockOf", desc := "(II)I" } : Jvm.MethodName) prog_16_method_92_code (6 : Nat) (Option.some Jvm.ClassFile.FieldType.int)) ∈ lw_all := lw_g (lw_at lw_m12 219 rfl) rfl
theorem q2994 : (Jvm.Cond.instanceMethod ({ cls := "TroupeSumsModel", name := "keeper", desc := "(I)I" } : Jvm.MethodName)) ∈ lw_all := lw_g (lw_at lw_m12 221 rfl) rfl
theorem q2995 : (Jvm.Cond.selects "TroupeSumsModel" ({ cls := "TroupeSumsModel", name := "keeper", desc := "(I)I" } : Jvm.MethodName) ({ cls := "TroupeSumsModel", name := "keeper", desc := "(I)I" } : Jvm.MethodName)) ∈ lw_all := lw_g (lw_at lw_m12 222 rfl) rfl
theorem q2996 : (Jvm.Cond.code ({ cls := "TroupeSumsModel", name := "keeper", desc := "(I)I" } : Jvm.MethodName) prog_16_method_94_code (4 : Nat) (Option.some Jvm.ClassFile.FieldType.int)) ∈ lw_all := lw_g (lw_at lw_m12 223 rfl) rfl
theorem q2998 : (Jvm.Cond.instanceMethod ({ cls := "TroupeSumsModel", name := "orbit", desc := "(I)I" } : Jvm.MethodName)) ∈ lw_all := lw_g (lw_at lw_m12 225 rfl) rfl
theorem q2999 : (Jvm.Cond.selects "TroupeSumsModel" ({ cls := "TroupeSumsModel", name := "orbit", desc := "(I)I" } : Jvm.MethodName) ({ cls := "TroupeSumsModel", name := "orbit", desc := "(I)I" } : Jvm.MethodName)) ∈ lw_all := lw_g (lw_at lw_m12 226 rfl) rfl
theorem q3000 : (Jvm.Cond.code ({ cls := "TroupeSumsModel", name := "orbit", desc := "(I)I" } : Jvm.MethodName) prog_16_method_95_code (4 : Nat) (Option.some Jvm.ClassFile.FieldType.int)) ∈ lw_all := lw_g (lw_at lw_m12 227 rfl) rfl
theorem q3002 : (Jvm.Cond.instanceMethod ({ cls := "TroupeSumsModel", name := "coset", desc := "(II)I" } : Jvm.MethodName)) ∈ lw_all := lw_g (lw_at lw_m12 229 rfl) rfl
theorem q3003 : (Jvm.Cond.selects "TroupeSumsModel" ({ cls := "TroupeSumsModel", name := "coset", desc := "(II)I" } : Jvm.MethodName) ({ cls := "TroupeSumsModel", name := "coset", desc := "(II)I" } : Jvm.MethodName)) ∈ lw_all := lw_g (lw_at lw_m12 230 rfl) rfl
theorem q3004 : (Jvm.Cond.code ({ cls := "TroupeSumsModel", name := "coset", desc := "(II)I" } : Jvm.MethodName) prog_16_method_96_code (3 : Nat) (Option.some Jvm.ClassFile.FieldType.int)) ∈ lw_all := lw_g (lw_at lw_m12 231 rfl) rfl
theorem q3006 : (Jvm.Cond.instanceMethod ({ cls := "TroupeSumsModel", name := "takes", desc := "(III)I" } : Jvm.MethodName)) ∈ lw_all := lw_g (lw_at lw_m12 233 rfl) rfl
theorem q3007 : (Jvm.Cond.selects "TroupeSumsModel" ({ cls := "TroupeSumsModel", name := "takes", desc := "(III)I" } : Jvm.MethodName) ({ cls := "TroupeSumsModel", name := "takes", desc := "(III)I" } : Jvm.MethodName)) ∈ lw_all := lw_g (lw_at lw_m12 234 rfl) rfl
theorem q3008 : (Jvm.Cond.code ({ cls := "TroupeSumsModel", name := "takes", desc := "(III)I" } : Jvm.MethodName) prog_16_method_97_code (4 : Nat) (Option.some Jvm.ClassFile.FieldType.int)) ∈ lw_all := lw_g (lw_at lw_m12 235 rfl) rfl
theorem q3010 : (Jvm.Cond.instanceMethod ({ cls := "TroupeSumsModel", name := "moebius", desc := "(I)I" } : Jvm.MethodName)) ∈ lw_all := lw_g (lw_at lw_m12 237 rfl) rfl
theorem q3011 : (Jvm.Cond.selects "TroupeSumsModel" ({ cls := "TroupeSumsModel", name := "moebius", desc := "(I)I" } : Jvm.MethodName) ({ cls := "TroupeSumsModel", name := "moebius", desc := "(I)I" } : Jvm.MethodName)) ∈ lw_all := lw_g (lw_at lw_m12 238 rfl) rfl
theorem q3012 : (Jvm.Cond.code ({ cls := "TroupeSumsModel", name := "moebius", desc := "(I)I" } : Jvm.MethodName) prog_16_method_98_code (5 : Nat) (Option.some Jvm.ClassFile.FieldType.int)) ∈ lw_all := lw_g (lw_at lw_m12 239 rfl) rfl
theorem q3013 : (Jvm.Cond.constant "TroupeSumsModel" (435 : Nat) (-1000000 : Int32)) ∈ lw_all := lw_g (lw_at lw_m13 0 rfl) rfl
theorem q3015 : (Jvm.Cond.instanceMethod ({ cls := "TroupeSumsModel", name := "mixed", desc := "(I)I" } : Jvm.MethodName)) ∈ lw_all := lw_g (lw_at lw_m13 2 rfl) rfl
theorem q3016 : (Jvm.Cond.selects "TroupeSumsModel" ({ cls := "TroupeSumsModel", name := "mixed", desc := "(I)I" } : Jvm.MethodName) ({ cls := "TroupeSumsModel", name := "mixed", desc := "(I)I" } : Jvm.MethodName)) ∈ lw_all := lw_g (lw_at lw_m13 3 rfl) rfl
theorem q3017 : (Jvm.Cond.code ({ cls := "TroupeSumsModel", name := "mixed", desc := "(I)I" } : Jvm.MethodName) prog_16_method_99_code (5 : Nat) (Option.some Jvm.ClassFile.FieldType.int)) ∈ lw_all := lw_g (lw_at lw_m13 4 rfl) rfl
theorem q3019 : (Jvm.Cond.instanceMethod ({ cls := "TroupeSumsModel", name := "centre", desc := "(I)I" } : Jvm.MethodName)) ∈ lw_all := lw_g (lw_at lw_m13 6 rfl) rfl
theorem q3020 : (Jvm.Cond.selects "TroupeSumsModel" ({ cls := "TroupeSumsModel", name := "centre", desc := "(I)I" } : Jvm.MethodName) ({ cls := "TroupeSumsModel", name := "centre", desc := "(I)I" } : Jvm.MethodName)) ∈ lw_all := lw_g (lw_at lw_m13 7 rfl) rfl
theorem q3021 : (Jvm.Cond.code ({ cls := "TroupeSumsModel", name := "centre", desc := "(I)I" } : Jvm.MethodName) prog_16_method_100_code (6 : Nat) (Option.some Jvm.ClassFile.FieldType.int)) ∈ lw_all := lw_g (lw_at lw_m13 8 rfl) rfl
theorem q3023 : (Jvm.Cond.instanceMethod ({ cls := "TroupeSumsModel", name := "likes", desc := "(I)I" } : Jvm.MethodName)) ∈ lw_all := lw_g (lw_at lw_m13 10 rfl) rfl
theorem q3024 : (Jvm.Cond.selects "TroupeSumsModel" ({ cls := "TroupeSumsModel", name := "likes", desc := "(I)I" } : Jvm.MethodName) ({ cls := "TroupeSumsModel", name := "likes", desc := "(I)I" } : Jvm.MethodName)) ∈ lw_all := lw_g (lw_at lw_m13 11 rfl) rfl
theorem q3025 : (Jvm.Cond.code ({ cls := "TroupeSumsModel", name := "likes", desc := "(I)I" } : Jvm.MethodName) prog_16_method_101_code (4 : Nat) (Option.some Jvm.ClassFile.FieldType.int)) ∈ lw_all := lw_g (lw_at lw_m13 12 rfl) rfl
theorem q3027 : (Jvm.Cond.instanceMethod ({ cls := "TroupeSumsModel", name := "peak", desc := "(III)I" } : Jvm.MethodName)) ∈ lw_all := lw_g (lw_at lw_m13 14 rfl) rfl
theorem q3028 : (Jvm.Cond.selects "TroupeSumsModel" ({ cls := "TroupeSumsModel", name := "peak", desc := "(III)I" } : Jvm.MethodName) ({ cls := "TroupeSumsModel", name := "peak", desc := "(III)I" } : Jvm.MethodName)) ∈ lw_all := lw_g (lw_at lw_m13 15 rfl) rfl
theorem q3029 : (Jvm.Cond.code ({ cls := "TroupeSumsModel", name := "peak", desc := "(III)I" } : Jvm.MethodName) prog_16_method_105_code (4 : Nat) (Option.some Jvm.ClassFile.FieldType.int)) ∈ lw_all := lw_g (lw_at lw_m13 16 rfl) rfl
theorem q3030 : (Jvm.Cond.methodLink "TroupeSumsModel" (450 : Nat) ({ cls := "TroupeSumsModel", name := "peaks", desc := "(I)V" } : Jvm.MethodName)) ∈ lw_all := lw_g (lw_at lw_m13 17 rfl) rfl
theorem q3031 : (Jvm.Cond.privateMethod ({ cls := "TroupeSumsModel", name := "peaks", desc := "(I)V" } : Jvm.MethodName)) ∈ lw_tbl := lw_at lw_m13 18 rfl
theorem q3032 : (Jvm.Cond.instanceMethod ({ cls := "TroupeSumsModel", name := "peaks", desc := "(I)V" } : Jvm.MethodName)) ∈ lw_all := lw_g (lw_at lw_m13 19 rfl) rfl
theorem q3033 : (Jvm.Cond.code ({ cls := "TroupeSumsModel", name := "peaks", desc := "(I)V" } : Jvm.MethodName) prog_16_method_104_code (9 : Nat) (Option.none : Option Jvm.ClassFile.FieldType)) ∈ lw_all := lw_g (lw_at lw_m13 20 rfl) rfl
theorem q3034 : (Jvm.Cond.methodLink "TroupeSumsModel" (446 : Nat) ({ cls := "TroupeSumsModel", name := "sumWith", desc := "(JJ)V" } : Jvm.MethodName)) ∈ lw_all := lw_g (lw_at lw_m13 21 rfl) rfl
theorem q3035 : (Jvm.Cond.privateMethod ({ cls := "TroupeSumsModel", name := "sumWith", desc := "(JJ)V" } : Jvm.MethodName)) ∈ lw_tbl := lw_at lw_m13 22 rfl
theorem q3036 : (Jvm.Cond.instanceMethod ({ cls := "TroupeSumsModel", name := "sumWith", desc := "(JJ)V" } : Jvm.MethodName)) ∈ lw_all := lw_g (lw_at lw_m13 23 rfl) rfl
theorem q3037 : (Jvm.Cond.code ({ cls := "TroupeSumsModel", name := "sumWith", desc := "(JJ)V" } : Jvm.MethodName) prog_16_method_103_code (11 : Nat) (Option.none : Option Jvm.ClassFile.FieldType)) ∈ lw_all := lw_g (lw_at lw_m13 24 rfl) rfl
theorem q3038 : (Jvm.Cond.methodLink "TroupeSumsModel" (442 : Nat) ({ cls := "TroupeSumsModel", name := "divisor", desc := "(JJ)J" } : Jvm.MethodName)) ∈ lw_all := lw_g (lw_at lw_m13 25 rfl) rfl
theorem q3039 : (Jvm.Cond.static ({ cls := "TroupeSumsModel", name := "divisor", desc := "(JJ)J" } : Jvm.MethodName)) ∈ lw_all := lw_g (lw_at lw_m13 26 rfl) rfl
theorem q3040 : (Jvm.Cond.code ({ cls := "TroupeSumsModel", name := "divisor", desc := "(JJ)J" } : Jvm.MethodName) prog_16_method_102_code (10 : Nat) (Option.some Jvm.ClassFile.FieldType.long)) ∈ lw_all := lw_g (lw_at lw_m13 27 rfl) rfl
theorem q3042 : (Jvm.Cond.instanceMethod ({ cls := "TroupeSumsModel", name := "local", desc := "(IIII)I" } : Jvm.MethodName)) ∈ lw_all := lw_g (lw_at lw_m13 29 rfl) rfl
theorem q3043 : (Jvm.Cond.selects "TroupeSumsModel" ({ cls := "TroupeSumsModel", name := "local", desc := "(IIII)I" } : Jvm.MethodName) ({ cls := "TroupeSumsModel", name := "local", desc := "(IIII)I" } : Jvm.MethodName)) ∈ lw_all := lw_g (lw_at lw_m13 30 rfl) rfl
theorem q3044 : (Jvm.Cond.code ({ cls := "TroupeSumsModel", name := "local", desc := "(IIII)I" } : Jvm.MethodName) prog_16_method_106_code (11 : Nat) (Option.some Jvm.ClassFile.FieldType.int)) ∈ lw_all := lw_g (lw_at lw_m13 31 rfl) rfl
theorem q3046 : (Jvm.Cond.instanceMethod ({ cls := "TroupeSumsModel", name := "units", desc := "()I" } : Jvm.MethodName)) ∈ lw_all := lw_g (lw_at lw_m13 33 rfl) rfl
theorem q3047 : (Jvm.Cond.selects "TroupeSumsModel" ({ cls := "TroupeSumsModel", name := "units", desc := "()I" } : Jvm.MethodName) ({ cls := "TroupeSumsModel", name := "units", desc := "()I" } : Jvm.MethodName)) ∈ lw_all := lw_g (lw_at lw_m13 34 rfl) rfl
theorem q3048 : (Jvm.Cond.code ({ cls := "TroupeSumsModel", name := "units", desc := "()I" } : Jvm.MethodName) prog_16_method_111_code (1 : Nat) (Option.some Jvm.ClassFile.FieldType.int)) ∈ lw_all := lw_g (lw_at lw_m13 35 rfl) rfl
theorem q3049 : (Jvm.Cond.methodLink "TroupeSumsModel" (465 : Nat) ({ cls := "TroupeSumsModel", name := "laysUnits", desc := "()V" } : Jvm.MethodName)) ∈ lw_all := lw_g (lw_at lw_m13 36 rfl) rfl
theorem q3050 : (Jvm.Cond.privateMethod ({ cls := "TroupeSumsModel", name := "laysUnits", desc := "()V" } : Jvm.MethodName)) ∈ lw_tbl := lw_at lw_m13 37 rfl
theorem q3051 : (Jvm.Cond.instanceMethod ({ cls := "TroupeSumsModel", name := "laysUnits", desc := "()V" } : Jvm.MethodName)) ∈ lw_all := lw_g (lw_at lw_m13 38 rfl) rfl
theorem q3052 : (Jvm.Cond.code ({ cls := "TroupeSumsModel", name := "laysUnits", desc := "()V" } : Jvm.MethodName) prog_16_method_110_code (6 : Nat) (Option.none : Option Jvm.ClassFile.FieldType)) ∈ lw_all := lw_g (lw_at lw_m13 39 rfl) rfl
theorem q3053 : (Jvm.Cond.methodLink "TroupeSumsModel" (456 : Nat) ({ cls := "TroupeSumsModel", name := "laysMade", desc := "(I)V" } : Jvm.MethodName)) ∈ lw_all := lw_g (lw_at lw_m13 40 rfl) rfl
theorem q3054 : (Jvm.Cond.privateMethod ({ cls := "TroupeSumsModel", name := "laysMade", desc := "(I)V" } : Jvm.MethodName)) ∈ lw_tbl := lw_at lw_m13 41 rfl
theorem q3055 : (Jvm.Cond.instanceMethod ({ cls := "TroupeSumsModel", name := "laysMade", desc := "(I)V" } : Jvm.MethodName)) ∈ lw_all := lw_g (lw_at lw_m13 42 rfl) rfl
theorem q3056 : (Jvm.Cond.code ({ cls := "TroupeSumsModel", name := "laysMade", desc := "(I)V" } : Jvm.MethodName) prog_16_method_107_code (5 : Nat) (Option.none : Option Jvm.ClassFile.FieldType)) ∈ lw_all := lw_g (lw_at lw_m13 43 rfl) rfl
theorem q3057 : (Jvm.Cond.methodLink "TroupeSumsModel" (462 : Nat) ({ cls := "TroupeSumsModel", name := "isUnitAt", desc := "(II)Z" } : Jvm.MethodName)) ∈ lw_all := lw_g (lw_at lw_m13 44 rfl) rfl
theorem q3058 : (Jvm.Cond.privateMethod ({ cls := "TroupeSumsModel", name := "isUnitAt", desc := "(II)Z" } : Jvm.MethodName)) ∈ lw_tbl := lw_at lw_m13 45 rfl
theorem q3059 : (Jvm.Cond.instanceMethod ({ cls := "TroupeSumsModel", name := "isUnitAt", desc := "(II)Z" } : Jvm.MethodName)) ∈ lw_all := lw_g (lw_at lw_m13 46 rfl) rfl
theorem q3060 : (Jvm.Cond.code ({ cls := "TroupeSumsModel", name := "isUnitAt", desc := "(II)Z" } : Jvm.MethodName) prog_16_method_109_code (5 : Nat) (Option.some Jvm.ClassFile.FieldType.boolean)) ∈ lw_all := lw_g (lw_at lw_m13 47 rfl) rfl
theorem q3062 : (Jvm.Cond.instanceMethod ({ cls := "TroupeSumsModel", name := "unit", desc := "(II)I" } : Jvm.MethodName)) ∈ lw_all := lw_g (lw_at lw_m13 49 rfl) rfl
theorem q3063 : (Jvm.Cond.selects "TroupeSumsModel" ({ cls := "TroupeSumsModel", name := "unit", desc := "(II)I" } : Jvm.MethodName) ({ cls := "TroupeSumsModel", name := "unit", desc := "(II)I" } : Jvm.MethodName)) ∈ lw_all := lw_g (lw_at lw_m13 50 rfl) rfl
theorem q3064 : (Jvm.Cond.code ({ cls := "TroupeSumsModel", name := "unit", desc := "(II)I" } : Jvm.MethodName) prog_16_method_112_code (4 : Nat) (Option.some Jvm.ClassFile.FieldType.int)) ∈ lw_all := lw_g (lw_at lw_m13 51 rfl) rfl
theorem q3065 : (Jvm.Cond.constantLong "TroupeSumsModel" (468 : Nat) (-1 : Int64)) ∈ lw_all := lw_g (lw_at lw_m13 52 rfl) rfl
theorem q3067 : (Jvm.Cond.instanceMethod ({ cls := "TroupeSumsModel", name := "undo", desc := "()I" } : Jvm.MethodName)) ∈ lw_all := lw_g (lw_at lw_m13 54 rfl) rfl
theorem q3068 : (Jvm.Cond.selects "TroupeSumsModel" ({ cls := "TroupeSumsModel", name := "undo", desc := "()I" } : Jvm.MethodName) ({ cls := "TroupeSumsModel", name := "undo", desc := "()I" } : Jvm.MethodName)) ∈ lw_all := lw_g (lw_at lw_m13 55 rfl) rfl
theorem q3069 : (Jvm.Cond.code ({ cls := "TroupeSumsModel", name := "undo", desc := "()I" } : Jvm.MethodName) prog_16_method_114_code (2 : Nat) (Option.some Jvm.ClassFile.FieldType.int)) ∈ lw_all := lw_g (lw_at lw_m13 56 rfl) rfl
theorem q3071 : (Jvm.Cond.instanceMethod ({ cls := "TroupeSumsModel", name := "named", desc := "(II)J" } : Jvm.MethodName)) ∈ lw_all := lw_g (lw_at lw_m13 58 rfl) rfl
theorem q3072 : (Jvm.Cond.selects "TroupeSumsModel" ({ cls := "TroupeSumsModel", name := "named", desc := "(II)J" } : Jvm.MethodName) ({ cls := "TroupeSumsModel", name := "named", desc := "(II)J" } : Jvm.MethodName)) ∈ lw_all := lw_g (lw_at lw_m13 59 rfl) rfl
theorem q3073 : (Jvm.Cond.code ({ cls := "TroupeSumsModel", name := "named", desc := "(II)J" } : Jvm.MethodName) prog_16_method_116_code (3 : Nat) (Option.some Jvm.ClassFile.FieldType.long)) ∈ lw_all := lw_g (lw_at lw_m13 60 rfl) rfl
theorem q3074 : (Jvm.Cond.constantLong "TroupeSumsModel" (470 : Nat) (-9223372036854775808 : Int64)) ∈ lw_all := lw_g (lw_at lw_m13 61 rfl) rfl
theorem q3076 : (Jvm.Cond.instanceMethod ({ cls := "TroupeSumsModel", name := "has", desc := "(I)J" } : Jvm.MethodName)) ∈ lw_all := lw_g (lw_at lw_m13 63 rfl) rfl
theorem q3077 : (Jvm.Cond.selects "TroupeSumsModel" ({ cls := "TroupeSumsModel", name := "has", desc := "(I)J" } : Jvm.MethodName) ({ cls := "TroupeSumsModel", name := "has", desc := "(I)J" } : Jvm.MethodName)) ∈ lw_all := lw_g (lw_at lw_m13 64 rfl) rfl
theorem q3078 : (Jvm.Cond.code ({ cls := "TroupeSumsModel", name := "has", desc := "(I)J" } : Jvm.MethodName) prog_16_method_117_code (2 : Nat) (Option.some Jvm.ClassFile.FieldType.long)) ∈ lw_all := lw_g (lw_at lw_m13 65 rfl) rfl
theorem q3080 : (Jvm.Cond.instanceMethod ({ cls := "TroupeSumsModel", name := "marked", desc := "(I)J" } : Jvm.MethodName)) ∈ lw_all := lw_g (lw_at lw_m13 67 rfl) rfl
theorem q3081 : (Jvm.Cond.selects "TroupeSumsModel" ({ cls := "TroupeSumsModel", name := "marked", desc := "(I)J" } : Jvm.MethodName) ({ cls := "TroupeSumsModel", name := "marked", desc := "(I)J" } : Jvm.MethodName)) ∈ lw_all := lw_g (lw_at lw_m13 68 rfl) rfl
theorem q3082 : (Jvm.Cond.code ({ cls := "TroupeSumsModel", name := "marked", desc := "(I)J" } : Jvm.MethodName) prog_16_method_118_code (2 : Nat) (Option.some Jvm.ClassFile.FieldType.long)) ∈ lw_all := lw_g (lw_at lw_m13 69 rfl) rfl
theorem q3084 : (Jvm.Cond.instanceMethod ({ cls := "TroupeSumsModel", name := "character", desc := "(I)J" } : Jvm.MethodName)) ∈ lw_all := lw_g (lw_at lw_m13 71 rfl) rfl
theorem q3085 : (Jvm.Cond.selects "TroupeSumsModel" ({ cls := "TroupeSumsModel", name := "character", desc := "(I)J" } : Jvm.MethodName) ({ cls := "TroupeSumsModel", name := "character", desc := "(I)J" } : Jvm.MethodName)) ∈ lw_all := lw_g (lw_at lw_m13 72 rfl) rfl
theorem q3086 : (Jvm.Cond.code ({ cls := "TroupeSumsModel", name := "character", desc := "(I)J" } : Jvm.MethodName) prog_16_method_119_code (2 : Nat) (Option.some Jvm.ClassFile.FieldType.long)) ∈ lw_all := lw_g (lw_at lw_m13 73 rfl) rfl
theorem q3088 : (Jvm.Cond.instanceMethod ({ cls := "TroupeSumsModel", name := "parts", desc := "()I" } : Jvm.MethodName)) ∈ lw_all := lw_g (lw_at lw_m13 75 rfl) rfl
theorem q3089 : (Jvm.Cond.selects "TroupeSumsModel" ({ cls := "TroupeSumsModel", name := "parts", desc := "()I" } : Jvm.MethodName) ({ cls := "TroupeSumsModel", name := "parts", desc := "()I" } : Jvm.MethodName)) ∈ lw_all := lw_g (lw_at lw_m13 76 rfl) rfl
theorem q3090 : (Jvm.Cond.code ({ cls := "TroupeSumsModel", name := "parts", desc := "()I" } : Jvm.MethodName) prog_16_method_120_code (3 : Nat) (Option.some Jvm.ClassFile.FieldType.int)) ∈ lw_all := lw_g (lw_at lw_m13 77 rfl) rfl
theorem q3092 : (Jvm.Cond.instanceMethod ({ cls := "TroupeSumsModel", name := "congruence", desc := "(I)J" } : Jvm.MethodName)) ∈ lw_all := lw_g (lw_at lw_m13 79 rfl) rfl
theorem q3093 : (Jvm.Cond.selects "TroupeSumsModel" ({ cls := "TroupeSumsModel", name := "congruence", desc := "(I)J" } : Jvm.MethodName) ({ cls := "TroupeSumsModel", name := "congruence", desc := "(I)J" } : Jvm.MethodName)) ∈ lw_all := lw_g (lw_at lw_m13 80 rfl) rfl
theorem q3094 : (Jvm.Cond.code ({ cls := "TroupeSumsModel", name := "congruence", desc := "(I)J" } : Jvm.MethodName) prog_16_method_121_code (2 : Nat) (Option.some Jvm.ClassFile.FieldType.long)) ∈ lw_all := lw_g (lw_at lw_m13 81 rfl) rfl
theorem q3095 : (Jvm.Cond.methodLink "TroupeSumsModel" (472 : Nat) ({ cls := "TroupeSumsModel", name := "laysMarks", desc := "()V" } : Jvm.MethodName)) ∈ lw_all := lw_g (lw_at lw_m13 82 rfl) rfl
theorem q3096 : (Jvm.Cond.privateMethod ({ cls := "TroupeSumsModel", name := "laysMarks", desc := "()V" } : Jvm.MethodName)) ∈ lw_tbl := lw_at lw_m13 83 rfl
theorem q3097 : (Jvm.Cond.instanceMethod ({ cls := "TroupeSumsModel", name := "laysMarks", desc := "()V" } : Jvm.MethodName)) ∈ lw_all := lw_g (lw_at lw_m13 84 rfl) rfl
theorem q3098 : (Jvm.Cond.code ({ cls := "TroupeSumsModel", name := "laysMarks", desc := "()V" } : Jvm.MethodName) prog_16_method_115_code (2 : Nat) (Option.none : Option Jvm.ClassFile.FieldType)) ∈ lw_all := lw_g (lw_at lw_m13 85 rfl) rfl
theorem q3099 : (Jvm.Cond.methodLink "TroupeSumsModel" (475 : Nat) ({ cls := "TroupeSumsModel", name := "congruenceOf", desc := "([JI)J" } : Jvm.MethodName)) ∈ lw_all := lw_g (lw_at lw_m13 86 rfl) rfl
theorem q3100 : (Jvm.Cond.privateMethod ({ cls := "TroupeSumsModel", name := "congruenceOf", desc := "([JI)J" } : Jvm.MethodName)) ∈ lw_tbl := lw_at lw_m13 87 rfl
theorem q3101 : (Jvm.Cond.instanceMethod ({ cls := "TroupeSumsModel", name := "congruenceOf", desc := "([JI)J" } : Jvm.MethodName)) ∈ lw_all := lw_g (lw_at lw_m13 88 rfl) rfl
theorem q3102 : (Jvm.Cond.code ({ cls := "TroupeSumsModel", name := "congruenceOf", desc := "([JI)J" } : Jvm.MethodName) prog_16_method_108_code (6 : Nat) (Option.some Jvm.ClassFile.FieldType.long)) ∈ lw_all := lw_g (lw_at lw_m13 89 rfl) rfl
theorem q3104 : (Jvm.Cond.instanceMethod ({ cls := "TroupeSumsModel", name := "is", desc := "(I)I" } : Jvm.MethodName)) ∈ lw_all := lw_g (lw_at lw_m13 91 rfl) rfl
theorem q3105 : (Jvm.Cond.selects "TroupeSumsModel" ({ cls := "TroupeSumsModel", name := "is", desc := "(I)I" } : Jvm.MethodName) ({ cls := "TroupeSumsModel", name := "is", desc := "(I)I" } : Jvm.MethodName)) ∈ lw_all := lw_g (lw_at lw_m13 92 rfl) rfl
theorem q3106 : (Jvm.Cond.code ({ cls := "TroupeSumsModel", name := "is", desc := "(I)I" } : Jvm.MethodName) prog_16_method_122_code (8 : Nat) (Option.some Jvm.ClassFile.FieldType.int)) ∈ lw_all := lw_g (lw_at lw_m13 93 rfl) rfl
theorem q3107 : (Jvm.Cond.constantLong "TroupeSumsModel" (479 : Nat) (3 : Int64)) ∈ lw_all := lw_g (lw_at lw_m13 94 rfl) rfl
theorem q3109 : (Jvm.Cond.instanceMethod ({ cls := "TroupeSumsModel", name := "makes", desc := "()I" } : Jvm.MethodName)) ∈ lw_all := lw_g (lw_at lw_m13 96 rfl) rfl
theorem q3110 : (Jvm.Cond.selects "TroupeSumsModel" ({ cls := "TroupeSumsModel", name := "makes", desc := "()I" } : Jvm.MethodName) ({ cls := "TroupeSumsModel", name := "makes", desc := "()I" } : Jvm.MethodName)) ∈ lw_all := lw_g (lw_at lw_m13 97 rfl) rfl
theorem q3111 : (Jvm.Cond.code ({ cls := "TroupeSumsModel", name := "makes", desc := "()I" } : Jvm.MethodName) prog_16_method_123_code (2 : Nat) (Option.some Jvm.ClassFile.FieldType.int)) ∈ lw_all := lw_g (lw_at lw_m13 98 rfl) rfl
theorem q3112 : (Jvm.Cond.methodLink "TroupeSumsModel" (481 : Nat) ({ cls := "TroupeSumsModel", name := "act", desc := "()V" } : Jvm.MethodName)) ∈ lw_all := lw_g (lw_at lw_m13 99 rfl) rfl
theorem q3113 : (Jvm.Cond.privateMethod ({ cls := "TroupeSumsModel", name := "act", desc := "()V" } : Jvm.MethodName)) ∈ lw_tbl := lw_at lw_m13 100 rfl
theorem q3114 : (Jvm.Cond.instanceMethod ({ cls := "TroupeSumsModel", name := "act", desc := "()V" } : Jvm.MethodName)) ∈ lw_all := lw_g (lw_at lw_m13 101 rfl) rfl
theorem q3115 : (Jvm.Cond.code ({ cls := "TroupeSumsModel", name := "act", desc := "()V" } : Jvm.MethodName) prog_16_method_113_code (2 : Nat) (Option.none : Option Jvm.ClassFile.FieldType)) ∈ lw_all := lw_g (lw_at lw_m13 102 rfl) rfl
theorem q3116 : (Jvm.Cond.methodLink "TroupeSumsModel" (484 : Nat) ({ cls := "TroupeSumsModel", name := "parts", desc := "()I" } : Jvm.MethodName)) ∈ lw_all := lw_g (lw_at lw_m13 103 rfl) rfl
theorem q3118 : (Jvm.Cond.instanceMethod ({ cls := "TroupeSumsModel", name := "take", desc := "(II)I" } : Jvm.MethodName)) ∈ lw_all := lw_g (lw_at lw_m13 105 rfl) rfl
theorem q3119 : (Jvm.Cond.selects "TroupeSumsModel" ({ cls := "TroupeSumsModel", name := "take", desc := "(II)I" } : Jvm.MethodName) ({ cls := "TroupeSumsModel", name := "take", desc := "(II)I" } : Jvm.MethodName)) ∈ lw_all := lw_g (lw_at lw_m13 106 rfl) rfl
theorem q3120 : (Jvm.Cond.code ({ cls := "TroupeSumsModel", name := "take", desc := "(II)I" } : Jvm.MethodName) prog_16_method_127_code (4 : Nat) (Option.some Jvm.ClassFile.FieldType.int)) ∈ lw_all := lw_g (lw_at lw_m13 107 rfl) rfl
theorem q3121 : (Jvm.Cond.constantLong "TroupeSumsModel" (493 : Nat) (2 : Int64)) ∈ lw_all := lw_g (lw_at lw_m13 108 rfl) rfl
theorem q3122 : (Jvm.Cond.constantLong "TroupeSumsModel" (495 : Nat) (6 : Int64)) ∈ lw_all := lw_g (lw_at lw_m13 109 rfl) rfl
theorem q3123 : (Jvm.Cond.methodLink "TroupeSumsModel" (497 : Nat) ({ cls := "TroupeSumsModel", name := "laysParts", desc := "(I)V" } : Jvm.MethodName)) ∈ lw_all := lw_g (lw_at lw_m13 110 rfl) rfl
theorem q3124 : (Jvm.Cond.privateMethod ({ cls := "TroupeSumsModel", name := "laysParts", desc := "(I)V" } : Jvm.MethodName)) ∈ lw_tbl := lw_at lw_m13 111 rfl
theorem q3125 : (Jvm.Cond.instanceMethod ({ cls := "TroupeSumsModel", name := "laysParts", desc := "(I)V" } : Jvm.MethodName)) ∈ lw_all := lw_g (lw_at lw_m13 112 rfl) rfl
theorem q3126 : (Jvm.Cond.code ({ cls := "TroupeSumsModel", name := "laysParts", desc := "(I)V" } : Jvm.MethodName) prog_16_method_124_code (6 : Nat) (Option.none : Option Jvm.ClassFile.FieldType)) ∈ lw_all := lw_g (lw_at lw_m13 113 rfl) rfl
theorem q3127 : (Jvm.Cond.methodLink "TroupeSumsModel" (500 : Nat) ({ cls := "TroupeSumsModel", name := "fixedBy", desc := "(II)J" } : Jvm.MethodName)) ∈ lw_all := lw_g (lw_at lw_m13 114 rfl) rfl
theorem q3128 : (Jvm.Cond.privateMethod ({ cls := "TroupeSumsModel", name := "fixedBy", desc := "(II)J" } : Jvm.MethodName)) ∈ lw_tbl := lw_at lw_m13 115 rfl
theorem q3129 : (Jvm.Cond.instanceMethod ({ cls := "TroupeSumsModel", name := "fixedBy", desc := "(II)J" } : Jvm.MethodName)) ∈ lw_all := lw_g (lw_at lw_m13 116 rfl) rfl
theorem q3130 : (Jvm.Cond.code ({ cls := "TroupeSumsModel", name := "fixedBy", desc := "(II)J" } : Jvm.MethodName) prog_16_method_126_code (6 : Nat) (Option.some Jvm.ClassFile.FieldType.long)) ∈ lw_all := lw_g (lw_at lw_m13 117 rfl) rfl
theorem q3131 : (Jvm.Cond.methodLink "TroupeSumsModel" (490 : Nat) ({ cls := "TroupeSumsModel", name := "setsOf", desc := "(I)I" } : Jvm.MethodName)) ∈ lw_all := lw_g (lw_at lw_m13 118 rfl) rfl
theorem q3132 : (Jvm.Cond.privateMethod ({ cls := "TroupeSumsModel", name := "setsOf", desc := "(I)I" } : Jvm.MethodName)) ∈ lw_tbl := lw_at lw_m13 119 rfl
theorem q3133 : (Jvm.Cond.instanceMethod ({ cls := "TroupeSumsModel", name := "setsOf", desc := "(I)I" } : Jvm.MethodName)) ∈ lw_all := lw_g (lw_at lw_m13 120 rfl) rfl
theorem q3134 : (Jvm.Cond.code ({ cls := "TroupeSumsModel", name := "setsOf", desc := "(I)I" } : Jvm.MethodName) prog_16_method_125_code (4 : Nat) (Option.some Jvm.ClassFile.FieldType.int)) ∈ lw_all := lw_g (lw_at lw_m13 121 rfl) rfl
theorem q3136 : (Jvm.Cond.instanceMethod ({ cls := "TroupeSumsModel", name := "marks", desc := "()I" } : Jvm.MethodName)) ∈ lw_all := lw_g (lw_at lw_m13 123 rfl) rfl
theorem q3137 : (Jvm.Cond.selects "TroupeSumsModel" ({ cls := "TroupeSumsModel", name := "marks", desc := "()I" } : Jvm.MethodName) ({ cls := "TroupeSumsModel", name := "marks", desc := "()I" } : Jvm.MethodName)) ∈ lw_all := lw_g (lw_at lw_m13 124 rfl) rfl
theorem q3138 : (Jvm.Cond.code ({ cls := "TroupeSumsModel", name := "marks", desc := "()I" } : Jvm.MethodName) prog_16_method_131_code (5 : Nat) (Option.some Jvm.ClassFile.FieldType.int)) ∈ lw_all := lw_g (lw_at lw_m13 125 rfl) rfl
theorem q3139 : (Jvm.Cond.methodLink "TroupeSumsModel" (520 : Nat) ({ cls := "TroupeSumsModel", name := "readsMarks", desc := "(I)Z" } : Jvm.MethodName)) ∈ lw_all := lw_g (lw_at lw_m13 126 rfl) rfl
theorem q3140 : (Jvm.Cond.privateMethod ({ cls := "TroupeSumsModel", name := "readsMarks", desc := "(I)Z" } : Jvm.MethodName)) ∈ lw_tbl := lw_at lw_m13 127 rfl
theorem q3141 : (Jvm.Cond.instanceMethod ({ cls := "TroupeSumsModel", name := "readsMarks", desc := "(I)Z" } : Jvm.MethodName)) ∈ lw_all := lw_g (lw_at lw_m13 128 rfl) rfl
theorem q3142 : (Jvm.Cond.code ({ cls := "TroupeSumsModel", name := "readsMarks", desc := "(I)Z" } : Jvm.MethodName) prog_16_method_130_code (2 : Nat) (Option.some Jvm.ClassFile.FieldType.boolean)) ∈ lw_all := lw_g (lw_at lw_m13 129 rfl) rfl
theorem q3143 : (Jvm.Cond.methodLink "TroupeSumsModel" (514 : Nat) ({ cls := "TroupeSumsModel", name := "isBlank", desc := "(I)Z" } : Jvm.MethodName)) ∈ lw_all := lw_g (lw_at lw_m13 130 rfl) rfl
theorem q3144 : (Jvm.Cond.privateMethod ({ cls := "TroupeSumsModel", name := "isBlank", desc := "(I)Z" } : Jvm.MethodName)) ∈ lw_tbl := lw_at lw_m13 131 rfl
theorem q3145 : (Jvm.Cond.instanceMethod ({ cls := "TroupeSumsModel", name := "isBlank", desc := "(I)Z" } : Jvm.MethodName)) ∈ lw_all := lw_g (lw_at lw_m13 132 rfl) rfl
theorem q3146 : (Jvm.Cond.code ({ cls := "TroupeSumsModel", name := "isBlank", desc := "(I)Z" } : Jvm.MethodName) prog_16_method_129_code (2 : Nat) (Option.some Jvm.ClassFile.FieldType.boolean)) ∈ lw_all := lw_g (lw_at lw_m13 133 rfl) rfl
theorem q3147 : (Jvm.Cond.methodLink "TroupeSumsModel" (517 : Nat) ({ cls := "TroupeSumsModel", name := "readsNumber", desc := "(I)Z" } : Jvm.MethodName)) ∈ lw_all := lw_g (lw_at lw_m13 134 rfl) rfl
theorem q3148 : (Jvm.Cond.privateMethod ({ cls := "TroupeSumsModel", name := "readsNumber", desc := "(I)Z" } : Jvm.MethodName)) ∈ lw_tbl := lw_at lw_m13 135 rfl
theorem q3149 : (Jvm.Cond.instanceMethod ({ cls := "TroupeSumsModel", name := "readsNumber", desc := "(I)Z" } : Jvm.MethodName)) ∈ lw_all := lw_g (lw_at lw_m13 136 rfl) rfl
theorem q3150 : (Jvm.Cond.code ({ cls := "TroupeSumsModel", name := "readsNumber", desc := "(I)Z" } : Jvm.MethodName) prog_16_method_128_code (6 : Nat) (Option.some Jvm.ClassFile.FieldType.boolean)) ∈ lw_all := lw_g (lw_at lw_m13 137 rfl) rfl
theorem q3151 : (Jvm.Cond.constantLong "TroupeSumsModel" (507 : Nat) (10 : Int64)) ∈ lw_all := lw_g (lw_at lw_m13 138 rfl) rfl
theorem q3152 : (Jvm.Cond.constantLong "TroupeSumsModel" (509 : Nat) (48 : Int64)) ∈ lw_all := lw_g (lw_at lw_m13 139 rfl) rfl
theorem q3154 : (Jvm.Cond.instanceMethod ({ cls := "TroupeSumsModel", name := "uses", desc := "(I)I" } : Jvm.MethodName)) ∈ lw_all := lw_g (lw_at lw_m13 141 rfl) rfl
theorem q3155 : (Jvm.Cond.selects "TroupeSumsModel" ({ cls := "TroupeSumsModel", name := "uses", desc := "(I)I" } : Jvm.MethodName) ({ cls := "TroupeSumsModel", name := "uses", desc := "(I)I" } : Jvm.MethodName)) ∈ lw_all := lw_g (lw_at lw_m13 142 rfl) rfl
theorem q3156 : (Jvm.Cond.code ({ cls := "TroupeSumsModel", name := "uses", desc := "(I)I" } : Jvm.MethodName) prog_16_method_132_code (3 : Nat) (Option.some Jvm.ClassFile.FieldType.int)) ∈ lw_all := lw_g (lw_at lw_m13 143 rfl) rfl
theorem q3158 : (Jvm.Cond.instanceMethod ({ cls := "TroupeSumsModel", name := "grows", desc := "(III)J" } : Jvm.MethodName)) ∈ lw_all := lw_g (lw_at lw_m13 145 rfl) rfl
theorem q3159 : (Jvm.Cond.selects "TroupeSumsModel" ({ cls := "TroupeSumsModel", name := "grows", desc := "(III)J" } : Jvm.MethodName) ({ cls := "TroupeSumsModel", name := "grows", desc := "(III)J" } : Jvm.MethodName)) ∈ lw_all := lw_g (lw_at lw_m13 146 rfl) rfl
theorem q3160 : (Jvm.Cond.code ({ cls := "TroupeSumsModel", name := "grows", desc := "(III)J" } : Jvm.MethodName) prog_16_method_133_code (5 : Nat) (Option.some Jvm.ClassFile.FieldType.long)) ∈ lw_all := lw_g (lw_at lw_m13 147 rfl) rfl
theorem q3161 : (Jvm.Cond.constantLong "TroupeSumsModel" (523 : Nat) (-9 : Int64)) ∈ lw_all := lw_g (lw_at lw_m13 148 rfl) rfl
theorem q3162 : (Jvm.Cond.constantLong "TroupeSumsModel" (525 : Nat) (9 : Int64)) ∈ lw_all := lw_g (lw_at lw_m13 149 rfl) rfl
theorem q3163 : (Jvm.Cond.constantLong "TroupeSumsModel" (527 : Nat) (-999 : Int64)) ∈ lw_all := lw_g (lw_at lw_m13 150 rfl) rfl
theorem q3164 : (Jvm.Cond.constantLong "TroupeSumsModel" (529 : Nat) (999 : Int64)) ∈ lw_all := lw_g (lw_at lw_m13 151 rfl) rfl
theorem q3197 : (Jvm.Cond.castable "TroupeSumsModel" "java/lang/Object") ∈ lw_tbl := lw_at lw_m13 184 rfl
theorem in_X6 : ∀ w ∈ wsX60, w ∈ lw_all := lw_in wsX60 [2562, 2564, 2566, 2568, 2570, 2572, 2574, 2576, 2578, 2580, 2582, 2584, 2586, 2588, 2590, 2592, 2594, 2596, 2598, 2600, 2602, 2604, 2606, 2608, 2610, 2612, 2614, 2616, 2618, 2620, 2622, 2624, 2626, 2628, 2630, 2632, 2634, 2636, 2638, 2640, 2642, 2644, 2646, 2648, 2650, 2652, 2654, 2656, 2658, 2660, 2662, 2664, 2666, 2668, 2670, 2672, 2674, 2676, 2678, 2680, 2682, 2684, 2686, 2688, 2690, 2692] (by decide +kernel) (by decide +kernel)
