/-! WeekFootModel -/
set_option maxRecDepth 100000
def RX7 : String := "WeekFootModel"
def TX7 : u_T := fun k => match k with
  | 0 => ("WeekFootModel", "thrown", "I", false)
  | 1 => ("WeekFootModel", "status", "I", false)
  | 2 => ("WeekFootModel", "refusals", "[I", true)
  | 3 => ("WeekFootModel", "row", "[I", true)
  | 4 => ("WeekFootModel", "images", "[I", true)
  | 5 => ("WeekFootModel", "isKept", "[Z", true)
  | 6 => ("WeekFootModel", "blurred", "I", false)
  | 7 => ("WeekFootModel", "tape", "[I", true)
  | 8 => ("WeekFootModel", "taped", "I", false)
  | 9 => ("WeekFootModel", "from", "I", false)
  | 10 => ("WeekFootModel", "to", "I", false)
  | 11 => ("WeekFootModel", "sort", "I", false)
  | 12 => ("WeekFootModel", "worth", "J", false)
  | 13 => ("WeekFootModel", "fault", "I", false)
  | 14 => ("WeekFootModel", "bad", "Z", false)
  | 15 => ("WeekFootModel", "acts", "[I", true)
  | 16 => ("WeekFootModel", "nActs", "I", false)
  | 17 => ("WeekFootModel", "nEntries", "I", false)
  | 18 => ("WeekFootModel", "nShorts", "I", false)
  | 19 => ("WeekFootModel", "first", "[J", true)
  | 20 => ("WeekFootModel", "second", "[J", true)
  | 21 => ("WeekFootModel", "edges", "I", false)
  | 22 => ("WeekFootModel", "edgeFrom", "[I", true)
  | 23 => ("WeekFootModel", "edgeTo", "[I", true)
  | 24 => ("WeekFootModel", "edgeUp", "[I", true)
  | 25 => ("WeekFootModel", "edgeLow", "[I", true)
  | 26 => ("WeekFootModel", "edgeOpen", "[Z", true)
  | 27 => ("WeekFootModel", "keepers", "[I", true)
  | 28 => ("WeekFootModel", "cuts", "[I", true)
  | 29 => ("WeekFootModel", "ups", "[J", true)
  | 30 => ("WeekFootModel", "lows", "[J", true)
  | 31 => ("WeekFootModel", "opens", "[Z", true)
  | 32 => ("WeekFootModel", "there", "[Z", true)
  | 33 => ("WeekFootModel", "thenUps", "[J", true)
  | 34 => ("WeekFootModel", "thenLows", "[J", true)
  | 35 => ("WeekFootModel", "thenOpens", "[Z", true)
  | 36 => ("WeekFootModel", "thenThere", "[Z", true)
  | 37 => ("WeekFootModel", "tryUp", "[J", true)
  | 38 => ("WeekFootModel", "tryLow", "[J", true)
  | 39 => ("WeekFootModel", "tight", "[Z", true)
  | 40 => ("WeekFootModel", "scaled", "[J", true)
  | 41 => ("WeekFootModel", "tried", "[J", true)
  | 42 => ("WeekFootModel", "ones", "[J", true)
  | 43 => ("WeekFootModel", "ends", "[J", true)
  | 44 => ("WeekFootModel", "hasLow", "Z", false)
  | 45 => ("WeekFootModel", "hasHigh", "Z", false)
  | 46 => ("WeekFootModel", "lowCome", "Z", false)
  | 47 => ("WeekFootModel", "highCome", "Z", false)
  | 48 => ("WeekFootModel", "sumUp", "[J", true)
  | 49 => ("WeekFootModel", "sumLow", "[J", true)
  | 50 => ("WeekFootModel", "factor", "[J", true)
  | 51 => ("WeekFootModel", "partly", "[J", true)
  | 52 => ("WeekFootModel", "upper", "[J", true)
  | 53 => ("WeekFootModel", "lower", "[J", true)
  | 54 => ("WeekFootModel", "allThere", "Z", false)
  | 55 => ("WeekFootModel", "allCome", "Z", false)
  | 56 => ("WeekFootModel", "group", "[I", true)
  | 57 => ("WeekFootModel", "asked", "[I", true)
  | 58 => ("WeekFootModel", "nAsked", "I", false)
  | 59 => ("WeekFootModel", "drawn", "[I", true)
  | 60 => ("WeekFootModel", "isDrawn", "Z", false)
  | 61 => ("WeekFootModel", "bought", "I", false)
  | _ => ("WeekFootModel", "sold", "I", false)
def tyX7 : Nat → FieldType := fun k => match k with
  | 0 => .int
  | 1 => .int
  | 2 => .array .int
  | 3 => .array .int
  | 4 => .array .int
  | 5 => .array .boolean
  | 6 => .int
  | 7 => .array .int
  | 8 => .int
  | 9 => .int
  | 10 => .int
  | 11 => .int
  | 12 => .long
  | 13 => .int
  | 14 => .boolean
  | 15 => .array .int
  | 16 => .int
  | 17 => .int
  | 18 => .int
  | 19 => .array .long
  | 20 => .array .long
  | 21 => .int
  | 22 => .array .int
  | 23 => .array .int
  | 24 => .array .int
  | 25 => .array .int
  | 26 => .array .boolean
  | 27 => .array .int
  | 28 => .array .int
  | 29 => .array .long
  | 30 => .array .long
  | 31 => .array .boolean
  | 32 => .array .boolean
  | 33 => .array .long
  | 34 => .array .long
  | 35 => .array .boolean
  | 36 => .array .boolean
  | 37 => .array .long
  | 38 => .array .long
  | 39 => .array .boolean
  | 40 => .array .long
  | 41 => .array .long
  | 42 => .array .long
  | 43 => .array .long
  | 44 => .boolean
  | 45 => .boolean
  | 46 => .boolean
  | 47 => .boolean
  | 48 => .array .long
  | 49 => .array .long
  | 50 => .array .long
  | 51 => .array .long
  | 52 => .array .long
  | 53 => .array .long
  | 54 => .boolean
  | 55 => .boolean
  | 56 => .array .int
  | 57 => .array .int
  | 58 => .int
  | 59 => .array .int
  | 60 => .boolean
  | 61 => .int
  | _ => .int
abbrev wsX70 : List Cond := u_ws RX7 TX7 63
set_option maxRecDepth 100000 in
theorem nmX7 : ∀ a, a < 63 → ∀ b, b < 63 → a ≠ b → (TX7 a).2.1 ≠ (TX7 b).2.1 := by decide +kernel
set_option maxRecDepth 100000 in
theorem tyX7_ok : ∀ k, k < 63 → parseFieldDescriptor (TX7 k).2.2.1 = some (tyX7 k) := by decide +kernel
abbrev cX7_init : ByteArray := prog_16_method_1_code
def yX7_init : MethodName := ⟨RX7, "<init>", "()V"⟩
def dkwX7_init_17 : List UInt8 := [16, 60, 27, 96, 16, 100, 79, 132, 1, 1, 167, 255, 236, 177]
abbrev dktX7_init_17 : List UInt8 := dkwX7_init_17 ++ []
def dkwX7_init_16 : List UInt8 := [16, 42, 27, 96, 2, 79, 132, 1, 1, 167, 255, 237, 3, 60, 27, 16, 16, 162, 0, 20, 42, 180, 0, 13]
abbrev dktX7_init_16 : List UInt8 := dkwX7_init_16 ++ dktX7_init_17
def dkwX7_init_15 : List UInt8 := [16, 10, 27, 96, 2, 79, 132, 1, 1, 167, 255, 237, 3, 60, 27, 16, 6, 162, 0, 19, 42, 180, 0, 13]
abbrev dktX7_init_15 : List UInt8 := dkwX7_init_15 ++ dktX7_init_16
def dkwX7_init_14 : List UInt8 := [181, 0, 127, 42, 16, 32, 188, 10, 181, 0, 130, 3, 60, 27, 16, 32, 162, 0, 19, 42, 180, 0, 13]
abbrev dktX7_init_14 : List UInt8 := dkwX7_init_14 ++ dktX7_init_15
def dkwX7_init_13 : List UInt8 := [181, 0, 118, 42, 6, 188, 11, 181, 0, 121, 42, 16, 16, 188, 10, 181, 0, 124, 42, 6, 188, 10]
abbrev dktX7_init_13 : List UInt8 := dkwX7_init_13 ++ dktX7_init_14
def dkwX7_init_12 : List UInt8 := [181, 0, 109, 42, 16, 10, 188, 11, 181, 0, 112, 42, 16, 10, 188, 11, 181, 0, 115, 42, 6, 188, 11]
abbrev dktX7_init_12 : List UInt8 := dkwX7_init_12 ++ dktX7_init_13
def dkwX7_init_11 : List UInt8 := [181, 0, 100, 42, 16, 20, 188, 11, 181, 0, 103, 42, 16, 10, 188, 11, 181, 0, 106, 42, 16, 10, 188, 11]
abbrev dktX7_init_11 : List UInt8 := dkwX7_init_11 ++ dktX7_init_12
def dkwX7_init_10 : List UInt8 := [42, 8, 188, 11, 89, 3, 10, 80, 89, 4, 9, 80, 89, 5, 9, 80, 89, 6, 9, 80, 89, 7, 9, 80]
abbrev dktX7_init_10 : List UInt8 := dkwX7_init_10 ++ dktX7_init_11
def dkwX7_init_9 : List UInt8 := [17, 1, 0, 188, 4, 181, 0, 91, 42, 16, 10, 188, 11, 181, 0, 94, 42, 16, 10, 188, 11, 181, 0, 97]
abbrev dktX7_init_9 : List UInt8 := dkwX7_init_9 ++ dktX7_init_10
def dkwX7_init_8 : List UInt8 := [16, 16, 188, 4, 181, 0, 82, 42, 8, 188, 11, 181, 0, 85, 42, 8, 188, 11, 181, 0, 88, 42]
abbrev dktX7_init_8 : List UInt8 := dkwX7_init_8 ++ dktX7_init_9
def dkwX7_init_7 : List UInt8 := [16, 80, 188, 11, 181, 0, 73, 42, 16, 80, 188, 11, 181, 0, 76, 42, 16, 16, 188, 4, 181, 0, 79, 42]
abbrev dktX7_init_7 : List UInt8 := dkwX7_init_7 ++ dktX7_init_8
def dkwX7_init_6 : List UInt8 := [16, 80, 188, 11, 181, 0, 64, 42, 16, 16, 188, 4, 181, 0, 67, 42, 16, 16, 188, 4, 181, 0, 70, 42]
abbrev dktX7_init_6 : List UInt8 := dkwX7_init_6 ++ dktX7_init_7
def dkwX7_init_5 : List UInt8 := [16, 32, 188, 10, 181, 0, 55, 42, 16, 6, 188, 10, 181, 0, 58, 42, 16, 80, 188, 11, 181, 0, 61, 42]
abbrev dktX7_init_5 : List UInt8 := dkwX7_init_5 ++ dktX7_init_6
def dkwX7_init_4 : List UInt8 := [16, 60, 188, 10, 181, 0, 46, 42, 16, 60, 188, 10, 181, 0, 49, 42, 16, 60, 188, 4, 181, 0, 52, 42]
abbrev dktX7_init_4 : List UInt8 := dkwX7_init_4 ++ dktX7_init_5
def dkwX7_init_3 : List UInt8 := [16, 10, 188, 11, 181, 0, 37, 42, 16, 60, 188, 10, 181, 0, 40, 42, 16, 60, 188, 10, 181, 0, 43, 42]
abbrev dktX7_init_3 : List UInt8 := dkwX7_init_3 ++ dktX7_init_4
def dkwX7_init_2 : List UInt8 := [42, 2, 181, 0, 26, 42, 17, 3, 232, 188, 10, 181, 0, 30, 42, 16, 10, 188, 11, 181, 0, 33, 42]
abbrev dktX7_init_2 : List UInt8 := dkwX7_init_2 ++ dktX7_init_3
def dkwX7_init_1 : List UInt8 := [17, 1, 144, 188, 10, 181, 0, 16, 42, 5, 188, 4, 181, 0, 19, 42, 17, 1, 144, 188, 10, 181, 0, 23]
abbrev dktX7_init_1 : List UInt8 := dkwX7_init_1 ++ dktX7_init_2
def dkwX7_init_0 : List UInt8 := [42, 183, 0, 1, 42, 16, 7, 188, 10, 181, 0, 7, 42, 17, 0, 200, 188, 10, 181, 0, 13, 42]
abbrev dktX7_init_0 : List UInt8 := dkwX7_init_0 ++ dktX7_init_1
theorem dksX7_init_0 : cX7_init.data.toList.drop 0 = dktX7_init_0 := by decide +kernel
theorem dksX7_init_1 : cX7_init.data.toList.drop 22 = dktX7_init_1 := dk_seg dksX7_init_0 22 rfl rfl
theorem dksX7_init_2 : cX7_init.data.toList.drop 46 = dktX7_init_2 := dk_seg dksX7_init_1 24 rfl rfl
theorem dksX7_init_3 : cX7_init.data.toList.drop 69 = dktX7_init_3 := dk_seg dksX7_init_2 23 rfl rfl
theorem dksX7_init_4 : cX7_init.data.toList.drop 93 = dktX7_init_4 := dk_seg dksX7_init_3 24 rfl rfl
theorem dksX7_init_5 : cX7_init.data.toList.drop 117 = dktX7_init_5 := dk_seg dksX7_init_4 24 rfl rfl
theorem dksX7_init_6 : cX7_init.data.toList.drop 141 = dktX7_init_6 := dk_seg dksX7_init_5 24 rfl rfl
theorem dksX7_init_7 : cX7_init.data.toList.drop 165 = dktX7_init_7 := dk_seg dksX7_init_6 24 rfl rfl
theorem dksX7_init_8 : cX7_init.data.toList.drop 189 = dktX7_init_8 := dk_seg dksX7_init_7 24 rfl rfl
theorem dksX7_init_9 : cX7_init.data.toList.drop 211 = dktX7_init_9 := dk_seg dksX7_init_8 22 rfl rfl
theorem dksX7_init_10 : cX7_init.data.toList.drop 235 = dktX7_init_10 := dk_seg dksX7_init_9 24 rfl rfl
theorem dksX7_init_11 : cX7_init.data.toList.drop 259 = dktX7_init_11 := dk_seg dksX7_init_10 24 rfl rfl
theorem dksX7_init_12 : cX7_init.data.toList.drop 283 = dktX7_init_12 := dk_seg dksX7_init_11 24 rfl rfl
theorem dksX7_init_13 : cX7_init.data.toList.drop 306 = dktX7_init_13 := dk_seg dksX7_init_12 23 rfl rfl
theorem dksX7_init_14 : cX7_init.data.toList.drop 328 = dktX7_init_14 := dk_seg dksX7_init_13 22 rfl rfl
theorem dksX7_init_15 : cX7_init.data.toList.drop 351 = dktX7_init_15 := dk_seg dksX7_init_14 23 rfl rfl
theorem dksX7_init_16 : cX7_init.data.toList.drop 375 = dktX7_init_16 := dk_seg dksX7_init_15 24 rfl rfl
theorem dksX7_init_17 : cX7_init.data.toList.drop 399 = dktX7_init_17 := dk_seg dksX7_init_16 24 rfl rfl
theorem dX7_init_0 : decode cX7_init 0 = .ok (.aload_n 0, 1) := dk_42 (dk_at dksX7_init_0 0 rfl rfl)
theorem dX7_init_1 : decode cX7_init 1 = .ok (.invokespecial 1, 3) := dk_183 0 1 (dk_at dksX7_init_0 1 rfl rfl)
theorem dX7_init_4 : decode cX7_init 4 = .ok (.aload_n 0, 1) := dk_42 (dk_at dksX7_init_0 4 rfl rfl)
theorem dX7_init_5 : decode cX7_init 5 = .ok (.bipush 7, 2) := dk_16 7 (dk_at dksX7_init_0 5 rfl rfl)
theorem dX7_init_7 : decode cX7_init 7 = .ok (.newarray .int, 2) := dk_188_10 (dk_at dksX7_init_0 7 rfl rfl)
theorem dX7_init_9 : decode cX7_init 9 = .ok (.putfield 7, 3) := dk_181 0 7 (dk_at dksX7_init_0 9 rfl rfl)
theorem dX7_init_12 : decode cX7_init 12 = .ok (.aload_n 0, 1) := dk_42 (dk_at dksX7_init_0 12 rfl rfl)
theorem dX7_init_13 : decode cX7_init 13 = .ok (.sipush 200, 3) := dk_17 0 200 (dk_at dksX7_init_0 13 rfl rfl)
theorem dX7_init_16 : decode cX7_init 16 = .ok (.newarray .int, 2) := dk_188_10 (dk_at dksX7_init_0 16 rfl rfl)
theorem dX7_init_18 : decode cX7_init 18 = .ok (.putfield 13, 3) := dk_181 0 13 (dk_at dksX7_init_0 18 rfl rfl)
theorem dX7_init_21 : decode cX7_init 21 = .ok (.aload_n 0, 1) := dk_42 (dk_at dksX7_init_0 21 rfl rfl)
theorem dX7_init_22 : decode cX7_init 22 = .ok (.sipush 400, 3) := dk_17 1 144 (dk_at dksX7_init_1 0 rfl rfl)
theorem dX7_init_25 : decode cX7_init 25 = .ok (.newarray .int, 2) := dk_188_10 (dk_at dksX7_init_1 3 rfl rfl)
theorem dX7_init_27 : decode cX7_init 27 = .ok (.putfield 16, 3) := dk_181 0 16 (dk_at dksX7_init_1 5 rfl rfl)
theorem dX7_init_30 : decode cX7_init 30 = .ok (.aload_n 0, 1) := dk_42 (dk_at dksX7_init_1 8 rfl rfl)
theorem dX7_init_31 : decode cX7_init 31 = .ok (.iconst 2, 1) := dk_5 (dk_at dksX7_init_1 9 rfl rfl)
theorem dX7_init_32 : decode cX7_init 32 = .ok (.newarray .boolean, 2) := dk_188_4 (dk_at dksX7_init_1 10 rfl rfl)
theorem dX7_init_34 : decode cX7_init 34 = .ok (.putfield 19, 3) := dk_181 0 19 (dk_at dksX7_init_1 12 rfl rfl)
theorem dX7_init_37 : decode cX7_init 37 = .ok (.aload_n 0, 1) := dk_42 (dk_at dksX7_init_1 15 rfl rfl)
theorem dX7_init_38 : decode cX7_init 38 = .ok (.sipush 400, 3) := dk_17 1 144 (dk_at dksX7_init_1 16 rfl rfl)
theorem dX7_init_41 : decode cX7_init 41 = .ok (.newarray .int, 2) := dk_188_10 (dk_at dksX7_init_1 19 rfl rfl)
theorem dX7_init_43 : decode cX7_init 43 = .ok (.putfield 23, 3) := dk_181 0 23 (dk_at dksX7_init_1 21 rfl rfl)
theorem dX7_init_46 : decode cX7_init 46 = .ok (.aload_n 0, 1) := dk_42 (dk_at dksX7_init_2 0 rfl rfl)
theorem dX7_init_47 : decode cX7_init 47 = .ok (.iconst (-1), 1) := dk_2 (dk_at dksX7_init_2 1 rfl rfl)
theorem dX7_init_48 : decode cX7_init 48 = .ok (.putfield 26, 3) := dk_181 0 26 (dk_at dksX7_init_2 2 rfl rfl)
theorem dX7_init_51 : decode cX7_init 51 = .ok (.aload_n 0, 1) := dk_42 (dk_at dksX7_init_2 5 rfl rfl)
theorem dX7_init_52 : decode cX7_init 52 = .ok (.sipush 1000, 3) := dk_17 3 232 (dk_at dksX7_init_2 6 rfl rfl)
theorem dX7_init_55 : decode cX7_init 55 = .ok (.newarray .int, 2) := dk_188_10 (dk_at dksX7_init_2 9 rfl rfl)
theorem dX7_init_57 : decode cX7_init 57 = .ok (.putfield 30, 3) := dk_181 0 30 (dk_at dksX7_init_2 11 rfl rfl)
theorem dX7_init_60 : decode cX7_init 60 = .ok (.aload_n 0, 1) := dk_42 (dk_at dksX7_init_2 14 rfl rfl)
theorem dX7_init_61 : decode cX7_init 61 = .ok (.bipush 10, 2) := dk_16 10 (dk_at dksX7_init_2 15 rfl rfl)
theorem dX7_init_63 : decode cX7_init 63 = .ok (.newarray .long, 2) := dk_188_11 (dk_at dksX7_init_2 17 rfl rfl)
theorem dX7_init_65 : decode cX7_init 65 = .ok (.putfield 33, 3) := dk_181 0 33 (dk_at dksX7_init_2 19 rfl rfl)
theorem dX7_init_68 : decode cX7_init 68 = .ok (.aload_n 0, 1) := dk_42 (dk_at dksX7_init_2 22 rfl rfl)
theorem dX7_init_69 : decode cX7_init 69 = .ok (.bipush 10, 2) := dk_16 10 (dk_at dksX7_init_3 0 rfl rfl)
theorem dX7_init_71 : decode cX7_init 71 = .ok (.newarray .long, 2) := dk_188_11 (dk_at dksX7_init_3 2 rfl rfl)
theorem dX7_init_73 : decode cX7_init 73 = .ok (.putfield 37, 3) := dk_181 0 37 (dk_at dksX7_init_3 4 rfl rfl)
theorem dX7_init_76 : decode cX7_init 76 = .ok (.aload_n 0, 1) := dk_42 (dk_at dksX7_init_3 7 rfl rfl)
theorem dX7_init_77 : decode cX7_init 77 = .ok (.bipush 60, 2) := dk_16 60 (dk_at dksX7_init_3 8 rfl rfl)
theorem dX7_init_79 : decode cX7_init 79 = .ok (.newarray .int, 2) := dk_188_10 (dk_at dksX7_init_3 10 rfl rfl)
theorem dX7_init_81 : decode cX7_init 81 = .ok (.putfield 40, 3) := dk_181 0 40 (dk_at dksX7_init_3 12 rfl rfl)
theorem dX7_init_84 : decode cX7_init 84 = .ok (.aload_n 0, 1) := dk_42 (dk_at dksX7_init_3 15 rfl rfl)
theorem dX7_init_85 : decode cX7_init 85 = .ok (.bipush 60, 2) := dk_16 60 (dk_at dksX7_init_3 16 rfl rfl)
theorem dX7_init_87 : decode cX7_init 87 = .ok (.newarray .int, 2) := dk_188_10 (dk_at dksX7_init_3 18 rfl rfl)
theorem dX7_init_89 : decode cX7_init 89 = .ok (.putfield 43, 3) := dk_181 0 43 (dk_at dksX7_init_3 20 rfl rfl)
theorem dX7_init_92 : decode cX7_init 92 = .ok (.aload_n 0, 1) := dk_42 (dk_at dksX7_init_3 23 rfl rfl)
theorem dX7_init_93 : decode cX7_init 93 = .ok (.bipush 60, 2) := dk_16 60 (dk_at dksX7_init_4 0 rfl rfl)
theorem dX7_init_95 : decode cX7_init 95 = .ok (.newarray .int, 2) := dk_188_10 (dk_at dksX7_init_4 2 rfl rfl)
theorem dX7_init_97 : decode cX7_init 97 = .ok (.putfield 46, 3) := dk_181 0 46 (dk_at dksX7_init_4 4 rfl rfl)
theorem dX7_init_100 : decode cX7_init 100 = .ok (.aload_n 0, 1) := dk_42 (dk_at dksX7_init_4 7 rfl rfl)
theorem dX7_init_101 : decode cX7_init 101 = .ok (.bipush 60, 2) := dk_16 60 (dk_at dksX7_init_4 8 rfl rfl)
theorem dX7_init_103 : decode cX7_init 103 = .ok (.newarray .int, 2) := dk_188_10 (dk_at dksX7_init_4 10 rfl rfl)
theorem dX7_init_105 : decode cX7_init 105 = .ok (.putfield 49, 3) := dk_181 0 49 (dk_at dksX7_init_4 12 rfl rfl)
theorem dX7_init_108 : decode cX7_init 108 = .ok (.aload_n 0, 1) := dk_42 (dk_at dksX7_init_4 15 rfl rfl)
theorem dX7_init_109 : decode cX7_init 109 = .ok (.bipush 60, 2) := dk_16 60 (dk_at dksX7_init_4 16 rfl rfl)
theorem dX7_init_111 : decode cX7_init 111 = .ok (.newarray .boolean, 2) := dk_188_4 (dk_at dksX7_init_4 18 rfl rfl)
theorem dX7_init_113 : decode cX7_init 113 = .ok (.putfield 52, 3) := dk_181 0 52 (dk_at dksX7_init_4 20 rfl rfl)
theorem dX7_init_116 : decode cX7_init 116 = .ok (.aload_n 0, 1) := dk_42 (dk_at dksX7_init_4 23 rfl rfl)
theorem dX7_init_117 : decode cX7_init 117 = .ok (.bipush 32, 2) := dk_16 32 (dk_at dksX7_init_5 0 rfl rfl)
theorem dX7_init_119 : decode cX7_init 119 = .ok (.newarray .int, 2) := dk_188_10 (dk_at dksX7_init_5 2 rfl rfl)
theorem dX7_init_121 : decode cX7_init 121 = .ok (.putfield 55, 3) := dk_181 0 55 (dk_at dksX7_init_5 4 rfl rfl)
theorem dX7_init_124 : decode cX7_init 124 = .ok (.aload_n 0, 1) := dk_42 (dk_at dksX7_init_5 7 rfl rfl)
theorem dX7_init_125 : decode cX7_init 125 = .ok (.bipush 6, 2) := dk_16 6 (dk_at dksX7_init_5 8 rfl rfl)
theorem dX7_init_127 : decode cX7_init 127 = .ok (.newarray .int, 2) := dk_188_10 (dk_at dksX7_init_5 10 rfl rfl)
theorem dX7_init_129 : decode cX7_init 129 = .ok (.putfield 58, 3) := dk_181 0 58 (dk_at dksX7_init_5 12 rfl rfl)
theorem dX7_init_132 : decode cX7_init 132 = .ok (.aload_n 0, 1) := dk_42 (dk_at dksX7_init_5 15 rfl rfl)
theorem dX7_init_133 : decode cX7_init 133 = .ok (.bipush 80, 2) := dk_16 80 (dk_at dksX7_init_5 16 rfl rfl)
theorem dX7_init_135 : decode cX7_init 135 = .ok (.newarray .long, 2) := dk_188_11 (dk_at dksX7_init_5 18 rfl rfl)
theorem dX7_init_137 : decode cX7_init 137 = .ok (.putfield 61, 3) := dk_181 0 61 (dk_at dksX7_init_5 20 rfl rfl)
theorem dX7_init_140 : decode cX7_init 140 = .ok (.aload_n 0, 1) := dk_42 (dk_at dksX7_init_5 23 rfl rfl)
theorem dX7_init_141 : decode cX7_init 141 = .ok (.bipush 80, 2) := dk_16 80 (dk_at dksX7_init_6 0 rfl rfl)
theorem dX7_init_143 : decode cX7_init 143 = .ok (.newarray .long, 2) := dk_188_11 (dk_at dksX7_init_6 2 rfl rfl)
theorem dX7_init_145 : decode cX7_init 145 = .ok (.putfield 64, 3) := dk_181 0 64 (dk_at dksX7_init_6 4 rfl rfl)
theorem dX7_init_148 : decode cX7_init 148 = .ok (.aload_n 0, 1) := dk_42 (dk_at dksX7_init_6 7 rfl rfl)
theorem dX7_init_149 : decode cX7_init 149 = .ok (.bipush 16, 2) := dk_16 16 (dk_at dksX7_init_6 8 rfl rfl)
theorem dX7_init_151 : decode cX7_init 151 = .ok (.newarray .boolean, 2) := dk_188_4 (dk_at dksX7_init_6 10 rfl rfl)
theorem dX7_init_153 : decode cX7_init 153 = .ok (.putfield 67, 3) := dk_181 0 67 (dk_at dksX7_init_6 12 rfl rfl)
theorem dX7_init_156 : decode cX7_init 156 = .ok (.aload_n 0, 1) := dk_42 (dk_at dksX7_init_6 15 rfl rfl)
theorem dX7_init_157 : decode cX7_init 157 = .ok (.bipush 16, 2) := dk_16 16 (dk_at dksX7_init_6 16 rfl rfl)
theorem dX7_init_159 : decode cX7_init 159 = .ok (.newarray .boolean, 2) := dk_188_4 (dk_at dksX7_init_6 18 rfl rfl)
theorem dX7_init_161 : decode cX7_init 161 = .ok (.putfield 70, 3) := dk_181 0 70 (dk_at dksX7_init_6 20 rfl rfl)
theorem dX7_init_164 : decode cX7_init 164 = .ok (.aload_n 0, 1) := dk_42 (dk_at dksX7_init_6 23 rfl rfl)
theorem dX7_init_165 : decode cX7_init 165 = .ok (.bipush 80, 2) := dk_16 80 (dk_at dksX7_init_7 0 rfl rfl)
theorem dX7_init_167 : decode cX7_init 167 = .ok (.newarray .long, 2) := dk_188_11 (dk_at dksX7_init_7 2 rfl rfl)
theorem dX7_init_169 : decode cX7_init 169 = .ok (.putfield 73, 3) := dk_181 0 73 (dk_at dksX7_init_7 4 rfl rfl)
theorem dX7_init_172 : decode cX7_init 172 = .ok (.aload_n 0, 1) := dk_42 (dk_at dksX7_init_7 7 rfl rfl)
theorem dX7_init_173 : decode cX7_init 173 = .ok (.bipush 80, 2) := dk_16 80 (dk_at dksX7_init_7 8 rfl rfl)
theorem dX7_init_175 : decode cX7_init 175 = .ok (.newarray .long, 2) := dk_188_11 (dk_at dksX7_init_7 10 rfl rfl)
theorem dX7_init_177 : decode cX7_init 177 = .ok (.putfield 76, 3) := dk_181 0 76 (dk_at dksX7_init_7 12 rfl rfl)
theorem dX7_init_180 : decode cX7_init 180 = .ok (.aload_n 0, 1) := dk_42 (dk_at dksX7_init_7 15 rfl rfl)
theorem dX7_init_181 : decode cX7_init 181 = .ok (.bipush 16, 2) := dk_16 16 (dk_at dksX7_init_7 16 rfl rfl)
theorem dX7_init_183 : decode cX7_init 183 = .ok (.newarray .boolean, 2) := dk_188_4 (dk_at dksX7_init_7 18 rfl rfl)
theorem dX7_init_185 : decode cX7_init 185 = .ok (.putfield 79, 3) := dk_181 0 79 (dk_at dksX7_init_7 20 rfl rfl)
theorem dX7_init_188 : decode cX7_init 188 = .ok (.aload_n 0, 1) := dk_42 (dk_at dksX7_init_7 23 rfl rfl)
theorem dX7_init_189 : decode cX7_init 189 = .ok (.bipush 16, 2) := dk_16 16 (dk_at dksX7_init_8 0 rfl rfl)
theorem dX7_init_191 : decode cX7_init 191 = .ok (.newarray .boolean, 2) := dk_188_4 (dk_at dksX7_init_8 2 rfl rfl)
theorem dX7_init_193 : decode cX7_init 193 = .ok (.putfield 82, 3) := dk_181 0 82 (dk_at dksX7_init_8 4 rfl rfl)
theorem dX7_init_196 : decode cX7_init 196 = .ok (.aload_n 0, 1) := dk_42 (dk_at dksX7_init_8 7 rfl rfl)
theorem dX7_init_197 : decode cX7_init 197 = .ok (.iconst 5, 1) := dk_8 (dk_at dksX7_init_8 8 rfl rfl)
theorem dX7_init_198 : decode cX7_init 198 = .ok (.newarray .long, 2) := dk_188_11 (dk_at dksX7_init_8 9 rfl rfl)
theorem dX7_init_200 : decode cX7_init 200 = .ok (.putfield 85, 3) := dk_181 0 85 (dk_at dksX7_init_8 11 rfl rfl)
theorem dX7_init_203 : decode cX7_init 203 = .ok (.aload_n 0, 1) := dk_42 (dk_at dksX7_init_8 14 rfl rfl)
theorem dX7_init_204 : decode cX7_init 204 = .ok (.iconst 5, 1) := dk_8 (dk_at dksX7_init_8 15 rfl rfl)
theorem dX7_init_205 : decode cX7_init 205 = .ok (.newarray .long, 2) := dk_188_11 (dk_at dksX7_init_8 16 rfl rfl)
theorem dX7_init_207 : decode cX7_init 207 = .ok (.putfield 88, 3) := dk_181 0 88 (dk_at dksX7_init_8 18 rfl rfl)
theorem dX7_init_210 : decode cX7_init 210 = .ok (.aload_n 0, 1) := dk_42 (dk_at dksX7_init_8 21 rfl rfl)
theorem dX7_init_211 : decode cX7_init 211 = .ok (.sipush 256, 3) := dk_17 1 0 (dk_at dksX7_init_9 0 rfl rfl)
theorem dX7_init_214 : decode cX7_init 214 = .ok (.newarray .boolean, 2) := dk_188_4 (dk_at dksX7_init_9 3 rfl rfl)
theorem dX7_init_216 : decode cX7_init 216 = .ok (.putfield 91, 3) := dk_181 0 91 (dk_at dksX7_init_9 5 rfl rfl)
theorem dX7_init_219 : decode cX7_init 219 = .ok (.aload_n 0, 1) := dk_42 (dk_at dksX7_init_9 8 rfl rfl)
theorem dX7_init_220 : decode cX7_init 220 = .ok (.bipush 10, 2) := dk_16 10 (dk_at dksX7_init_9 9 rfl rfl)
theorem dX7_init_222 : decode cX7_init 222 = .ok (.newarray .long, 2) := dk_188_11 (dk_at dksX7_init_9 11 rfl rfl)
theorem dX7_init_224 : decode cX7_init 224 = .ok (.putfield 94, 3) := dk_181 0 94 (dk_at dksX7_init_9 13 rfl rfl)
theorem dX7_init_227 : decode cX7_init 227 = .ok (.aload_n 0, 1) := dk_42 (dk_at dksX7_init_9 16 rfl rfl)
theorem dX7_init_228 : decode cX7_init 228 = .ok (.bipush 10, 2) := dk_16 10 (dk_at dksX7_init_9 17 rfl rfl)
theorem dX7_init_230 : decode cX7_init 230 = .ok (.newarray .long, 2) := dk_188_11 (dk_at dksX7_init_9 19 rfl rfl)
theorem dX7_init_232 : decode cX7_init 232 = .ok (.putfield 97, 3) := dk_181 0 97 (dk_at dksX7_init_9 21 rfl rfl)
theorem dX7_init_235 : decode cX7_init 235 = .ok (.aload_n 0, 1) := dk_42 (dk_at dksX7_init_10 0 rfl rfl)
theorem dX7_init_236 : decode cX7_init 236 = .ok (.iconst 5, 1) := dk_8 (dk_at dksX7_init_10 1 rfl rfl)
theorem dX7_init_237 : decode cX7_init 237 = .ok (.newarray .long, 2) := dk_188_11 (dk_at dksX7_init_10 2 rfl rfl)
theorem dX7_init_239 : decode cX7_init 239 = .ok (.dup, 1) := dk_89 (dk_at dksX7_init_10 4 rfl rfl)
theorem dX7_init_240 : decode cX7_init 240 = .ok (.iconst 0, 1) := dk_3 (dk_at dksX7_init_10 5 rfl rfl)
theorem dX7_init_241 : decode cX7_init 241 = .ok (.lconst 1, 1) := dk_10 (dk_at dksX7_init_10 6 rfl rfl)
theorem dX7_init_242 : decode cX7_init 242 = .ok (.lastore, 1) := dk_80 (dk_at dksX7_init_10 7 rfl rfl)
theorem dX7_init_243 : decode cX7_init 243 = .ok (.dup, 1) := dk_89 (dk_at dksX7_init_10 8 rfl rfl)
theorem dX7_init_244 : decode cX7_init 244 = .ok (.iconst 1, 1) := dk_4 (dk_at dksX7_init_10 9 rfl rfl)
theorem dX7_init_245 : decode cX7_init 245 = .ok (.lconst 0, 1) := dk_9 (dk_at dksX7_init_10 10 rfl rfl)
theorem dX7_init_246 : decode cX7_init 246 = .ok (.lastore, 1) := dk_80 (dk_at dksX7_init_10 11 rfl rfl)
theorem dX7_init_247 : decode cX7_init 247 = .ok (.dup, 1) := dk_89 (dk_at dksX7_init_10 12 rfl rfl)
theorem dX7_init_248 : decode cX7_init 248 = .ok (.iconst 2, 1) := dk_5 (dk_at dksX7_init_10 13 rfl rfl)
theorem dX7_init_249 : decode cX7_init 249 = .ok (.lconst 0, 1) := dk_9 (dk_at dksX7_init_10 14 rfl rfl)
theorem dX7_init_250 : decode cX7_init 250 = .ok (.lastore, 1) := dk_80 (dk_at dksX7_init_10 15 rfl rfl)
theorem dX7_init_251 : decode cX7_init 251 = .ok (.dup, 1) := dk_89 (dk_at dksX7_init_10 16 rfl rfl)
theorem dX7_init_252 : decode cX7_init 252 = .ok (.iconst 3, 1) := dk_6 (dk_at dksX7_init_10 17 rfl rfl)
theorem dX7_init_253 : decode cX7_init 253 = .ok (.lconst 0, 1) := dk_9 (dk_at dksX7_init_10 18 rfl rfl)
theorem dX7_init_254 : decode cX7_init 254 = .ok (.lastore, 1) := dk_80 (dk_at dksX7_init_10 19 rfl rfl)
theorem dX7_init_255 : decode cX7_init 255 = .ok (.dup, 1) := dk_89 (dk_at dksX7_init_10 20 rfl rfl)
theorem dX7_init_256 : decode cX7_init 256 = .ok (.iconst 4, 1) := dk_7 (dk_at dksX7_init_10 21 rfl rfl)
theorem dX7_init_257 : decode cX7_init 257 = .ok (.lconst 0, 1) := dk_9 (dk_at dksX7_init_10 22 rfl rfl)
theorem dX7_init_258 : decode cX7_init 258 = .ok (.lastore, 1) := dk_80 (dk_at dksX7_init_10 23 rfl rfl)
theorem dX7_init_259 : decode cX7_init 259 = .ok (.putfield 100, 3) := dk_181 0 100 (dk_at dksX7_init_11 0 rfl rfl)
theorem dX7_init_262 : decode cX7_init 262 = .ok (.aload_n 0, 1) := dk_42 (dk_at dksX7_init_11 3 rfl rfl)
theorem dX7_init_263 : decode cX7_init 263 = .ok (.bipush 20, 2) := dk_16 20 (dk_at dksX7_init_11 4 rfl rfl)
theorem dX7_init_265 : decode cX7_init 265 = .ok (.newarray .long, 2) := dk_188_11 (dk_at dksX7_init_11 6 rfl rfl)
theorem dX7_init_267 : decode cX7_init 267 = .ok (.putfield 103, 3) := dk_181 0 103 (dk_at dksX7_init_11 8 rfl rfl)
theorem dX7_init_270 : decode cX7_init 270 = .ok (.aload_n 0, 1) := dk_42 (dk_at dksX7_init_11 11 rfl rfl)
theorem dX7_init_271 : decode cX7_init 271 = .ok (.bipush 10, 2) := dk_16 10 (dk_at dksX7_init_11 12 rfl rfl)
theorem dX7_init_273 : decode cX7_init 273 = .ok (.newarray .long, 2) := dk_188_11 (dk_at dksX7_init_11 14 rfl rfl)
theorem dX7_init_275 : decode cX7_init 275 = .ok (.putfield 106, 3) := dk_181 0 106 (dk_at dksX7_init_11 16 rfl rfl)
theorem dX7_init_278 : decode cX7_init 278 = .ok (.aload_n 0, 1) := dk_42 (dk_at dksX7_init_11 19 rfl rfl)
theorem dX7_init_279 : decode cX7_init 279 = .ok (.bipush 10, 2) := dk_16 10 (dk_at dksX7_init_11 20 rfl rfl)
theorem dX7_init_281 : decode cX7_init 281 = .ok (.newarray .long, 2) := dk_188_11 (dk_at dksX7_init_11 22 rfl rfl)
theorem dX7_init_283 : decode cX7_init 283 = .ok (.putfield 109, 3) := dk_181 0 109 (dk_at dksX7_init_12 0 rfl rfl)
theorem dX7_init_286 : decode cX7_init 286 = .ok (.aload_n 0, 1) := dk_42 (dk_at dksX7_init_12 3 rfl rfl)
theorem dX7_init_287 : decode cX7_init 287 = .ok (.bipush 10, 2) := dk_16 10 (dk_at dksX7_init_12 4 rfl rfl)
theorem dX7_init_289 : decode cX7_init 289 = .ok (.newarray .long, 2) := dk_188_11 (dk_at dksX7_init_12 6 rfl rfl)
theorem dX7_init_291 : decode cX7_init 291 = .ok (.putfield 112, 3) := dk_181 0 112 (dk_at dksX7_init_12 8 rfl rfl)
theorem dX7_init_294 : decode cX7_init 294 = .ok (.aload_n 0, 1) := dk_42 (dk_at dksX7_init_12 11 rfl rfl)
theorem dX7_init_295 : decode cX7_init 295 = .ok (.bipush 10, 2) := dk_16 10 (dk_at dksX7_init_12 12 rfl rfl)
theorem dX7_init_297 : decode cX7_init 297 = .ok (.newarray .long, 2) := dk_188_11 (dk_at dksX7_init_12 14 rfl rfl)
theorem dX7_init_299 : decode cX7_init 299 = .ok (.putfield 115, 3) := dk_181 0 115 (dk_at dksX7_init_12 16 rfl rfl)
theorem dX7_init_302 : decode cX7_init 302 = .ok (.aload_n 0, 1) := dk_42 (dk_at dksX7_init_12 19 rfl rfl)
theorem dX7_init_303 : decode cX7_init 303 = .ok (.iconst 3, 1) := dk_6 (dk_at dksX7_init_12 20 rfl rfl)
theorem dX7_init_304 : decode cX7_init 304 = .ok (.newarray .long, 2) := dk_188_11 (dk_at dksX7_init_12 21 rfl rfl)
theorem dX7_init_306 : decode cX7_init 306 = .ok (.putfield 118, 3) := dk_181 0 118 (dk_at dksX7_init_13 0 rfl rfl)
theorem dX7_init_309 : decode cX7_init 309 = .ok (.aload_n 0, 1) := dk_42 (dk_at dksX7_init_13 3 rfl rfl)
theorem dX7_init_310 : decode cX7_init 310 = .ok (.iconst 3, 1) := dk_6 (dk_at dksX7_init_13 4 rfl rfl)
theorem dX7_init_311 : decode cX7_init 311 = .ok (.newarray .long, 2) := dk_188_11 (dk_at dksX7_init_13 5 rfl rfl)
theorem dX7_init_313 : decode cX7_init 313 = .ok (.putfield 121, 3) := dk_181 0 121 (dk_at dksX7_init_13 7 rfl rfl)
theorem dX7_init_316 : decode cX7_init 316 = .ok (.aload_n 0, 1) := dk_42 (dk_at dksX7_init_13 10 rfl rfl)
theorem dX7_init_317 : decode cX7_init 317 = .ok (.bipush 16, 2) := dk_16 16 (dk_at dksX7_init_13 11 rfl rfl)
theorem dX7_init_319 : decode cX7_init 319 = .ok (.newarray .int, 2) := dk_188_10 (dk_at dksX7_init_13 13 rfl rfl)
theorem dX7_init_321 : decode cX7_init 321 = .ok (.putfield 124, 3) := dk_181 0 124 (dk_at dksX7_init_13 15 rfl rfl)
theorem dX7_init_324 : decode cX7_init 324 = .ok (.aload_n 0, 1) := dk_42 (dk_at dksX7_init_13 18 rfl rfl)
theorem dX7_init_325 : decode cX7_init 325 = .ok (.iconst 3, 1) := dk_6 (dk_at dksX7_init_13 19 rfl rfl)
theorem dX7_init_326 : decode cX7_init 326 = .ok (.newarray .int, 2) := dk_188_10 (dk_at dksX7_init_13 20 rfl rfl)
theorem dX7_init_328 : decode cX7_init 328 = .ok (.putfield 127, 3) := dk_181 0 127 (dk_at dksX7_init_14 0 rfl rfl)
theorem dX7_init_331 : decode cX7_init 331 = .ok (.aload_n 0, 1) := dk_42 (dk_at dksX7_init_14 3 rfl rfl)
theorem dX7_init_332 : decode cX7_init 332 = .ok (.bipush 32, 2) := dk_16 32 (dk_at dksX7_init_14 4 rfl rfl)
theorem dX7_init_334 : decode cX7_init 334 = .ok (.newarray .int, 2) := dk_188_10 (dk_at dksX7_init_14 6 rfl rfl)
theorem dX7_init_336 : decode cX7_init 336 = .ok (.putfield 130, 3) := dk_181 0 130 (dk_at dksX7_init_14 8 rfl rfl)
theorem dX7_init_339 : decode cX7_init 339 = .ok (.iconst 0, 1) := dk_3 (dk_at dksX7_init_14 11 rfl rfl)
theorem dX7_init_340 : decode cX7_init 340 = .ok (.istore_n 1, 1) := dk_60 (dk_at dksX7_init_14 12 rfl rfl)
theorem dX7_init_341 : decode cX7_init 341 = .ok (.iload_n 1, 1) := dk_27 (dk_at dksX7_init_14 13 rfl rfl)
theorem dX7_init_342 : decode cX7_init 342 = .ok (.bipush 32, 2) := dk_16 32 (dk_at dksX7_init_14 14 rfl rfl)
theorem dX7_init_344 : decode cX7_init 344 = .ok (.if_icmp .ge 19, 3) := dk_162 0 19 (dk_at dksX7_init_14 16 rfl rfl)
theorem dX7_init_347 : decode cX7_init 347 = .ok (.aload_n 0, 1) := dk_42 (dk_at dksX7_init_14 19 rfl rfl)
theorem dX7_init_348 : decode cX7_init 348 = .ok (.getfield 13, 3) := dk_180 0 13 (dk_at dksX7_init_14 20 rfl rfl)
theorem dX7_init_351 : decode cX7_init 351 = .ok (.bipush 10, 2) := dk_16 10 (dk_at dksX7_init_15 0 rfl rfl)
theorem dX7_init_353 : decode cX7_init 353 = .ok (.iload_n 1, 1) := dk_27 (dk_at dksX7_init_15 2 rfl rfl)
theorem dX7_init_354 : decode cX7_init 354 = .ok (.iadd, 1) := dk_96 (dk_at dksX7_init_15 3 rfl rfl)
theorem dX7_init_355 : decode cX7_init 355 = .ok (.iconst (-1), 1) := dk_2 (dk_at dksX7_init_15 4 rfl rfl)
theorem dX7_init_356 : decode cX7_init 356 = .ok (.iastore, 1) := dk_79 (dk_at dksX7_init_15 5 rfl rfl)
theorem dX7_init_357 : decode cX7_init 357 = .ok (.iinc 1 1, 3) := dk_132 1 1 (dk_at dksX7_init_15 6 rfl rfl)
theorem dX7_init_360 : decode cX7_init 360 = .ok (.goto (-19), 3) := dk_167 255 237 (dk_at dksX7_init_15 9 rfl rfl)
theorem dX7_init_363 : decode cX7_init 363 = .ok (.iconst 0, 1) := dk_3 (dk_at dksX7_init_15 12 rfl rfl)
theorem dX7_init_364 : decode cX7_init 364 = .ok (.istore_n 1, 1) := dk_60 (dk_at dksX7_init_15 13 rfl rfl)
theorem dX7_init_365 : decode cX7_init 365 = .ok (.iload_n 1, 1) := dk_27 (dk_at dksX7_init_15 14 rfl rfl)
theorem dX7_init_366 : decode cX7_init 366 = .ok (.bipush 6, 2) := dk_16 6 (dk_at dksX7_init_15 15 rfl rfl)
theorem dX7_init_368 : decode cX7_init 368 = .ok (.if_icmp .ge 19, 3) := dk_162 0 19 (dk_at dksX7_init_15 17 rfl rfl)
theorem dX7_init_371 : decode cX7_init 371 = .ok (.aload_n 0, 1) := dk_42 (dk_at dksX7_init_15 20 rfl rfl)
theorem dX7_init_372 : decode cX7_init 372 = .ok (.getfield 13, 3) := dk_180 0 13 (dk_at dksX7_init_15 21 rfl rfl)
theorem dX7_init_375 : decode cX7_init 375 = .ok (.bipush 42, 2) := dk_16 42 (dk_at dksX7_init_16 0 rfl rfl)
theorem dX7_init_377 : decode cX7_init 377 = .ok (.iload_n 1, 1) := dk_27 (dk_at dksX7_init_16 2 rfl rfl)
theorem dX7_init_378 : decode cX7_init 378 = .ok (.iadd, 1) := dk_96 (dk_at dksX7_init_16 3 rfl rfl)
theorem dX7_init_379 : decode cX7_init 379 = .ok (.iconst (-1), 1) := dk_2 (dk_at dksX7_init_16 4 rfl rfl)
theorem dX7_init_380 : decode cX7_init 380 = .ok (.iastore, 1) := dk_79 (dk_at dksX7_init_16 5 rfl rfl)
theorem dX7_init_381 : decode cX7_init 381 = .ok (.iinc 1 1, 3) := dk_132 1 1 (dk_at dksX7_init_16 6 rfl rfl)
theorem dX7_init_384 : decode cX7_init 384 = .ok (.goto (-19), 3) := dk_167 255 237 (dk_at dksX7_init_16 9 rfl rfl)
theorem dX7_init_387 : decode cX7_init 387 = .ok (.iconst 0, 1) := dk_3 (dk_at dksX7_init_16 12 rfl rfl)
theorem dX7_init_388 : decode cX7_init 388 = .ok (.istore_n 1, 1) := dk_60 (dk_at dksX7_init_16 13 rfl rfl)
theorem dX7_init_389 : decode cX7_init 389 = .ok (.iload_n 1, 1) := dk_27 (dk_at dksX7_init_16 14 rfl rfl)
theorem dX7_init_390 : decode cX7_init 390 = .ok (.bipush 16, 2) := dk_16 16 (dk_at dksX7_init_16 15 rfl rfl)
theorem dX7_init_392 : decode cX7_init 392 = .ok (.if_icmp .ge 20, 3) := dk_162 0 20 (dk_at dksX7_init_16 17 rfl rfl)
theorem dX7_init_395 : decode cX7_init 395 = .ok (.aload_n 0, 1) := dk_42 (dk_at dksX7_init_16 20 rfl rfl)
theorem dX7_init_396 : decode cX7_init 396 = .ok (.getfield 13, 3) := dk_180 0 13 (dk_at dksX7_init_16 21 rfl rfl)
theorem dX7_init_399 : decode cX7_init 399 = .ok (.bipush 60, 2) := dk_16 60 (dk_at dksX7_init_17 0 rfl rfl)
theorem dX7_init_401 : decode cX7_init 401 = .ok (.iload_n 1, 1) := dk_27 (dk_at dksX7_init_17 2 rfl rfl)
theorem dX7_init_402 : decode cX7_init 402 = .ok (.iadd, 1) := dk_96 (dk_at dksX7_init_17 3 rfl rfl)
theorem dX7_init_403 : decode cX7_init 403 = .ok (.bipush 100, 2) := dk_16 100 (dk_at dksX7_init_17 4 rfl rfl)
theorem dX7_init_405 : decode cX7_init 405 = .ok (.iastore, 1) := dk_79 (dk_at dksX7_init_17 6 rfl rfl)
theorem dX7_init_406 : decode cX7_init 406 = .ok (.iinc 1 1, 3) := dk_132 1 1 (dk_at dksX7_init_17 7 rfl rfl)
theorem dX7_init_409 : decode cX7_init 409 = .ok (.goto (-20), 3) := dk_167 255 236 (dk_at dksX7_init_17 10 rfl rfl)
theorem dX7_init_412 : decode cX7_init 412 = .ok (.return_, 1) := dk_177 (dk_at dksX7_init_17 13 rfl rfl)
abbrev cX7_image : ByteArray := prog_16_method_8_code
def yX7_image : MethodName := ⟨RX7, "image", "(I)I"⟩
def dkwX7_image_2 : List UInt8 := [132, 2, 1, 167, 255, 228, 42, 180, 0, 19, 27, 4, 84, 42, 3, 182, 0, 147, 172]
abbrev dktX7_image_2 : List UInt8 := dkwX7_image_2 ++ []
def dkwX7_image_1 : List UInt8 := [17, 0, 200, 162, 0, 27, 42, 180, 0, 16, 17, 0, 200, 27, 104, 28, 96, 42, 180, 0, 13, 28, 46, 79]
abbrev dktX7_image_1 : List UInt8 := dkwX7_image_1 ++ dktX7_image_2
def dkwX7_image_0 : List UInt8 := [42, 3, 181, 0, 133, 27, 133, 9, 10, 184, 0, 143, 154, 0, 9, 42, 2, 182, 0, 147, 172, 3, 61, 28]
abbrev dktX7_image_0 : List UInt8 := dkwX7_image_0 ++ dktX7_image_1
theorem dksX7_image_0 : cX7_image.data.toList.drop 0 = dktX7_image_0 := by decide +kernel
theorem dksX7_image_1 : cX7_image.data.toList.drop 24 = dktX7_image_1 := dk_seg dksX7_image_0 24 rfl rfl
theorem dksX7_image_2 : cX7_image.data.toList.drop 48 = dktX7_image_2 := dk_seg dksX7_image_1 24 rfl rfl
theorem dX7_image_0 : decode cX7_image 0 = .ok (.aload_n 0, 1) := dk_42 (dk_at dksX7_image_0 0 rfl rfl)
theorem dX7_image_1 : decode cX7_image 1 = .ok (.iconst 0, 1) := dk_3 (dk_at dksX7_image_0 1 rfl rfl)
theorem dX7_image_2 : decode cX7_image 2 = .ok (.putfield 133, 3) := dk_181 0 133 (dk_at dksX7_image_0 2 rfl rfl)
theorem dX7_image_5 : decode cX7_image 5 = .ok (.iload_n 1, 1) := dk_27 (dk_at dksX7_image_0 5 rfl rfl)
theorem dX7_image_6 : decode cX7_image 6 = .ok (.i2l, 1) := dk_133 (dk_at dksX7_image_0 6 rfl rfl)
theorem dX7_image_7 : decode cX7_image 7 = .ok (.lconst 0, 1) := dk_9 (dk_at dksX7_image_0 7 rfl rfl)
theorem dX7_image_8 : decode cX7_image 8 = .ok (.lconst 1, 1) := dk_10 (dk_at dksX7_image_0 8 rfl rfl)
theorem dX7_image_9 : decode cX7_image 9 = .ok (.invokestatic 143, 3) := dk_184 0 143 (dk_at dksX7_image_0 9 rfl rfl)
theorem dX7_image_12 : decode cX7_image 12 = .ok (.ifCond .ne 9, 3) := dk_154 0 9 (dk_at dksX7_image_0 12 rfl rfl)
theorem dX7_image_15 : decode cX7_image 15 = .ok (.aload_n 0, 1) := dk_42 (dk_at dksX7_image_0 15 rfl rfl)
theorem dX7_image_16 : decode cX7_image 16 = .ok (.iconst (-1), 1) := dk_2 (dk_at dksX7_image_0 16 rfl rfl)
theorem dX7_image_17 : decode cX7_image 17 = .ok (.invokevirtual 147, 3) := dk_182 0 147 (dk_at dksX7_image_0 17 rfl rfl)
theorem dX7_image_20 : decode cX7_image 20 = .ok (.ireturn, 1) := dk_172 (dk_at dksX7_image_0 20 rfl rfl)
theorem dX7_image_21 : decode cX7_image 21 = .ok (.iconst 0, 1) := dk_3 (dk_at dksX7_image_0 21 rfl rfl)
theorem dX7_image_22 : decode cX7_image 22 = .ok (.istore_n 2, 1) := dk_61 (dk_at dksX7_image_0 22 rfl rfl)
theorem dX7_image_23 : decode cX7_image 23 = .ok (.iload_n 2, 1) := dk_28 (dk_at dksX7_image_0 23 rfl rfl)
theorem dX7_image_24 : decode cX7_image 24 = .ok (.sipush 200, 3) := dk_17 0 200 (dk_at dksX7_image_1 0 rfl rfl)
theorem dX7_image_27 : decode cX7_image 27 = .ok (.if_icmp .ge 27, 3) := dk_162 0 27 (dk_at dksX7_image_1 3 rfl rfl)
theorem dX7_image_30 : decode cX7_image 30 = .ok (.aload_n 0, 1) := dk_42 (dk_at dksX7_image_1 6 rfl rfl)
theorem dX7_image_31 : decode cX7_image 31 = .ok (.getfield 16, 3) := dk_180 0 16 (dk_at dksX7_image_1 7 rfl rfl)
theorem dX7_image_34 : decode cX7_image 34 = .ok (.sipush 200, 3) := dk_17 0 200 (dk_at dksX7_image_1 10 rfl rfl)
theorem dX7_image_37 : decode cX7_image 37 = .ok (.iload_n 1, 1) := dk_27 (dk_at dksX7_image_1 13 rfl rfl)
theorem dX7_image_38 : decode cX7_image 38 = .ok (.imul, 1) := dk_104 (dk_at dksX7_image_1 14 rfl rfl)
theorem dX7_image_39 : decode cX7_image 39 = .ok (.iload_n 2, 1) := dk_28 (dk_at dksX7_image_1 15 rfl rfl)
theorem dX7_image_40 : decode cX7_image 40 = .ok (.iadd, 1) := dk_96 (dk_at dksX7_image_1 16 rfl rfl)
theorem dX7_image_41 : decode cX7_image 41 = .ok (.aload_n 0, 1) := dk_42 (dk_at dksX7_image_1 17 rfl rfl)
theorem dX7_image_42 : decode cX7_image 42 = .ok (.getfield 13, 3) := dk_180 0 13 (dk_at dksX7_image_1 18 rfl rfl)
theorem dX7_image_45 : decode cX7_image 45 = .ok (.iload_n 2, 1) := dk_28 (dk_at dksX7_image_1 21 rfl rfl)
theorem dX7_image_46 : decode cX7_image 46 = .ok (.iaload, 1) := dk_46 (dk_at dksX7_image_1 22 rfl rfl)
theorem dX7_image_47 : decode cX7_image 47 = .ok (.iastore, 1) := dk_79 (dk_at dksX7_image_1 23 rfl rfl)
theorem dX7_image_48 : decode cX7_image 48 = .ok (.iinc 2 1, 3) := dk_132 2 1 (dk_at dksX7_image_2 0 rfl rfl)
theorem dX7_image_51 : decode cX7_image 51 = .ok (.goto (-28), 3) := dk_167 255 228 (dk_at dksX7_image_2 3 rfl rfl)
theorem dX7_image_54 : decode cX7_image 54 = .ok (.aload_n 0, 1) := dk_42 (dk_at dksX7_image_2 6 rfl rfl)
theorem dX7_image_55 : decode cX7_image 55 = .ok (.getfield 19, 3) := dk_180 0 19 (dk_at dksX7_image_2 7 rfl rfl)
theorem dX7_image_58 : decode cX7_image 58 = .ok (.iload_n 1, 1) := dk_27 (dk_at dksX7_image_2 10 rfl rfl)
theorem dX7_image_59 : decode cX7_image 59 = .ok (.iconst 1, 1) := dk_4 (dk_at dksX7_image_2 11 rfl rfl)
theorem dX7_image_60 : decode cX7_image 60 = .ok (.bastore, 1) := dk_84 (dk_at dksX7_image_2 12 rfl rfl)
theorem dX7_image_61 : decode cX7_image 61 = .ok (.aload_n 0, 1) := dk_42 (dk_at dksX7_image_2 13 rfl rfl)
theorem dX7_image_62 : decode cX7_image 62 = .ok (.iconst 0, 1) := dk_3 (dk_at dksX7_image_2 14 rfl rfl)
theorem dX7_image_63 : decode cX7_image 63 = .ok (.invokevirtual 147, 3) := dk_182 0 147 (dk_at dksX7_image_2 15 rfl rfl)
theorem dX7_image_66 : decode cX7_image 66 = .ok (.ireturn, 1) := dk_172 (dk_at dksX7_image_2 18 rfl rfl)
abbrev cX7_in : ByteArray := prog_16_method_3_code
def yX7_in : MethodName := ⟨RX7, "in", "(JJJ)Z"⟩
def dkwX7_in_0 : List UInt8 := [30, 32, 148, 155, 0, 14, 30, 22, 4, 148, 157, 0, 7, 4, 167, 0, 4, 3, 172]
abbrev dktX7_in_0 : List UInt8 := dkwX7_in_0 ++ []
theorem dksX7_in_0 : cX7_in.data.toList.drop 0 = dktX7_in_0 := by decide +kernel
theorem dX7_in_0 : decode cX7_in 0 = .ok (.lload_n 0, 1) := dk_30 (dk_at dksX7_in_0 0 rfl rfl)
theorem dX7_in_1 : decode cX7_in 1 = .ok (.lload_n 2, 1) := dk_32 (dk_at dksX7_in_0 1 rfl rfl)
theorem dX7_in_2 : decode cX7_in 2 = .ok (.lcmp, 1) := dk_148 (dk_at dksX7_in_0 2 rfl rfl)
theorem dX7_in_3 : decode cX7_in 3 = .ok (.ifCond .lt 14, 3) := dk_155 0 14 (dk_at dksX7_in_0 3 rfl rfl)
theorem dX7_in_6 : decode cX7_in 6 = .ok (.lload_n 0, 1) := dk_30 (dk_at dksX7_in_0 6 rfl rfl)
theorem dX7_in_7 : decode cX7_in 7 = .ok (.lload 4, 2) := dk_22 4 (dk_at dksX7_in_0 7 rfl rfl)
theorem dX7_in_9 : decode cX7_in 9 = .ok (.lcmp, 1) := dk_148 (dk_at dksX7_in_0 9 rfl rfl)
theorem dX7_in_10 : decode cX7_in 10 = .ok (.ifCond .gt 7, 3) := dk_157 0 7 (dk_at dksX7_in_0 10 rfl rfl)
theorem dX7_in_13 : decode cX7_in 13 = .ok (.iconst 1, 1) := dk_4 (dk_at dksX7_in_0 13 rfl rfl)
theorem dX7_in_14 : decode cX7_in 14 = .ok (.goto 4, 3) := dk_167 0 4 (dk_at dksX7_in_0 14 rfl rfl)
theorem dX7_in_17 : decode cX7_in 17 = .ok (.iconst 0, 1) := dk_3 (dk_at dksX7_in_0 17 rfl rfl)
theorem dX7_in_18 : decode cX7_in 18 = .ok (.ireturn, 1) := dk_172 (dk_at dksX7_in_0 18 rfl rfl)
abbrev cX7_answer : ByteArray := prog_16_method_5_code
def yX7_answer : MethodName := ⟨RX7, "answer", "(I)I"⟩
def dkwX7_answer_1 : List UInt8 := [46, 4, 96, 79, 27, 172]
abbrev dktX7_answer_1 : List UInt8 := dkwX7_answer_1 ++ []
def dkwX7_answer_0 : List UInt8 := [42, 27, 156, 0, 7, 27, 167, 0, 4, 3, 181, 0, 136, 27, 156, 0, 14, 42, 180, 0, 7, 27, 116, 92]
abbrev dktX7_answer_0 : List UInt8 := dkwX7_answer_0 ++ dktX7_answer_1
theorem dksX7_answer_0 : cX7_answer.data.toList.drop 0 = dktX7_answer_0 := by decide +kernel
theorem dksX7_answer_1 : cX7_answer.data.toList.drop 24 = dktX7_answer_1 := dk_seg dksX7_answer_0 24 rfl rfl
theorem dX7_answer_0 : decode cX7_answer 0 = .ok (.aload_n 0, 1) := dk_42 (dk_at dksX7_answer_0 0 rfl rfl)
theorem dX7_answer_1 : decode cX7_answer 1 = .ok (.iload_n 1, 1) := dk_27 (dk_at dksX7_answer_0 1 rfl rfl)
theorem dX7_answer_2 : decode cX7_answer 2 = .ok (.ifCond .ge 7, 3) := dk_156 0 7 (dk_at dksX7_answer_0 2 rfl rfl)
theorem dX7_answer_5 : decode cX7_answer 5 = .ok (.iload_n 1, 1) := dk_27 (dk_at dksX7_answer_0 5 rfl rfl)
theorem dX7_answer_6 : decode cX7_answer 6 = .ok (.goto 4, 3) := dk_167 0 4 (dk_at dksX7_answer_0 6 rfl rfl)
theorem dX7_answer_9 : decode cX7_answer 9 = .ok (.iconst 0, 1) := dk_3 (dk_at dksX7_answer_0 9 rfl rfl)
theorem dX7_answer_10 : decode cX7_answer 10 = .ok (.putfield 136, 3) := dk_181 0 136 (dk_at dksX7_answer_0 10 rfl rfl)
theorem dX7_answer_13 : decode cX7_answer 13 = .ok (.iload_n 1, 1) := dk_27 (dk_at dksX7_answer_0 13 rfl rfl)
theorem dX7_answer_14 : decode cX7_answer 14 = .ok (.ifCond .ge 14, 3) := dk_156 0 14 (dk_at dksX7_answer_0 14 rfl rfl)
theorem dX7_answer_17 : decode cX7_answer 17 = .ok (.aload_n 0, 1) := dk_42 (dk_at dksX7_answer_0 17 rfl rfl)
theorem dX7_answer_18 : decode cX7_answer 18 = .ok (.getfield 7, 3) := dk_180 0 7 (dk_at dksX7_answer_0 18 rfl rfl)
theorem dX7_answer_21 : decode cX7_answer 21 = .ok (.iload_n 1, 1) := dk_27 (dk_at dksX7_answer_0 21 rfl rfl)
theorem dX7_answer_22 : decode cX7_answer 22 = .ok (.ineg, 1) := dk_116 (dk_at dksX7_answer_0 22 rfl rfl)
theorem dX7_answer_23 : decode cX7_answer 23 = .ok (.dup2, 1) := dk_92 (dk_at dksX7_answer_0 23 rfl rfl)
theorem dX7_answer_24 : decode cX7_answer 24 = .ok (.iaload, 1) := dk_46 (dk_at dksX7_answer_1 0 rfl rfl)
theorem dX7_answer_25 : decode cX7_answer 25 = .ok (.iconst 1, 1) := dk_4 (dk_at dksX7_answer_1 1 rfl rfl)
theorem dX7_answer_26 : decode cX7_answer 26 = .ok (.iadd, 1) := dk_96 (dk_at dksX7_answer_1 2 rfl rfl)
theorem dX7_answer_27 : decode cX7_answer 27 = .ok (.iastore, 1) := dk_79 (dk_at dksX7_answer_1 3 rfl rfl)
theorem dX7_answer_28 : decode cX7_answer 28 = .ok (.iload_n 1, 1) := dk_27 (dk_at dksX7_answer_1 4 rfl rfl)
theorem dX7_answer_29 : decode cX7_answer 29 = .ok (.ireturn, 1) := dk_172 (dk_at dksX7_answer_1 5 rfl rfl)
abbrev cX7_back : ByteArray := prog_16_method_9_code
def yX7_back : MethodName := ⟨RX7, "back", "(I)I"⟩
def dkwX7_back_3 : List UInt8 := [42, 3, 182, 0, 147, 172]
abbrev dktX7_back_3 : List UInt8 := dkwX7_back_3 ++ []
def dkwX7_back_2 : List UInt8 := [42, 180, 0, 13, 28, 42, 180, 0, 16, 17, 0, 200, 27, 104, 28, 96, 46, 79, 132, 2, 1, 167, 255, 228]
abbrev dktX7_back_2 : List UInt8 := dkwX7_back_2 ++ dktX7_back_3
def dkwX7_back_1 : List UInt8 := [180, 0, 19, 27, 51, 154, 0, 10, 42, 16, 254, 182, 0, 147, 172, 3, 61, 28, 17, 0, 200, 162, 0, 27]
abbrev dktX7_back_1 : List UInt8 := dkwX7_back_1 ++ dktX7_back_2
def dkwX7_back_0 : List UInt8 := [42, 3, 181, 0, 133, 27, 133, 9, 10, 184, 0, 143, 154, 0, 9, 42, 2, 182, 0, 147, 172, 42]
abbrev dktX7_back_0 : List UInt8 := dkwX7_back_0 ++ dktX7_back_1
theorem dksX7_back_0 : cX7_back.data.toList.drop 0 = dktX7_back_0 := by decide +kernel
theorem dksX7_back_1 : cX7_back.data.toList.drop 22 = dktX7_back_1 := dk_seg dksX7_back_0 22 rfl rfl
theorem dksX7_back_2 : cX7_back.data.toList.drop 46 = dktX7_back_2 := dk_seg dksX7_back_1 24 rfl rfl
theorem dksX7_back_3 : cX7_back.data.toList.drop 70 = dktX7_back_3 := dk_seg dksX7_back_2 24 rfl rfl
theorem dX7_back_0 : decode cX7_back 0 = .ok (.aload_n 0, 1) := dk_42 (dk_at dksX7_back_0 0 rfl rfl)
theorem dX7_back_1 : decode cX7_back 1 = .ok (.iconst 0, 1) := dk_3 (dk_at dksX7_back_0 1 rfl rfl)
theorem dX7_back_2 : decode cX7_back 2 = .ok (.putfield 133, 3) := dk_181 0 133 (dk_at dksX7_back_0 2 rfl rfl)
theorem dX7_back_5 : decode cX7_back 5 = .ok (.iload_n 1, 1) := dk_27 (dk_at dksX7_back_0 5 rfl rfl)
theorem dX7_back_6 : decode cX7_back 6 = .ok (.i2l, 1) := dk_133 (dk_at dksX7_back_0 6 rfl rfl)
theorem dX7_back_7 : decode cX7_back 7 = .ok (.lconst 0, 1) := dk_9 (dk_at dksX7_back_0 7 rfl rfl)
theorem dX7_back_8 : decode cX7_back 8 = .ok (.lconst 1, 1) := dk_10 (dk_at dksX7_back_0 8 rfl rfl)
theorem dX7_back_9 : decode cX7_back 9 = .ok (.invokestatic 143, 3) := dk_184 0 143 (dk_at dksX7_back_0 9 rfl rfl)
theorem dX7_back_12 : decode cX7_back 12 = .ok (.ifCond .ne 9, 3) := dk_154 0 9 (dk_at dksX7_back_0 12 rfl rfl)
theorem dX7_back_15 : decode cX7_back 15 = .ok (.aload_n 0, 1) := dk_42 (dk_at dksX7_back_0 15 rfl rfl)
theorem dX7_back_16 : decode cX7_back 16 = .ok (.iconst (-1), 1) := dk_2 (dk_at dksX7_back_0 16 rfl rfl)
theorem dX7_back_17 : decode cX7_back 17 = .ok (.invokevirtual 147, 3) := dk_182 0 147 (dk_at dksX7_back_0 17 rfl rfl)
theorem dX7_back_20 : decode cX7_back 20 = .ok (.ireturn, 1) := dk_172 (dk_at dksX7_back_0 20 rfl rfl)
theorem dX7_back_21 : decode cX7_back 21 = .ok (.aload_n 0, 1) := dk_42 (dk_at dksX7_back_0 21 rfl rfl)
theorem dX7_back_22 : decode cX7_back 22 = .ok (.getfield 19, 3) := dk_180 0 19 (dk_at dksX7_back_1 0 rfl rfl)
theorem dX7_back_25 : decode cX7_back 25 = .ok (.iload_n 1, 1) := dk_27 (dk_at dksX7_back_1 3 rfl rfl)
theorem dX7_back_26 : decode cX7_back 26 = .ok (.baload, 1) := dk_51 (dk_at dksX7_back_1 4 rfl rfl)
theorem dX7_back_27 : decode cX7_back 27 = .ok (.ifCond .ne 10, 3) := dk_154 0 10 (dk_at dksX7_back_1 5 rfl rfl)
theorem dX7_back_30 : decode cX7_back 30 = .ok (.aload_n 0, 1) := dk_42 (dk_at dksX7_back_1 8 rfl rfl)
theorem dX7_back_31 : decode cX7_back 31 = .ok (.bipush (-2), 2) := dk_16 254 (dk_at dksX7_back_1 9 rfl rfl)
theorem dX7_back_33 : decode cX7_back 33 = .ok (.invokevirtual 147, 3) := dk_182 0 147 (dk_at dksX7_back_1 11 rfl rfl)
theorem dX7_back_36 : decode cX7_back 36 = .ok (.ireturn, 1) := dk_172 (dk_at dksX7_back_1 14 rfl rfl)
theorem dX7_back_37 : decode cX7_back 37 = .ok (.iconst 0, 1) := dk_3 (dk_at dksX7_back_1 15 rfl rfl)
theorem dX7_back_38 : decode cX7_back 38 = .ok (.istore_n 2, 1) := dk_61 (dk_at dksX7_back_1 16 rfl rfl)
theorem dX7_back_39 : decode cX7_back 39 = .ok (.iload_n 2, 1) := dk_28 (dk_at dksX7_back_1 17 rfl rfl)
theorem dX7_back_40 : decode cX7_back 40 = .ok (.sipush 200, 3) := dk_17 0 200 (dk_at dksX7_back_1 18 rfl rfl)
theorem dX7_back_43 : decode cX7_back 43 = .ok (.if_icmp .ge 27, 3) := dk_162 0 27 (dk_at dksX7_back_1 21 rfl rfl)
theorem dX7_back_46 : decode cX7_back 46 = .ok (.aload_n 0, 1) := dk_42 (dk_at dksX7_back_2 0 rfl rfl)
theorem dX7_back_47 : decode cX7_back 47 = .ok (.getfield 13, 3) := dk_180 0 13 (dk_at dksX7_back_2 1 rfl rfl)
theorem dX7_back_50 : decode cX7_back 50 = .ok (.iload_n 2, 1) := dk_28 (dk_at dksX7_back_2 4 rfl rfl)
theorem dX7_back_51 : decode cX7_back 51 = .ok (.aload_n 0, 1) := dk_42 (dk_at dksX7_back_2 5 rfl rfl)
theorem dX7_back_52 : decode cX7_back 52 = .ok (.getfield 16, 3) := dk_180 0 16 (dk_at dksX7_back_2 6 rfl rfl)
theorem dX7_back_55 : decode cX7_back 55 = .ok (.sipush 200, 3) := dk_17 0 200 (dk_at dksX7_back_2 9 rfl rfl)
theorem dX7_back_58 : decode cX7_back 58 = .ok (.iload_n 1, 1) := dk_27 (dk_at dksX7_back_2 12 rfl rfl)
theorem dX7_back_59 : decode cX7_back 59 = .ok (.imul, 1) := dk_104 (dk_at dksX7_back_2 13 rfl rfl)
theorem dX7_back_60 : decode cX7_back 60 = .ok (.iload_n 2, 1) := dk_28 (dk_at dksX7_back_2 14 rfl rfl)
theorem dX7_back_61 : decode cX7_back 61 = .ok (.iadd, 1) := dk_96 (dk_at dksX7_back_2 15 rfl rfl)
theorem dX7_back_62 : decode cX7_back 62 = .ok (.iaload, 1) := dk_46 (dk_at dksX7_back_2 16 rfl rfl)
theorem dX7_back_63 : decode cX7_back 63 = .ok (.iastore, 1) := dk_79 (dk_at dksX7_back_2 17 rfl rfl)
theorem dX7_back_64 : decode cX7_back 64 = .ok (.iinc 2 1, 3) := dk_132 2 1 (dk_at dksX7_back_2 18 rfl rfl)
theorem dX7_back_67 : decode cX7_back 67 = .ok (.goto (-28), 3) := dk_167 255 228 (dk_at dksX7_back_2 21 rfl rfl)
theorem dX7_back_70 : decode cX7_back 70 = .ok (.aload_n 0, 1) := dk_42 (dk_at dksX7_back_3 0 rfl rfl)
theorem dX7_back_71 : decode cX7_back 71 = .ok (.iconst 0, 1) := dk_3 (dk_at dksX7_back_3 1 rfl rfl)
theorem dX7_back_72 : decode cX7_back 72 = .ok (.invokevirtual 147, 3) := dk_182 0 147 (dk_at dksX7_back_3 2 rfl rfl)
theorem dX7_back_75 : decode cX7_back 75 = .ok (.ireturn, 1) := dk_172 (dk_at dksX7_back_3 5 rfl rfl)
abbrev cX7_week : ByteArray := prog_16_method_13_code
def yX7_week : MethodName := ⟨RX7, "week", "(II)I"⟩
def dkwX7_week_1 : List UInt8 := [153, 0, 15, 42, 16, 10, 27, 96, 28, 182, 0, 162, 167, 0, 8, 42, 2, 182, 0, 147, 172]
abbrev dktX7_week_1 : List UInt8 := dkwX7_week_1 ++ []
def dkwX7_week_0 : List UInt8 := [42, 3, 181, 0, 133, 27, 184, 0, 156, 153, 0, 29, 28, 133, 20, 0, 160, 20, 0, 152, 184, 0, 143]
abbrev dktX7_week_0 : List UInt8 := dkwX7_week_0 ++ dktX7_week_1
theorem dksX7_week_0 : cX7_week.data.toList.drop 0 = dktX7_week_0 := by decide +kernel
theorem dksX7_week_1 : cX7_week.data.toList.drop 23 = dktX7_week_1 := dk_seg dksX7_week_0 23 rfl rfl
theorem dX7_week_0 : decode cX7_week 0 = .ok (.aload_n 0, 1) := dk_42 (dk_at dksX7_week_0 0 rfl rfl)
theorem dX7_week_1 : decode cX7_week 1 = .ok (.iconst 0, 1) := dk_3 (dk_at dksX7_week_0 1 rfl rfl)
theorem dX7_week_2 : decode cX7_week 2 = .ok (.putfield 133, 3) := dk_181 0 133 (dk_at dksX7_week_0 2 rfl rfl)
theorem dX7_week_5 : decode cX7_week 5 = .ok (.iload_n 1, 1) := dk_27 (dk_at dksX7_week_0 5 rfl rfl)
theorem dX7_week_6 : decode cX7_week 6 = .ok (.invokestatic 156, 3) := dk_184 0 156 (dk_at dksX7_week_0 6 rfl rfl)
theorem dX7_week_9 : decode cX7_week 9 = .ok (.ifCond .eq 29, 3) := dk_153 0 29 (dk_at dksX7_week_0 9 rfl rfl)
theorem dX7_week_12 : decode cX7_week 12 = .ok (.iload_n 2, 1) := dk_28 (dk_at dksX7_week_0 12 rfl rfl)
theorem dX7_week_13 : decode cX7_week 13 = .ok (.i2l, 1) := dk_133 (dk_at dksX7_week_0 13 rfl rfl)
theorem dX7_week_14 : decode cX7_week 14 = .ok (.ldc2_w 160, 3) := dk_20 0 160 (dk_at dksX7_week_0 14 rfl rfl)
theorem dX7_week_17 : decode cX7_week 17 = .ok (.ldc2_w 152, 3) := dk_20 0 152 (dk_at dksX7_week_0 17 rfl rfl)
theorem dX7_week_20 : decode cX7_week 20 = .ok (.invokestatic 143, 3) := dk_184 0 143 (dk_at dksX7_week_0 20 rfl rfl)
theorem dX7_week_23 : decode cX7_week 23 = .ok (.ifCond .eq 15, 3) := dk_153 0 15 (dk_at dksX7_week_1 0 rfl rfl)
theorem dX7_week_26 : decode cX7_week 26 = .ok (.aload_n 0, 1) := dk_42 (dk_at dksX7_week_1 3 rfl rfl)
theorem dX7_week_27 : decode cX7_week 27 = .ok (.bipush 10, 2) := dk_16 10 (dk_at dksX7_week_1 4 rfl rfl)
theorem dX7_week_29 : decode cX7_week 29 = .ok (.iload_n 1, 1) := dk_27 (dk_at dksX7_week_1 6 rfl rfl)
theorem dX7_week_30 : decode cX7_week 30 = .ok (.iadd, 1) := dk_96 (dk_at dksX7_week_1 7 rfl rfl)
theorem dX7_week_31 : decode cX7_week 31 = .ok (.iload_n 2, 1) := dk_28 (dk_at dksX7_week_1 8 rfl rfl)
theorem dX7_week_32 : decode cX7_week 32 = .ok (.invokevirtual 162, 3) := dk_182 0 162 (dk_at dksX7_week_1 9 rfl rfl)
theorem dX7_week_35 : decode cX7_week 35 = .ok (.goto 8, 3) := dk_167 0 8 (dk_at dksX7_week_1 12 rfl rfl)
theorem dX7_week_38 : decode cX7_week 38 = .ok (.aload_n 0, 1) := dk_42 (dk_at dksX7_week_1 15 rfl rfl)
theorem dX7_week_39 : decode cX7_week 39 = .ok (.iconst (-1), 1) := dk_2 (dk_at dksX7_week_1 16 rfl rfl)
theorem dX7_week_40 : decode cX7_week 40 = .ok (.invokevirtual 147, 3) := dk_182 0 147 (dk_at dksX7_week_1 17 rfl rfl)
theorem dX7_week_43 : decode cX7_week 43 = .ok (.ireturn, 1) := dk_172 (dk_at dksX7_week_1 20 rfl rfl)
abbrev cX7_isWeek : ByteArray := prog_16_method_12_code
def yX7_isWeek : MethodName := ⟨RX7, "isWeek", "(I)Z"⟩
def dkwX7_isWeek_0 : List UInt8 := [26, 133, 9, 20, 0, 154, 184, 0, 143, 172]
abbrev dktX7_isWeek_0 : List UInt8 := dkwX7_isWeek_0 ++ []
theorem dksX7_isWeek_0 : cX7_isWeek.data.toList.drop 0 = dktX7_isWeek_0 := by decide +kernel
theorem dX7_isWeek_0 : decode cX7_isWeek 0 = .ok (.iload_n 0, 1) := dk_26 (dk_at dksX7_isWeek_0 0 rfl rfl)
theorem dX7_isWeek_1 : decode cX7_isWeek 1 = .ok (.i2l, 1) := dk_133 (dk_at dksX7_isWeek_0 1 rfl rfl)
theorem dX7_isWeek_2 : decode cX7_isWeek 2 = .ok (.lconst 0, 1) := dk_9 (dk_at dksX7_isWeek_0 2 rfl rfl)
theorem dX7_isWeek_3 : decode cX7_isWeek 3 = .ok (.ldc2_w 154, 3) := dk_20 0 154 (dk_at dksX7_isWeek_0 3 rfl rfl)
theorem dX7_isWeek_6 : decode cX7_isWeek 6 = .ok (.invokestatic 143, 3) := dk_184 0 143 (dk_at dksX7_isWeek_0 6 rfl rfl)
theorem dX7_isWeek_9 : decode cX7_isWeek 9 = .ok (.ireturn, 1) := dk_172 (dk_at dksX7_isWeek_0 9 rfl rfl)
abbrev cX7_change : ByteArray := prog_16_method_7_code
def yX7_change : MethodName := ⟨RX7, "change", "(II)I"⟩
def dkwX7_change_0 : List UInt8 := [42, 180, 0, 13, 27, 46, 62, 42, 180, 0, 13, 27, 28, 79, 42, 29, 182, 0, 139, 172]
abbrev dktX7_change_0 : List UInt8 := dkwX7_change_0 ++ []
theorem dksX7_change_0 : cX7_change.data.toList.drop 0 = dktX7_change_0 := by decide +kernel
theorem dX7_change_0 : decode cX7_change 0 = .ok (.aload_n 0, 1) := dk_42 (dk_at dksX7_change_0 0 rfl rfl)
theorem dX7_change_1 : decode cX7_change 1 = .ok (.getfield 13, 3) := dk_180 0 13 (dk_at dksX7_change_0 1 rfl rfl)
theorem dX7_change_4 : decode cX7_change 4 = .ok (.iload_n 1, 1) := dk_27 (dk_at dksX7_change_0 4 rfl rfl)
theorem dX7_change_5 : decode cX7_change 5 = .ok (.iaload, 1) := dk_46 (dk_at dksX7_change_0 5 rfl rfl)
theorem dX7_change_6 : decode cX7_change 6 = .ok (.istore_n 3, 1) := dk_62 (dk_at dksX7_change_0 6 rfl rfl)
theorem dX7_change_7 : decode cX7_change 7 = .ok (.aload_n 0, 1) := dk_42 (dk_at dksX7_change_0 7 rfl rfl)
theorem dX7_change_8 : decode cX7_change 8 = .ok (.getfield 13, 3) := dk_180 0 13 (dk_at dksX7_change_0 8 rfl rfl)
theorem dX7_change_11 : decode cX7_change 11 = .ok (.iload_n 1, 1) := dk_27 (dk_at dksX7_change_0 11 rfl rfl)
theorem dX7_change_12 : decode cX7_change 12 = .ok (.iload_n 2, 1) := dk_28 (dk_at dksX7_change_0 12 rfl rfl)
theorem dX7_change_13 : decode cX7_change 13 = .ok (.iastore, 1) := dk_79 (dk_at dksX7_change_0 13 rfl rfl)
theorem dX7_change_14 : decode cX7_change 14 = .ok (.aload_n 0, 1) := dk_42 (dk_at dksX7_change_0 14 rfl rfl)
theorem dX7_change_15 : decode cX7_change 15 = .ok (.iload_n 3, 1) := dk_29 (dk_at dksX7_change_0 15 rfl rfl)
theorem dX7_change_16 : decode cX7_change 16 = .ok (.invokevirtual 139, 3) := dk_182 0 139 (dk_at dksX7_change_0 16 rfl rfl)
theorem dX7_change_19 : decode cX7_change 19 = .ok (.ireturn, 1) := dk_172 (dk_at dksX7_change_0 19 rfl rfl)
abbrev cX7_was : ByteArray := prog_16_method_6_code
def yX7_was : MethodName := ⟨RX7, "was", "(I)I"⟩
def dkwX7_was_0 : List UInt8 := [42, 3, 181, 0, 136, 27, 172]
abbrev dktX7_was_0 : List UInt8 := dkwX7_was_0 ++ []
theorem dksX7_was_0 : cX7_was.data.toList.drop 0 = dktX7_was_0 := by decide +kernel
theorem dX7_was_0 : decode cX7_was 0 = .ok (.aload_n 0, 1) := dk_42 (dk_at dksX7_was_0 0 rfl rfl)
theorem dX7_was_1 : decode cX7_was 1 = .ok (.iconst 0, 1) := dk_3 (dk_at dksX7_was_0 1 rfl rfl)
theorem dX7_was_2 : decode cX7_was 2 = .ok (.putfield 136, 3) := dk_181 0 136 (dk_at dksX7_was_0 2 rfl rfl)
theorem dX7_was_5 : decode cX7_was 5 = .ok (.iload_n 1, 1) := dk_27 (dk_at dksX7_was_0 5 rfl rfl)
theorem dX7_was_6 : decode cX7_was 6 = .ok (.ireturn, 1) := dk_172 (dk_at dksX7_was_0 6 rfl rfl)
abbrev cX7_cut : ByteArray := prog_16_method_14_code
def yX7_cut : MethodName := ⟨RX7, "cut", "(II)I"⟩
def dkwX7_cut_1 : List UInt8 := [184, 0, 143, 153, 0, 15, 42, 16, 42, 27, 96, 28, 182, 0, 162, 167, 0, 8, 42, 2, 182, 0, 147, 172]
abbrev dktX7_cut_1 : List UInt8 := dkwX7_cut_1 ++ []
def dkwX7_cut_0 : List UInt8 := [42, 3, 181, 0, 133, 27, 184, 0, 166, 153, 0, 32, 28, 2, 159, 0, 15, 28, 133, 10, 20, 0, 154]
abbrev dktX7_cut_0 : List UInt8 := dkwX7_cut_0 ++ dktX7_cut_1
theorem dksX7_cut_0 : cX7_cut.data.toList.drop 0 = dktX7_cut_0 := by decide +kernel
theorem dksX7_cut_1 : cX7_cut.data.toList.drop 23 = dktX7_cut_1 := dk_seg dksX7_cut_0 23 rfl rfl
theorem dX7_cut_0 : decode cX7_cut 0 = .ok (.aload_n 0, 1) := dk_42 (dk_at dksX7_cut_0 0 rfl rfl)
theorem dX7_cut_1 : decode cX7_cut 1 = .ok (.iconst 0, 1) := dk_3 (dk_at dksX7_cut_0 1 rfl rfl)
theorem dX7_cut_2 : decode cX7_cut 2 = .ok (.putfield 133, 3) := dk_181 0 133 (dk_at dksX7_cut_0 2 rfl rfl)
theorem dX7_cut_5 : decode cX7_cut 5 = .ok (.iload_n 1, 1) := dk_27 (dk_at dksX7_cut_0 5 rfl rfl)
theorem dX7_cut_6 : decode cX7_cut 6 = .ok (.invokestatic 166, 3) := dk_184 0 166 (dk_at dksX7_cut_0 6 rfl rfl)
theorem dX7_cut_9 : decode cX7_cut 9 = .ok (.ifCond .eq 32, 3) := dk_153 0 32 (dk_at dksX7_cut_0 9 rfl rfl)
theorem dX7_cut_12 : decode cX7_cut 12 = .ok (.iload_n 2, 1) := dk_28 (dk_at dksX7_cut_0 12 rfl rfl)
theorem dX7_cut_13 : decode cX7_cut 13 = .ok (.iconst (-1), 1) := dk_2 (dk_at dksX7_cut_0 13 rfl rfl)
theorem dX7_cut_14 : decode cX7_cut 14 = .ok (.if_icmp .eq 15, 3) := dk_159 0 15 (dk_at dksX7_cut_0 14 rfl rfl)
theorem dX7_cut_17 : decode cX7_cut 17 = .ok (.iload_n 2, 1) := dk_28 (dk_at dksX7_cut_0 17 rfl rfl)
theorem dX7_cut_18 : decode cX7_cut 18 = .ok (.i2l, 1) := dk_133 (dk_at dksX7_cut_0 18 rfl rfl)
theorem dX7_cut_19 : decode cX7_cut 19 = .ok (.lconst 1, 1) := dk_10 (dk_at dksX7_cut_0 19 rfl rfl)
theorem dX7_cut_20 : decode cX7_cut 20 = .ok (.ldc2_w 154, 3) := dk_20 0 154 (dk_at dksX7_cut_0 20 rfl rfl)
theorem dX7_cut_23 : decode cX7_cut 23 = .ok (.invokestatic 143, 3) := dk_184 0 143 (dk_at dksX7_cut_1 0 rfl rfl)
theorem dX7_cut_26 : decode cX7_cut 26 = .ok (.ifCond .eq 15, 3) := dk_153 0 15 (dk_at dksX7_cut_1 3 rfl rfl)
theorem dX7_cut_29 : decode cX7_cut 29 = .ok (.aload_n 0, 1) := dk_42 (dk_at dksX7_cut_1 6 rfl rfl)
theorem dX7_cut_30 : decode cX7_cut 30 = .ok (.bipush 42, 2) := dk_16 42 (dk_at dksX7_cut_1 7 rfl rfl)
theorem dX7_cut_32 : decode cX7_cut 32 = .ok (.iload_n 1, 1) := dk_27 (dk_at dksX7_cut_1 9 rfl rfl)
theorem dX7_cut_33 : decode cX7_cut 33 = .ok (.iadd, 1) := dk_96 (dk_at dksX7_cut_1 10 rfl rfl)
theorem dX7_cut_34 : decode cX7_cut 34 = .ok (.iload_n 2, 1) := dk_28 (dk_at dksX7_cut_1 11 rfl rfl)
theorem dX7_cut_35 : decode cX7_cut 35 = .ok (.invokevirtual 162, 3) := dk_182 0 162 (dk_at dksX7_cut_1 12 rfl rfl)
theorem dX7_cut_38 : decode cX7_cut 38 = .ok (.goto 8, 3) := dk_167 0 8 (dk_at dksX7_cut_1 15 rfl rfl)
theorem dX7_cut_41 : decode cX7_cut 41 = .ok (.aload_n 0, 1) := dk_42 (dk_at dksX7_cut_1 18 rfl rfl)
theorem dX7_cut_42 : decode cX7_cut 42 = .ok (.iconst (-1), 1) := dk_2 (dk_at dksX7_cut_1 19 rfl rfl)
theorem dX7_cut_43 : decode cX7_cut 43 = .ok (.invokevirtual 147, 3) := dk_182 0 147 (dk_at dksX7_cut_1 20 rfl rfl)
theorem dX7_cut_46 : decode cX7_cut 46 = .ok (.ireturn, 1) := dk_172 (dk_at dksX7_cut_1 23 rfl rfl)
abbrev cX7_isThing : ByteArray := prog_16_method_10_code
def yX7_isThing : MethodName := ⟨RX7, "isThing", "(I)Z"⟩
def dkwX7_isThing_0 : List UInt8 := [26, 133, 9, 20, 0, 150, 184, 0, 143, 172]
abbrev dktX7_isThing_0 : List UInt8 := dkwX7_isThing_0 ++ []
theorem dksX7_isThing_0 : cX7_isThing.data.toList.drop 0 = dktX7_isThing_0 := by decide +kernel
theorem dX7_isThing_0 : decode cX7_isThing 0 = .ok (.iload_n 0, 1) := dk_26 (dk_at dksX7_isThing_0 0 rfl rfl)
theorem dX7_isThing_1 : decode cX7_isThing 1 = .ok (.i2l, 1) := dk_133 (dk_at dksX7_isThing_0 1 rfl rfl)
theorem dX7_isThing_2 : decode cX7_isThing 2 = .ok (.lconst 0, 1) := dk_9 (dk_at dksX7_isThing_0 2 rfl rfl)
theorem dX7_isThing_3 : decode cX7_isThing 3 = .ok (.ldc2_w 150, 3) := dk_20 0 150 (dk_at dksX7_isThing_0 3 rfl rfl)
theorem dX7_isThing_6 : decode cX7_isThing 6 = .ok (.invokestatic 143, 3) := dk_184 0 143 (dk_at dksX7_isThing_0 6 rfl rfl)
theorem dX7_isThing_9 : decode cX7_isThing 9 = .ok (.ireturn, 1) := dk_172 (dk_at dksX7_isThing_0 9 rfl rfl)
abbrev cX7_shorter : ByteArray := prog_16_method_17_code
def yX7_shorter : MethodName := ⟨RX7, "shorter", "(II)I"⟩
def dkwX7_shorter_3 : List UInt8 := [42, 180, 0, 13, 4, 46, 182, 0, 147, 172]
abbrev dktX7_shorter_3 : List UInt8 := dkwX7_shorter_3 ++ []
def dkwX7_shorter_2 : List UInt8 := [180, 0, 13, 4, 46, 16, 6, 160, 0, 10, 42, 16, 251, 182, 0, 147, 172, 42, 27, 28, 182, 0, 176, 42]
abbrev dktX7_shorter_2 : List UInt8 := dkwX7_shorter_2 ++ dktX7_shorter_3
def dkwX7_shorter_1 : List UInt8 := [42, 2, 182, 0, 147, 172, 42, 27, 28, 182, 0, 172, 153, 0, 10, 42, 16, 253, 182, 0, 147, 172, 42]
abbrev dktX7_shorter_1 : List UInt8 := dkwX7_shorter_1 ++ dktX7_shorter_2
def dkwX7_shorter_0 : List UInt8 := [42, 3, 181, 0, 133, 27, 184, 0, 169, 153, 0, 15, 28, 184, 0, 169, 153, 0, 8, 27, 28, 160, 0, 9]
abbrev dktX7_shorter_0 : List UInt8 := dkwX7_shorter_0 ++ dktX7_shorter_1
theorem dksX7_shorter_0 : cX7_shorter.data.toList.drop 0 = dktX7_shorter_0 := by decide +kernel
theorem dksX7_shorter_1 : cX7_shorter.data.toList.drop 24 = dktX7_shorter_1 := dk_seg dksX7_shorter_0 24 rfl rfl
theorem dksX7_shorter_2 : cX7_shorter.data.toList.drop 47 = dktX7_shorter_2 := dk_seg dksX7_shorter_1 23 rfl rfl
theorem dksX7_shorter_3 : cX7_shorter.data.toList.drop 71 = dktX7_shorter_3 := dk_seg dksX7_shorter_2 24 rfl rfl
theorem dX7_shorter_0 : decode cX7_shorter 0 = .ok (.aload_n 0, 1) := dk_42 (dk_at dksX7_shorter_0 0 rfl rfl)
theorem dX7_shorter_1 : decode cX7_shorter 1 = .ok (.iconst 0, 1) := dk_3 (dk_at dksX7_shorter_0 1 rfl rfl)
theorem dX7_shorter_2 : decode cX7_shorter 2 = .ok (.putfield 133, 3) := dk_181 0 133 (dk_at dksX7_shorter_0 2 rfl rfl)
theorem dX7_shorter_5 : decode cX7_shorter 5 = .ok (.iload_n 1, 1) := dk_27 (dk_at dksX7_shorter_0 5 rfl rfl)
theorem dX7_shorter_6 : decode cX7_shorter 6 = .ok (.invokestatic 169, 3) := dk_184 0 169 (dk_at dksX7_shorter_0 6 rfl rfl)
theorem dX7_shorter_9 : decode cX7_shorter 9 = .ok (.ifCond .eq 15, 3) := dk_153 0 15 (dk_at dksX7_shorter_0 9 rfl rfl)
theorem dX7_shorter_12 : decode cX7_shorter 12 = .ok (.iload_n 2, 1) := dk_28 (dk_at dksX7_shorter_0 12 rfl rfl)
theorem dX7_shorter_13 : decode cX7_shorter 13 = .ok (.invokestatic 169, 3) := dk_184 0 169 (dk_at dksX7_shorter_0 13 rfl rfl)
theorem dX7_shorter_16 : decode cX7_shorter 16 = .ok (.ifCond .eq 8, 3) := dk_153 0 8 (dk_at dksX7_shorter_0 16 rfl rfl)
theorem dX7_shorter_19 : decode cX7_shorter 19 = .ok (.iload_n 1, 1) := dk_27 (dk_at dksX7_shorter_0 19 rfl rfl)
theorem dX7_shorter_20 : decode cX7_shorter 20 = .ok (.iload_n 2, 1) := dk_28 (dk_at dksX7_shorter_0 20 rfl rfl)
theorem dX7_shorter_21 : decode cX7_shorter 21 = .ok (.if_icmp .ne 9, 3) := dk_160 0 9 (dk_at dksX7_shorter_0 21 rfl rfl)
theorem dX7_shorter_24 : decode cX7_shorter 24 = .ok (.aload_n 0, 1) := dk_42 (dk_at dksX7_shorter_1 0 rfl rfl)
theorem dX7_shorter_25 : decode cX7_shorter 25 = .ok (.iconst (-1), 1) := dk_2 (dk_at dksX7_shorter_1 1 rfl rfl)
theorem dX7_shorter_26 : decode cX7_shorter 26 = .ok (.invokevirtual 147, 3) := dk_182 0 147 (dk_at dksX7_shorter_1 2 rfl rfl)
theorem dX7_shorter_29 : decode cX7_shorter 29 = .ok (.ireturn, 1) := dk_172 (dk_at dksX7_shorter_1 5 rfl rfl)
theorem dX7_shorter_30 : decode cX7_shorter 30 = .ok (.aload_n 0, 1) := dk_42 (dk_at dksX7_shorter_1 6 rfl rfl)
theorem dX7_shorter_31 : decode cX7_shorter 31 = .ok (.iload_n 1, 1) := dk_27 (dk_at dksX7_shorter_1 7 rfl rfl)
theorem dX7_shorter_32 : decode cX7_shorter 32 = .ok (.iload_n 2, 1) := dk_28 (dk_at dksX7_shorter_1 8 rfl rfl)
theorem dX7_shorter_33 : decode cX7_shorter 33 = .ok (.invokevirtual 172, 3) := dk_182 0 172 (dk_at dksX7_shorter_1 9 rfl rfl)
theorem dX7_shorter_36 : decode cX7_shorter 36 = .ok (.ifCond .eq 10, 3) := dk_153 0 10 (dk_at dksX7_shorter_1 12 rfl rfl)
theorem dX7_shorter_39 : decode cX7_shorter 39 = .ok (.aload_n 0, 1) := dk_42 (dk_at dksX7_shorter_1 15 rfl rfl)
theorem dX7_shorter_40 : decode cX7_shorter 40 = .ok (.bipush (-3), 2) := dk_16 253 (dk_at dksX7_shorter_1 16 rfl rfl)
theorem dX7_shorter_42 : decode cX7_shorter 42 = .ok (.invokevirtual 147, 3) := dk_182 0 147 (dk_at dksX7_shorter_1 18 rfl rfl)
theorem dX7_shorter_45 : decode cX7_shorter 45 = .ok (.ireturn, 1) := dk_172 (dk_at dksX7_shorter_1 21 rfl rfl)
theorem dX7_shorter_46 : decode cX7_shorter 46 = .ok (.aload_n 0, 1) := dk_42 (dk_at dksX7_shorter_1 22 rfl rfl)
theorem dX7_shorter_47 : decode cX7_shorter 47 = .ok (.getfield 13, 3) := dk_180 0 13 (dk_at dksX7_shorter_2 0 rfl rfl)
theorem dX7_shorter_50 : decode cX7_shorter 50 = .ok (.iconst 1, 1) := dk_4 (dk_at dksX7_shorter_2 3 rfl rfl)
theorem dX7_shorter_51 : decode cX7_shorter 51 = .ok (.iaload, 1) := dk_46 (dk_at dksX7_shorter_2 4 rfl rfl)
theorem dX7_shorter_52 : decode cX7_shorter 52 = .ok (.bipush 6, 2) := dk_16 6 (dk_at dksX7_shorter_2 5 rfl rfl)
theorem dX7_shorter_54 : decode cX7_shorter 54 = .ok (.if_icmp .ne 10, 3) := dk_160 0 10 (dk_at dksX7_shorter_2 7 rfl rfl)
theorem dX7_shorter_57 : decode cX7_shorter 57 = .ok (.aload_n 0, 1) := dk_42 (dk_at dksX7_shorter_2 10 rfl rfl)
theorem dX7_shorter_58 : decode cX7_shorter 58 = .ok (.bipush (-5), 2) := dk_16 251 (dk_at dksX7_shorter_2 11 rfl rfl)
theorem dX7_shorter_60 : decode cX7_shorter 60 = .ok (.invokevirtual 147, 3) := dk_182 0 147 (dk_at dksX7_shorter_2 13 rfl rfl)
theorem dX7_shorter_63 : decode cX7_shorter 63 = .ok (.ireturn, 1) := dk_172 (dk_at dksX7_shorter_2 16 rfl rfl)
theorem dX7_shorter_64 : decode cX7_shorter 64 = .ok (.aload_n 0, 1) := dk_42 (dk_at dksX7_shorter_2 17 rfl rfl)
theorem dX7_shorter_65 : decode cX7_shorter 65 = .ok (.iload_n 1, 1) := dk_27 (dk_at dksX7_shorter_2 18 rfl rfl)
theorem dX7_shorter_66 : decode cX7_shorter 66 = .ok (.iload_n 2, 1) := dk_28 (dk_at dksX7_shorter_2 19 rfl rfl)
theorem dX7_shorter_67 : decode cX7_shorter 67 = .ok (.invokevirtual 176, 3) := dk_182 0 176 (dk_at dksX7_shorter_2 20 rfl rfl)
theorem dX7_shorter_70 : decode cX7_shorter 70 = .ok (.aload_n 0, 1) := dk_42 (dk_at dksX7_shorter_2 23 rfl rfl)
theorem dX7_shorter_71 : decode cX7_shorter 71 = .ok (.aload_n 0, 1) := dk_42 (dk_at dksX7_shorter_3 0 rfl rfl)
theorem dX7_shorter_72 : decode cX7_shorter 72 = .ok (.getfield 13, 3) := dk_180 0 13 (dk_at dksX7_shorter_3 1 rfl rfl)
theorem dX7_shorter_75 : decode cX7_shorter 75 = .ok (.iconst 1, 1) := dk_4 (dk_at dksX7_shorter_3 4 rfl rfl)
theorem dX7_shorter_76 : decode cX7_shorter 76 = .ok (.iaload, 1) := dk_46 (dk_at dksX7_shorter_3 5 rfl rfl)
theorem dX7_shorter_77 : decode cX7_shorter 77 = .ok (.invokevirtual 147, 3) := dk_182 0 147 (dk_at dksX7_shorter_3 6 rfl rfl)
theorem dX7_shorter_80 : decode cX7_shorter 80 = .ok (.ireturn, 1) := dk_172 (dk_at dksX7_shorter_3 9 rfl rfl)
abbrev cX7_isKeeper : ByteArray := prog_16_method_11_code
def yX7_isKeeper : MethodName := ⟨RX7, "isKeeper", "(I)Z"⟩
def dkwX7_isKeeper_0 : List UInt8 := [26, 133, 9, 20, 0, 152, 184, 0, 143, 172]
abbrev dktX7_isKeeper_0 : List UInt8 := dkwX7_isKeeper_0 ++ []
theorem dksX7_isKeeper_0 : cX7_isKeeper.data.toList.drop 0 = dktX7_isKeeper_0 := by decide +kernel
theorem dX7_isKeeper_0 : decode cX7_isKeeper 0 = .ok (.iload_n 0, 1) := dk_26 (dk_at dksX7_isKeeper_0 0 rfl rfl)
theorem dX7_isKeeper_1 : decode cX7_isKeeper 1 = .ok (.i2l, 1) := dk_133 (dk_at dksX7_isKeeper_0 1 rfl rfl)
theorem dX7_isKeeper_2 : decode cX7_isKeeper 2 = .ok (.lconst 0, 1) := dk_9 (dk_at dksX7_isKeeper_0 2 rfl rfl)
theorem dX7_isKeeper_3 : decode cX7_isKeeper 3 = .ok (.ldc2_w 152, 3) := dk_20 0 152 (dk_at dksX7_isKeeper_0 3 rfl rfl)
theorem dX7_isKeeper_6 : decode cX7_isKeeper 6 = .ok (.invokestatic 143, 3) := dk_184 0 143 (dk_at dksX7_isKeeper_0 6 rfl rfl)
theorem dX7_isKeeper_9 : decode cX7_isKeeper 9 = .ok (.ireturn, 1) := dk_172 (dk_at dksX7_isKeeper_0 9 rfl rfl)
abbrev cX7_isShorter : ByteArray := prog_16_method_15_code
def yX7_isShorter : MethodName := ⟨RX7, "isShorter", "(II)Z"⟩
def dkwX7_isShorter_2 : List UInt8 := [132, 3, 1, 167, 255, 209, 3, 172]
abbrev dktX7_isShorter_2 : List UInt8 := dkwX7_isShorter_2 ++ []
def dkwX7_isShorter_1 : List UInt8 := [160, 0, 22, 42, 180, 0, 13, 16, 48, 5, 29, 104, 96, 4, 96, 46, 28, 160, 0, 5, 4, 172]
abbrev dktX7_isShorter_1 : List UInt8 := dkwX7_isShorter_1 ++ dktX7_isShorter_2
def dkwX7_isShorter_0 : List UInt8 := [3, 62, 29, 42, 180, 0, 13, 4, 46, 162, 0, 43, 42, 180, 0, 13, 16, 48, 5, 29, 104, 96, 46, 27]
abbrev dktX7_isShorter_0 : List UInt8 := dkwX7_isShorter_0 ++ dktX7_isShorter_1
theorem dksX7_isShorter_0 : cX7_isShorter.data.toList.drop 0 = dktX7_isShorter_0 := by decide +kernel
theorem dksX7_isShorter_1 : cX7_isShorter.data.toList.drop 24 = dktX7_isShorter_1 := dk_seg dksX7_isShorter_0 24 rfl rfl
theorem dksX7_isShorter_2 : cX7_isShorter.data.toList.drop 46 = dktX7_isShorter_2 := dk_seg dksX7_isShorter_1 22 rfl rfl
theorem dX7_isShorter_0 : decode cX7_isShorter 0 = .ok (.iconst 0, 1) := dk_3 (dk_at dksX7_isShorter_0 0 rfl rfl)
theorem dX7_isShorter_1 : decode cX7_isShorter 1 = .ok (.istore_n 3, 1) := dk_62 (dk_at dksX7_isShorter_0 1 rfl rfl)
theorem dX7_isShorter_2 : decode cX7_isShorter 2 = .ok (.iload_n 3, 1) := dk_29 (dk_at dksX7_isShorter_0 2 rfl rfl)
theorem dX7_isShorter_3 : decode cX7_isShorter 3 = .ok (.aload_n 0, 1) := dk_42 (dk_at dksX7_isShorter_0 3 rfl rfl)
theorem dX7_isShorter_4 : decode cX7_isShorter 4 = .ok (.getfield 13, 3) := dk_180 0 13 (dk_at dksX7_isShorter_0 4 rfl rfl)
theorem dX7_isShorter_7 : decode cX7_isShorter 7 = .ok (.iconst 1, 1) := dk_4 (dk_at dksX7_isShorter_0 7 rfl rfl)
theorem dX7_isShorter_8 : decode cX7_isShorter 8 = .ok (.iaload, 1) := dk_46 (dk_at dksX7_isShorter_0 8 rfl rfl)
theorem dX7_isShorter_9 : decode cX7_isShorter 9 = .ok (.if_icmp .ge 43, 3) := dk_162 0 43 (dk_at dksX7_isShorter_0 9 rfl rfl)
theorem dX7_isShorter_12 : decode cX7_isShorter 12 = .ok (.aload_n 0, 1) := dk_42 (dk_at dksX7_isShorter_0 12 rfl rfl)
theorem dX7_isShorter_13 : decode cX7_isShorter 13 = .ok (.getfield 13, 3) := dk_180 0 13 (dk_at dksX7_isShorter_0 13 rfl rfl)
theorem dX7_isShorter_16 : decode cX7_isShorter 16 = .ok (.bipush 48, 2) := dk_16 48 (dk_at dksX7_isShorter_0 16 rfl rfl)
theorem dX7_isShorter_18 : decode cX7_isShorter 18 = .ok (.iconst 2, 1) := dk_5 (dk_at dksX7_isShorter_0 18 rfl rfl)
theorem dX7_isShorter_19 : decode cX7_isShorter 19 = .ok (.iload_n 3, 1) := dk_29 (dk_at dksX7_isShorter_0 19 rfl rfl)
theorem dX7_isShorter_20 : decode cX7_isShorter 20 = .ok (.imul, 1) := dk_104 (dk_at dksX7_isShorter_0 20 rfl rfl)
theorem dX7_isShorter_21 : decode cX7_isShorter 21 = .ok (.iadd, 1) := dk_96 (dk_at dksX7_isShorter_0 21 rfl rfl)
theorem dX7_isShorter_22 : decode cX7_isShorter 22 = .ok (.iaload, 1) := dk_46 (dk_at dksX7_isShorter_0 22 rfl rfl)
theorem dX7_isShorter_23 : decode cX7_isShorter 23 = .ok (.iload_n 1, 1) := dk_27 (dk_at dksX7_isShorter_0 23 rfl rfl)
theorem dX7_isShorter_24 : decode cX7_isShorter 24 = .ok (.if_icmp .ne 22, 3) := dk_160 0 22 (dk_at dksX7_isShorter_1 0 rfl rfl)
theorem dX7_isShorter_27 : decode cX7_isShorter 27 = .ok (.aload_n 0, 1) := dk_42 (dk_at dksX7_isShorter_1 3 rfl rfl)
theorem dX7_isShorter_28 : decode cX7_isShorter 28 = .ok (.getfield 13, 3) := dk_180 0 13 (dk_at dksX7_isShorter_1 4 rfl rfl)
theorem dX7_isShorter_31 : decode cX7_isShorter 31 = .ok (.bipush 48, 2) := dk_16 48 (dk_at dksX7_isShorter_1 7 rfl rfl)
theorem dX7_isShorter_33 : decode cX7_isShorter 33 = .ok (.iconst 2, 1) := dk_5 (dk_at dksX7_isShorter_1 9 rfl rfl)
theorem dX7_isShorter_34 : decode cX7_isShorter 34 = .ok (.iload_n 3, 1) := dk_29 (dk_at dksX7_isShorter_1 10 rfl rfl)
theorem dX7_isShorter_35 : decode cX7_isShorter 35 = .ok (.imul, 1) := dk_104 (dk_at dksX7_isShorter_1 11 rfl rfl)
theorem dX7_isShorter_36 : decode cX7_isShorter 36 = .ok (.iadd, 1) := dk_96 (dk_at dksX7_isShorter_1 12 rfl rfl)
theorem dX7_isShorter_37 : decode cX7_isShorter 37 = .ok (.iconst 1, 1) := dk_4 (dk_at dksX7_isShorter_1 13 rfl rfl)
theorem dX7_isShorter_38 : decode cX7_isShorter 38 = .ok (.iadd, 1) := dk_96 (dk_at dksX7_isShorter_1 14 rfl rfl)
theorem dX7_isShorter_39 : decode cX7_isShorter 39 = .ok (.iaload, 1) := dk_46 (dk_at dksX7_isShorter_1 15 rfl rfl)
theorem dX7_isShorter_40 : decode cX7_isShorter 40 = .ok (.iload_n 2, 1) := dk_28 (dk_at dksX7_isShorter_1 16 rfl rfl)
theorem dX7_isShorter_41 : decode cX7_isShorter 41 = .ok (.if_icmp .ne 5, 3) := dk_160 0 5 (dk_at dksX7_isShorter_1 17 rfl rfl)
theorem dX7_isShorter_44 : decode cX7_isShorter 44 = .ok (.iconst 1, 1) := dk_4 (dk_at dksX7_isShorter_1 20 rfl rfl)
theorem dX7_isShorter_45 : decode cX7_isShorter 45 = .ok (.ireturn, 1) := dk_172 (dk_at dksX7_isShorter_1 21 rfl rfl)
theorem dX7_isShorter_46 : decode cX7_isShorter 46 = .ok (.iinc 3 1, 3) := dk_132 3 1 (dk_at dksX7_isShorter_2 0 rfl rfl)
theorem dX7_isShorter_49 : decode cX7_isShorter 49 = .ok (.goto (-47), 3) := dk_167 255 209 (dk_at dksX7_isShorter_2 3 rfl rfl)
theorem dX7_isShorter_52 : decode cX7_isShorter 52 = .ok (.iconst 0, 1) := dk_3 (dk_at dksX7_isShorter_2 6 rfl rfl)
theorem dX7_isShorter_53 : decode cX7_isShorter 53 = .ok (.ireturn, 1) := dk_172 (dk_at dksX7_isShorter_2 7 rfl rfl)
abbrev cX7_addShorter : ByteArray := prog_16_method_16_code
def yX7_addShorter : MethodName := ⟨RX7, "addShorter", "(II)V"⟩
def dkwX7_addShorter_1 : List UInt8 := [42, 180, 0, 13, 4, 46, 104, 96, 4, 96, 28, 79, 42, 180, 0, 13, 4, 92, 46, 4, 96, 79, 177]
abbrev dktX7_addShorter_1 : List UInt8 := dkwX7_addShorter_1 ++ []
def dkwX7_addShorter_0 : List UInt8 := [42, 180, 0, 13, 16, 48, 5, 42, 180, 0, 13, 4, 46, 104, 96, 27, 79, 42, 180, 0, 13, 16, 48, 5]
abbrev dktX7_addShorter_0 : List UInt8 := dkwX7_addShorter_0 ++ dktX7_addShorter_1
theorem dksX7_addShorter_0 : cX7_addShorter.data.toList.drop 0 = dktX7_addShorter_0 := by decide +kernel
theorem dksX7_addShorter_1 : cX7_addShorter.data.toList.drop 24 = dktX7_addShorter_1 := dk_seg dksX7_addShorter_0 24 rfl rfl
theorem dX7_addShorter_0 : decode cX7_addShorter 0 = .ok (.aload_n 0, 1) := dk_42 (dk_at dksX7_addShorter_0 0 rfl rfl)
theorem dX7_addShorter_1 : decode cX7_addShorter 1 = .ok (.getfield 13, 3) := dk_180 0 13 (dk_at dksX7_addShorter_0 1 rfl rfl)
theorem dX7_addShorter_4 : decode cX7_addShorter 4 = .ok (.bipush 48, 2) := dk_16 48 (dk_at dksX7_addShorter_0 4 rfl rfl)
theorem dX7_addShorter_6 : decode cX7_addShorter 6 = .ok (.iconst 2, 1) := dk_5 (dk_at dksX7_addShorter_0 6 rfl rfl)
theorem dX7_addShorter_7 : decode cX7_addShorter 7 = .ok (.aload_n 0, 1) := dk_42 (dk_at dksX7_addShorter_0 7 rfl rfl)
theorem dX7_addShorter_8 : decode cX7_addShorter 8 = .ok (.getfield 13, 3) := dk_180 0 13 (dk_at dksX7_addShorter_0 8 rfl rfl)
theorem dX7_addShorter_11 : decode cX7_addShorter 11 = .ok (.iconst 1, 1) := dk_4 (dk_at dksX7_addShorter_0 11 rfl rfl)
theorem dX7_addShorter_12 : decode cX7_addShorter 12 = .ok (.iaload, 1) := dk_46 (dk_at dksX7_addShorter_0 12 rfl rfl)
theorem dX7_addShorter_13 : decode cX7_addShorter 13 = .ok (.imul, 1) := dk_104 (dk_at dksX7_addShorter_0 13 rfl rfl)
theorem dX7_addShorter_14 : decode cX7_addShorter 14 = .ok (.iadd, 1) := dk_96 (dk_at dksX7_addShorter_0 14 rfl rfl)
theorem dX7_addShorter_15 : decode cX7_addShorter 15 = .ok (.iload_n 1, 1) := dk_27 (dk_at dksX7_addShorter_0 15 rfl rfl)
theorem dX7_addShorter_16 : decode cX7_addShorter 16 = .ok (.iastore, 1) := dk_79 (dk_at dksX7_addShorter_0 16 rfl rfl)
theorem dX7_addShorter_17 : decode cX7_addShorter 17 = .ok (.aload_n 0, 1) := dk_42 (dk_at dksX7_addShorter_0 17 rfl rfl)
theorem dX7_addShorter_18 : decode cX7_addShorter 18 = .ok (.getfield 13, 3) := dk_180 0 13 (dk_at dksX7_addShorter_0 18 rfl rfl)
theorem dX7_addShorter_21 : decode cX7_addShorter 21 = .ok (.bipush 48, 2) := dk_16 48 (dk_at dksX7_addShorter_0 21 rfl rfl)
theorem dX7_addShorter_23 : decode cX7_addShorter 23 = .ok (.iconst 2, 1) := dk_5 (dk_at dksX7_addShorter_0 23 rfl rfl)
theorem dX7_addShorter_24 : decode cX7_addShorter 24 = .ok (.aload_n 0, 1) := dk_42 (dk_at dksX7_addShorter_1 0 rfl rfl)
theorem dX7_addShorter_25 : decode cX7_addShorter 25 = .ok (.getfield 13, 3) := dk_180 0 13 (dk_at dksX7_addShorter_1 1 rfl rfl)
theorem dX7_addShorter_28 : decode cX7_addShorter 28 = .ok (.iconst 1, 1) := dk_4 (dk_at dksX7_addShorter_1 4 rfl rfl)
theorem dX7_addShorter_29 : decode cX7_addShorter 29 = .ok (.iaload, 1) := dk_46 (dk_at dksX7_addShorter_1 5 rfl rfl)
theorem dX7_addShorter_30 : decode cX7_addShorter 30 = .ok (.imul, 1) := dk_104 (dk_at dksX7_addShorter_1 6 rfl rfl)
theorem dX7_addShorter_31 : decode cX7_addShorter 31 = .ok (.iadd, 1) := dk_96 (dk_at dksX7_addShorter_1 7 rfl rfl)
theorem dX7_addShorter_32 : decode cX7_addShorter 32 = .ok (.iconst 1, 1) := dk_4 (dk_at dksX7_addShorter_1 8 rfl rfl)
theorem dX7_addShorter_33 : decode cX7_addShorter 33 = .ok (.iadd, 1) := dk_96 (dk_at dksX7_addShorter_1 9 rfl rfl)
theorem dX7_addShorter_34 : decode cX7_addShorter 34 = .ok (.iload_n 2, 1) := dk_28 (dk_at dksX7_addShorter_1 10 rfl rfl)
theorem dX7_addShorter_35 : decode cX7_addShorter 35 = .ok (.iastore, 1) := dk_79 (dk_at dksX7_addShorter_1 11 rfl rfl)
theorem dX7_addShorter_36 : decode cX7_addShorter 36 = .ok (.aload_n 0, 1) := dk_42 (dk_at dksX7_addShorter_1 12 rfl rfl)
theorem dX7_addShorter_37 : decode cX7_addShorter 37 = .ok (.getfield 13, 3) := dk_180 0 13 (dk_at dksX7_addShorter_1 13 rfl rfl)
theorem dX7_addShorter_40 : decode cX7_addShorter 40 = .ok (.iconst 1, 1) := dk_4 (dk_at dksX7_addShorter_1 16 rfl rfl)
theorem dX7_addShorter_41 : decode cX7_addShorter 41 = .ok (.dup2, 1) := dk_92 (dk_at dksX7_addShorter_1 17 rfl rfl)
theorem dX7_addShorter_42 : decode cX7_addShorter 42 = .ok (.iaload, 1) := dk_46 (dk_at dksX7_addShorter_1 18 rfl rfl)
theorem dX7_addShorter_43 : decode cX7_addShorter 43 = .ok (.iconst 1, 1) := dk_4 (dk_at dksX7_addShorter_1 19 rfl rfl)
theorem dX7_addShorter_44 : decode cX7_addShorter 44 = .ok (.iadd, 1) := dk_96 (dk_at dksX7_addShorter_1 20 rfl rfl)
theorem dX7_addShorter_45 : decode cX7_addShorter 45 = .ok (.iastore, 1) := dk_79 (dk_at dksX7_addShorter_1 21 rfl rfl)
theorem dX7_addShorter_46 : decode cX7_addShorter 46 = .ok (.return_, 1) := dk_177 (dk_at dksX7_addShorter_1 22 rfl rfl)
abbrev cX7_entry : ByteArray := prog_16_method_20_code
def yX7_entry : MethodName := ⟨RX7, "entry", "(IIII)I"⟩
def dkwX7_entry_2 : List UInt8 := [182, 0, 188, 42, 42, 180, 0, 13, 3, 46, 4, 100, 182, 0, 147, 172]
abbrev dktX7_entry_2 : List UInt8 := dkwX7_entry_2 ++ []
def dkwX7_entry_1 : List UInt8 := [180, 0, 13, 3, 46, 16, 24, 160, 0, 10, 42, 16, 251, 182, 0, 147, 172, 42, 27, 28, 29, 21, 4]
abbrev dktX7_entry_1 : List UInt8 := dkwX7_entry_1 ++ dktX7_entry_2
def dkwX7_entry_0 : List UInt8 := [42, 3, 181, 0, 133, 27, 28, 29, 21, 4, 184, 0, 184, 154, 0, 9, 42, 2, 182, 0, 147, 172, 42]
abbrev dktX7_entry_0 : List UInt8 := dkwX7_entry_0 ++ dktX7_entry_1
theorem dksX7_entry_0 : cX7_entry.data.toList.drop 0 = dktX7_entry_0 := by decide +kernel
theorem dksX7_entry_1 : cX7_entry.data.toList.drop 23 = dktX7_entry_1 := dk_seg dksX7_entry_0 23 rfl rfl
theorem dksX7_entry_2 : cX7_entry.data.toList.drop 46 = dktX7_entry_2 := dk_seg dksX7_entry_1 23 rfl rfl
theorem dX7_entry_0 : decode cX7_entry 0 = .ok (.aload_n 0, 1) := dk_42 (dk_at dksX7_entry_0 0 rfl rfl)
theorem dX7_entry_1 : decode cX7_entry 1 = .ok (.iconst 0, 1) := dk_3 (dk_at dksX7_entry_0 1 rfl rfl)
theorem dX7_entry_2 : decode cX7_entry 2 = .ok (.putfield 133, 3) := dk_181 0 133 (dk_at dksX7_entry_0 2 rfl rfl)
theorem dX7_entry_5 : decode cX7_entry 5 = .ok (.iload_n 1, 1) := dk_27 (dk_at dksX7_entry_0 5 rfl rfl)
theorem dX7_entry_6 : decode cX7_entry 6 = .ok (.iload_n 2, 1) := dk_28 (dk_at dksX7_entry_0 6 rfl rfl)
theorem dX7_entry_7 : decode cX7_entry 7 = .ok (.iload_n 3, 1) := dk_29 (dk_at dksX7_entry_0 7 rfl rfl)
theorem dX7_entry_8 : decode cX7_entry 8 = .ok (.iload 4, 2) := dk_21 4 (dk_at dksX7_entry_0 8 rfl rfl)
theorem dX7_entry_10 : decode cX7_entry 10 = .ok (.invokestatic 184, 3) := dk_184 0 184 (dk_at dksX7_entry_0 10 rfl rfl)
theorem dX7_entry_13 : decode cX7_entry 13 = .ok (.ifCond .ne 9, 3) := dk_154 0 9 (dk_at dksX7_entry_0 13 rfl rfl)
theorem dX7_entry_16 : decode cX7_entry 16 = .ok (.aload_n 0, 1) := dk_42 (dk_at dksX7_entry_0 16 rfl rfl)
theorem dX7_entry_17 : decode cX7_entry 17 = .ok (.iconst (-1), 1) := dk_2 (dk_at dksX7_entry_0 17 rfl rfl)
theorem dX7_entry_18 : decode cX7_entry 18 = .ok (.invokevirtual 147, 3) := dk_182 0 147 (dk_at dksX7_entry_0 18 rfl rfl)
theorem dX7_entry_21 : decode cX7_entry 21 = .ok (.ireturn, 1) := dk_172 (dk_at dksX7_entry_0 21 rfl rfl)
theorem dX7_entry_22 : decode cX7_entry 22 = .ok (.aload_n 0, 1) := dk_42 (dk_at dksX7_entry_0 22 rfl rfl)
theorem dX7_entry_23 : decode cX7_entry 23 = .ok (.getfield 13, 3) := dk_180 0 13 (dk_at dksX7_entry_1 0 rfl rfl)
theorem dX7_entry_26 : decode cX7_entry 26 = .ok (.iconst 0, 1) := dk_3 (dk_at dksX7_entry_1 3 rfl rfl)
theorem dX7_entry_27 : decode cX7_entry 27 = .ok (.iaload, 1) := dk_46 (dk_at dksX7_entry_1 4 rfl rfl)
theorem dX7_entry_28 : decode cX7_entry 28 = .ok (.bipush 24, 2) := dk_16 24 (dk_at dksX7_entry_1 5 rfl rfl)
theorem dX7_entry_30 : decode cX7_entry 30 = .ok (.if_icmp .ne 10, 3) := dk_160 0 10 (dk_at dksX7_entry_1 7 rfl rfl)
theorem dX7_entry_33 : decode cX7_entry 33 = .ok (.aload_n 0, 1) := dk_42 (dk_at dksX7_entry_1 10 rfl rfl)
theorem dX7_entry_34 : decode cX7_entry 34 = .ok (.bipush (-5), 2) := dk_16 251 (dk_at dksX7_entry_1 11 rfl rfl)
theorem dX7_entry_36 : decode cX7_entry 36 = .ok (.invokevirtual 147, 3) := dk_182 0 147 (dk_at dksX7_entry_1 13 rfl rfl)
theorem dX7_entry_39 : decode cX7_entry 39 = .ok (.ireturn, 1) := dk_172 (dk_at dksX7_entry_1 16 rfl rfl)
theorem dX7_entry_40 : decode cX7_entry 40 = .ok (.aload_n 0, 1) := dk_42 (dk_at dksX7_entry_1 17 rfl rfl)
theorem dX7_entry_41 : decode cX7_entry 41 = .ok (.iload_n 1, 1) := dk_27 (dk_at dksX7_entry_1 18 rfl rfl)
theorem dX7_entry_42 : decode cX7_entry 42 = .ok (.iload_n 2, 1) := dk_28 (dk_at dksX7_entry_1 19 rfl rfl)
theorem dX7_entry_43 : decode cX7_entry 43 = .ok (.iload_n 3, 1) := dk_29 (dk_at dksX7_entry_1 20 rfl rfl)
theorem dX7_entry_44 : decode cX7_entry 44 = .ok (.iload 4, 2) := dk_21 4 (dk_at dksX7_entry_1 21 rfl rfl)
theorem dX7_entry_46 : decode cX7_entry 46 = .ok (.invokevirtual 188, 3) := dk_182 0 188 (dk_at dksX7_entry_2 0 rfl rfl)
theorem dX7_entry_49 : decode cX7_entry 49 = .ok (.aload_n 0, 1) := dk_42 (dk_at dksX7_entry_2 3 rfl rfl)
theorem dX7_entry_50 : decode cX7_entry 50 = .ok (.aload_n 0, 1) := dk_42 (dk_at dksX7_entry_2 4 rfl rfl)
theorem dX7_entry_51 : decode cX7_entry 51 = .ok (.getfield 13, 3) := dk_180 0 13 (dk_at dksX7_entry_2 5 rfl rfl)
theorem dX7_entry_54 : decode cX7_entry 54 = .ok (.iconst 0, 1) := dk_3 (dk_at dksX7_entry_2 8 rfl rfl)
theorem dX7_entry_55 : decode cX7_entry 55 = .ok (.iaload, 1) := dk_46 (dk_at dksX7_entry_2 9 rfl rfl)
theorem dX7_entry_56 : decode cX7_entry 56 = .ok (.iconst 1, 1) := dk_4 (dk_at dksX7_entry_2 10 rfl rfl)
theorem dX7_entry_57 : decode cX7_entry 57 = .ok (.isub, 1) := dk_100 (dk_at dksX7_entry_2 11 rfl rfl)
theorem dX7_entry_58 : decode cX7_entry 58 = .ok (.invokevirtual 147, 3) := dk_182 0 147 (dk_at dksX7_entry_2 12 rfl rfl)
theorem dX7_entry_61 : decode cX7_entry 61 = .ok (.ireturn, 1) := dk_172 (dk_at dksX7_entry_2 15 rfl rfl)
abbrev cX7_canEnter : ByteArray := prog_16_method_18_code
def yX7_canEnter : MethodName := ⟨RX7, "canEnter", "(IIII)Z"⟩
def dkwX7_canEnter_1 : List UInt8 := [153, 0, 19, 29, 133, 9, 20, 0, 182, 184, 0, 143, 153, 0, 7, 4, 167, 0, 4, 3, 172]
abbrev dktX7_canEnter_1 : List UInt8 := dkwX7_canEnter_1 ++ []
def dkwX7_canEnter_0 : List UInt8 := [26, 184, 0, 166, 153, 0, 38, 27, 184, 0, 156, 153, 0, 31, 28, 133, 10, 20, 0, 180, 184, 0, 143]
abbrev dktX7_canEnter_0 : List UInt8 := dkwX7_canEnter_0 ++ dktX7_canEnter_1
theorem dksX7_canEnter_0 : cX7_canEnter.data.toList.drop 0 = dktX7_canEnter_0 := by decide +kernel
theorem dksX7_canEnter_1 : cX7_canEnter.data.toList.drop 23 = dktX7_canEnter_1 := dk_seg dksX7_canEnter_0 23 rfl rfl
theorem dX7_canEnter_0 : decode cX7_canEnter 0 = .ok (.iload_n 0, 1) := dk_26 (dk_at dksX7_canEnter_0 0 rfl rfl)
theorem dX7_canEnter_1 : decode cX7_canEnter 1 = .ok (.invokestatic 166, 3) := dk_184 0 166 (dk_at dksX7_canEnter_0 1 rfl rfl)
theorem dX7_canEnter_4 : decode cX7_canEnter 4 = .ok (.ifCond .eq 38, 3) := dk_153 0 38 (dk_at dksX7_canEnter_0 4 rfl rfl)
theorem dX7_canEnter_7 : decode cX7_canEnter 7 = .ok (.iload_n 1, 1) := dk_27 (dk_at dksX7_canEnter_0 7 rfl rfl)
theorem dX7_canEnter_8 : decode cX7_canEnter 8 = .ok (.invokestatic 156, 3) := dk_184 0 156 (dk_at dksX7_canEnter_0 8 rfl rfl)
theorem dX7_canEnter_11 : decode cX7_canEnter 11 = .ok (.ifCond .eq 31, 3) := dk_153 0 31 (dk_at dksX7_canEnter_0 11 rfl rfl)
theorem dX7_canEnter_14 : decode cX7_canEnter 14 = .ok (.iload_n 2, 1) := dk_28 (dk_at dksX7_canEnter_0 14 rfl rfl)
theorem dX7_canEnter_15 : decode cX7_canEnter 15 = .ok (.i2l, 1) := dk_133 (dk_at dksX7_canEnter_0 15 rfl rfl)
theorem dX7_canEnter_16 : decode cX7_canEnter 16 = .ok (.lconst 1, 1) := dk_10 (dk_at dksX7_canEnter_0 16 rfl rfl)
theorem dX7_canEnter_17 : decode cX7_canEnter 17 = .ok (.ldc2_w 180, 3) := dk_20 0 180 (dk_at dksX7_canEnter_0 17 rfl rfl)
theorem dX7_canEnter_20 : decode cX7_canEnter 20 = .ok (.invokestatic 143, 3) := dk_184 0 143 (dk_at dksX7_canEnter_0 20 rfl rfl)
theorem dX7_canEnter_23 : decode cX7_canEnter 23 = .ok (.ifCond .eq 19, 3) := dk_153 0 19 (dk_at dksX7_canEnter_1 0 rfl rfl)
theorem dX7_canEnter_26 : decode cX7_canEnter 26 = .ok (.iload_n 3, 1) := dk_29 (dk_at dksX7_canEnter_1 3 rfl rfl)
theorem dX7_canEnter_27 : decode cX7_canEnter 27 = .ok (.i2l, 1) := dk_133 (dk_at dksX7_canEnter_1 4 rfl rfl)
theorem dX7_canEnter_28 : decode cX7_canEnter 28 = .ok (.lconst 0, 1) := dk_9 (dk_at dksX7_canEnter_1 5 rfl rfl)
theorem dX7_canEnter_29 : decode cX7_canEnter 29 = .ok (.ldc2_w 182, 3) := dk_20 0 182 (dk_at dksX7_canEnter_1 6 rfl rfl)
theorem dX7_canEnter_32 : decode cX7_canEnter 32 = .ok (.invokestatic 143, 3) := dk_184 0 143 (dk_at dksX7_canEnter_1 9 rfl rfl)
theorem dX7_canEnter_35 : decode cX7_canEnter 35 = .ok (.ifCond .eq 7, 3) := dk_153 0 7 (dk_at dksX7_canEnter_1 12 rfl rfl)
theorem dX7_canEnter_38 : decode cX7_canEnter 38 = .ok (.iconst 1, 1) := dk_4 (dk_at dksX7_canEnter_1 15 rfl rfl)
theorem dX7_canEnter_39 : decode cX7_canEnter 39 = .ok (.goto 4, 3) := dk_167 0 4 (dk_at dksX7_canEnter_1 16 rfl rfl)
theorem dX7_canEnter_42 : decode cX7_canEnter 42 = .ok (.iconst 0, 1) := dk_3 (dk_at dksX7_canEnter_1 19 rfl rfl)
theorem dX7_canEnter_43 : decode cX7_canEnter 43 = .ok (.ireturn, 1) := dk_172 (dk_at dksX7_canEnter_1 20 rfl rfl)
abbrev cX7_addEntry : ByteArray := prog_16_method_19_code
def yX7_addEntry : MethodName := ⟨RX7, "addEntry", "(IIII)V"⟩
def dkwX7_addEntry_3 : List UInt8 := [4, 96, 79, 177]
abbrev dktX7_addEntry_3 : List UInt8 := dkwX7_addEntry_3 ++ []
def dkwX7_addEntry_2 : List UInt8 := [21, 5, 6, 96, 21, 4, 79, 42, 180, 0, 13, 21, 5, 7, 96, 4, 79, 42, 180, 0, 13, 3, 92, 46]
abbrev dktX7_addEntry_2 : List UInt8 := dkwX7_addEntry_2 ++ dktX7_addEntry_3
def dkwX7_addEntry_1 : List UInt8 := [180, 0, 13, 21, 5, 4, 96, 28, 79, 42, 180, 0, 13, 21, 5, 5, 96, 29, 79, 42, 180, 0, 13]
abbrev dktX7_addEntry_1 : List UInt8 := dkwX7_addEntry_1 ++ dktX7_addEntry_2
def dkwX7_addEntry_0 : List UInt8 := [16, 80, 8, 42, 180, 0, 13, 3, 46, 104, 96, 54, 5, 42, 180, 0, 13, 21, 5, 3, 96, 27, 79, 42]
abbrev dktX7_addEntry_0 : List UInt8 := dkwX7_addEntry_0 ++ dktX7_addEntry_1
theorem dksX7_addEntry_0 : cX7_addEntry.data.toList.drop 0 = dktX7_addEntry_0 := by decide +kernel
theorem dksX7_addEntry_1 : cX7_addEntry.data.toList.drop 24 = dktX7_addEntry_1 := dk_seg dksX7_addEntry_0 24 rfl rfl
theorem dksX7_addEntry_2 : cX7_addEntry.data.toList.drop 47 = dktX7_addEntry_2 := dk_seg dksX7_addEntry_1 23 rfl rfl
theorem dksX7_addEntry_3 : cX7_addEntry.data.toList.drop 71 = dktX7_addEntry_3 := dk_seg dksX7_addEntry_2 24 rfl rfl
theorem dX7_addEntry_0 : decode cX7_addEntry 0 = .ok (.bipush 80, 2) := dk_16 80 (dk_at dksX7_addEntry_0 0 rfl rfl)
theorem dX7_addEntry_2 : decode cX7_addEntry 2 = .ok (.iconst 5, 1) := dk_8 (dk_at dksX7_addEntry_0 2 rfl rfl)
theorem dX7_addEntry_3 : decode cX7_addEntry 3 = .ok (.aload_n 0, 1) := dk_42 (dk_at dksX7_addEntry_0 3 rfl rfl)
theorem dX7_addEntry_4 : decode cX7_addEntry 4 = .ok (.getfield 13, 3) := dk_180 0 13 (dk_at dksX7_addEntry_0 4 rfl rfl)
theorem dX7_addEntry_7 : decode cX7_addEntry 7 = .ok (.iconst 0, 1) := dk_3 (dk_at dksX7_addEntry_0 7 rfl rfl)
theorem dX7_addEntry_8 : decode cX7_addEntry 8 = .ok (.iaload, 1) := dk_46 (dk_at dksX7_addEntry_0 8 rfl rfl)
theorem dX7_addEntry_9 : decode cX7_addEntry 9 = .ok (.imul, 1) := dk_104 (dk_at dksX7_addEntry_0 9 rfl rfl)
theorem dX7_addEntry_10 : decode cX7_addEntry 10 = .ok (.iadd, 1) := dk_96 (dk_at dksX7_addEntry_0 10 rfl rfl)
theorem dX7_addEntry_11 : decode cX7_addEntry 11 = .ok (.istore 5, 2) := dk_54 5 (dk_at dksX7_addEntry_0 11 rfl rfl)
theorem dX7_addEntry_13 : decode cX7_addEntry 13 = .ok (.aload_n 0, 1) := dk_42 (dk_at dksX7_addEntry_0 13 rfl rfl)
theorem dX7_addEntry_14 : decode cX7_addEntry 14 = .ok (.getfield 13, 3) := dk_180 0 13 (dk_at dksX7_addEntry_0 14 rfl rfl)
theorem dX7_addEntry_17 : decode cX7_addEntry 17 = .ok (.iload 5, 2) := dk_21 5 (dk_at dksX7_addEntry_0 17 rfl rfl)
theorem dX7_addEntry_19 : decode cX7_addEntry 19 = .ok (.iconst 0, 1) := dk_3 (dk_at dksX7_addEntry_0 19 rfl rfl)
theorem dX7_addEntry_20 : decode cX7_addEntry 20 = .ok (.iadd, 1) := dk_96 (dk_at dksX7_addEntry_0 20 rfl rfl)
theorem dX7_addEntry_21 : decode cX7_addEntry 21 = .ok (.iload_n 1, 1) := dk_27 (dk_at dksX7_addEntry_0 21 rfl rfl)
theorem dX7_addEntry_22 : decode cX7_addEntry 22 = .ok (.iastore, 1) := dk_79 (dk_at dksX7_addEntry_0 22 rfl rfl)
theorem dX7_addEntry_23 : decode cX7_addEntry 23 = .ok (.aload_n 0, 1) := dk_42 (dk_at dksX7_addEntry_0 23 rfl rfl)
theorem dX7_addEntry_24 : decode cX7_addEntry 24 = .ok (.getfield 13, 3) := dk_180 0 13 (dk_at dksX7_addEntry_1 0 rfl rfl)
theorem dX7_addEntry_27 : decode cX7_addEntry 27 = .ok (.iload 5, 2) := dk_21 5 (dk_at dksX7_addEntry_1 3 rfl rfl)
theorem dX7_addEntry_29 : decode cX7_addEntry 29 = .ok (.iconst 1, 1) := dk_4 (dk_at dksX7_addEntry_1 5 rfl rfl)
theorem dX7_addEntry_30 : decode cX7_addEntry 30 = .ok (.iadd, 1) := dk_96 (dk_at dksX7_addEntry_1 6 rfl rfl)
theorem dX7_addEntry_31 : decode cX7_addEntry 31 = .ok (.iload_n 2, 1) := dk_28 (dk_at dksX7_addEntry_1 7 rfl rfl)
theorem dX7_addEntry_32 : decode cX7_addEntry 32 = .ok (.iastore, 1) := dk_79 (dk_at dksX7_addEntry_1 8 rfl rfl)
theorem dX7_addEntry_33 : decode cX7_addEntry 33 = .ok (.aload_n 0, 1) := dk_42 (dk_at dksX7_addEntry_1 9 rfl rfl)
theorem dX7_addEntry_34 : decode cX7_addEntry 34 = .ok (.getfield 13, 3) := dk_180 0 13 (dk_at dksX7_addEntry_1 10 rfl rfl)
theorem dX7_addEntry_37 : decode cX7_addEntry 37 = .ok (.iload 5, 2) := dk_21 5 (dk_at dksX7_addEntry_1 13 rfl rfl)
theorem dX7_addEntry_39 : decode cX7_addEntry 39 = .ok (.iconst 2, 1) := dk_5 (dk_at dksX7_addEntry_1 15 rfl rfl)
theorem dX7_addEntry_40 : decode cX7_addEntry 40 = .ok (.iadd, 1) := dk_96 (dk_at dksX7_addEntry_1 16 rfl rfl)
theorem dX7_addEntry_41 : decode cX7_addEntry 41 = .ok (.iload_n 3, 1) := dk_29 (dk_at dksX7_addEntry_1 17 rfl rfl)
theorem dX7_addEntry_42 : decode cX7_addEntry 42 = .ok (.iastore, 1) := dk_79 (dk_at dksX7_addEntry_1 18 rfl rfl)
theorem dX7_addEntry_43 : decode cX7_addEntry 43 = .ok (.aload_n 0, 1) := dk_42 (dk_at dksX7_addEntry_1 19 rfl rfl)
theorem dX7_addEntry_44 : decode cX7_addEntry 44 = .ok (.getfield 13, 3) := dk_180 0 13 (dk_at dksX7_addEntry_1 20 rfl rfl)
theorem dX7_addEntry_47 : decode cX7_addEntry 47 = .ok (.iload 5, 2) := dk_21 5 (dk_at dksX7_addEntry_2 0 rfl rfl)
theorem dX7_addEntry_49 : decode cX7_addEntry 49 = .ok (.iconst 3, 1) := dk_6 (dk_at dksX7_addEntry_2 2 rfl rfl)
theorem dX7_addEntry_50 : decode cX7_addEntry 50 = .ok (.iadd, 1) := dk_96 (dk_at dksX7_addEntry_2 3 rfl rfl)
theorem dX7_addEntry_51 : decode cX7_addEntry 51 = .ok (.iload 4, 2) := dk_21 4 (dk_at dksX7_addEntry_2 4 rfl rfl)
theorem dX7_addEntry_53 : decode cX7_addEntry 53 = .ok (.iastore, 1) := dk_79 (dk_at dksX7_addEntry_2 6 rfl rfl)
theorem dX7_addEntry_54 : decode cX7_addEntry 54 = .ok (.aload_n 0, 1) := dk_42 (dk_at dksX7_addEntry_2 7 rfl rfl)
theorem dX7_addEntry_55 : decode cX7_addEntry 55 = .ok (.getfield 13, 3) := dk_180 0 13 (dk_at dksX7_addEntry_2 8 rfl rfl)
theorem dX7_addEntry_58 : decode cX7_addEntry 58 = .ok (.iload 5, 2) := dk_21 5 (dk_at dksX7_addEntry_2 11 rfl rfl)
theorem dX7_addEntry_60 : decode cX7_addEntry 60 = .ok (.iconst 4, 1) := dk_7 (dk_at dksX7_addEntry_2 13 rfl rfl)
theorem dX7_addEntry_61 : decode cX7_addEntry 61 = .ok (.iadd, 1) := dk_96 (dk_at dksX7_addEntry_2 14 rfl rfl)
theorem dX7_addEntry_62 : decode cX7_addEntry 62 = .ok (.iconst 1, 1) := dk_4 (dk_at dksX7_addEntry_2 15 rfl rfl)
theorem dX7_addEntry_63 : decode cX7_addEntry 63 = .ok (.iastore, 1) := dk_79 (dk_at dksX7_addEntry_2 16 rfl rfl)
theorem dX7_addEntry_64 : decode cX7_addEntry 64 = .ok (.aload_n 0, 1) := dk_42 (dk_at dksX7_addEntry_2 17 rfl rfl)
theorem dX7_addEntry_65 : decode cX7_addEntry 65 = .ok (.getfield 13, 3) := dk_180 0 13 (dk_at dksX7_addEntry_2 18 rfl rfl)
theorem dX7_addEntry_68 : decode cX7_addEntry 68 = .ok (.iconst 0, 1) := dk_3 (dk_at dksX7_addEntry_2 21 rfl rfl)
theorem dX7_addEntry_69 : decode cX7_addEntry 69 = .ok (.dup2, 1) := dk_92 (dk_at dksX7_addEntry_2 22 rfl rfl)
theorem dX7_addEntry_70 : decode cX7_addEntry 70 = .ok (.iaload, 1) := dk_46 (dk_at dksX7_addEntry_2 23 rfl rfl)
theorem dX7_addEntry_71 : decode cX7_addEntry 71 = .ok (.iconst 1, 1) := dk_4 (dk_at dksX7_addEntry_3 0 rfl rfl)
theorem dX7_addEntry_72 : decode cX7_addEntry 72 = .ok (.iadd, 1) := dk_96 (dk_at dksX7_addEntry_3 1 rfl rfl)
theorem dX7_addEntry_73 : decode cX7_addEntry 73 = .ok (.iastore, 1) := dk_79 (dk_at dksX7_addEntry_3 2 rfl rfl)
theorem dX7_addEntry_74 : decode cX7_addEntry 74 = .ok (.return_, 1) := dk_177 (dk_at dksX7_addEntry_3 3 rfl rfl)
abbrev cX7_counts : ByteArray := prog_16_method_23_code
def yX7_counts : MethodName := ⟨RX7, "counts", "(II)I"⟩
def dkwX7_counts_2 : List UInt8 := [16, 254, 182, 0, 147, 172]
abbrev dktX7_counts_2 : List UInt8 := dkwX7_counts_2 ++ []
def dkwX7_counts_1 : List UInt8 := [182, 0, 192, 153, 0, 19, 42, 16, 80, 8, 27, 104, 96, 7, 96, 28, 182, 0, 162, 167, 0, 9, 42]
abbrev dktX7_counts_1 : List UInt8 := dkwX7_counts_1 ++ dktX7_counts_2
def dkwX7_counts_0 : List UInt8 := [42, 3, 181, 0, 133, 28, 133, 9, 10, 184, 0, 143, 154, 0, 9, 42, 2, 182, 0, 147, 172, 42, 27]
abbrev dktX7_counts_0 : List UInt8 := dkwX7_counts_0 ++ dktX7_counts_1
theorem dksX7_counts_0 : cX7_counts.data.toList.drop 0 = dktX7_counts_0 := by decide +kernel
theorem dksX7_counts_1 : cX7_counts.data.toList.drop 23 = dktX7_counts_1 := dk_seg dksX7_counts_0 23 rfl rfl
theorem dksX7_counts_2 : cX7_counts.data.toList.drop 46 = dktX7_counts_2 := dk_seg dksX7_counts_1 23 rfl rfl
theorem dX7_counts_0 : decode cX7_counts 0 = .ok (.aload_n 0, 1) := dk_42 (dk_at dksX7_counts_0 0 rfl rfl)
theorem dX7_counts_1 : decode cX7_counts 1 = .ok (.iconst 0, 1) := dk_3 (dk_at dksX7_counts_0 1 rfl rfl)
theorem dX7_counts_2 : decode cX7_counts 2 = .ok (.putfield 133, 3) := dk_181 0 133 (dk_at dksX7_counts_0 2 rfl rfl)
theorem dX7_counts_5 : decode cX7_counts 5 = .ok (.iload_n 2, 1) := dk_28 (dk_at dksX7_counts_0 5 rfl rfl)
theorem dX7_counts_6 : decode cX7_counts 6 = .ok (.i2l, 1) := dk_133 (dk_at dksX7_counts_0 6 rfl rfl)
theorem dX7_counts_7 : decode cX7_counts 7 = .ok (.lconst 0, 1) := dk_9 (dk_at dksX7_counts_0 7 rfl rfl)
theorem dX7_counts_8 : decode cX7_counts 8 = .ok (.lconst 1, 1) := dk_10 (dk_at dksX7_counts_0 8 rfl rfl)
theorem dX7_counts_9 : decode cX7_counts 9 = .ok (.invokestatic 143, 3) := dk_184 0 143 (dk_at dksX7_counts_0 9 rfl rfl)
theorem dX7_counts_12 : decode cX7_counts 12 = .ok (.ifCond .ne 9, 3) := dk_154 0 9 (dk_at dksX7_counts_0 12 rfl rfl)
theorem dX7_counts_15 : decode cX7_counts 15 = .ok (.aload_n 0, 1) := dk_42 (dk_at dksX7_counts_0 15 rfl rfl)
theorem dX7_counts_16 : decode cX7_counts 16 = .ok (.iconst (-1), 1) := dk_2 (dk_at dksX7_counts_0 16 rfl rfl)
theorem dX7_counts_17 : decode cX7_counts 17 = .ok (.invokevirtual 147, 3) := dk_182 0 147 (dk_at dksX7_counts_0 17 rfl rfl)
theorem dX7_counts_20 : decode cX7_counts 20 = .ok (.ireturn, 1) := dk_172 (dk_at dksX7_counts_0 20 rfl rfl)
theorem dX7_counts_21 : decode cX7_counts 21 = .ok (.aload_n 0, 1) := dk_42 (dk_at dksX7_counts_0 21 rfl rfl)
theorem dX7_counts_22 : decode cX7_counts 22 = .ok (.iload_n 1, 1) := dk_27 (dk_at dksX7_counts_0 22 rfl rfl)
theorem dX7_counts_23 : decode cX7_counts 23 = .ok (.invokevirtual 192, 3) := dk_182 0 192 (dk_at dksX7_counts_1 0 rfl rfl)
theorem dX7_counts_26 : decode cX7_counts 26 = .ok (.ifCond .eq 19, 3) := dk_153 0 19 (dk_at dksX7_counts_1 3 rfl rfl)
theorem dX7_counts_29 : decode cX7_counts 29 = .ok (.aload_n 0, 1) := dk_42 (dk_at dksX7_counts_1 6 rfl rfl)
theorem dX7_counts_30 : decode cX7_counts 30 = .ok (.bipush 80, 2) := dk_16 80 (dk_at dksX7_counts_1 7 rfl rfl)
theorem dX7_counts_32 : decode cX7_counts 32 = .ok (.iconst 5, 1) := dk_8 (dk_at dksX7_counts_1 9 rfl rfl)
theorem dX7_counts_33 : decode cX7_counts 33 = .ok (.iload_n 1, 1) := dk_27 (dk_at dksX7_counts_1 10 rfl rfl)
theorem dX7_counts_34 : decode cX7_counts 34 = .ok (.imul, 1) := dk_104 (dk_at dksX7_counts_1 11 rfl rfl)
theorem dX7_counts_35 : decode cX7_counts 35 = .ok (.iadd, 1) := dk_96 (dk_at dksX7_counts_1 12 rfl rfl)
theorem dX7_counts_36 : decode cX7_counts 36 = .ok (.iconst 4, 1) := dk_7 (dk_at dksX7_counts_1 13 rfl rfl)
theorem dX7_counts_37 : decode cX7_counts 37 = .ok (.iadd, 1) := dk_96 (dk_at dksX7_counts_1 14 rfl rfl)
theorem dX7_counts_38 : decode cX7_counts 38 = .ok (.iload_n 2, 1) := dk_28 (dk_at dksX7_counts_1 15 rfl rfl)
theorem dX7_counts_39 : decode cX7_counts 39 = .ok (.invokevirtual 162, 3) := dk_182 0 162 (dk_at dksX7_counts_1 16 rfl rfl)
theorem dX7_counts_42 : decode cX7_counts 42 = .ok (.goto 9, 3) := dk_167 0 9 (dk_at dksX7_counts_1 19 rfl rfl)
theorem dX7_counts_45 : decode cX7_counts 45 = .ok (.aload_n 0, 1) := dk_42 (dk_at dksX7_counts_1 22 rfl rfl)
theorem dX7_counts_46 : decode cX7_counts 46 = .ok (.bipush (-2), 2) := dk_16 254 (dk_at dksX7_counts_2 0 rfl rfl)
theorem dX7_counts_48 : decode cX7_counts 48 = .ok (.invokevirtual 147, 3) := dk_182 0 147 (dk_at dksX7_counts_2 2 rfl rfl)
theorem dX7_counts_51 : decode cX7_counts 51 = .ok (.ireturn, 1) := dk_172 (dk_at dksX7_counts_2 5 rfl rfl)
abbrev cX7_isEntry : ByteArray := prog_16_method_21_code
def yX7_isEntry : MethodName := ⟨RX7, "isEntry", "(I)Z"⟩
def dkwX7_isEntry_0 : List UInt8 := [27, 133, 9, 42, 180, 0, 13, 3, 46, 133, 10, 101, 184, 0, 143, 172]
abbrev dktX7_isEntry_0 : List UInt8 := dkwX7_isEntry_0 ++ []
theorem dksX7_isEntry_0 : cX7_isEntry.data.toList.drop 0 = dktX7_isEntry_0 := by decide +kernel
theorem dX7_isEntry_0 : decode cX7_isEntry 0 = .ok (.iload_n 1, 1) := dk_27 (dk_at dksX7_isEntry_0 0 rfl rfl)
theorem dX7_isEntry_1 : decode cX7_isEntry 1 = .ok (.i2l, 1) := dk_133 (dk_at dksX7_isEntry_0 1 rfl rfl)
theorem dX7_isEntry_2 : decode cX7_isEntry 2 = .ok (.lconst 0, 1) := dk_9 (dk_at dksX7_isEntry_0 2 rfl rfl)
theorem dX7_isEntry_3 : decode cX7_isEntry 3 = .ok (.aload_n 0, 1) := dk_42 (dk_at dksX7_isEntry_0 3 rfl rfl)
theorem dX7_isEntry_4 : decode cX7_isEntry 4 = .ok (.getfield 13, 3) := dk_180 0 13 (dk_at dksX7_isEntry_0 4 rfl rfl)
theorem dX7_isEntry_7 : decode cX7_isEntry 7 = .ok (.iconst 0, 1) := dk_3 (dk_at dksX7_isEntry_0 7 rfl rfl)
theorem dX7_isEntry_8 : decode cX7_isEntry 8 = .ok (.iaload, 1) := dk_46 (dk_at dksX7_isEntry_0 8 rfl rfl)
theorem dX7_isEntry_9 : decode cX7_isEntry 9 = .ok (.i2l, 1) := dk_133 (dk_at dksX7_isEntry_0 9 rfl rfl)
theorem dX7_isEntry_10 : decode cX7_isEntry 10 = .ok (.lconst 1, 1) := dk_10 (dk_at dksX7_isEntry_0 10 rfl rfl)
theorem dX7_isEntry_11 : decode cX7_isEntry 11 = .ok (.lsub, 1) := dk_101 (dk_at dksX7_isEntry_0 11 rfl rfl)
theorem dX7_isEntry_12 : decode cX7_isEntry 12 = .ok (.invokestatic 143, 3) := dk_184 0 143 (dk_at dksX7_isEntry_0 12 rfl rfl)
theorem dX7_isEntry_15 : decode cX7_isEntry 15 = .ok (.ireturn, 1) := dk_172 (dk_at dksX7_isEntry_0 15 rfl rfl)
abbrev cX7_of : ByteArray := prog_16_method_25_code
def yX7_of : MethodName := ⟨RX7, "of", "(II)I"⟩
def dkwX7_of_2 : List UInt8 := [172]
abbrev dktX7_of_2 : List UInt8 := dkwX7_of_2 ++ []
def dkwX7_of_1 : List UInt8 := [154, 0, 5, 2, 172, 28, 8, 160, 0, 11, 42, 27, 182, 0, 198, 167, 0, 9, 42, 27, 28, 182, 0, 195]
abbrev dktX7_of_1 : List UInt8 := dkwX7_of_1 ++ dktX7_of_2
def dkwX7_of_0 : List UInt8 := [42, 3, 181, 0, 133, 42, 27, 182, 0, 192, 153, 0, 15, 28, 133, 9, 20, 0, 150, 184, 0, 143]
abbrev dktX7_of_0 : List UInt8 := dkwX7_of_0 ++ dktX7_of_1
theorem dksX7_of_0 : cX7_of.data.toList.drop 0 = dktX7_of_0 := by decide +kernel
theorem dksX7_of_1 : cX7_of.data.toList.drop 22 = dktX7_of_1 := dk_seg dksX7_of_0 22 rfl rfl
theorem dksX7_of_2 : cX7_of.data.toList.drop 46 = dktX7_of_2 := dk_seg dksX7_of_1 24 rfl rfl
theorem dX7_of_0 : decode cX7_of 0 = .ok (.aload_n 0, 1) := dk_42 (dk_at dksX7_of_0 0 rfl rfl)
theorem dX7_of_1 : decode cX7_of 1 = .ok (.iconst 0, 1) := dk_3 (dk_at dksX7_of_0 1 rfl rfl)
theorem dX7_of_2 : decode cX7_of 2 = .ok (.putfield 133, 3) := dk_181 0 133 (dk_at dksX7_of_0 2 rfl rfl)
theorem dX7_of_5 : decode cX7_of 5 = .ok (.aload_n 0, 1) := dk_42 (dk_at dksX7_of_0 5 rfl rfl)
theorem dX7_of_6 : decode cX7_of 6 = .ok (.iload_n 1, 1) := dk_27 (dk_at dksX7_of_0 6 rfl rfl)
theorem dX7_of_7 : decode cX7_of 7 = .ok (.invokevirtual 192, 3) := dk_182 0 192 (dk_at dksX7_of_0 7 rfl rfl)
theorem dX7_of_10 : decode cX7_of 10 = .ok (.ifCond .eq 15, 3) := dk_153 0 15 (dk_at dksX7_of_0 10 rfl rfl)
theorem dX7_of_13 : decode cX7_of 13 = .ok (.iload_n 2, 1) := dk_28 (dk_at dksX7_of_0 13 rfl rfl)
theorem dX7_of_14 : decode cX7_of 14 = .ok (.i2l, 1) := dk_133 (dk_at dksX7_of_0 14 rfl rfl)
theorem dX7_of_15 : decode cX7_of 15 = .ok (.lconst 0, 1) := dk_9 (dk_at dksX7_of_0 15 rfl rfl)
theorem dX7_of_16 : decode cX7_of 16 = .ok (.ldc2_w 150, 3) := dk_20 0 150 (dk_at dksX7_of_0 16 rfl rfl)
theorem dX7_of_19 : decode cX7_of 19 = .ok (.invokestatic 143, 3) := dk_184 0 143 (dk_at dksX7_of_0 19 rfl rfl)
theorem dX7_of_22 : decode cX7_of 22 = .ok (.ifCond .ne 5, 3) := dk_154 0 5 (dk_at dksX7_of_1 0 rfl rfl)
theorem dX7_of_25 : decode cX7_of 25 = .ok (.iconst (-1), 1) := dk_2 (dk_at dksX7_of_1 3 rfl rfl)
theorem dX7_of_26 : decode cX7_of 26 = .ok (.ireturn, 1) := dk_172 (dk_at dksX7_of_1 4 rfl rfl)
theorem dX7_of_27 : decode cX7_of 27 = .ok (.iload_n 2, 1) := dk_28 (dk_at dksX7_of_1 5 rfl rfl)
theorem dX7_of_28 : decode cX7_of 28 = .ok (.iconst 5, 1) := dk_8 (dk_at dksX7_of_1 6 rfl rfl)
theorem dX7_of_29 : decode cX7_of 29 = .ok (.if_icmp .ne 11, 3) := dk_160 0 11 (dk_at dksX7_of_1 7 rfl rfl)
theorem dX7_of_32 : decode cX7_of 32 = .ok (.aload_n 0, 1) := dk_42 (dk_at dksX7_of_1 10 rfl rfl)
theorem dX7_of_33 : decode cX7_of 33 = .ok (.iload_n 1, 1) := dk_27 (dk_at dksX7_of_1 11 rfl rfl)
theorem dX7_of_34 : decode cX7_of 34 = .ok (.invokevirtual 198, 3) := dk_182 0 198 (dk_at dksX7_of_1 12 rfl rfl)
theorem dX7_of_37 : decode cX7_of 37 = .ok (.goto 9, 3) := dk_167 0 9 (dk_at dksX7_of_1 15 rfl rfl)
theorem dX7_of_40 : decode cX7_of 40 = .ok (.aload_n 0, 1) := dk_42 (dk_at dksX7_of_1 18 rfl rfl)
theorem dX7_of_41 : decode cX7_of 41 = .ok (.iload_n 1, 1) := dk_27 (dk_at dksX7_of_1 19 rfl rfl)
theorem dX7_of_42 : decode cX7_of 42 = .ok (.iload_n 2, 1) := dk_28 (dk_at dksX7_of_1 20 rfl rfl)
theorem dX7_of_43 : decode cX7_of 43 = .ok (.invokevirtual 195, 3) := dk_182 0 195 (dk_at dksX7_of_1 21 rfl rfl)
theorem dX7_of_46 : decode cX7_of 46 = .ok (.ireturn, 1) := dk_172 (dk_at dksX7_of_2 0 rfl rfl)
abbrev cX7_lengthOf : ByteArray := prog_16_method_24_code
def yX7_lengthOf : MethodName := ⟨RX7, "lengthOf", "(I)I"⟩
def dkwX7_lengthOf_1 : List UInt8 := [182, 0, 195, 42, 180, 0, 13, 16, 42, 28, 96, 46, 161, 0, 10, 16, 6, 28, 96, 167, 0, 4, 28, 172]
abbrev dktX7_lengthOf_1 : List UInt8 := dkwX7_lengthOf_1 ++ []
def dkwX7_lengthOf_0 : List UInt8 := [42, 27, 3, 182, 0, 195, 61, 42, 180, 0, 13, 16, 42, 28, 96, 46, 2, 159, 0, 28, 42, 27, 4]
abbrev dktX7_lengthOf_0 : List UInt8 := dkwX7_lengthOf_0 ++ dktX7_lengthOf_1
theorem dksX7_lengthOf_0 : cX7_lengthOf.data.toList.drop 0 = dktX7_lengthOf_0 := by decide +kernel
theorem dksX7_lengthOf_1 : cX7_lengthOf.data.toList.drop 23 = dktX7_lengthOf_1 := dk_seg dksX7_lengthOf_0 23 rfl rfl
theorem dX7_lengthOf_0 : decode cX7_lengthOf 0 = .ok (.aload_n 0, 1) := dk_42 (dk_at dksX7_lengthOf_0 0 rfl rfl)
theorem dX7_lengthOf_1 : decode cX7_lengthOf 1 = .ok (.iload_n 1, 1) := dk_27 (dk_at dksX7_lengthOf_0 1 rfl rfl)
theorem dX7_lengthOf_2 : decode cX7_lengthOf 2 = .ok (.iconst 0, 1) := dk_3 (dk_at dksX7_lengthOf_0 2 rfl rfl)
theorem dX7_lengthOf_3 : decode cX7_lengthOf 3 = .ok (.invokevirtual 195, 3) := dk_182 0 195 (dk_at dksX7_lengthOf_0 3 rfl rfl)
theorem dX7_lengthOf_6 : decode cX7_lengthOf 6 = .ok (.istore_n 2, 1) := dk_61 (dk_at dksX7_lengthOf_0 6 rfl rfl)
theorem dX7_lengthOf_7 : decode cX7_lengthOf 7 = .ok (.aload_n 0, 1) := dk_42 (dk_at dksX7_lengthOf_0 7 rfl rfl)
theorem dX7_lengthOf_8 : decode cX7_lengthOf 8 = .ok (.getfield 13, 3) := dk_180 0 13 (dk_at dksX7_lengthOf_0 8 rfl rfl)
theorem dX7_lengthOf_11 : decode cX7_lengthOf 11 = .ok (.bipush 42, 2) := dk_16 42 (dk_at dksX7_lengthOf_0 11 rfl rfl)
theorem dX7_lengthOf_13 : decode cX7_lengthOf 13 = .ok (.iload_n 2, 1) := dk_28 (dk_at dksX7_lengthOf_0 13 rfl rfl)
theorem dX7_lengthOf_14 : decode cX7_lengthOf 14 = .ok (.iadd, 1) := dk_96 (dk_at dksX7_lengthOf_0 14 rfl rfl)
theorem dX7_lengthOf_15 : decode cX7_lengthOf 15 = .ok (.iaload, 1) := dk_46 (dk_at dksX7_lengthOf_0 15 rfl rfl)
theorem dX7_lengthOf_16 : decode cX7_lengthOf 16 = .ok (.iconst (-1), 1) := dk_2 (dk_at dksX7_lengthOf_0 16 rfl rfl)
theorem dX7_lengthOf_17 : decode cX7_lengthOf 17 = .ok (.if_icmp .eq 28, 3) := dk_159 0 28 (dk_at dksX7_lengthOf_0 17 rfl rfl)
theorem dX7_lengthOf_20 : decode cX7_lengthOf 20 = .ok (.aload_n 0, 1) := dk_42 (dk_at dksX7_lengthOf_0 20 rfl rfl)
theorem dX7_lengthOf_21 : decode cX7_lengthOf 21 = .ok (.iload_n 1, 1) := dk_27 (dk_at dksX7_lengthOf_0 21 rfl rfl)
theorem dX7_lengthOf_22 : decode cX7_lengthOf 22 = .ok (.iconst 1, 1) := dk_4 (dk_at dksX7_lengthOf_0 22 rfl rfl)
theorem dX7_lengthOf_23 : decode cX7_lengthOf 23 = .ok (.invokevirtual 195, 3) := dk_182 0 195 (dk_at dksX7_lengthOf_1 0 rfl rfl)
theorem dX7_lengthOf_26 : decode cX7_lengthOf 26 = .ok (.aload_n 0, 1) := dk_42 (dk_at dksX7_lengthOf_1 3 rfl rfl)
theorem dX7_lengthOf_27 : decode cX7_lengthOf 27 = .ok (.getfield 13, 3) := dk_180 0 13 (dk_at dksX7_lengthOf_1 4 rfl rfl)
theorem dX7_lengthOf_30 : decode cX7_lengthOf 30 = .ok (.bipush 42, 2) := dk_16 42 (dk_at dksX7_lengthOf_1 7 rfl rfl)
theorem dX7_lengthOf_32 : decode cX7_lengthOf 32 = .ok (.iload_n 2, 1) := dk_28 (dk_at dksX7_lengthOf_1 9 rfl rfl)
theorem dX7_lengthOf_33 : decode cX7_lengthOf 33 = .ok (.iadd, 1) := dk_96 (dk_at dksX7_lengthOf_1 10 rfl rfl)
theorem dX7_lengthOf_34 : decode cX7_lengthOf 34 = .ok (.iaload, 1) := dk_46 (dk_at dksX7_lengthOf_1 11 rfl rfl)
theorem dX7_lengthOf_35 : decode cX7_lengthOf 35 = .ok (.if_icmp .lt 10, 3) := dk_161 0 10 (dk_at dksX7_lengthOf_1 12 rfl rfl)
theorem dX7_lengthOf_38 : decode cX7_lengthOf 38 = .ok (.bipush 6, 2) := dk_16 6 (dk_at dksX7_lengthOf_1 15 rfl rfl)
theorem dX7_lengthOf_40 : decode cX7_lengthOf 40 = .ok (.iload_n 2, 1) := dk_28 (dk_at dksX7_lengthOf_1 17 rfl rfl)
theorem dX7_lengthOf_41 : decode cX7_lengthOf 41 = .ok (.iadd, 1) := dk_96 (dk_at dksX7_lengthOf_1 18 rfl rfl)
theorem dX7_lengthOf_42 : decode cX7_lengthOf 42 = .ok (.goto 4, 3) := dk_167 0 4 (dk_at dksX7_lengthOf_1 19 rfl rfl)
theorem dX7_lengthOf_45 : decode cX7_lengthOf 45 = .ok (.iload_n 2, 1) := dk_28 (dk_at dksX7_lengthOf_1 22 rfl rfl)
theorem dX7_lengthOf_46 : decode cX7_lengthOf 46 = .ok (.ireturn, 1) := dk_172 (dk_at dksX7_lengthOf_1 23 rfl rfl)
abbrev cX7_ofEntry : ByteArray := prog_16_method_22_code
def yX7_ofEntry : MethodName := ⟨RX7, "ofEntry", "(II)I"⟩
def dkwX7_ofEntry_0 : List UInt8 := [42, 180, 0, 13, 16, 80, 8, 27, 104, 96, 28, 96, 46, 172]
abbrev dktX7_ofEntry_0 : List UInt8 := dkwX7_ofEntry_0 ++ []
theorem dksX7_ofEntry_0 : cX7_ofEntry.data.toList.drop 0 = dktX7_ofEntry_0 := by decide +kernel
theorem dX7_ofEntry_0 : decode cX7_ofEntry 0 = .ok (.aload_n 0, 1) := dk_42 (dk_at dksX7_ofEntry_0 0 rfl rfl)
theorem dX7_ofEntry_1 : decode cX7_ofEntry 1 = .ok (.getfield 13, 3) := dk_180 0 13 (dk_at dksX7_ofEntry_0 1 rfl rfl)
theorem dX7_ofEntry_4 : decode cX7_ofEntry 4 = .ok (.bipush 80, 2) := dk_16 80 (dk_at dksX7_ofEntry_0 4 rfl rfl)
theorem dX7_ofEntry_6 : decode cX7_ofEntry 6 = .ok (.iconst 5, 1) := dk_8 (dk_at dksX7_ofEntry_0 6 rfl rfl)
theorem dX7_ofEntry_7 : decode cX7_ofEntry 7 = .ok (.iload_n 1, 1) := dk_27 (dk_at dksX7_ofEntry_0 7 rfl rfl)
theorem dX7_ofEntry_8 : decode cX7_ofEntry 8 = .ok (.imul, 1) := dk_104 (dk_at dksX7_ofEntry_0 8 rfl rfl)
theorem dX7_ofEntry_9 : decode cX7_ofEntry 9 = .ok (.iadd, 1) := dk_96 (dk_at dksX7_ofEntry_0 9 rfl rfl)
theorem dX7_ofEntry_10 : decode cX7_ofEntry 10 = .ok (.iload_n 2, 1) := dk_28 (dk_at dksX7_ofEntry_0 10 rfl rfl)
theorem dX7_ofEntry_11 : decode cX7_ofEntry 11 = .ok (.iadd, 1) := dk_96 (dk_at dksX7_ofEntry_0 11 rfl rfl)
theorem dX7_ofEntry_12 : decode cX7_ofEntry 12 = .ok (.iaload, 1) := dk_46 (dk_at dksX7_ofEntry_0 12 rfl rfl)
theorem dX7_ofEntry_13 : decode cX7_ofEntry 13 = .ok (.ireturn, 1) := dk_172 (dk_at dksX7_ofEntry_0 13 rfl rfl)
abbrev cX7_row : ByteArray := prog_16_method_26_code
def yX7_row : MethodName := ⟨RX7, "row", "()I"⟩
def dkwX7_row_7 : List UInt8 := [4, 96, 181, 0, 204, 132, 3, 4, 167, 255, 120, 42, 28, 182, 0, 147, 172]
abbrev dktX7_row_7 : List UInt8 := dkwX7_row_7 ++ []
def dkwX7_row_6 : List UInt8 := [96, 46, 42, 180, 0, 23, 29, 6, 96, 46, 182, 0, 188, 132, 2, 1, 167, 0, 13, 42, 89, 180, 0, 204]
abbrev dktX7_row_6 : List UInt8 := dkwX7_row_6 ++ dktX7_row_7
def dkwX7_row_5 : List UInt8 := [153, 0, 43, 42, 42, 180, 0, 23, 29, 46, 42, 180, 0, 23, 29, 4, 96, 46, 42, 180, 0, 23, 29, 5]
abbrev dktX7_row_5 : List UInt8 := dkwX7_row_5 ++ dktX7_row_6
def dkwX7_row_4 : List UInt8 := [46, 42, 180, 0, 23, 29, 6, 96, 46, 184, 0, 184, 153, 0, 7, 4, 167, 0, 4, 3, 54, 4, 21, 4]
abbrev dktX7_row_4 : List UInt8 := dkwX7_row_4 ++ dktX7_row_5
def dkwX7_row_3 : List UInt8 := [153, 0, 43, 42, 180, 0, 23, 29, 46, 42, 180, 0, 23, 29, 4, 96, 46, 42, 180, 0, 23, 29, 5, 96]
abbrev dktX7_row_3 : List UInt8 := dkwX7_row_3 ++ dktX7_row_4
def dkwX7_row_2 : List UInt8 := [162, 0, 18, 42, 180, 0, 13, 3, 46, 16, 24, 162, 0, 7, 4, 167, 0, 4, 3, 54, 4, 21, 4]
abbrev dktX7_row_2 : List UInt8 := dkwX7_row_2 ++ dktX7_row_3
def dkwX7_row_1 : List UInt8 := [182, 0, 147, 172, 42, 3, 181, 0, 204, 3, 61, 3, 62, 29, 27, 162, 0, 137, 29, 6, 96, 27]
abbrev dktX7_row_1 : List UInt8 := dkwX7_row_1 ++ dktX7_row_2
def dkwX7_row_0 : List UInt8 := [42, 3, 181, 0, 133, 42, 180, 0, 201, 60, 42, 3, 181, 0, 201, 27, 154, 0, 10, 42, 16, 250]
abbrev dktX7_row_0 : List UInt8 := dkwX7_row_0 ++ dktX7_row_1
theorem dksX7_row_0 : cX7_row.data.toList.drop 0 = dktX7_row_0 := by decide +kernel
theorem dksX7_row_1 : cX7_row.data.toList.drop 22 = dktX7_row_1 := dk_seg dksX7_row_0 22 rfl rfl
theorem dksX7_row_2 : cX7_row.data.toList.drop 44 = dktX7_row_2 := dk_seg dksX7_row_1 22 rfl rfl
theorem dksX7_row_3 : cX7_row.data.toList.drop 67 = dktX7_row_3 := dk_seg dksX7_row_2 23 rfl rfl
theorem dksX7_row_4 : cX7_row.data.toList.drop 91 = dktX7_row_4 := dk_seg dksX7_row_3 24 rfl rfl
theorem dksX7_row_5 : cX7_row.data.toList.drop 115 = dktX7_row_5 := dk_seg dksX7_row_4 24 rfl rfl
theorem dksX7_row_6 : cX7_row.data.toList.drop 139 = dktX7_row_6 := dk_seg dksX7_row_5 24 rfl rfl
theorem dksX7_row_7 : cX7_row.data.toList.drop 163 = dktX7_row_7 := dk_seg dksX7_row_6 24 rfl rfl
theorem dX7_row_0 : decode cX7_row 0 = .ok (.aload_n 0, 1) := dk_42 (dk_at dksX7_row_0 0 rfl rfl)
theorem dX7_row_1 : decode cX7_row 1 = .ok (.iconst 0, 1) := dk_3 (dk_at dksX7_row_0 1 rfl rfl)
theorem dX7_row_2 : decode cX7_row 2 = .ok (.putfield 133, 3) := dk_181 0 133 (dk_at dksX7_row_0 2 rfl rfl)
theorem dX7_row_5 : decode cX7_row 5 = .ok (.aload_n 0, 1) := dk_42 (dk_at dksX7_row_0 5 rfl rfl)
theorem dX7_row_6 : decode cX7_row 6 = .ok (.getfield 201, 3) := dk_180 0 201 (dk_at dksX7_row_0 6 rfl rfl)
theorem dX7_row_9 : decode cX7_row 9 = .ok (.istore_n 1, 1) := dk_60 (dk_at dksX7_row_0 9 rfl rfl)
theorem dX7_row_10 : decode cX7_row 10 = .ok (.aload_n 0, 1) := dk_42 (dk_at dksX7_row_0 10 rfl rfl)
theorem dX7_row_11 : decode cX7_row 11 = .ok (.iconst 0, 1) := dk_3 (dk_at dksX7_row_0 11 rfl rfl)
theorem dX7_row_12 : decode cX7_row 12 = .ok (.putfield 201, 3) := dk_181 0 201 (dk_at dksX7_row_0 12 rfl rfl)
theorem dX7_row_15 : decode cX7_row 15 = .ok (.iload_n 1, 1) := dk_27 (dk_at dksX7_row_0 15 rfl rfl)
theorem dX7_row_16 : decode cX7_row 16 = .ok (.ifCond .ne 10, 3) := dk_154 0 10 (dk_at dksX7_row_0 16 rfl rfl)
theorem dX7_row_19 : decode cX7_row 19 = .ok (.aload_n 0, 1) := dk_42 (dk_at dksX7_row_0 19 rfl rfl)
theorem dX7_row_20 : decode cX7_row 20 = .ok (.bipush (-6), 2) := dk_16 250 (dk_at dksX7_row_0 20 rfl rfl)
theorem dX7_row_22 : decode cX7_row 22 = .ok (.invokevirtual 147, 3) := dk_182 0 147 (dk_at dksX7_row_1 0 rfl rfl)
theorem dX7_row_25 : decode cX7_row 25 = .ok (.ireturn, 1) := dk_172 (dk_at dksX7_row_1 3 rfl rfl)
theorem dX7_row_26 : decode cX7_row 26 = .ok (.aload_n 0, 1) := dk_42 (dk_at dksX7_row_1 4 rfl rfl)
theorem dX7_row_27 : decode cX7_row 27 = .ok (.iconst 0, 1) := dk_3 (dk_at dksX7_row_1 5 rfl rfl)
theorem dX7_row_28 : decode cX7_row 28 = .ok (.putfield 204, 3) := dk_181 0 204 (dk_at dksX7_row_1 6 rfl rfl)
theorem dX7_row_31 : decode cX7_row 31 = .ok (.iconst 0, 1) := dk_3 (dk_at dksX7_row_1 9 rfl rfl)
theorem dX7_row_32 : decode cX7_row 32 = .ok (.istore_n 2, 1) := dk_61 (dk_at dksX7_row_1 10 rfl rfl)
theorem dX7_row_33 : decode cX7_row 33 = .ok (.iconst 0, 1) := dk_3 (dk_at dksX7_row_1 11 rfl rfl)
theorem dX7_row_34 : decode cX7_row 34 = .ok (.istore_n 3, 1) := dk_62 (dk_at dksX7_row_1 12 rfl rfl)
theorem dX7_row_35 : decode cX7_row 35 = .ok (.iload_n 3, 1) := dk_29 (dk_at dksX7_row_1 13 rfl rfl)
theorem dX7_row_36 : decode cX7_row 36 = .ok (.iload_n 1, 1) := dk_27 (dk_at dksX7_row_1 14 rfl rfl)
theorem dX7_row_37 : decode cX7_row 37 = .ok (.if_icmp .ge 137, 3) := dk_162 0 137 (dk_at dksX7_row_1 15 rfl rfl)
theorem dX7_row_40 : decode cX7_row 40 = .ok (.iload_n 3, 1) := dk_29 (dk_at dksX7_row_1 18 rfl rfl)
theorem dX7_row_41 : decode cX7_row 41 = .ok (.iconst 3, 1) := dk_6 (dk_at dksX7_row_1 19 rfl rfl)
theorem dX7_row_42 : decode cX7_row 42 = .ok (.iadd, 1) := dk_96 (dk_at dksX7_row_1 20 rfl rfl)
theorem dX7_row_43 : decode cX7_row 43 = .ok (.iload_n 1, 1) := dk_27 (dk_at dksX7_row_1 21 rfl rfl)
theorem dX7_row_44 : decode cX7_row 44 = .ok (.if_icmp .ge 18, 3) := dk_162 0 18 (dk_at dksX7_row_2 0 rfl rfl)
theorem dX7_row_47 : decode cX7_row 47 = .ok (.aload_n 0, 1) := dk_42 (dk_at dksX7_row_2 3 rfl rfl)
theorem dX7_row_48 : decode cX7_row 48 = .ok (.getfield 13, 3) := dk_180 0 13 (dk_at dksX7_row_2 4 rfl rfl)
theorem dX7_row_51 : decode cX7_row 51 = .ok (.iconst 0, 1) := dk_3 (dk_at dksX7_row_2 7 rfl rfl)
theorem dX7_row_52 : decode cX7_row 52 = .ok (.iaload, 1) := dk_46 (dk_at dksX7_row_2 8 rfl rfl)
theorem dX7_row_53 : decode cX7_row 53 = .ok (.bipush 24, 2) := dk_16 24 (dk_at dksX7_row_2 9 rfl rfl)
theorem dX7_row_55 : decode cX7_row 55 = .ok (.if_icmp .ge 7, 3) := dk_162 0 7 (dk_at dksX7_row_2 11 rfl rfl)
theorem dX7_row_58 : decode cX7_row 58 = .ok (.iconst 1, 1) := dk_4 (dk_at dksX7_row_2 14 rfl rfl)
theorem dX7_row_59 : decode cX7_row 59 = .ok (.goto 4, 3) := dk_167 0 4 (dk_at dksX7_row_2 15 rfl rfl)
theorem dX7_row_62 : decode cX7_row 62 = .ok (.iconst 0, 1) := dk_3 (dk_at dksX7_row_2 18 rfl rfl)
theorem dX7_row_63 : decode cX7_row 63 = .ok (.istore 4, 2) := dk_54 4 (dk_at dksX7_row_2 19 rfl rfl)
theorem dX7_row_65 : decode cX7_row 65 = .ok (.iload 4, 2) := dk_21 4 (dk_at dksX7_row_2 21 rfl rfl)
theorem dX7_row_67 : decode cX7_row 67 = .ok (.ifCond .eq 43, 3) := dk_153 0 43 (dk_at dksX7_row_3 0 rfl rfl)
theorem dX7_row_70 : decode cX7_row 70 = .ok (.aload_n 0, 1) := dk_42 (dk_at dksX7_row_3 3 rfl rfl)
theorem dX7_row_71 : decode cX7_row 71 = .ok (.getfield 23, 3) := dk_180 0 23 (dk_at dksX7_row_3 4 rfl rfl)
theorem dX7_row_74 : decode cX7_row 74 = .ok (.iload_n 3, 1) := dk_29 (dk_at dksX7_row_3 7 rfl rfl)
theorem dX7_row_75 : decode cX7_row 75 = .ok (.iaload, 1) := dk_46 (dk_at dksX7_row_3 8 rfl rfl)
theorem dX7_row_76 : decode cX7_row 76 = .ok (.aload_n 0, 1) := dk_42 (dk_at dksX7_row_3 9 rfl rfl)
theorem dX7_row_77 : decode cX7_row 77 = .ok (.getfield 23, 3) := dk_180 0 23 (dk_at dksX7_row_3 10 rfl rfl)
theorem dX7_row_80 : decode cX7_row 80 = .ok (.iload_n 3, 1) := dk_29 (dk_at dksX7_row_3 13 rfl rfl)
theorem dX7_row_81 : decode cX7_row 81 = .ok (.iconst 1, 1) := dk_4 (dk_at dksX7_row_3 14 rfl rfl)
theorem dX7_row_82 : decode cX7_row 82 = .ok (.iadd, 1) := dk_96 (dk_at dksX7_row_3 15 rfl rfl)
theorem dX7_row_83 : decode cX7_row 83 = .ok (.iaload, 1) := dk_46 (dk_at dksX7_row_3 16 rfl rfl)
theorem dX7_row_84 : decode cX7_row 84 = .ok (.aload_n 0, 1) := dk_42 (dk_at dksX7_row_3 17 rfl rfl)
theorem dX7_row_85 : decode cX7_row 85 = .ok (.getfield 23, 3) := dk_180 0 23 (dk_at dksX7_row_3 18 rfl rfl)
theorem dX7_row_88 : decode cX7_row 88 = .ok (.iload_n 3, 1) := dk_29 (dk_at dksX7_row_3 21 rfl rfl)
theorem dX7_row_89 : decode cX7_row 89 = .ok (.iconst 2, 1) := dk_5 (dk_at dksX7_row_3 22 rfl rfl)
theorem dX7_row_90 : decode cX7_row 90 = .ok (.iadd, 1) := dk_96 (dk_at dksX7_row_3 23 rfl rfl)
theorem dX7_row_91 : decode cX7_row 91 = .ok (.iaload, 1) := dk_46 (dk_at dksX7_row_4 0 rfl rfl)
theorem dX7_row_92 : decode cX7_row 92 = .ok (.aload_n 0, 1) := dk_42 (dk_at dksX7_row_4 1 rfl rfl)
theorem dX7_row_93 : decode cX7_row 93 = .ok (.getfield 23, 3) := dk_180 0 23 (dk_at dksX7_row_4 2 rfl rfl)
theorem dX7_row_96 : decode cX7_row 96 = .ok (.iload_n 3, 1) := dk_29 (dk_at dksX7_row_4 5 rfl rfl)
theorem dX7_row_97 : decode cX7_row 97 = .ok (.iconst 3, 1) := dk_6 (dk_at dksX7_row_4 6 rfl rfl)
theorem dX7_row_98 : decode cX7_row 98 = .ok (.iadd, 1) := dk_96 (dk_at dksX7_row_4 7 rfl rfl)
theorem dX7_row_99 : decode cX7_row 99 = .ok (.iaload, 1) := dk_46 (dk_at dksX7_row_4 8 rfl rfl)
theorem dX7_row_100 : decode cX7_row 100 = .ok (.invokestatic 184, 3) := dk_184 0 184 (dk_at dksX7_row_4 9 rfl rfl)
theorem dX7_row_103 : decode cX7_row 103 = .ok (.ifCond .eq 7, 3) := dk_153 0 7 (dk_at dksX7_row_4 12 rfl rfl)
theorem dX7_row_106 : decode cX7_row 106 = .ok (.iconst 1, 1) := dk_4 (dk_at dksX7_row_4 15 rfl rfl)
theorem dX7_row_107 : decode cX7_row 107 = .ok (.goto 4, 3) := dk_167 0 4 (dk_at dksX7_row_4 16 rfl rfl)
theorem dX7_row_110 : decode cX7_row 110 = .ok (.iconst 0, 1) := dk_3 (dk_at dksX7_row_4 19 rfl rfl)
theorem dX7_row_111 : decode cX7_row 111 = .ok (.istore 4, 2) := dk_54 4 (dk_at dksX7_row_4 20 rfl rfl)
theorem dX7_row_113 : decode cX7_row 113 = .ok (.iload 4, 2) := dk_21 4 (dk_at dksX7_row_4 22 rfl rfl)
theorem dX7_row_115 : decode cX7_row 115 = .ok (.ifCond .eq 43, 3) := dk_153 0 43 (dk_at dksX7_row_5 0 rfl rfl)
theorem dX7_row_118 : decode cX7_row 118 = .ok (.aload_n 0, 1) := dk_42 (dk_at dksX7_row_5 3 rfl rfl)
theorem dX7_row_119 : decode cX7_row 119 = .ok (.aload_n 0, 1) := dk_42 (dk_at dksX7_row_5 4 rfl rfl)
theorem dX7_row_120 : decode cX7_row 120 = .ok (.getfield 23, 3) := dk_180 0 23 (dk_at dksX7_row_5 5 rfl rfl)
theorem dX7_row_123 : decode cX7_row 123 = .ok (.iload_n 3, 1) := dk_29 (dk_at dksX7_row_5 8 rfl rfl)
theorem dX7_row_124 : decode cX7_row 124 = .ok (.iaload, 1) := dk_46 (dk_at dksX7_row_5 9 rfl rfl)
theorem dX7_row_125 : decode cX7_row 125 = .ok (.aload_n 0, 1) := dk_42 (dk_at dksX7_row_5 10 rfl rfl)
theorem dX7_row_126 : decode cX7_row 126 = .ok (.getfield 23, 3) := dk_180 0 23 (dk_at dksX7_row_5 11 rfl rfl)
theorem dX7_row_129 : decode cX7_row 129 = .ok (.iload_n 3, 1) := dk_29 (dk_at dksX7_row_5 14 rfl rfl)
theorem dX7_row_130 : decode cX7_row 130 = .ok (.iconst 1, 1) := dk_4 (dk_at dksX7_row_5 15 rfl rfl)
theorem dX7_row_131 : decode cX7_row 131 = .ok (.iadd, 1) := dk_96 (dk_at dksX7_row_5 16 rfl rfl)
theorem dX7_row_132 : decode cX7_row 132 = .ok (.iaload, 1) := dk_46 (dk_at dksX7_row_5 17 rfl rfl)
theorem dX7_row_133 : decode cX7_row 133 = .ok (.aload_n 0, 1) := dk_42 (dk_at dksX7_row_5 18 rfl rfl)
theorem dX7_row_134 : decode cX7_row 134 = .ok (.getfield 23, 3) := dk_180 0 23 (dk_at dksX7_row_5 19 rfl rfl)
theorem dX7_row_137 : decode cX7_row 137 = .ok (.iload_n 3, 1) := dk_29 (dk_at dksX7_row_5 22 rfl rfl)
theorem dX7_row_138 : decode cX7_row 138 = .ok (.iconst 2, 1) := dk_5 (dk_at dksX7_row_5 23 rfl rfl)
theorem dX7_row_139 : decode cX7_row 139 = .ok (.iadd, 1) := dk_96 (dk_at dksX7_row_6 0 rfl rfl)
theorem dX7_row_140 : decode cX7_row 140 = .ok (.iaload, 1) := dk_46 (dk_at dksX7_row_6 1 rfl rfl)
theorem dX7_row_141 : decode cX7_row 141 = .ok (.aload_n 0, 1) := dk_42 (dk_at dksX7_row_6 2 rfl rfl)
theorem dX7_row_142 : decode cX7_row 142 = .ok (.getfield 23, 3) := dk_180 0 23 (dk_at dksX7_row_6 3 rfl rfl)
theorem dX7_row_145 : decode cX7_row 145 = .ok (.iload_n 3, 1) := dk_29 (dk_at dksX7_row_6 6 rfl rfl)
theorem dX7_row_146 : decode cX7_row 146 = .ok (.iconst 3, 1) := dk_6 (dk_at dksX7_row_6 7 rfl rfl)
theorem dX7_row_147 : decode cX7_row 147 = .ok (.iadd, 1) := dk_96 (dk_at dksX7_row_6 8 rfl rfl)
theorem dX7_row_148 : decode cX7_row 148 = .ok (.iaload, 1) := dk_46 (dk_at dksX7_row_6 9 rfl rfl)
theorem dX7_row_149 : decode cX7_row 149 = .ok (.invokevirtual 188, 3) := dk_182 0 188 (dk_at dksX7_row_6 10 rfl rfl)
theorem dX7_row_152 : decode cX7_row 152 = .ok (.iinc 2 1, 3) := dk_132 2 1 (dk_at dksX7_row_6 13 rfl rfl)
theorem dX7_row_155 : decode cX7_row 155 = .ok (.goto 13, 3) := dk_167 0 13 (dk_at dksX7_row_6 16 rfl rfl)
theorem dX7_row_158 : decode cX7_row 158 = .ok (.aload_n 0, 1) := dk_42 (dk_at dksX7_row_6 19 rfl rfl)
theorem dX7_row_159 : decode cX7_row 159 = .ok (.dup, 1) := dk_89 (dk_at dksX7_row_6 20 rfl rfl)
theorem dX7_row_160 : decode cX7_row 160 = .ok (.getfield 204, 3) := dk_180 0 204 (dk_at dksX7_row_6 21 rfl rfl)
theorem dX7_row_163 : decode cX7_row 163 = .ok (.iconst 1, 1) := dk_4 (dk_at dksX7_row_7 0 rfl rfl)
theorem dX7_row_164 : decode cX7_row 164 = .ok (.iadd, 1) := dk_96 (dk_at dksX7_row_7 1 rfl rfl)
theorem dX7_row_165 : decode cX7_row 165 = .ok (.putfield 204, 3) := dk_181 0 204 (dk_at dksX7_row_7 2 rfl rfl)
theorem dX7_row_168 : decode cX7_row 168 = .ok (.iinc 3 4, 3) := dk_132 3 4 (dk_at dksX7_row_7 5 rfl rfl)
theorem dX7_row_171 : decode cX7_row 171 = .ok (.goto (-136), 3) := dk_167 255 120 (dk_at dksX7_row_7 8 rfl rfl)
theorem dX7_row_174 : decode cX7_row 174 = .ok (.aload_n 0, 1) := dk_42 (dk_at dksX7_row_7 11 rfl rfl)
theorem dX7_row_175 : decode cX7_row 175 = .ok (.iload_n 2, 1) := dk_28 (dk_at dksX7_row_7 12 rfl rfl)
theorem dX7_row_176 : decode cX7_row 176 = .ok (.invokevirtual 147, 3) := dk_182 0 147 (dk_at dksX7_row_7 13 rfl rfl)
theorem dX7_row_179 : decode cX7_row 179 = .ok (.ireturn, 1) := dk_172 (dk_at dksX7_row_7 16 rfl rfl)
abbrev cX7_blurred : ByteArray := prog_16_method_27_code
def yX7_blurred : MethodName := ⟨RX7, "blurred", "()I"⟩
def dkwX7_blurred_0 : List UInt8 := [42, 3, 181, 0, 133, 42, 180, 0, 204, 172]
abbrev dktX7_blurred_0 : List UInt8 := dkwX7_blurred_0 ++ []
theorem dksX7_blurred_0 : cX7_blurred.data.toList.drop 0 = dktX7_blurred_0 := by decide +kernel
theorem dX7_blurred_0 : decode cX7_blurred 0 = .ok (.aload_n 0, 1) := dk_42 (dk_at dksX7_blurred_0 0 rfl rfl)
theorem dX7_blurred_1 : decode cX7_blurred 1 = .ok (.iconst 0, 1) := dk_3 (dk_at dksX7_blurred_0 1 rfl rfl)
theorem dX7_blurred_2 : decode cX7_blurred 2 = .ok (.putfield 133, 3) := dk_181 0 133 (dk_at dksX7_blurred_0 2 rfl rfl)
theorem dX7_blurred_5 : decode cX7_blurred 5 = .ok (.aload_n 0, 1) := dk_42 (dk_at dksX7_blurred_0 5 rfl rfl)
theorem dX7_blurred_6 : decode cX7_blurred 6 = .ok (.getfield 204, 3) := dk_180 0 204 (dk_at dksX7_blurred_0 6 rfl rfl)
theorem dX7_blurred_9 : decode cX7_blurred 9 = .ok (.ireturn, 1) := dk_172 (dk_at dksX7_blurred_0 9 rfl rfl)
abbrev cX7_feed : ByteArray := prog_16_method_29_code
def yX7_feed : MethodName := ⟨RX7, "feed", "(IIIII)I"⟩
def dkwX7_feed_2 : List UInt8 := [182, 0, 207, 42, 180, 0, 201, 172]
abbrev dktX7_feed_2 : List UInt8 := dkwX7_feed_2 ++ []
def dkwX7_feed_1 : List UInt8 := [182, 0, 207, 42, 28, 182, 0, 207, 42, 29, 182, 0, 207, 42, 21, 4, 182, 0, 207, 42, 21, 5]
abbrev dktX7_feed_1 : List UInt8 := dkwX7_feed_1 ++ dktX7_feed_2
def dkwX7_feed_0 : List UInt8 := [42, 3, 181, 0, 133, 42, 180, 0, 201, 16, 20, 96, 17, 1, 144, 164, 0, 5, 2, 172, 42, 27]
abbrev dktX7_feed_0 : List UInt8 := dkwX7_feed_0 ++ dktX7_feed_1
theorem dksX7_feed_0 : cX7_feed.data.toList.drop 0 = dktX7_feed_0 := by decide +kernel
theorem dksX7_feed_1 : cX7_feed.data.toList.drop 22 = dktX7_feed_1 := dk_seg dksX7_feed_0 22 rfl rfl
theorem dksX7_feed_2 : cX7_feed.data.toList.drop 44 = dktX7_feed_2 := dk_seg dksX7_feed_1 22 rfl rfl
theorem dX7_feed_0 : decode cX7_feed 0 = .ok (.aload_n 0, 1) := dk_42 (dk_at dksX7_feed_0 0 rfl rfl)
theorem dX7_feed_1 : decode cX7_feed 1 = .ok (.iconst 0, 1) := dk_3 (dk_at dksX7_feed_0 1 rfl rfl)
theorem dX7_feed_2 : decode cX7_feed 2 = .ok (.putfield 133, 3) := dk_181 0 133 (dk_at dksX7_feed_0 2 rfl rfl)
theorem dX7_feed_5 : decode cX7_feed 5 = .ok (.aload_n 0, 1) := dk_42 (dk_at dksX7_feed_0 5 rfl rfl)
theorem dX7_feed_6 : decode cX7_feed 6 = .ok (.getfield 201, 3) := dk_180 0 201 (dk_at dksX7_feed_0 6 rfl rfl)
theorem dX7_feed_9 : decode cX7_feed 9 = .ok (.bipush 20, 2) := dk_16 20 (dk_at dksX7_feed_0 9 rfl rfl)
theorem dX7_feed_11 : decode cX7_feed 11 = .ok (.iadd, 1) := dk_96 (dk_at dksX7_feed_0 11 rfl rfl)
theorem dX7_feed_12 : decode cX7_feed 12 = .ok (.sipush 400, 3) := dk_17 1 144 (dk_at dksX7_feed_0 12 rfl rfl)
theorem dX7_feed_15 : decode cX7_feed 15 = .ok (.if_icmp .le 5, 3) := dk_164 0 5 (dk_at dksX7_feed_0 15 rfl rfl)
theorem dX7_feed_18 : decode cX7_feed 18 = .ok (.iconst (-1), 1) := dk_2 (dk_at dksX7_feed_0 18 rfl rfl)
theorem dX7_feed_19 : decode cX7_feed 19 = .ok (.ireturn, 1) := dk_172 (dk_at dksX7_feed_0 19 rfl rfl)
theorem dX7_feed_20 : decode cX7_feed 20 = .ok (.aload_n 0, 1) := dk_42 (dk_at dksX7_feed_0 20 rfl rfl)
theorem dX7_feed_21 : decode cX7_feed 21 = .ok (.iload_n 1, 1) := dk_27 (dk_at dksX7_feed_0 21 rfl rfl)
theorem dX7_feed_22 : decode cX7_feed 22 = .ok (.invokevirtual 207, 3) := dk_182 0 207 (dk_at dksX7_feed_1 0 rfl rfl)
theorem dX7_feed_25 : decode cX7_feed 25 = .ok (.aload_n 0, 1) := dk_42 (dk_at dksX7_feed_1 3 rfl rfl)
theorem dX7_feed_26 : decode cX7_feed 26 = .ok (.iload_n 2, 1) := dk_28 (dk_at dksX7_feed_1 4 rfl rfl)
theorem dX7_feed_27 : decode cX7_feed 27 = .ok (.invokevirtual 207, 3) := dk_182 0 207 (dk_at dksX7_feed_1 5 rfl rfl)
theorem dX7_feed_30 : decode cX7_feed 30 = .ok (.aload_n 0, 1) := dk_42 (dk_at dksX7_feed_1 8 rfl rfl)
theorem dX7_feed_31 : decode cX7_feed 31 = .ok (.iload_n 3, 1) := dk_29 (dk_at dksX7_feed_1 9 rfl rfl)
theorem dX7_feed_32 : decode cX7_feed 32 = .ok (.invokevirtual 207, 3) := dk_182 0 207 (dk_at dksX7_feed_1 10 rfl rfl)
theorem dX7_feed_35 : decode cX7_feed 35 = .ok (.aload_n 0, 1) := dk_42 (dk_at dksX7_feed_1 13 rfl rfl)
theorem dX7_feed_36 : decode cX7_feed 36 = .ok (.iload 4, 2) := dk_21 4 (dk_at dksX7_feed_1 14 rfl rfl)
theorem dX7_feed_38 : decode cX7_feed 38 = .ok (.invokevirtual 207, 3) := dk_182 0 207 (dk_at dksX7_feed_1 16 rfl rfl)
theorem dX7_feed_41 : decode cX7_feed 41 = .ok (.aload_n 0, 1) := dk_42 (dk_at dksX7_feed_1 19 rfl rfl)
theorem dX7_feed_42 : decode cX7_feed 42 = .ok (.iload 5, 2) := dk_21 5 (dk_at dksX7_feed_1 20 rfl rfl)
theorem dX7_feed_44 : decode cX7_feed 44 = .ok (.invokevirtual 207, 3) := dk_182 0 207 (dk_at dksX7_feed_2 0 rfl rfl)
theorem dX7_feed_47 : decode cX7_feed 47 = .ok (.aload_n 0, 1) := dk_42 (dk_at dksX7_feed_2 3 rfl rfl)
theorem dX7_feed_48 : decode cX7_feed 48 = .ok (.getfield 201, 3) := dk_180 0 201 (dk_at dksX7_feed_2 4 rfl rfl)
theorem dX7_feed_51 : decode cX7_feed 51 = .ok (.ireturn, 1) := dk_172 (dk_at dksX7_feed_2 7 rfl rfl)
abbrev cX7_four : ByteArray := prog_16_method_28_code
def yX7_four : MethodName := ⟨RX7, "four", "(I)V"⟩
def dkwX7_four_1 : List UInt8 := [89, 180, 0, 201, 4, 96, 181, 0, 201, 132, 2, 248, 167, 255, 223, 177]
abbrev dktX7_four_1 : List UInt8 := dkwX7_four_1 ++ []
def dkwX7_four_0 : List UInt8 := [16, 24, 61, 28, 155, 0, 35, 42, 180, 0, 23, 42, 180, 0, 201, 27, 28, 122, 17, 0, 255, 126, 79, 42]
abbrev dktX7_four_0 : List UInt8 := dkwX7_four_0 ++ dktX7_four_1
theorem dksX7_four_0 : cX7_four.data.toList.drop 0 = dktX7_four_0 := by decide +kernel
theorem dksX7_four_1 : cX7_four.data.toList.drop 24 = dktX7_four_1 := dk_seg dksX7_four_0 24 rfl rfl
theorem dX7_four_0 : decode cX7_four 0 = .ok (.bipush 24, 2) := dk_16 24 (dk_at dksX7_four_0 0 rfl rfl)
theorem dX7_four_2 : decode cX7_four 2 = .ok (.istore_n 2, 1) := dk_61 (dk_at dksX7_four_0 2 rfl rfl)
theorem dX7_four_3 : decode cX7_four 3 = .ok (.iload_n 2, 1) := dk_28 (dk_at dksX7_four_0 3 rfl rfl)
theorem dX7_four_4 : decode cX7_four 4 = .ok (.ifCond .lt 35, 3) := dk_155 0 35 (dk_at dksX7_four_0 4 rfl rfl)
theorem dX7_four_7 : decode cX7_four 7 = .ok (.aload_n 0, 1) := dk_42 (dk_at dksX7_four_0 7 rfl rfl)
theorem dX7_four_8 : decode cX7_four 8 = .ok (.getfield 23, 3) := dk_180 0 23 (dk_at dksX7_four_0 8 rfl rfl)
theorem dX7_four_11 : decode cX7_four 11 = .ok (.aload_n 0, 1) := dk_42 (dk_at dksX7_four_0 11 rfl rfl)
theorem dX7_four_12 : decode cX7_four 12 = .ok (.getfield 201, 3) := dk_180 0 201 (dk_at dksX7_four_0 12 rfl rfl)
theorem dX7_four_15 : decode cX7_four 15 = .ok (.iload_n 1, 1) := dk_27 (dk_at dksX7_four_0 15 rfl rfl)
theorem dX7_four_16 : decode cX7_four 16 = .ok (.iload_n 2, 1) := dk_28 (dk_at dksX7_four_0 16 rfl rfl)
theorem dX7_four_17 : decode cX7_four 17 = .ok (.ishr, 1) := dk_122 (dk_at dksX7_four_0 17 rfl rfl)
theorem dX7_four_18 : decode cX7_four 18 = .ok (.sipush 255, 3) := dk_17 0 255 (dk_at dksX7_four_0 18 rfl rfl)
theorem dX7_four_21 : decode cX7_four 21 = .ok (.iand, 1) := dk_126 (dk_at dksX7_four_0 21 rfl rfl)
theorem dX7_four_22 : decode cX7_four 22 = .ok (.iastore, 1) := dk_79 (dk_at dksX7_four_0 22 rfl rfl)
theorem dX7_four_23 : decode cX7_four 23 = .ok (.aload_n 0, 1) := dk_42 (dk_at dksX7_four_0 23 rfl rfl)
theorem dX7_four_24 : decode cX7_four 24 = .ok (.dup, 1) := dk_89 (dk_at dksX7_four_1 0 rfl rfl)
theorem dX7_four_25 : decode cX7_four 25 = .ok (.getfield 201, 3) := dk_180 0 201 (dk_at dksX7_four_1 1 rfl rfl)
theorem dX7_four_28 : decode cX7_four 28 = .ok (.iconst 1, 1) := dk_4 (dk_at dksX7_four_1 4 rfl rfl)
theorem dX7_four_29 : decode cX7_four 29 = .ok (.iadd, 1) := dk_96 (dk_at dksX7_four_1 5 rfl rfl)
theorem dX7_four_30 : decode cX7_four 30 = .ok (.putfield 201, 3) := dk_181 0 201 (dk_at dksX7_four_1 6 rfl rfl)
theorem dX7_four_33 : decode cX7_four 33 = .ok (.iinc 2 (-8), 3) := dk_132 2 248 (dk_at dksX7_four_1 9 rfl rfl)
theorem dX7_four_36 : decode cX7_four 36 = .ok (.goto (-33), 3) := dk_167 255 223 (dk_at dksX7_four_1 12 rfl rfl)
theorem dX7_four_39 : decode cX7_four 39 = .ok (.return_, 1) := dk_177 (dk_at dksX7_four_1 15 rfl rfl)
abbrev cX7_end : ByteArray := prog_16_method_30_code
def yX7_end : MethodName := ⟨RX7, "end", "(I)I"⟩
def dkwX7_end_1 : List UInt8 := [27, 172]
abbrev dktX7_end_1 : List UInt8 := dkwX7_end_1 ++ []
def dkwX7_end_0 : List UInt8 := [42, 3, 181, 0, 133, 27, 155, 0, 11, 27, 42, 180, 0, 201, 164, 0, 5, 2, 172, 42, 27, 181, 0, 201]
abbrev dktX7_end_0 : List UInt8 := dkwX7_end_0 ++ dktX7_end_1
theorem dksX7_end_0 : cX7_end.data.toList.drop 0 = dktX7_end_0 := by decide +kernel
theorem dksX7_end_1 : cX7_end.data.toList.drop 24 = dktX7_end_1 := dk_seg dksX7_end_0 24 rfl rfl
theorem dX7_end_0 : decode cX7_end 0 = .ok (.aload_n 0, 1) := dk_42 (dk_at dksX7_end_0 0 rfl rfl)
theorem dX7_end_1 : decode cX7_end 1 = .ok (.iconst 0, 1) := dk_3 (dk_at dksX7_end_0 1 rfl rfl)
theorem dX7_end_2 : decode cX7_end 2 = .ok (.putfield 133, 3) := dk_181 0 133 (dk_at dksX7_end_0 2 rfl rfl)
theorem dX7_end_5 : decode cX7_end 5 = .ok (.iload_n 1, 1) := dk_27 (dk_at dksX7_end_0 5 rfl rfl)
theorem dX7_end_6 : decode cX7_end 6 = .ok (.ifCond .lt 11, 3) := dk_155 0 11 (dk_at dksX7_end_0 6 rfl rfl)
theorem dX7_end_9 : decode cX7_end 9 = .ok (.iload_n 1, 1) := dk_27 (dk_at dksX7_end_0 9 rfl rfl)
theorem dX7_end_10 : decode cX7_end 10 = .ok (.aload_n 0, 1) := dk_42 (dk_at dksX7_end_0 10 rfl rfl)
theorem dX7_end_11 : decode cX7_end 11 = .ok (.getfield 201, 3) := dk_180 0 201 (dk_at dksX7_end_0 11 rfl rfl)
theorem dX7_end_14 : decode cX7_end 14 = .ok (.if_icmp .le 5, 3) := dk_164 0 5 (dk_at dksX7_end_0 14 rfl rfl)
theorem dX7_end_17 : decode cX7_end 17 = .ok (.iconst (-1), 1) := dk_2 (dk_at dksX7_end_0 17 rfl rfl)
theorem dX7_end_18 : decode cX7_end 18 = .ok (.ireturn, 1) := dk_172 (dk_at dksX7_end_0 18 rfl rfl)
theorem dX7_end_19 : decode cX7_end 19 = .ok (.aload_n 0, 1) := dk_42 (dk_at dksX7_end_0 19 rfl rfl)
theorem dX7_end_20 : decode cX7_end 20 = .ok (.iload_n 1, 1) := dk_27 (dk_at dksX7_end_0 20 rfl rfl)
theorem dX7_end_21 : decode cX7_end 21 = .ok (.putfield 201, 3) := dk_181 0 201 (dk_at dksX7_end_0 21 rfl rfl)
theorem dX7_end_24 : decode cX7_end 24 = .ok (.iload_n 1, 1) := dk_27 (dk_at dksX7_end_1 0 rfl rfl)
theorem dX7_end_25 : decode cX7_end 25 = .ok (.ireturn, 1) := dk_172 (dk_at dksX7_end_1 1 rfl rfl)
abbrev cX7_fault : ByteArray := prog_16_method_39_code
def yX7_fault : MethodName := ⟨RX7, "fault", "()I"⟩
def dkwX7_fault_0 : List UInt8 := [42, 3, 181, 0, 133, 42, 180, 0, 26, 172]
abbrev dktX7_fault_0 : List UInt8 := dkwX7_fault_0 ++ []
theorem dksX7_fault_0 : cX7_fault.data.toList.drop 0 = dktX7_fault_0 := by decide +kernel
theorem dX7_fault_0 : decode cX7_fault 0 = .ok (.aload_n 0, 1) := dk_42 (dk_at dksX7_fault_0 0 rfl rfl)
theorem dX7_fault_1 : decode cX7_fault 1 = .ok (.iconst 0, 1) := dk_3 (dk_at dksX7_fault_0 1 rfl rfl)
theorem dX7_fault_2 : decode cX7_fault 2 = .ok (.putfield 133, 3) := dk_181 0 133 (dk_at dksX7_fault_0 2 rfl rfl)
theorem dX7_fault_5 : decode cX7_fault 5 = .ok (.aload_n 0, 1) := dk_42 (dk_at dksX7_fault_0 5 rfl rfl)
theorem dX7_fault_6 : decode cX7_fault 6 = .ok (.getfield 26, 3) := dk_180 0 26 (dk_at dksX7_fault_0 6 rfl rfl)
theorem dX7_fault_9 : decode cX7_fault 9 = .ok (.ireturn, 1) := dk_172 (dk_at dksX7_fault_0 9 rfl rfl)
abbrev cX7_book : ByteArray := prog_16_method_47_code
def yX7_book : MethodName := ⟨RX7, "book", "()I"⟩
def dkwX7_book_5 : List UInt8 := [167, 255, 238, 42, 27, 182, 0, 147, 172]
abbrev dktX7_book_5 : List UInt8 := dkwX7_book_5 ++ []
def dkwX7_book_4 : List UInt8 := [182, 0, 147, 172, 3, 61, 28, 42, 180, 0, 251, 162, 0, 16, 42, 8, 28, 104, 182, 1, 68, 132, 2, 1]
abbrev dktX7_book_4 : List UInt8 := dkwX7_book_4 ++ dktX7_book_5
def dkwX7_book_3 : List UInt8 := [153, 0, 8, 42, 3, 182, 0, 247, 42, 3, 181, 0, 201, 42, 180, 0, 214, 153, 0, 10, 42, 16, 250]
abbrev dktX7_book_3 : List UInt8 := dkwX7_book_3 ++ dktX7_book_4
def dkwX7_book_2 : List UInt8 := [182, 0, 218, 42, 182, 1, 65, 132, 1, 1, 167, 255, 229, 42, 180, 0, 214, 154, 0, 15, 42, 180, 0, 234]
abbrev dktX7_book_2 : List UInt8 := dkwX7_book_2 ++ dktX7_book_3
def dkwX7_book_1 : List UInt8 := [4, 60, 42, 182, 1, 65, 42, 180, 0, 214, 154, 0, 26, 42, 16, 59, 182, 1, 44, 153, 0, 17, 42]
abbrev dktX7_book_1 : List UInt8 := dkwX7_book_1 ++ dktX7_book_2
def dkwX7_book_0 : List UInt8 := [42, 3, 181, 0, 133, 42, 3, 181, 0, 251, 42, 3, 181, 1, 26, 42, 3, 181, 1, 21, 42, 182, 1, 62]
abbrev dktX7_book_0 : List UInt8 := dkwX7_book_0 ++ dktX7_book_1
theorem dksX7_book_0 : cX7_book.data.toList.drop 0 = dktX7_book_0 := by decide +kernel
theorem dksX7_book_1 : cX7_book.data.toList.drop 24 = dktX7_book_1 := dk_seg dksX7_book_0 24 rfl rfl
theorem dksX7_book_2 : cX7_book.data.toList.drop 47 = dktX7_book_2 := dk_seg dksX7_book_1 23 rfl rfl
theorem dksX7_book_3 : cX7_book.data.toList.drop 71 = dktX7_book_3 := dk_seg dksX7_book_2 24 rfl rfl
theorem dksX7_book_4 : cX7_book.data.toList.drop 94 = dktX7_book_4 := dk_seg dksX7_book_3 23 rfl rfl
theorem dksX7_book_5 : cX7_book.data.toList.drop 118 = dktX7_book_5 := dk_seg dksX7_book_4 24 rfl rfl
theorem dX7_book_0 : decode cX7_book 0 = .ok (.aload_n 0, 1) := dk_42 (dk_at dksX7_book_0 0 rfl rfl)
theorem dX7_book_1 : decode cX7_book 1 = .ok (.iconst 0, 1) := dk_3 (dk_at dksX7_book_0 1 rfl rfl)
theorem dX7_book_2 : decode cX7_book 2 = .ok (.putfield 133, 3) := dk_181 0 133 (dk_at dksX7_book_0 2 rfl rfl)
theorem dX7_book_5 : decode cX7_book 5 = .ok (.aload_n 0, 1) := dk_42 (dk_at dksX7_book_0 5 rfl rfl)
theorem dX7_book_6 : decode cX7_book 6 = .ok (.iconst 0, 1) := dk_3 (dk_at dksX7_book_0 6 rfl rfl)
theorem dX7_book_7 : decode cX7_book 7 = .ok (.putfield 251, 3) := dk_181 0 251 (dk_at dksX7_book_0 7 rfl rfl)
theorem dX7_book_10 : decode cX7_book 10 = .ok (.aload_n 0, 1) := dk_42 (dk_at dksX7_book_0 10 rfl rfl)
theorem dX7_book_11 : decode cX7_book 11 = .ok (.iconst 0, 1) := dk_3 (dk_at dksX7_book_0 11 rfl rfl)
theorem dX7_book_12 : decode cX7_book 12 = .ok (.putfield 282, 3) := dk_181 1 26 (dk_at dksX7_book_0 12 rfl rfl)
theorem dX7_book_15 : decode cX7_book 15 = .ok (.aload_n 0, 1) := dk_42 (dk_at dksX7_book_0 15 rfl rfl)
theorem dX7_book_16 : decode cX7_book 16 = .ok (.iconst 0, 1) := dk_3 (dk_at dksX7_book_0 16 rfl rfl)
theorem dX7_book_17 : decode cX7_book 17 = .ok (.putfield 277, 3) := dk_181 1 21 (dk_at dksX7_book_0 17 rfl rfl)
theorem dX7_book_20 : decode cX7_book 20 = .ok (.aload_n 0, 1) := dk_42 (dk_at dksX7_book_0 20 rfl rfl)
theorem dX7_book_21 : decode cX7_book 21 = .ok (.invokevirtual 318, 3) := dk_182 1 62 (dk_at dksX7_book_0 21 rfl rfl)
theorem dX7_book_24 : decode cX7_book 24 = .ok (.iconst 1, 1) := dk_4 (dk_at dksX7_book_1 0 rfl rfl)
theorem dX7_book_25 : decode cX7_book 25 = .ok (.istore_n 1, 1) := dk_60 (dk_at dksX7_book_1 1 rfl rfl)
theorem dX7_book_26 : decode cX7_book 26 = .ok (.aload_n 0, 1) := dk_42 (dk_at dksX7_book_1 2 rfl rfl)
theorem dX7_book_27 : decode cX7_book 27 = .ok (.invokevirtual 321, 3) := dk_182 1 65 (dk_at dksX7_book_1 3 rfl rfl)
theorem dX7_book_30 : decode cX7_book 30 = .ok (.aload_n 0, 1) := dk_42 (dk_at dksX7_book_1 6 rfl rfl)
theorem dX7_book_31 : decode cX7_book 31 = .ok (.getfield 214, 3) := dk_180 0 214 (dk_at dksX7_book_1 7 rfl rfl)
theorem dX7_book_34 : decode cX7_book 34 = .ok (.ifCond .ne 26, 3) := dk_154 0 26 (dk_at dksX7_book_1 10 rfl rfl)
theorem dX7_book_37 : decode cX7_book 37 = .ok (.aload_n 0, 1) := dk_42 (dk_at dksX7_book_1 13 rfl rfl)
theorem dX7_book_38 : decode cX7_book 38 = .ok (.bipush 59, 2) := dk_16 59 (dk_at dksX7_book_1 14 rfl rfl)
theorem dX7_book_40 : decode cX7_book 40 = .ok (.invokevirtual 300, 3) := dk_182 1 44 (dk_at dksX7_book_1 16 rfl rfl)
theorem dX7_book_43 : decode cX7_book 43 = .ok (.ifCond .eq 17, 3) := dk_153 0 17 (dk_at dksX7_book_1 19 rfl rfl)
theorem dX7_book_46 : decode cX7_book 46 = .ok (.aload_n 0, 1) := dk_42 (dk_at dksX7_book_1 22 rfl rfl)
theorem dX7_book_47 : decode cX7_book 47 = .ok (.invokevirtual 218, 3) := dk_182 0 218 (dk_at dksX7_book_2 0 rfl rfl)
theorem dX7_book_50 : decode cX7_book 50 = .ok (.aload_n 0, 1) := dk_42 (dk_at dksX7_book_2 3 rfl rfl)
theorem dX7_book_51 : decode cX7_book 51 = .ok (.invokevirtual 321, 3) := dk_182 1 65 (dk_at dksX7_book_2 4 rfl rfl)
theorem dX7_book_54 : decode cX7_book 54 = .ok (.iinc 1 1, 3) := dk_132 1 1 (dk_at dksX7_book_2 7 rfl rfl)
theorem dX7_book_57 : decode cX7_book 57 = .ok (.goto (-27), 3) := dk_167 255 229 (dk_at dksX7_book_2 10 rfl rfl)
theorem dX7_book_60 : decode cX7_book 60 = .ok (.aload_n 0, 1) := dk_42 (dk_at dksX7_book_2 13 rfl rfl)
theorem dX7_book_61 : decode cX7_book 61 = .ok (.getfield 214, 3) := dk_180 0 214 (dk_at dksX7_book_2 14 rfl rfl)
theorem dX7_book_64 : decode cX7_book 64 = .ok (.ifCond .ne 15, 3) := dk_154 0 15 (dk_at dksX7_book_2 17 rfl rfl)
theorem dX7_book_67 : decode cX7_book 67 = .ok (.aload_n 0, 1) := dk_42 (dk_at dksX7_book_2 20 rfl rfl)
theorem dX7_book_68 : decode cX7_book 68 = .ok (.getfield 234, 3) := dk_180 0 234 (dk_at dksX7_book_2 21 rfl rfl)
theorem dX7_book_71 : decode cX7_book 71 = .ok (.ifCond .eq 8, 3) := dk_153 0 8 (dk_at dksX7_book_3 0 rfl rfl)
theorem dX7_book_74 : decode cX7_book 74 = .ok (.aload_n 0, 1) := dk_42 (dk_at dksX7_book_3 3 rfl rfl)
theorem dX7_book_75 : decode cX7_book 75 = .ok (.iconst 0, 1) := dk_3 (dk_at dksX7_book_3 4 rfl rfl)
theorem dX7_book_76 : decode cX7_book 76 = .ok (.invokevirtual 247, 3) := dk_182 0 247 (dk_at dksX7_book_3 5 rfl rfl)
theorem dX7_book_79 : decode cX7_book 79 = .ok (.aload_n 0, 1) := dk_42 (dk_at dksX7_book_3 8 rfl rfl)
theorem dX7_book_80 : decode cX7_book 80 = .ok (.iconst 0, 1) := dk_3 (dk_at dksX7_book_3 9 rfl rfl)
theorem dX7_book_81 : decode cX7_book 81 = .ok (.putfield 201, 3) := dk_181 0 201 (dk_at dksX7_book_3 10 rfl rfl)
theorem dX7_book_84 : decode cX7_book 84 = .ok (.aload_n 0, 1) := dk_42 (dk_at dksX7_book_3 13 rfl rfl)
theorem dX7_book_85 : decode cX7_book 85 = .ok (.getfield 214, 3) := dk_180 0 214 (dk_at dksX7_book_3 14 rfl rfl)
theorem dX7_book_88 : decode cX7_book 88 = .ok (.ifCond .eq 10, 3) := dk_153 0 10 (dk_at dksX7_book_3 17 rfl rfl)
theorem dX7_book_91 : decode cX7_book 91 = .ok (.aload_n 0, 1) := dk_42 (dk_at dksX7_book_3 20 rfl rfl)
theorem dX7_book_92 : decode cX7_book 92 = .ok (.bipush (-6), 2) := dk_16 250 (dk_at dksX7_book_3 21 rfl rfl)
theorem dX7_book_94 : decode cX7_book 94 = .ok (.invokevirtual 147, 3) := dk_182 0 147 (dk_at dksX7_book_4 0 rfl rfl)
theorem dX7_book_97 : decode cX7_book 97 = .ok (.ireturn, 1) := dk_172 (dk_at dksX7_book_4 3 rfl rfl)
theorem dX7_book_98 : decode cX7_book 98 = .ok (.iconst 0, 1) := dk_3 (dk_at dksX7_book_4 4 rfl rfl)
theorem dX7_book_99 : decode cX7_book 99 = .ok (.istore_n 2, 1) := dk_61 (dk_at dksX7_book_4 5 rfl rfl)
theorem dX7_book_100 : decode cX7_book 100 = .ok (.iload_n 2, 1) := dk_28 (dk_at dksX7_book_4 6 rfl rfl)
theorem dX7_book_101 : decode cX7_book 101 = .ok (.aload_n 0, 1) := dk_42 (dk_at dksX7_book_4 7 rfl rfl)
theorem dX7_book_102 : decode cX7_book 102 = .ok (.getfield 251, 3) := dk_180 0 251 (dk_at dksX7_book_4 8 rfl rfl)
theorem dX7_book_105 : decode cX7_book 105 = .ok (.if_icmp .ge 16, 3) := dk_162 0 16 (dk_at dksX7_book_4 11 rfl rfl)
theorem dX7_book_108 : decode cX7_book 108 = .ok (.aload_n 0, 1) := dk_42 (dk_at dksX7_book_4 14 rfl rfl)
theorem dX7_book_109 : decode cX7_book 109 = .ok (.iconst 5, 1) := dk_8 (dk_at dksX7_book_4 15 rfl rfl)
theorem dX7_book_110 : decode cX7_book 110 = .ok (.iload_n 2, 1) := dk_28 (dk_at dksX7_book_4 16 rfl rfl)
theorem dX7_book_111 : decode cX7_book 111 = .ok (.imul, 1) := dk_104 (dk_at dksX7_book_4 17 rfl rfl)
theorem dX7_book_112 : decode cX7_book 112 = .ok (.invokevirtual 324, 3) := dk_182 1 68 (dk_at dksX7_book_4 18 rfl rfl)
theorem dX7_book_115 : decode cX7_book 115 = .ok (.iinc 2 1, 3) := dk_132 2 1 (dk_at dksX7_book_4 21 rfl rfl)
theorem dX7_book_118 : decode cX7_book 118 = .ok (.goto (-18), 3) := dk_167 255 238 (dk_at dksX7_book_5 0 rfl rfl)
theorem dX7_book_121 : decode cX7_book 121 = .ok (.aload_n 0, 1) := dk_42 (dk_at dksX7_book_5 3 rfl rfl)
theorem dX7_book_122 : decode cX7_book 122 = .ok (.iload_n 1, 1) := dk_27 (dk_at dksX7_book_5 4 rfl rfl)
theorem dX7_book_123 : decode cX7_book 123 = .ok (.invokevirtual 147, 3) := dk_182 0 147 (dk_at dksX7_book_5 5 rfl rfl)
theorem dX7_book_126 : decode cX7_book 126 = .ok (.ireturn, 1) := dk_172 (dk_at dksX7_book_5 8 rfl rfl)
abbrev cX7_begin : ByteArray := prog_16_method_33_code
def yX7_begin : MethodName := ⟨RX7, "begin", "()V"⟩
def dkwX7_begin_0 : List UInt8 := [42, 3, 181, 0, 211, 42, 3, 181, 0, 214, 42, 2, 181, 0, 26, 42, 182, 0, 218, 177]
abbrev dktX7_begin_0 : List UInt8 := dkwX7_begin_0 ++ []
theorem dksX7_begin_0 : cX7_begin.data.toList.drop 0 = dktX7_begin_0 := by decide +kernel
theorem dX7_begin_0 : decode cX7_begin 0 = .ok (.aload_n 0, 1) := dk_42 (dk_at dksX7_begin_0 0 rfl rfl)
theorem dX7_begin_1 : decode cX7_begin 1 = .ok (.iconst 0, 1) := dk_3 (dk_at dksX7_begin_0 1 rfl rfl)
theorem dX7_begin_2 : decode cX7_begin 2 = .ok (.putfield 211, 3) := dk_181 0 211 (dk_at dksX7_begin_0 2 rfl rfl)
theorem dX7_begin_5 : decode cX7_begin 5 = .ok (.aload_n 0, 1) := dk_42 (dk_at dksX7_begin_0 5 rfl rfl)
theorem dX7_begin_6 : decode cX7_begin 6 = .ok (.iconst 0, 1) := dk_3 (dk_at dksX7_begin_0 6 rfl rfl)
theorem dX7_begin_7 : decode cX7_begin 7 = .ok (.putfield 214, 3) := dk_181 0 214 (dk_at dksX7_begin_0 7 rfl rfl)
theorem dX7_begin_10 : decode cX7_begin 10 = .ok (.aload_n 0, 1) := dk_42 (dk_at dksX7_begin_0 10 rfl rfl)
theorem dX7_begin_11 : decode cX7_begin 11 = .ok (.iconst (-1), 1) := dk_2 (dk_at dksX7_begin_0 11 rfl rfl)
theorem dX7_begin_12 : decode cX7_begin 12 = .ok (.putfield 26, 3) := dk_181 0 26 (dk_at dksX7_begin_0 12 rfl rfl)
theorem dX7_begin_15 : decode cX7_begin 15 = .ok (.aload_n 0, 1) := dk_42 (dk_at dksX7_begin_0 15 rfl rfl)
theorem dX7_begin_16 : decode cX7_begin 16 = .ok (.invokevirtual 218, 3) := dk_182 0 218 (dk_at dksX7_begin_0 16 rfl rfl)
theorem dX7_begin_19 : decode cX7_begin 19 = .ok (.return_, 1) := dk_177 (dk_at dksX7_begin_0 19 rfl rfl)
abbrev cX7_next : ByteArray := prog_16_method_34_code
def yX7_next : MethodName := ⟨RX7, "next", "()V"⟩
def dkwX7_next_14 : List UInt8 := [181, 0, 211, 167, 255, 167, 177]
abbrev dktX7_next_14 : List UInt8 := dkwX7_next_14 ++ []
def dkwX7_next_13 : List UInt8 := [180, 0, 23, 42, 180, 0, 211, 46, 133, 97, 20, 0, 245, 101, 181, 0, 224, 42, 89, 180, 0, 211, 4, 96]
abbrev dktX7_next_13 : List UInt8 := dkwX7_next_13 ++ dktX7_next_14
def dkwX7_next_12 : List UInt8 := [20, 0, 241, 148, 158, 0, 10, 42, 180, 0, 224, 167, 0, 26, 42, 180, 0, 224, 20, 0, 243, 105, 42]
abbrev dktX7_next_12 : List UInt8 := dkwX7_next_12 ++ dktX7_next_13
def dkwX7_next_11 : List UInt8 := [162, 0, 76, 42, 180, 0, 23, 42, 180, 0, 211, 46, 184, 0, 231, 153, 0, 61, 42, 42, 180, 0, 224]
abbrev dktX7_next_11 : List UInt8 := dkwX7_next_11 ++ dktX7_next_12
def dkwX7_next_10 : List UInt8 := [4, 96, 181, 0, 211, 167, 255, 165, 42, 180, 0, 234, 5, 160, 0, 87, 42, 180, 0, 211, 42, 180, 0, 201]
abbrev dktX7_next_10 : List UInt8 := dkwX7_next_10 ++ dktX7_next_11
def dkwX7_next_9 : List UInt8 := [180, 0, 211, 46, 133, 97, 20, 0, 239, 101, 167, 0, 6, 20, 0, 160, 181, 0, 224, 42, 89, 180, 0, 211]
abbrev dktX7_next_9 : List UInt8 := dkwX7_next_9 ++ dktX7_next_10
def dkwX7_next_8 : List UInt8 := [180, 0, 221, 100, 16, 10, 162, 0, 29, 42, 180, 0, 224, 20, 0, 237, 105, 42, 180, 0, 23, 42]
abbrev dktX7_next_8 : List UInt8 := dkwX7_next_8 ++ dktX7_next_9
def dkwX7_next_7 : List UInt8 := [162, 0, 78, 42, 180, 0, 23, 42, 180, 0, 211, 46, 184, 0, 228, 153, 0, 63, 42, 42, 180, 0, 211, 42]
abbrev dktX7_next_7 : List UInt8 := dkwX7_next_7 ++ dktX7_next_8
def dkwX7_next_6 : List UInt8 := [180, 0, 211, 4, 96, 181, 0, 211, 42, 180, 0, 234, 4, 160, 0, 89, 42, 180, 0, 211, 42, 180, 0, 201]
abbrev dktX7_next_6 : List UInt8 := dkwX7_next_6 ++ dktX7_next_7
def dkwX7_next_5 : List UInt8 := [180, 0, 234, 6, 160, 0, 27, 42, 42, 180, 0, 23, 42, 180, 0, 221, 46, 133, 181, 0, 224, 42, 89]
abbrev dktX7_next_5 : List UInt8 := dkwX7_next_5 ++ dktX7_next_6
def dkwX7_next_4 : List UInt8 := [180, 0, 23, 42, 180, 0, 221, 46, 184, 0, 231, 153, 0, 7, 5, 167, 0, 4, 6, 181, 0, 234, 42]
abbrev dktX7_next_4 : List UInt8 := dkwX7_next_4 ++ dktX7_next_5
def dkwX7_next_3 : List UInt8 := [167, 0, 42, 42, 180, 0, 23, 42, 180, 0, 221, 46, 184, 0, 228, 153, 0, 7, 4, 167, 0, 23, 42]
abbrev dktX7_next_3 : List UInt8 := dkwX7_next_3 ++ dktX7_next_4
def dkwX7_next_2 : List UInt8 := [180, 0, 221, 181, 0, 211, 42, 9, 181, 0, 224, 42, 42, 180, 0, 221, 42, 180, 0, 201, 160, 0, 7, 3]
abbrev dktX7_next_2 : List UInt8 := dkwX7_next_2 ++ dktX7_next_3
def dkwX7_next_1 : List UInt8 := [180, 0, 221, 46, 16, 32, 160, 0, 16, 42, 89, 180, 0, 221, 4, 96, 181, 0, 221, 167, 255, 221, 42, 42]
abbrev dktX7_next_1 : List UInt8 := dkwX7_next_1 ++ dktX7_next_2
def dkwX7_next_0 : List UInt8 := [42, 42, 180, 0, 211, 181, 0, 221, 42, 180, 0, 221, 42, 180, 0, 201, 162, 0, 30, 42, 180, 0, 23, 42]
abbrev dktX7_next_0 : List UInt8 := dkwX7_next_0 ++ dktX7_next_1
theorem dksX7_next_0 : cX7_next.data.toList.drop 0 = dktX7_next_0 := by decide +kernel
theorem dksX7_next_1 : cX7_next.data.toList.drop 24 = dktX7_next_1 := dk_seg dksX7_next_0 24 rfl rfl
theorem dksX7_next_2 : cX7_next.data.toList.drop 48 = dktX7_next_2 := dk_seg dksX7_next_1 24 rfl rfl
theorem dksX7_next_3 : cX7_next.data.toList.drop 72 = dktX7_next_3 := dk_seg dksX7_next_2 24 rfl rfl
theorem dksX7_next_4 : cX7_next.data.toList.drop 95 = dktX7_next_4 := dk_seg dksX7_next_3 23 rfl rfl
theorem dksX7_next_5 : cX7_next.data.toList.drop 118 = dktX7_next_5 := dk_seg dksX7_next_4 23 rfl rfl
theorem dksX7_next_6 : cX7_next.data.toList.drop 141 = dktX7_next_6 := dk_seg dksX7_next_5 23 rfl rfl
theorem dksX7_next_7 : cX7_next.data.toList.drop 165 = dktX7_next_7 := dk_seg dksX7_next_6 24 rfl rfl
theorem dksX7_next_8 : cX7_next.data.toList.drop 189 = dktX7_next_8 := dk_seg dksX7_next_7 24 rfl rfl
theorem dksX7_next_9 : cX7_next.data.toList.drop 211 = dktX7_next_9 := dk_seg dksX7_next_8 22 rfl rfl
theorem dksX7_next_10 : cX7_next.data.toList.drop 235 = dktX7_next_10 := dk_seg dksX7_next_9 24 rfl rfl
theorem dksX7_next_11 : cX7_next.data.toList.drop 259 = dktX7_next_11 := dk_seg dksX7_next_10 24 rfl rfl
theorem dksX7_next_12 : cX7_next.data.toList.drop 282 = dktX7_next_12 := dk_seg dksX7_next_11 23 rfl rfl
theorem dksX7_next_13 : cX7_next.data.toList.drop 305 = dktX7_next_13 := dk_seg dksX7_next_12 23 rfl rfl
theorem dksX7_next_14 : cX7_next.data.toList.drop 329 = dktX7_next_14 := dk_seg dksX7_next_13 24 rfl rfl
theorem dX7_next_0 : decode cX7_next 0 = .ok (.aload_n 0, 1) := dk_42 (dk_at dksX7_next_0 0 rfl rfl)
theorem dX7_next_1 : decode cX7_next 1 = .ok (.aload_n 0, 1) := dk_42 (dk_at dksX7_next_0 1 rfl rfl)
theorem dX7_next_2 : decode cX7_next 2 = .ok (.getfield 211, 3) := dk_180 0 211 (dk_at dksX7_next_0 2 rfl rfl)
theorem dX7_next_5 : decode cX7_next 5 = .ok (.putfield 221, 3) := dk_181 0 221 (dk_at dksX7_next_0 5 rfl rfl)
theorem dX7_next_8 : decode cX7_next 8 = .ok (.aload_n 0, 1) := dk_42 (dk_at dksX7_next_0 8 rfl rfl)
theorem dX7_next_9 : decode cX7_next 9 = .ok (.getfield 221, 3) := dk_180 0 221 (dk_at dksX7_next_0 9 rfl rfl)
theorem dX7_next_12 : decode cX7_next 12 = .ok (.aload_n 0, 1) := dk_42 (dk_at dksX7_next_0 12 rfl rfl)
theorem dX7_next_13 : decode cX7_next 13 = .ok (.getfield 201, 3) := dk_180 0 201 (dk_at dksX7_next_0 13 rfl rfl)
theorem dX7_next_16 : decode cX7_next 16 = .ok (.if_icmp .ge 30, 3) := dk_162 0 30 (dk_at dksX7_next_0 16 rfl rfl)
theorem dX7_next_19 : decode cX7_next 19 = .ok (.aload_n 0, 1) := dk_42 (dk_at dksX7_next_0 19 rfl rfl)
theorem dX7_next_20 : decode cX7_next 20 = .ok (.getfield 23, 3) := dk_180 0 23 (dk_at dksX7_next_0 20 rfl rfl)
theorem dX7_next_23 : decode cX7_next 23 = .ok (.aload_n 0, 1) := dk_42 (dk_at dksX7_next_0 23 rfl rfl)
theorem dX7_next_24 : decode cX7_next 24 = .ok (.getfield 221, 3) := dk_180 0 221 (dk_at dksX7_next_1 0 rfl rfl)
theorem dX7_next_27 : decode cX7_next 27 = .ok (.iaload, 1) := dk_46 (dk_at dksX7_next_1 3 rfl rfl)
theorem dX7_next_28 : decode cX7_next 28 = .ok (.bipush 32, 2) := dk_16 32 (dk_at dksX7_next_1 4 rfl rfl)
theorem dX7_next_30 : decode cX7_next 30 = .ok (.if_icmp .ne 16, 3) := dk_160 0 16 (dk_at dksX7_next_1 6 rfl rfl)
theorem dX7_next_33 : decode cX7_next 33 = .ok (.aload_n 0, 1) := dk_42 (dk_at dksX7_next_1 9 rfl rfl)
theorem dX7_next_34 : decode cX7_next 34 = .ok (.dup, 1) := dk_89 (dk_at dksX7_next_1 10 rfl rfl)
theorem dX7_next_35 : decode cX7_next 35 = .ok (.getfield 221, 3) := dk_180 0 221 (dk_at dksX7_next_1 11 rfl rfl)
theorem dX7_next_38 : decode cX7_next 38 = .ok (.iconst 1, 1) := dk_4 (dk_at dksX7_next_1 14 rfl rfl)
theorem dX7_next_39 : decode cX7_next 39 = .ok (.iadd, 1) := dk_96 (dk_at dksX7_next_1 15 rfl rfl)
theorem dX7_next_40 : decode cX7_next 40 = .ok (.putfield 221, 3) := dk_181 0 221 (dk_at dksX7_next_1 16 rfl rfl)
theorem dX7_next_43 : decode cX7_next 43 = .ok (.goto (-35), 3) := dk_167 255 221 (dk_at dksX7_next_1 19 rfl rfl)
theorem dX7_next_46 : decode cX7_next 46 = .ok (.aload_n 0, 1) := dk_42 (dk_at dksX7_next_1 22 rfl rfl)
theorem dX7_next_47 : decode cX7_next 47 = .ok (.aload_n 0, 1) := dk_42 (dk_at dksX7_next_1 23 rfl rfl)
theorem dX7_next_48 : decode cX7_next 48 = .ok (.getfield 221, 3) := dk_180 0 221 (dk_at dksX7_next_2 0 rfl rfl)
theorem dX7_next_51 : decode cX7_next 51 = .ok (.putfield 211, 3) := dk_181 0 211 (dk_at dksX7_next_2 3 rfl rfl)
theorem dX7_next_54 : decode cX7_next 54 = .ok (.aload_n 0, 1) := dk_42 (dk_at dksX7_next_2 6 rfl rfl)
theorem dX7_next_55 : decode cX7_next 55 = .ok (.lconst 0, 1) := dk_9 (dk_at dksX7_next_2 7 rfl rfl)
theorem dX7_next_56 : decode cX7_next 56 = .ok (.putfield 224, 3) := dk_181 0 224 (dk_at dksX7_next_2 8 rfl rfl)
theorem dX7_next_59 : decode cX7_next 59 = .ok (.aload_n 0, 1) := dk_42 (dk_at dksX7_next_2 11 rfl rfl)
theorem dX7_next_60 : decode cX7_next 60 = .ok (.aload_n 0, 1) := dk_42 (dk_at dksX7_next_2 12 rfl rfl)
theorem dX7_next_61 : decode cX7_next 61 = .ok (.getfield 221, 3) := dk_180 0 221 (dk_at dksX7_next_2 13 rfl rfl)
theorem dX7_next_64 : decode cX7_next 64 = .ok (.aload_n 0, 1) := dk_42 (dk_at dksX7_next_2 16 rfl rfl)
theorem dX7_next_65 : decode cX7_next 65 = .ok (.getfield 201, 3) := dk_180 0 201 (dk_at dksX7_next_2 17 rfl rfl)
theorem dX7_next_68 : decode cX7_next 68 = .ok (.if_icmp .ne 7, 3) := dk_160 0 7 (dk_at dksX7_next_2 20 rfl rfl)
theorem dX7_next_71 : decode cX7_next 71 = .ok (.iconst 0, 1) := dk_3 (dk_at dksX7_next_2 23 rfl rfl)
theorem dX7_next_72 : decode cX7_next 72 = .ok (.goto 42, 3) := dk_167 0 42 (dk_at dksX7_next_3 0 rfl rfl)
theorem dX7_next_75 : decode cX7_next 75 = .ok (.aload_n 0, 1) := dk_42 (dk_at dksX7_next_3 3 rfl rfl)
theorem dX7_next_76 : decode cX7_next 76 = .ok (.getfield 23, 3) := dk_180 0 23 (dk_at dksX7_next_3 4 rfl rfl)
theorem dX7_next_79 : decode cX7_next 79 = .ok (.aload_n 0, 1) := dk_42 (dk_at dksX7_next_3 7 rfl rfl)
theorem dX7_next_80 : decode cX7_next 80 = .ok (.getfield 221, 3) := dk_180 0 221 (dk_at dksX7_next_3 8 rfl rfl)
theorem dX7_next_83 : decode cX7_next 83 = .ok (.iaload, 1) := dk_46 (dk_at dksX7_next_3 11 rfl rfl)
theorem dX7_next_84 : decode cX7_next 84 = .ok (.invokestatic 228, 3) := dk_184 0 228 (dk_at dksX7_next_3 12 rfl rfl)
theorem dX7_next_87 : decode cX7_next 87 = .ok (.ifCond .eq 7, 3) := dk_153 0 7 (dk_at dksX7_next_3 15 rfl rfl)
theorem dX7_next_90 : decode cX7_next 90 = .ok (.iconst 1, 1) := dk_4 (dk_at dksX7_next_3 18 rfl rfl)
theorem dX7_next_91 : decode cX7_next 91 = .ok (.goto 23, 3) := dk_167 0 23 (dk_at dksX7_next_3 19 rfl rfl)
theorem dX7_next_94 : decode cX7_next 94 = .ok (.aload_n 0, 1) := dk_42 (dk_at dksX7_next_3 22 rfl rfl)
theorem dX7_next_95 : decode cX7_next 95 = .ok (.getfield 23, 3) := dk_180 0 23 (dk_at dksX7_next_4 0 rfl rfl)
theorem dX7_next_98 : decode cX7_next 98 = .ok (.aload_n 0, 1) := dk_42 (dk_at dksX7_next_4 3 rfl rfl)
theorem dX7_next_99 : decode cX7_next 99 = .ok (.getfield 221, 3) := dk_180 0 221 (dk_at dksX7_next_4 4 rfl rfl)
theorem dX7_next_102 : decode cX7_next 102 = .ok (.iaload, 1) := dk_46 (dk_at dksX7_next_4 7 rfl rfl)
theorem dX7_next_103 : decode cX7_next 103 = .ok (.invokestatic 231, 3) := dk_184 0 231 (dk_at dksX7_next_4 8 rfl rfl)
theorem dX7_next_106 : decode cX7_next 106 = .ok (.ifCond .eq 7, 3) := dk_153 0 7 (dk_at dksX7_next_4 11 rfl rfl)
theorem dX7_next_109 : decode cX7_next 109 = .ok (.iconst 2, 1) := dk_5 (dk_at dksX7_next_4 14 rfl rfl)
theorem dX7_next_110 : decode cX7_next 110 = .ok (.goto 4, 3) := dk_167 0 4 (dk_at dksX7_next_4 15 rfl rfl)
theorem dX7_next_113 : decode cX7_next 113 = .ok (.iconst 3, 1) := dk_6 (dk_at dksX7_next_4 18 rfl rfl)
theorem dX7_next_114 : decode cX7_next 114 = .ok (.putfield 234, 3) := dk_181 0 234 (dk_at dksX7_next_4 19 rfl rfl)
theorem dX7_next_117 : decode cX7_next 117 = .ok (.aload_n 0, 1) := dk_42 (dk_at dksX7_next_4 22 rfl rfl)
theorem dX7_next_118 : decode cX7_next 118 = .ok (.getfield 234, 3) := dk_180 0 234 (dk_at dksX7_next_5 0 rfl rfl)
theorem dX7_next_121 : decode cX7_next 121 = .ok (.iconst 3, 1) := dk_6 (dk_at dksX7_next_5 3 rfl rfl)
theorem dX7_next_122 : decode cX7_next 122 = .ok (.if_icmp .ne 27, 3) := dk_160 0 27 (dk_at dksX7_next_5 4 rfl rfl)
theorem dX7_next_125 : decode cX7_next 125 = .ok (.aload_n 0, 1) := dk_42 (dk_at dksX7_next_5 7 rfl rfl)
theorem dX7_next_126 : decode cX7_next 126 = .ok (.aload_n 0, 1) := dk_42 (dk_at dksX7_next_5 8 rfl rfl)
theorem dX7_next_127 : decode cX7_next 127 = .ok (.getfield 23, 3) := dk_180 0 23 (dk_at dksX7_next_5 9 rfl rfl)
theorem dX7_next_130 : decode cX7_next 130 = .ok (.aload_n 0, 1) := dk_42 (dk_at dksX7_next_5 12 rfl rfl)
theorem dX7_next_131 : decode cX7_next 131 = .ok (.getfield 221, 3) := dk_180 0 221 (dk_at dksX7_next_5 13 rfl rfl)
theorem dX7_next_134 : decode cX7_next 134 = .ok (.iaload, 1) := dk_46 (dk_at dksX7_next_5 16 rfl rfl)
theorem dX7_next_135 : decode cX7_next 135 = .ok (.i2l, 1) := dk_133 (dk_at dksX7_next_5 17 rfl rfl)
theorem dX7_next_136 : decode cX7_next 136 = .ok (.putfield 224, 3) := dk_181 0 224 (dk_at dksX7_next_5 18 rfl rfl)
theorem dX7_next_139 : decode cX7_next 139 = .ok (.aload_n 0, 1) := dk_42 (dk_at dksX7_next_5 21 rfl rfl)
theorem dX7_next_140 : decode cX7_next 140 = .ok (.dup, 1) := dk_89 (dk_at dksX7_next_5 22 rfl rfl)
theorem dX7_next_141 : decode cX7_next 141 = .ok (.getfield 211, 3) := dk_180 0 211 (dk_at dksX7_next_6 0 rfl rfl)
theorem dX7_next_144 : decode cX7_next 144 = .ok (.iconst 1, 1) := dk_4 (dk_at dksX7_next_6 3 rfl rfl)
theorem dX7_next_145 : decode cX7_next 145 = .ok (.iadd, 1) := dk_96 (dk_at dksX7_next_6 4 rfl rfl)
theorem dX7_next_146 : decode cX7_next 146 = .ok (.putfield 211, 3) := dk_181 0 211 (dk_at dksX7_next_6 5 rfl rfl)
theorem dX7_next_149 : decode cX7_next 149 = .ok (.aload_n 0, 1) := dk_42 (dk_at dksX7_next_6 8 rfl rfl)
theorem dX7_next_150 : decode cX7_next 150 = .ok (.getfield 234, 3) := dk_180 0 234 (dk_at dksX7_next_6 9 rfl rfl)
theorem dX7_next_153 : decode cX7_next 153 = .ok (.iconst 1, 1) := dk_4 (dk_at dksX7_next_6 12 rfl rfl)
theorem dX7_next_154 : decode cX7_next 154 = .ok (.if_icmp .ne 89, 3) := dk_160 0 89 (dk_at dksX7_next_6 13 rfl rfl)
theorem dX7_next_157 : decode cX7_next 157 = .ok (.aload_n 0, 1) := dk_42 (dk_at dksX7_next_6 16 rfl rfl)
theorem dX7_next_158 : decode cX7_next 158 = .ok (.getfield 211, 3) := dk_180 0 211 (dk_at dksX7_next_6 17 rfl rfl)
theorem dX7_next_161 : decode cX7_next 161 = .ok (.aload_n 0, 1) := dk_42 (dk_at dksX7_next_6 20 rfl rfl)
theorem dX7_next_162 : decode cX7_next 162 = .ok (.getfield 201, 3) := dk_180 0 201 (dk_at dksX7_next_6 21 rfl rfl)
theorem dX7_next_165 : decode cX7_next 165 = .ok (.if_icmp .ge 78, 3) := dk_162 0 78 (dk_at dksX7_next_7 0 rfl rfl)
theorem dX7_next_168 : decode cX7_next 168 = .ok (.aload_n 0, 1) := dk_42 (dk_at dksX7_next_7 3 rfl rfl)
theorem dX7_next_169 : decode cX7_next 169 = .ok (.getfield 23, 3) := dk_180 0 23 (dk_at dksX7_next_7 4 rfl rfl)
theorem dX7_next_172 : decode cX7_next 172 = .ok (.aload_n 0, 1) := dk_42 (dk_at dksX7_next_7 7 rfl rfl)
theorem dX7_next_173 : decode cX7_next 173 = .ok (.getfield 211, 3) := dk_180 0 211 (dk_at dksX7_next_7 8 rfl rfl)
theorem dX7_next_176 : decode cX7_next 176 = .ok (.iaload, 1) := dk_46 (dk_at dksX7_next_7 11 rfl rfl)
theorem dX7_next_177 : decode cX7_next 177 = .ok (.invokestatic 228, 3) := dk_184 0 228 (dk_at dksX7_next_7 12 rfl rfl)
theorem dX7_next_180 : decode cX7_next 180 = .ok (.ifCond .eq 63, 3) := dk_153 0 63 (dk_at dksX7_next_7 15 rfl rfl)
theorem dX7_next_183 : decode cX7_next 183 = .ok (.aload_n 0, 1) := dk_42 (dk_at dksX7_next_7 18 rfl rfl)
theorem dX7_next_184 : decode cX7_next 184 = .ok (.aload_n 0, 1) := dk_42 (dk_at dksX7_next_7 19 rfl rfl)
theorem dX7_next_185 : decode cX7_next 185 = .ok (.getfield 211, 3) := dk_180 0 211 (dk_at dksX7_next_7 20 rfl rfl)
theorem dX7_next_188 : decode cX7_next 188 = .ok (.aload_n 0, 1) := dk_42 (dk_at dksX7_next_7 23 rfl rfl)
theorem dX7_next_189 : decode cX7_next 189 = .ok (.getfield 221, 3) := dk_180 0 221 (dk_at dksX7_next_8 0 rfl rfl)
theorem dX7_next_192 : decode cX7_next 192 = .ok (.isub, 1) := dk_100 (dk_at dksX7_next_8 3 rfl rfl)
theorem dX7_next_193 : decode cX7_next 193 = .ok (.bipush 10, 2) := dk_16 10 (dk_at dksX7_next_8 4 rfl rfl)
theorem dX7_next_195 : decode cX7_next 195 = .ok (.if_icmp .ge 29, 3) := dk_162 0 29 (dk_at dksX7_next_8 6 rfl rfl)
theorem dX7_next_198 : decode cX7_next 198 = .ok (.aload_n 0, 1) := dk_42 (dk_at dksX7_next_8 9 rfl rfl)
theorem dX7_next_199 : decode cX7_next 199 = .ok (.getfield 224, 3) := dk_180 0 224 (dk_at dksX7_next_8 10 rfl rfl)
theorem dX7_next_202 : decode cX7_next 202 = .ok (.ldc2_w 237, 3) := dk_20 0 237 (dk_at dksX7_next_8 13 rfl rfl)
theorem dX7_next_205 : decode cX7_next 205 = .ok (.lmul, 1) := dk_105 (dk_at dksX7_next_8 16 rfl rfl)
theorem dX7_next_206 : decode cX7_next 206 = .ok (.aload_n 0, 1) := dk_42 (dk_at dksX7_next_8 17 rfl rfl)
theorem dX7_next_207 : decode cX7_next 207 = .ok (.getfield 23, 3) := dk_180 0 23 (dk_at dksX7_next_8 18 rfl rfl)
theorem dX7_next_210 : decode cX7_next 210 = .ok (.aload_n 0, 1) := dk_42 (dk_at dksX7_next_8 21 rfl rfl)
theorem dX7_next_211 : decode cX7_next 211 = .ok (.getfield 211, 3) := dk_180 0 211 (dk_at dksX7_next_9 0 rfl rfl)
theorem dX7_next_214 : decode cX7_next 214 = .ok (.iaload, 1) := dk_46 (dk_at dksX7_next_9 3 rfl rfl)
theorem dX7_next_215 : decode cX7_next 215 = .ok (.i2l, 1) := dk_133 (dk_at dksX7_next_9 4 rfl rfl)
theorem dX7_next_216 : decode cX7_next 216 = .ok (.ladd, 1) := dk_97 (dk_at dksX7_next_9 5 rfl rfl)
theorem dX7_next_217 : decode cX7_next 217 = .ok (.ldc2_w 239, 3) := dk_20 0 239 (dk_at dksX7_next_9 6 rfl rfl)
theorem dX7_next_220 : decode cX7_next 220 = .ok (.lsub, 1) := dk_101 (dk_at dksX7_next_9 9 rfl rfl)
theorem dX7_next_221 : decode cX7_next 221 = .ok (.goto 6, 3) := dk_167 0 6 (dk_at dksX7_next_9 10 rfl rfl)
theorem dX7_next_224 : decode cX7_next 224 = .ok (.ldc2_w 160, 3) := dk_20 0 160 (dk_at dksX7_next_9 13 rfl rfl)
theorem dX7_next_227 : decode cX7_next 227 = .ok (.putfield 224, 3) := dk_181 0 224 (dk_at dksX7_next_9 16 rfl rfl)
theorem dX7_next_230 : decode cX7_next 230 = .ok (.aload_n 0, 1) := dk_42 (dk_at dksX7_next_9 19 rfl rfl)
theorem dX7_next_231 : decode cX7_next 231 = .ok (.dup, 1) := dk_89 (dk_at dksX7_next_9 20 rfl rfl)
theorem dX7_next_232 : decode cX7_next 232 = .ok (.getfield 211, 3) := dk_180 0 211 (dk_at dksX7_next_9 21 rfl rfl)
theorem dX7_next_235 : decode cX7_next 235 = .ok (.iconst 1, 1) := dk_4 (dk_at dksX7_next_10 0 rfl rfl)
theorem dX7_next_236 : decode cX7_next 236 = .ok (.iadd, 1) := dk_96 (dk_at dksX7_next_10 1 rfl rfl)
theorem dX7_next_237 : decode cX7_next 237 = .ok (.putfield 211, 3) := dk_181 0 211 (dk_at dksX7_next_10 2 rfl rfl)
theorem dX7_next_240 : decode cX7_next 240 = .ok (.goto (-91), 3) := dk_167 255 165 (dk_at dksX7_next_10 5 rfl rfl)
theorem dX7_next_243 : decode cX7_next 243 = .ok (.aload_n 0, 1) := dk_42 (dk_at dksX7_next_10 8 rfl rfl)
theorem dX7_next_244 : decode cX7_next 244 = .ok (.getfield 234, 3) := dk_180 0 234 (dk_at dksX7_next_10 9 rfl rfl)
theorem dX7_next_247 : decode cX7_next 247 = .ok (.iconst 2, 1) := dk_5 (dk_at dksX7_next_10 12 rfl rfl)
theorem dX7_next_248 : decode cX7_next 248 = .ok (.if_icmp .ne 87, 3) := dk_160 0 87 (dk_at dksX7_next_10 13 rfl rfl)
theorem dX7_next_251 : decode cX7_next 251 = .ok (.aload_n 0, 1) := dk_42 (dk_at dksX7_next_10 16 rfl rfl)
theorem dX7_next_252 : decode cX7_next 252 = .ok (.getfield 211, 3) := dk_180 0 211 (dk_at dksX7_next_10 17 rfl rfl)
theorem dX7_next_255 : decode cX7_next 255 = .ok (.aload_n 0, 1) := dk_42 (dk_at dksX7_next_10 20 rfl rfl)
theorem dX7_next_256 : decode cX7_next 256 = .ok (.getfield 201, 3) := dk_180 0 201 (dk_at dksX7_next_10 21 rfl rfl)
theorem dX7_next_259 : decode cX7_next 259 = .ok (.if_icmp .ge 76, 3) := dk_162 0 76 (dk_at dksX7_next_11 0 rfl rfl)
theorem dX7_next_262 : decode cX7_next 262 = .ok (.aload_n 0, 1) := dk_42 (dk_at dksX7_next_11 3 rfl rfl)
theorem dX7_next_263 : decode cX7_next 263 = .ok (.getfield 23, 3) := dk_180 0 23 (dk_at dksX7_next_11 4 rfl rfl)
theorem dX7_next_266 : decode cX7_next 266 = .ok (.aload_n 0, 1) := dk_42 (dk_at dksX7_next_11 7 rfl rfl)
theorem dX7_next_267 : decode cX7_next 267 = .ok (.getfield 211, 3) := dk_180 0 211 (dk_at dksX7_next_11 8 rfl rfl)
theorem dX7_next_270 : decode cX7_next 270 = .ok (.iaload, 1) := dk_46 (dk_at dksX7_next_11 11 rfl rfl)
theorem dX7_next_271 : decode cX7_next 271 = .ok (.invokestatic 231, 3) := dk_184 0 231 (dk_at dksX7_next_11 12 rfl rfl)
theorem dX7_next_274 : decode cX7_next 274 = .ok (.ifCond .eq 61, 3) := dk_153 0 61 (dk_at dksX7_next_11 15 rfl rfl)
theorem dX7_next_277 : decode cX7_next 277 = .ok (.aload_n 0, 1) := dk_42 (dk_at dksX7_next_11 18 rfl rfl)
theorem dX7_next_278 : decode cX7_next 278 = .ok (.aload_n 0, 1) := dk_42 (dk_at dksX7_next_11 19 rfl rfl)
theorem dX7_next_279 : decode cX7_next 279 = .ok (.getfield 224, 3) := dk_180 0 224 (dk_at dksX7_next_11 20 rfl rfl)
theorem dX7_next_282 : decode cX7_next 282 = .ok (.ldc2_w 241, 3) := dk_20 0 241 (dk_at dksX7_next_12 0 rfl rfl)
theorem dX7_next_285 : decode cX7_next 285 = .ok (.lcmp, 1) := dk_148 (dk_at dksX7_next_12 3 rfl rfl)
theorem dX7_next_286 : decode cX7_next 286 = .ok (.ifCond .le 10, 3) := dk_158 0 10 (dk_at dksX7_next_12 4 rfl rfl)
theorem dX7_next_289 : decode cX7_next 289 = .ok (.aload_n 0, 1) := dk_42 (dk_at dksX7_next_12 7 rfl rfl)
theorem dX7_next_290 : decode cX7_next 290 = .ok (.getfield 224, 3) := dk_180 0 224 (dk_at dksX7_next_12 8 rfl rfl)
theorem dX7_next_293 : decode cX7_next 293 = .ok (.goto 26, 3) := dk_167 0 26 (dk_at dksX7_next_12 11 rfl rfl)
theorem dX7_next_296 : decode cX7_next 296 = .ok (.aload_n 0, 1) := dk_42 (dk_at dksX7_next_12 14 rfl rfl)
theorem dX7_next_297 : decode cX7_next 297 = .ok (.getfield 224, 3) := dk_180 0 224 (dk_at dksX7_next_12 15 rfl rfl)
theorem dX7_next_300 : decode cX7_next 300 = .ok (.ldc2_w 243, 3) := dk_20 0 243 (dk_at dksX7_next_12 18 rfl rfl)
theorem dX7_next_303 : decode cX7_next 303 = .ok (.lmul, 1) := dk_105 (dk_at dksX7_next_12 21 rfl rfl)
theorem dX7_next_304 : decode cX7_next 304 = .ok (.aload_n 0, 1) := dk_42 (dk_at dksX7_next_12 22 rfl rfl)
theorem dX7_next_305 : decode cX7_next 305 = .ok (.getfield 23, 3) := dk_180 0 23 (dk_at dksX7_next_13 0 rfl rfl)
theorem dX7_next_308 : decode cX7_next 308 = .ok (.aload_n 0, 1) := dk_42 (dk_at dksX7_next_13 3 rfl rfl)
theorem dX7_next_309 : decode cX7_next 309 = .ok (.getfield 211, 3) := dk_180 0 211 (dk_at dksX7_next_13 4 rfl rfl)
theorem dX7_next_312 : decode cX7_next 312 = .ok (.iaload, 1) := dk_46 (dk_at dksX7_next_13 7 rfl rfl)
theorem dX7_next_313 : decode cX7_next 313 = .ok (.i2l, 1) := dk_133 (dk_at dksX7_next_13 8 rfl rfl)
theorem dX7_next_314 : decode cX7_next 314 = .ok (.ladd, 1) := dk_97 (dk_at dksX7_next_13 9 rfl rfl)
theorem dX7_next_315 : decode cX7_next 315 = .ok (.ldc2_w 245, 3) := dk_20 0 245 (dk_at dksX7_next_13 10 rfl rfl)
theorem dX7_next_318 : decode cX7_next 318 = .ok (.lsub, 1) := dk_101 (dk_at dksX7_next_13 13 rfl rfl)
theorem dX7_next_319 : decode cX7_next 319 = .ok (.putfield 224, 3) := dk_181 0 224 (dk_at dksX7_next_13 14 rfl rfl)
theorem dX7_next_322 : decode cX7_next 322 = .ok (.aload_n 0, 1) := dk_42 (dk_at dksX7_next_13 17 rfl rfl)
theorem dX7_next_323 : decode cX7_next 323 = .ok (.dup, 1) := dk_89 (dk_at dksX7_next_13 18 rfl rfl)
theorem dX7_next_324 : decode cX7_next 324 = .ok (.getfield 211, 3) := dk_180 0 211 (dk_at dksX7_next_13 19 rfl rfl)
theorem dX7_next_327 : decode cX7_next 327 = .ok (.iconst 1, 1) := dk_4 (dk_at dksX7_next_13 22 rfl rfl)
theorem dX7_next_328 : decode cX7_next 328 = .ok (.iadd, 1) := dk_96 (dk_at dksX7_next_13 23 rfl rfl)
theorem dX7_next_329 : decode cX7_next 329 = .ok (.putfield 211, 3) := dk_181 0 211 (dk_at dksX7_next_14 0 rfl rfl)
theorem dX7_next_332 : decode cX7_next 332 = .ok (.goto (-89), 3) := dk_167 255 167 (dk_at dksX7_next_14 3 rfl rfl)
theorem dX7_next_335 : decode cX7_next 335 = .ok (.return_, 1) := dk_177 (dk_at dksX7_next_14 6 rfl rfl)
abbrev cX7_isSmall : ByteArray := prog_16_method_31_code
def yX7_isSmall : MethodName := ⟨RX7, "isSmall", "(I)Z"⟩
def dkwX7_isSmall_0 : List UInt8 := [26, 16, 97, 161, 0, 13, 26, 16, 122, 163, 0, 7, 4, 167, 0, 4, 3, 172]
abbrev dktX7_isSmall_0 : List UInt8 := dkwX7_isSmall_0 ++ []
theorem dksX7_isSmall_0 : cX7_isSmall.data.toList.drop 0 = dktX7_isSmall_0 := by decide +kernel
theorem dX7_isSmall_0 : decode cX7_isSmall 0 = .ok (.iload_n 0, 1) := dk_26 (dk_at dksX7_isSmall_0 0 rfl rfl)
theorem dX7_isSmall_1 : decode cX7_isSmall 1 = .ok (.bipush 97, 2) := dk_16 97 (dk_at dksX7_isSmall_0 1 rfl rfl)
theorem dX7_isSmall_3 : decode cX7_isSmall 3 = .ok (.if_icmp .lt 13, 3) := dk_161 0 13 (dk_at dksX7_isSmall_0 3 rfl rfl)
theorem dX7_isSmall_6 : decode cX7_isSmall 6 = .ok (.iload_n 0, 1) := dk_26 (dk_at dksX7_isSmall_0 6 rfl rfl)
theorem dX7_isSmall_7 : decode cX7_isSmall 7 = .ok (.bipush 122, 2) := dk_16 122 (dk_at dksX7_isSmall_0 7 rfl rfl)
theorem dX7_isSmall_9 : decode cX7_isSmall 9 = .ok (.if_icmp .gt 7, 3) := dk_163 0 7 (dk_at dksX7_isSmall_0 9 rfl rfl)
theorem dX7_isSmall_12 : decode cX7_isSmall 12 = .ok (.iconst 1, 1) := dk_4 (dk_at dksX7_isSmall_0 12 rfl rfl)
theorem dX7_isSmall_13 : decode cX7_isSmall 13 = .ok (.goto 4, 3) := dk_167 0 4 (dk_at dksX7_isSmall_0 13 rfl rfl)
theorem dX7_isSmall_16 : decode cX7_isSmall 16 = .ok (.iconst 0, 1) := dk_3 (dk_at dksX7_isSmall_0 16 rfl rfl)
theorem dX7_isSmall_17 : decode cX7_isSmall 17 = .ok (.ireturn, 1) := dk_172 (dk_at dksX7_isSmall_0 17 rfl rfl)
abbrev cX7_isDigit : ByteArray := prog_16_method_32_code
def yX7_isDigit : MethodName := ⟨RX7, "isDigit", "(I)Z"⟩
def dkwX7_isDigit_0 : List UInt8 := [26, 16, 48, 161, 0, 13, 26, 16, 57, 163, 0, 7, 4, 167, 0, 4, 3, 172]
abbrev dktX7_isDigit_0 : List UInt8 := dkwX7_isDigit_0 ++ []
theorem dksX7_isDigit_0 : cX7_isDigit.data.toList.drop 0 = dktX7_isDigit_0 := by decide +kernel
theorem dX7_isDigit_0 : decode cX7_isDigit 0 = .ok (.iload_n 0, 1) := dk_26 (dk_at dksX7_isDigit_0 0 rfl rfl)
theorem dX7_isDigit_1 : decode cX7_isDigit 1 = .ok (.bipush 48, 2) := dk_16 48 (dk_at dksX7_isDigit_0 1 rfl rfl)
theorem dX7_isDigit_3 : decode cX7_isDigit 3 = .ok (.if_icmp .lt 13, 3) := dk_161 0 13 (dk_at dksX7_isDigit_0 3 rfl rfl)
theorem dX7_isDigit_6 : decode cX7_isDigit 6 = .ok (.iload_n 0, 1) := dk_26 (dk_at dksX7_isDigit_0 6 rfl rfl)
theorem dX7_isDigit_7 : decode cX7_isDigit 7 = .ok (.bipush 57, 2) := dk_16 57 (dk_at dksX7_isDigit_0 7 rfl rfl)
theorem dX7_isDigit_9 : decode cX7_isDigit 9 = .ok (.if_icmp .gt 7, 3) := dk_163 0 7 (dk_at dksX7_isDigit_0 9 rfl rfl)
theorem dX7_isDigit_12 : decode cX7_isDigit 12 = .ok (.iconst 1, 1) := dk_4 (dk_at dksX7_isDigit_0 12 rfl rfl)
theorem dX7_isDigit_13 : decode cX7_isDigit 13 = .ok (.goto 4, 3) := dk_167 0 4 (dk_at dksX7_isDigit_0 13 rfl rfl)
theorem dX7_isDigit_16 : decode cX7_isDigit 16 = .ok (.iconst 0, 1) := dk_3 (dk_at dksX7_isDigit_0 16 rfl rfl)
theorem dX7_isDigit_17 : decode cX7_isDigit 17 = .ok (.ireturn, 1) := dk_172 (dk_at dksX7_isDigit_0 17 rfl rfl)
abbrev cX7_readClause : ByteArray := prog_16_method_46_code
def yX7_readClause : MethodName := ⟨RX7, "readClause", "()V"⟩
def dkwX7_readClause_2 : List UInt8 := [167, 0, 8, 42, 3, 182, 0, 247, 177]
abbrev dktX7_readClause_2 : List UInt8 := dkwX7_readClause_2 ++ []
def dkwX7_readClause_1 : List UInt8 := [153, 0, 10, 42, 182, 1, 54, 167, 0, 25, 42, 20, 1, 57, 182, 1, 4, 153, 0, 10, 42, 182, 1, 59]
abbrev dktX7_readClause_1 : List UInt8 := dkwX7_readClause_1 ++ dktX7_readClause_2
def dkwX7_readClause_0 : List UInt8 := [42, 20, 1, 47, 182, 1, 4, 153, 0, 10, 42, 182, 1, 49, 167, 0, 42, 42, 20, 1, 52, 182, 1, 4]
abbrev dktX7_readClause_0 : List UInt8 := dkwX7_readClause_0 ++ dktX7_readClause_1
theorem dksX7_readClause_0 : cX7_readClause.data.toList.drop 0 = dktX7_readClause_0 := by decide +kernel
theorem dksX7_readClause_1 : cX7_readClause.data.toList.drop 24 = dktX7_readClause_1 := dk_seg dksX7_readClause_0 24 rfl rfl
theorem dksX7_readClause_2 : cX7_readClause.data.toList.drop 48 = dktX7_readClause_2 := dk_seg dksX7_readClause_1 24 rfl rfl
theorem dX7_readClause_0 : decode cX7_readClause 0 = .ok (.aload_n 0, 1) := dk_42 (dk_at dksX7_readClause_0 0 rfl rfl)
theorem dX7_readClause_1 : decode cX7_readClause 1 = .ok (.ldc2_w 303, 3) := dk_20 1 47 (dk_at dksX7_readClause_0 1 rfl rfl)
theorem dX7_readClause_4 : decode cX7_readClause 4 = .ok (.invokevirtual 260, 3) := dk_182 1 4 (dk_at dksX7_readClause_0 4 rfl rfl)
theorem dX7_readClause_7 : decode cX7_readClause 7 = .ok (.ifCond .eq 10, 3) := dk_153 0 10 (dk_at dksX7_readClause_0 7 rfl rfl)
theorem dX7_readClause_10 : decode cX7_readClause 10 = .ok (.aload_n 0, 1) := dk_42 (dk_at dksX7_readClause_0 10 rfl rfl)
theorem dX7_readClause_11 : decode cX7_readClause 11 = .ok (.invokevirtual 305, 3) := dk_182 1 49 (dk_at dksX7_readClause_0 11 rfl rfl)
theorem dX7_readClause_14 : decode cX7_readClause 14 = .ok (.goto 42, 3) := dk_167 0 42 (dk_at dksX7_readClause_0 14 rfl rfl)
theorem dX7_readClause_17 : decode cX7_readClause 17 = .ok (.aload_n 0, 1) := dk_42 (dk_at dksX7_readClause_0 17 rfl rfl)
theorem dX7_readClause_18 : decode cX7_readClause 18 = .ok (.ldc2_w 308, 3) := dk_20 1 52 (dk_at dksX7_readClause_0 18 rfl rfl)
theorem dX7_readClause_21 : decode cX7_readClause 21 = .ok (.invokevirtual 260, 3) := dk_182 1 4 (dk_at dksX7_readClause_0 21 rfl rfl)
theorem dX7_readClause_24 : decode cX7_readClause 24 = .ok (.ifCond .eq 10, 3) := dk_153 0 10 (dk_at dksX7_readClause_1 0 rfl rfl)
theorem dX7_readClause_27 : decode cX7_readClause 27 = .ok (.aload_n 0, 1) := dk_42 (dk_at dksX7_readClause_1 3 rfl rfl)
theorem dX7_readClause_28 : decode cX7_readClause 28 = .ok (.invokevirtual 310, 3) := dk_182 1 54 (dk_at dksX7_readClause_1 4 rfl rfl)
theorem dX7_readClause_31 : decode cX7_readClause 31 = .ok (.goto 25, 3) := dk_167 0 25 (dk_at dksX7_readClause_1 7 rfl rfl)
theorem dX7_readClause_34 : decode cX7_readClause 34 = .ok (.aload_n 0, 1) := dk_42 (dk_at dksX7_readClause_1 10 rfl rfl)
theorem dX7_readClause_35 : decode cX7_readClause 35 = .ok (.ldc2_w 313, 3) := dk_20 1 57 (dk_at dksX7_readClause_1 11 rfl rfl)
theorem dX7_readClause_38 : decode cX7_readClause 38 = .ok (.invokevirtual 260, 3) := dk_182 1 4 (dk_at dksX7_readClause_1 14 rfl rfl)
theorem dX7_readClause_41 : decode cX7_readClause 41 = .ok (.ifCond .eq 10, 3) := dk_153 0 10 (dk_at dksX7_readClause_1 17 rfl rfl)
theorem dX7_readClause_44 : decode cX7_readClause 44 = .ok (.aload_n 0, 1) := dk_42 (dk_at dksX7_readClause_1 20 rfl rfl)
theorem dX7_readClause_45 : decode cX7_readClause 45 = .ok (.invokevirtual 315, 3) := dk_182 1 59 (dk_at dksX7_readClause_1 21 rfl rfl)
theorem dX7_readClause_48 : decode cX7_readClause 48 = .ok (.goto 8, 3) := dk_167 0 8 (dk_at dksX7_readClause_2 0 rfl rfl)
theorem dX7_readClause_51 : decode cX7_readClause 51 = .ok (.aload_n 0, 1) := dk_42 (dk_at dksX7_readClause_2 3 rfl rfl)
theorem dX7_readClause_52 : decode cX7_readClause 52 = .ok (.iconst 0, 1) := dk_3 (dk_at dksX7_readClause_2 4 rfl rfl)
theorem dX7_readClause_53 : decode cX7_readClause 53 = .ok (.invokevirtual 247, 3) := dk_182 0 247 (dk_at dksX7_readClause_2 5 rfl rfl)
theorem dX7_readClause_56 : decode cX7_readClause 56 = .ok (.return_, 1) := dk_177 (dk_at dksX7_readClause_2 8 rfl rfl)
abbrev cX7_isWord : ByteArray := prog_16_method_35_code
def yX7_isWord : MethodName := ⟨RX7, "isWord", "(J)Z"⟩
def dkwX7_isWord_0 : List UInt8 := [42, 180, 0, 234, 4, 160, 0, 16, 42, 180, 0, 224, 31, 148, 154, 0, 7, 4, 167, 0, 4, 3, 172]
abbrev dktX7_isWord_0 : List UInt8 := dkwX7_isWord_0 ++ []
theorem dksX7_isWord_0 : cX7_isWord.data.toList.drop 0 = dktX7_isWord_0 := by decide +kernel
theorem dX7_isWord_0 : decode cX7_isWord 0 = .ok (.aload_n 0, 1) := dk_42 (dk_at dksX7_isWord_0 0 rfl rfl)
theorem dX7_isWord_1 : decode cX7_isWord 1 = .ok (.getfield 234, 3) := dk_180 0 234 (dk_at dksX7_isWord_0 1 rfl rfl)
theorem dX7_isWord_4 : decode cX7_isWord 4 = .ok (.iconst 1, 1) := dk_4 (dk_at dksX7_isWord_0 4 rfl rfl)
theorem dX7_isWord_5 : decode cX7_isWord 5 = .ok (.if_icmp .ne 16, 3) := dk_160 0 16 (dk_at dksX7_isWord_0 5 rfl rfl)
theorem dX7_isWord_8 : decode cX7_isWord 8 = .ok (.aload_n 0, 1) := dk_42 (dk_at dksX7_isWord_0 8 rfl rfl)
theorem dX7_isWord_9 : decode cX7_isWord 9 = .ok (.getfield 224, 3) := dk_180 0 224 (dk_at dksX7_isWord_0 9 rfl rfl)
theorem dX7_isWord_12 : decode cX7_isWord 12 = .ok (.lload_n 1, 1) := dk_31 (dk_at dksX7_isWord_0 12 rfl rfl)
theorem dX7_isWord_13 : decode cX7_isWord 13 = .ok (.lcmp, 1) := dk_148 (dk_at dksX7_isWord_0 13 rfl rfl)
theorem dX7_isWord_14 : decode cX7_isWord 14 = .ok (.ifCond .ne 7, 3) := dk_154 0 7 (dk_at dksX7_isWord_0 14 rfl rfl)
theorem dX7_isWord_17 : decode cX7_isWord 17 = .ok (.iconst 1, 1) := dk_4 (dk_at dksX7_isWord_0 17 rfl rfl)
theorem dX7_isWord_18 : decode cX7_isWord 18 = .ok (.goto 4, 3) := dk_167 0 4 (dk_at dksX7_isWord_0 18 rfl rfl)
theorem dX7_isWord_21 : decode cX7_isWord 21 = .ok (.iconst 0, 1) := dk_3 (dk_at dksX7_isWord_0 21 rfl rfl)
theorem dX7_isWord_22 : decode cX7_isWord 22 = .ok (.ireturn, 1) := dk_172 (dk_at dksX7_isWord_0 22 rfl rfl)
abbrev cX7_readWeeks : ByteArray := prog_16_method_41_code
def yX7_readWeeks : MethodName := ⟨RX7, "readWeeks", "()V"⟩
def dkwX7_readWeeks_4 : List UInt8 := [154, 0, 19, 42, 3, 27, 28, 42, 9, 20, 0, 152, 182, 0, 254, 3, 182, 1, 12, 177]
abbrev dktX7_readWeeks_4 : List UInt8 := dkwX7_readWeeks_4 ++ []
def dkwX7_readWeeks_3 : List UInt8 := [153, 0, 19, 42, 182, 0, 218, 42, 3, 27, 28, 2, 3, 182, 1, 12, 167, 0, 26, 42, 180, 0, 214]
abbrev dktX7_readWeeks_3 : List UInt8 := dkwX7_readWeeks_3 ++ dktX7_readWeeks_4
def dkwX7_readWeeks_2 : List UInt8 := [42, 20, 1, 8, 182, 1, 4, 182, 0, 247, 42, 180, 0, 214, 154, 0, 29, 42, 20, 1, 10, 182, 1, 4]
abbrev dktX7_readWeeks_2 : List UInt8 := dkwX7_readWeeks_2 ++ dktX7_readWeeks_3
def dkwX7_readWeeks_1 : List UInt8 := [20, 1, 2, 182, 1, 4, 153, 0, 17, 42, 182, 0, 218, 42, 27, 133, 20, 0, 154, 182, 0, 254, 61, 42]
abbrev dktX7_readWeeks_1 : List UInt8 := dkwX7_readWeeks_1 ++ dktX7_readWeeks_2
def dkwX7_readWeeks_0 : List UInt8 := [42, 182, 0, 218, 42, 9, 20, 0, 154, 182, 0, 254, 60, 27, 61, 42, 180, 0, 214, 154, 0, 27, 42]
abbrev dktX7_readWeeks_0 : List UInt8 := dkwX7_readWeeks_0 ++ dktX7_readWeeks_1
theorem dksX7_readWeeks_0 : cX7_readWeeks.data.toList.drop 0 = dktX7_readWeeks_0 := by decide +kernel
theorem dksX7_readWeeks_1 : cX7_readWeeks.data.toList.drop 23 = dktX7_readWeeks_1 := dk_seg dksX7_readWeeks_0 23 rfl rfl
theorem dksX7_readWeeks_2 : cX7_readWeeks.data.toList.drop 47 = dktX7_readWeeks_2 := dk_seg dksX7_readWeeks_1 24 rfl rfl
theorem dksX7_readWeeks_3 : cX7_readWeeks.data.toList.drop 71 = dktX7_readWeeks_3 := dk_seg dksX7_readWeeks_2 24 rfl rfl
theorem dksX7_readWeeks_4 : cX7_readWeeks.data.toList.drop 94 = dktX7_readWeeks_4 := dk_seg dksX7_readWeeks_3 23 rfl rfl
theorem dX7_readWeeks_0 : decode cX7_readWeeks 0 = .ok (.aload_n 0, 1) := dk_42 (dk_at dksX7_readWeeks_0 0 rfl rfl)
theorem dX7_readWeeks_1 : decode cX7_readWeeks 1 = .ok (.invokevirtual 218, 3) := dk_182 0 218 (dk_at dksX7_readWeeks_0 1 rfl rfl)
theorem dX7_readWeeks_4 : decode cX7_readWeeks 4 = .ok (.aload_n 0, 1) := dk_42 (dk_at dksX7_readWeeks_0 4 rfl rfl)
theorem dX7_readWeeks_5 : decode cX7_readWeeks 5 = .ok (.lconst 0, 1) := dk_9 (dk_at dksX7_readWeeks_0 5 rfl rfl)
theorem dX7_readWeeks_6 : decode cX7_readWeeks 6 = .ok (.ldc2_w 154, 3) := dk_20 0 154 (dk_at dksX7_readWeeks_0 6 rfl rfl)
theorem dX7_readWeeks_9 : decode cX7_readWeeks 9 = .ok (.invokevirtual 254, 3) := dk_182 0 254 (dk_at dksX7_readWeeks_0 9 rfl rfl)
theorem dX7_readWeeks_12 : decode cX7_readWeeks 12 = .ok (.istore_n 1, 1) := dk_60 (dk_at dksX7_readWeeks_0 12 rfl rfl)
theorem dX7_readWeeks_13 : decode cX7_readWeeks 13 = .ok (.iload_n 1, 1) := dk_27 (dk_at dksX7_readWeeks_0 13 rfl rfl)
theorem dX7_readWeeks_14 : decode cX7_readWeeks 14 = .ok (.istore_n 2, 1) := dk_61 (dk_at dksX7_readWeeks_0 14 rfl rfl)
theorem dX7_readWeeks_15 : decode cX7_readWeeks 15 = .ok (.aload_n 0, 1) := dk_42 (dk_at dksX7_readWeeks_0 15 rfl rfl)
theorem dX7_readWeeks_16 : decode cX7_readWeeks 16 = .ok (.getfield 214, 3) := dk_180 0 214 (dk_at dksX7_readWeeks_0 16 rfl rfl)
theorem dX7_readWeeks_19 : decode cX7_readWeeks 19 = .ok (.ifCond .ne 27, 3) := dk_154 0 27 (dk_at dksX7_readWeeks_0 19 rfl rfl)
theorem dX7_readWeeks_22 : decode cX7_readWeeks 22 = .ok (.aload_n 0, 1) := dk_42 (dk_at dksX7_readWeeks_0 22 rfl rfl)
theorem dX7_readWeeks_23 : decode cX7_readWeeks 23 = .ok (.ldc2_w 258, 3) := dk_20 1 2 (dk_at dksX7_readWeeks_1 0 rfl rfl)
theorem dX7_readWeeks_26 : decode cX7_readWeeks 26 = .ok (.invokevirtual 260, 3) := dk_182 1 4 (dk_at dksX7_readWeeks_1 3 rfl rfl)
theorem dX7_readWeeks_29 : decode cX7_readWeeks 29 = .ok (.ifCond .eq 17, 3) := dk_153 0 17 (dk_at dksX7_readWeeks_1 6 rfl rfl)
theorem dX7_readWeeks_32 : decode cX7_readWeeks 32 = .ok (.aload_n 0, 1) := dk_42 (dk_at dksX7_readWeeks_1 9 rfl rfl)
theorem dX7_readWeeks_33 : decode cX7_readWeeks 33 = .ok (.invokevirtual 218, 3) := dk_182 0 218 (dk_at dksX7_readWeeks_1 10 rfl rfl)
theorem dX7_readWeeks_36 : decode cX7_readWeeks 36 = .ok (.aload_n 0, 1) := dk_42 (dk_at dksX7_readWeeks_1 13 rfl rfl)
theorem dX7_readWeeks_37 : decode cX7_readWeeks 37 = .ok (.iload_n 1, 1) := dk_27 (dk_at dksX7_readWeeks_1 14 rfl rfl)
theorem dX7_readWeeks_38 : decode cX7_readWeeks 38 = .ok (.i2l, 1) := dk_133 (dk_at dksX7_readWeeks_1 15 rfl rfl)
theorem dX7_readWeeks_39 : decode cX7_readWeeks 39 = .ok (.ldc2_w 154, 3) := dk_20 0 154 (dk_at dksX7_readWeeks_1 16 rfl rfl)
theorem dX7_readWeeks_42 : decode cX7_readWeeks 42 = .ok (.invokevirtual 254, 3) := dk_182 0 254 (dk_at dksX7_readWeeks_1 19 rfl rfl)
theorem dX7_readWeeks_45 : decode cX7_readWeeks 45 = .ok (.istore_n 2, 1) := dk_61 (dk_at dksX7_readWeeks_1 22 rfl rfl)
theorem dX7_readWeeks_46 : decode cX7_readWeeks 46 = .ok (.aload_n 0, 1) := dk_42 (dk_at dksX7_readWeeks_1 23 rfl rfl)
theorem dX7_readWeeks_47 : decode cX7_readWeeks 47 = .ok (.aload_n 0, 1) := dk_42 (dk_at dksX7_readWeeks_2 0 rfl rfl)
theorem dX7_readWeeks_48 : decode cX7_readWeeks 48 = .ok (.ldc2_w 264, 3) := dk_20 1 8 (dk_at dksX7_readWeeks_2 1 rfl rfl)
theorem dX7_readWeeks_51 : decode cX7_readWeeks 51 = .ok (.invokevirtual 260, 3) := dk_182 1 4 (dk_at dksX7_readWeeks_2 4 rfl rfl)
theorem dX7_readWeeks_54 : decode cX7_readWeeks 54 = .ok (.invokevirtual 247, 3) := dk_182 0 247 (dk_at dksX7_readWeeks_2 7 rfl rfl)
theorem dX7_readWeeks_57 : decode cX7_readWeeks 57 = .ok (.aload_n 0, 1) := dk_42 (dk_at dksX7_readWeeks_2 10 rfl rfl)
theorem dX7_readWeeks_58 : decode cX7_readWeeks 58 = .ok (.getfield 214, 3) := dk_180 0 214 (dk_at dksX7_readWeeks_2 11 rfl rfl)
theorem dX7_readWeeks_61 : decode cX7_readWeeks 61 = .ok (.ifCond .ne 29, 3) := dk_154 0 29 (dk_at dksX7_readWeeks_2 14 rfl rfl)
theorem dX7_readWeeks_64 : decode cX7_readWeeks 64 = .ok (.aload_n 0, 1) := dk_42 (dk_at dksX7_readWeeks_2 17 rfl rfl)
theorem dX7_readWeeks_65 : decode cX7_readWeeks 65 = .ok (.ldc2_w 266, 3) := dk_20 1 10 (dk_at dksX7_readWeeks_2 18 rfl rfl)
theorem dX7_readWeeks_68 : decode cX7_readWeeks 68 = .ok (.invokevirtual 260, 3) := dk_182 1 4 (dk_at dksX7_readWeeks_2 21 rfl rfl)
theorem dX7_readWeeks_71 : decode cX7_readWeeks 71 = .ok (.ifCond .eq 19, 3) := dk_153 0 19 (dk_at dksX7_readWeeks_3 0 rfl rfl)
theorem dX7_readWeeks_74 : decode cX7_readWeeks 74 = .ok (.aload_n 0, 1) := dk_42 (dk_at dksX7_readWeeks_3 3 rfl rfl)
theorem dX7_readWeeks_75 : decode cX7_readWeeks 75 = .ok (.invokevirtual 218, 3) := dk_182 0 218 (dk_at dksX7_readWeeks_3 4 rfl rfl)
theorem dX7_readWeeks_78 : decode cX7_readWeeks 78 = .ok (.aload_n 0, 1) := dk_42 (dk_at dksX7_readWeeks_3 7 rfl rfl)
theorem dX7_readWeeks_79 : decode cX7_readWeeks 79 = .ok (.iconst 0, 1) := dk_3 (dk_at dksX7_readWeeks_3 8 rfl rfl)
theorem dX7_readWeeks_80 : decode cX7_readWeeks 80 = .ok (.iload_n 1, 1) := dk_27 (dk_at dksX7_readWeeks_3 9 rfl rfl)
theorem dX7_readWeeks_81 : decode cX7_readWeeks 81 = .ok (.iload_n 2, 1) := dk_28 (dk_at dksX7_readWeeks_3 10 rfl rfl)
theorem dX7_readWeeks_82 : decode cX7_readWeeks 82 = .ok (.iconst (-1), 1) := dk_2 (dk_at dksX7_readWeeks_3 11 rfl rfl)
theorem dX7_readWeeks_83 : decode cX7_readWeeks 83 = .ok (.iconst 0, 1) := dk_3 (dk_at dksX7_readWeeks_3 12 rfl rfl)
theorem dX7_readWeeks_84 : decode cX7_readWeeks 84 = .ok (.invokevirtual 268, 3) := dk_182 1 12 (dk_at dksX7_readWeeks_3 13 rfl rfl)
theorem dX7_readWeeks_87 : decode cX7_readWeeks 87 = .ok (.goto 26, 3) := dk_167 0 26 (dk_at dksX7_readWeeks_3 16 rfl rfl)
theorem dX7_readWeeks_90 : decode cX7_readWeeks 90 = .ok (.aload_n 0, 1) := dk_42 (dk_at dksX7_readWeeks_3 19 rfl rfl)
theorem dX7_readWeeks_91 : decode cX7_readWeeks 91 = .ok (.getfield 214, 3) := dk_180 0 214 (dk_at dksX7_readWeeks_3 20 rfl rfl)
theorem dX7_readWeeks_94 : decode cX7_readWeeks 94 = .ok (.ifCond .ne 19, 3) := dk_154 0 19 (dk_at dksX7_readWeeks_4 0 rfl rfl)
theorem dX7_readWeeks_97 : decode cX7_readWeeks 97 = .ok (.aload_n 0, 1) := dk_42 (dk_at dksX7_readWeeks_4 3 rfl rfl)
theorem dX7_readWeeks_98 : decode cX7_readWeeks 98 = .ok (.iconst 0, 1) := dk_3 (dk_at dksX7_readWeeks_4 4 rfl rfl)
theorem dX7_readWeeks_99 : decode cX7_readWeeks 99 = .ok (.iload_n 1, 1) := dk_27 (dk_at dksX7_readWeeks_4 5 rfl rfl)
theorem dX7_readWeeks_100 : decode cX7_readWeeks 100 = .ok (.iload_n 2, 1) := dk_28 (dk_at dksX7_readWeeks_4 6 rfl rfl)
theorem dX7_readWeeks_101 : decode cX7_readWeeks 101 = .ok (.aload_n 0, 1) := dk_42 (dk_at dksX7_readWeeks_4 7 rfl rfl)
theorem dX7_readWeeks_102 : decode cX7_readWeeks 102 = .ok (.lconst 0, 1) := dk_9 (dk_at dksX7_readWeeks_4 8 rfl rfl)
theorem dX7_readWeeks_103 : decode cX7_readWeeks 103 = .ok (.ldc2_w 152, 3) := dk_20 0 152 (dk_at dksX7_readWeeks_4 9 rfl rfl)
theorem dX7_readWeeks_106 : decode cX7_readWeeks 106 = .ok (.invokevirtual 254, 3) := dk_182 0 254 (dk_at dksX7_readWeeks_4 12 rfl rfl)
theorem dX7_readWeeks_109 : decode cX7_readWeeks 109 = .ok (.iconst 0, 1) := dk_3 (dk_at dksX7_readWeeks_4 15 rfl rfl)
theorem dX7_readWeeks_110 : decode cX7_readWeeks 110 = .ok (.invokevirtual 268, 3) := dk_182 1 12 (dk_at dksX7_readWeeks_4 16 rfl rfl)
theorem dX7_readWeeks_113 : decode cX7_readWeeks 113 = .ok (.return_, 1) := dk_177 (dk_at dksX7_readWeeks_4 19 rfl rfl)
abbrev cX7_number : ByteArray := prog_16_method_38_code
def yX7_number : MethodName := ⟨RX7, "number", "(JJ)I"⟩
def dkwX7_number_1 : List UInt8 := [184, 0, 143, 153, 0, 7, 4, 167, 0, 4, 3, 182, 0, 247, 21, 5, 172]
abbrev dktX7_number_1 : List UInt8 := dkwX7_number_1 ++ []
def dkwX7_number_0 : List UInt8 := [42, 180, 0, 224, 136, 54, 5, 42, 42, 180, 0, 234, 5, 160, 0, 19, 42, 180, 0, 224, 31, 33]
abbrev dktX7_number_0 : List UInt8 := dkwX7_number_0 ++ dktX7_number_1
theorem dksX7_number_0 : cX7_number.data.toList.drop 0 = dktX7_number_0 := by decide +kernel
theorem dksX7_number_1 : cX7_number.data.toList.drop 22 = dktX7_number_1 := dk_seg dksX7_number_0 22 rfl rfl
theorem dX7_number_0 : decode cX7_number 0 = .ok (.aload_n 0, 1) := dk_42 (dk_at dksX7_number_0 0 rfl rfl)
theorem dX7_number_1 : decode cX7_number 1 = .ok (.getfield 224, 3) := dk_180 0 224 (dk_at dksX7_number_0 1 rfl rfl)
theorem dX7_number_4 : decode cX7_number 4 = .ok (.l2i, 1) := dk_136 (dk_at dksX7_number_0 4 rfl rfl)
theorem dX7_number_5 : decode cX7_number 5 = .ok (.istore 5, 2) := dk_54 5 (dk_at dksX7_number_0 5 rfl rfl)
theorem dX7_number_7 : decode cX7_number 7 = .ok (.aload_n 0, 1) := dk_42 (dk_at dksX7_number_0 7 rfl rfl)
theorem dX7_number_8 : decode cX7_number 8 = .ok (.aload_n 0, 1) := dk_42 (dk_at dksX7_number_0 8 rfl rfl)
theorem dX7_number_9 : decode cX7_number 9 = .ok (.getfield 234, 3) := dk_180 0 234 (dk_at dksX7_number_0 9 rfl rfl)
theorem dX7_number_12 : decode cX7_number 12 = .ok (.iconst 2, 1) := dk_5 (dk_at dksX7_number_0 12 rfl rfl)
theorem dX7_number_13 : decode cX7_number 13 = .ok (.if_icmp .ne 19, 3) := dk_160 0 19 (dk_at dksX7_number_0 13 rfl rfl)
theorem dX7_number_16 : decode cX7_number 16 = .ok (.aload_n 0, 1) := dk_42 (dk_at dksX7_number_0 16 rfl rfl)
theorem dX7_number_17 : decode cX7_number 17 = .ok (.getfield 224, 3) := dk_180 0 224 (dk_at dksX7_number_0 17 rfl rfl)
theorem dX7_number_20 : decode cX7_number 20 = .ok (.lload_n 1, 1) := dk_31 (dk_at dksX7_number_0 20 rfl rfl)
theorem dX7_number_21 : decode cX7_number 21 = .ok (.lload_n 3, 1) := dk_33 (dk_at dksX7_number_0 21 rfl rfl)
theorem dX7_number_22 : decode cX7_number 22 = .ok (.invokestatic 143, 3) := dk_184 0 143 (dk_at dksX7_number_1 0 rfl rfl)
theorem dX7_number_25 : decode cX7_number 25 = .ok (.ifCond .eq 7, 3) := dk_153 0 7 (dk_at dksX7_number_1 3 rfl rfl)
theorem dX7_number_28 : decode cX7_number 28 = .ok (.iconst 1, 1) := dk_4 (dk_at dksX7_number_1 6 rfl rfl)
theorem dX7_number_29 : decode cX7_number 29 = .ok (.goto 4, 3) := dk_167 0 4 (dk_at dksX7_number_1 7 rfl rfl)
theorem dX7_number_32 : decode cX7_number 32 = .ok (.iconst 0, 1) := dk_3 (dk_at dksX7_number_1 10 rfl rfl)
theorem dX7_number_33 : decode cX7_number 33 = .ok (.invokevirtual 247, 3) := dk_182 0 247 (dk_at dksX7_number_1 11 rfl rfl)
theorem dX7_number_36 : decode cX7_number 36 = .ok (.iload 5, 2) := dk_21 5 (dk_at dksX7_number_1 14 rfl rfl)
theorem dX7_number_38 : decode cX7_number 38 = .ok (.ireturn, 1) := dk_172 (dk_at dksX7_number_1 16 rfl rfl)
abbrev cX7_must : ByteArray := prog_16_method_37_code
def yX7_must : MethodName := ⟨RX7, "must", "(Z)V"⟩
def dkwX7_must_1 : List UInt8 := [42, 180, 0, 214, 154, 0, 7, 42, 182, 0, 218, 177]
abbrev dktX7_must_1 : List UInt8 := dkwX7_must_1 ++ []
def dkwX7_must_0 : List UInt8 := [42, 180, 0, 214, 154, 0, 20, 27, 154, 0, 16, 42, 4, 181, 0, 214, 42, 42, 180, 0, 221, 181, 0, 26]
abbrev dktX7_must_0 : List UInt8 := dkwX7_must_0 ++ dktX7_must_1
theorem dksX7_must_0 : cX7_must.data.toList.drop 0 = dktX7_must_0 := by decide +kernel
theorem dksX7_must_1 : cX7_must.data.toList.drop 24 = dktX7_must_1 := dk_seg dksX7_must_0 24 rfl rfl
theorem dX7_must_0 : decode cX7_must 0 = .ok (.aload_n 0, 1) := dk_42 (dk_at dksX7_must_0 0 rfl rfl)
theorem dX7_must_1 : decode cX7_must 1 = .ok (.getfield 214, 3) := dk_180 0 214 (dk_at dksX7_must_0 1 rfl rfl)
theorem dX7_must_4 : decode cX7_must 4 = .ok (.ifCond .ne 20, 3) := dk_154 0 20 (dk_at dksX7_must_0 4 rfl rfl)
theorem dX7_must_7 : decode cX7_must 7 = .ok (.iload_n 1, 1) := dk_27 (dk_at dksX7_must_0 7 rfl rfl)
theorem dX7_must_8 : decode cX7_must 8 = .ok (.ifCond .ne 16, 3) := dk_154 0 16 (dk_at dksX7_must_0 8 rfl rfl)
theorem dX7_must_11 : decode cX7_must 11 = .ok (.aload_n 0, 1) := dk_42 (dk_at dksX7_must_0 11 rfl rfl)
theorem dX7_must_12 : decode cX7_must 12 = .ok (.iconst 1, 1) := dk_4 (dk_at dksX7_must_0 12 rfl rfl)
theorem dX7_must_13 : decode cX7_must 13 = .ok (.putfield 214, 3) := dk_181 0 214 (dk_at dksX7_must_0 13 rfl rfl)
theorem dX7_must_16 : decode cX7_must 16 = .ok (.aload_n 0, 1) := dk_42 (dk_at dksX7_must_0 16 rfl rfl)
theorem dX7_must_17 : decode cX7_must 17 = .ok (.aload_n 0, 1) := dk_42 (dk_at dksX7_must_0 17 rfl rfl)
theorem dX7_must_18 : decode cX7_must 18 = .ok (.getfield 221, 3) := dk_180 0 221 (dk_at dksX7_must_0 18 rfl rfl)
theorem dX7_must_21 : decode cX7_must 21 = .ok (.putfield 26, 3) := dk_181 0 26 (dk_at dksX7_must_0 21 rfl rfl)
theorem dX7_must_24 : decode cX7_must 24 = .ok (.aload_n 0, 1) := dk_42 (dk_at dksX7_must_1 0 rfl rfl)
theorem dX7_must_25 : decode cX7_must 25 = .ok (.getfield 214, 3) := dk_180 0 214 (dk_at dksX7_must_1 1 rfl rfl)
theorem dX7_must_28 : decode cX7_must 28 = .ok (.ifCond .ne 7, 3) := dk_154 0 7 (dk_at dksX7_must_1 4 rfl rfl)
theorem dX7_must_31 : decode cX7_must 31 = .ok (.aload_n 0, 1) := dk_42 (dk_at dksX7_must_1 7 rfl rfl)
theorem dX7_must_32 : decode cX7_must 32 = .ok (.invokevirtual 218, 3) := dk_182 0 218 (dk_at dksX7_must_1 8 rfl rfl)
theorem dX7_must_35 : decode cX7_must 35 = .ok (.return_, 1) := dk_177 (dk_at dksX7_must_1 11 rfl rfl)
abbrev cX7_act : ByteArray := prog_16_method_40_code
def yX7_act : MethodName := ⟨RX7, "act", "(IIIII)V"⟩
def dkwX7_act_3 : List UInt8 := [96, 181, 0, 251, 177]
abbrev dktX7_act_3 : List UInt8 := dkwX7_act_3 ++ []
def dkwX7_act_2 : List UInt8 := [21, 6, 6, 96, 21, 4, 79, 42, 180, 0, 30, 21, 6, 7, 96, 21, 5, 79, 42, 89, 180, 0, 251, 4]
abbrev dktX7_act_2 : List UInt8 := dkwX7_act_2 ++ dktX7_act_3
def dkwX7_act_1 : List UInt8 := [42, 180, 0, 30, 21, 6, 4, 96, 28, 79, 42, 180, 0, 30, 21, 6, 5, 96, 29, 79, 42, 180, 0, 30]
abbrev dktX7_act_1 : List UInt8 := dkwX7_act_1 ++ dktX7_act_2
def dkwX7_act_0 : List UInt8 := [42, 180, 0, 214, 153, 0, 4, 177, 8, 42, 180, 0, 251, 104, 54, 6, 42, 180, 0, 30, 21, 6, 27, 79]
abbrev dktX7_act_0 : List UInt8 := dkwX7_act_0 ++ dktX7_act_1
theorem dksX7_act_0 : cX7_act.data.toList.drop 0 = dktX7_act_0 := by decide +kernel
theorem dksX7_act_1 : cX7_act.data.toList.drop 24 = dktX7_act_1 := dk_seg dksX7_act_0 24 rfl rfl
theorem dksX7_act_2 : cX7_act.data.toList.drop 48 = dktX7_act_2 := dk_seg dksX7_act_1 24 rfl rfl
theorem dksX7_act_3 : cX7_act.data.toList.drop 72 = dktX7_act_3 := dk_seg dksX7_act_2 24 rfl rfl
theorem dX7_act_0 : decode cX7_act 0 = .ok (.aload_n 0, 1) := dk_42 (dk_at dksX7_act_0 0 rfl rfl)
theorem dX7_act_1 : decode cX7_act 1 = .ok (.getfield 214, 3) := dk_180 0 214 (dk_at dksX7_act_0 1 rfl rfl)
theorem dX7_act_4 : decode cX7_act 4 = .ok (.ifCond .eq 4, 3) := dk_153 0 4 (dk_at dksX7_act_0 4 rfl rfl)
theorem dX7_act_7 : decode cX7_act 7 = .ok (.return_, 1) := dk_177 (dk_at dksX7_act_0 7 rfl rfl)
theorem dX7_act_8 : decode cX7_act 8 = .ok (.iconst 5, 1) := dk_8 (dk_at dksX7_act_0 8 rfl rfl)
theorem dX7_act_9 : decode cX7_act 9 = .ok (.aload_n 0, 1) := dk_42 (dk_at dksX7_act_0 9 rfl rfl)
theorem dX7_act_10 : decode cX7_act 10 = .ok (.getfield 251, 3) := dk_180 0 251 (dk_at dksX7_act_0 10 rfl rfl)
theorem dX7_act_13 : decode cX7_act 13 = .ok (.imul, 1) := dk_104 (dk_at dksX7_act_0 13 rfl rfl)
theorem dX7_act_14 : decode cX7_act 14 = .ok (.istore 6, 2) := dk_54 6 (dk_at dksX7_act_0 14 rfl rfl)
theorem dX7_act_16 : decode cX7_act 16 = .ok (.aload_n 0, 1) := dk_42 (dk_at dksX7_act_0 16 rfl rfl)
theorem dX7_act_17 : decode cX7_act 17 = .ok (.getfield 30, 3) := dk_180 0 30 (dk_at dksX7_act_0 17 rfl rfl)
theorem dX7_act_20 : decode cX7_act 20 = .ok (.iload 6, 2) := dk_21 6 (dk_at dksX7_act_0 20 rfl rfl)
theorem dX7_act_22 : decode cX7_act 22 = .ok (.iload_n 1, 1) := dk_27 (dk_at dksX7_act_0 22 rfl rfl)
theorem dX7_act_23 : decode cX7_act 23 = .ok (.iastore, 1) := dk_79 (dk_at dksX7_act_0 23 rfl rfl)
theorem dX7_act_24 : decode cX7_act 24 = .ok (.aload_n 0, 1) := dk_42 (dk_at dksX7_act_1 0 rfl rfl)
theorem dX7_act_25 : decode cX7_act 25 = .ok (.getfield 30, 3) := dk_180 0 30 (dk_at dksX7_act_1 1 rfl rfl)
theorem dX7_act_28 : decode cX7_act 28 = .ok (.iload 6, 2) := dk_21 6 (dk_at dksX7_act_1 4 rfl rfl)
theorem dX7_act_30 : decode cX7_act 30 = .ok (.iconst 1, 1) := dk_4 (dk_at dksX7_act_1 6 rfl rfl)
theorem dX7_act_31 : decode cX7_act 31 = .ok (.iadd, 1) := dk_96 (dk_at dksX7_act_1 7 rfl rfl)
theorem dX7_act_32 : decode cX7_act 32 = .ok (.iload_n 2, 1) := dk_28 (dk_at dksX7_act_1 8 rfl rfl)
theorem dX7_act_33 : decode cX7_act 33 = .ok (.iastore, 1) := dk_79 (dk_at dksX7_act_1 9 rfl rfl)
theorem dX7_act_34 : decode cX7_act 34 = .ok (.aload_n 0, 1) := dk_42 (dk_at dksX7_act_1 10 rfl rfl)
theorem dX7_act_35 : decode cX7_act 35 = .ok (.getfield 30, 3) := dk_180 0 30 (dk_at dksX7_act_1 11 rfl rfl)
theorem dX7_act_38 : decode cX7_act 38 = .ok (.iload 6, 2) := dk_21 6 (dk_at dksX7_act_1 14 rfl rfl)
theorem dX7_act_40 : decode cX7_act 40 = .ok (.iconst 2, 1) := dk_5 (dk_at dksX7_act_1 16 rfl rfl)
theorem dX7_act_41 : decode cX7_act 41 = .ok (.iadd, 1) := dk_96 (dk_at dksX7_act_1 17 rfl rfl)
theorem dX7_act_42 : decode cX7_act 42 = .ok (.iload_n 3, 1) := dk_29 (dk_at dksX7_act_1 18 rfl rfl)
theorem dX7_act_43 : decode cX7_act 43 = .ok (.iastore, 1) := dk_79 (dk_at dksX7_act_1 19 rfl rfl)
theorem dX7_act_44 : decode cX7_act 44 = .ok (.aload_n 0, 1) := dk_42 (dk_at dksX7_act_1 20 rfl rfl)
theorem dX7_act_45 : decode cX7_act 45 = .ok (.getfield 30, 3) := dk_180 0 30 (dk_at dksX7_act_1 21 rfl rfl)
theorem dX7_act_48 : decode cX7_act 48 = .ok (.iload 6, 2) := dk_21 6 (dk_at dksX7_act_2 0 rfl rfl)
theorem dX7_act_50 : decode cX7_act 50 = .ok (.iconst 3, 1) := dk_6 (dk_at dksX7_act_2 2 rfl rfl)
theorem dX7_act_51 : decode cX7_act 51 = .ok (.iadd, 1) := dk_96 (dk_at dksX7_act_2 3 rfl rfl)
theorem dX7_act_52 : decode cX7_act 52 = .ok (.iload 4, 2) := dk_21 4 (dk_at dksX7_act_2 4 rfl rfl)
theorem dX7_act_54 : decode cX7_act 54 = .ok (.iastore, 1) := dk_79 (dk_at dksX7_act_2 6 rfl rfl)
theorem dX7_act_55 : decode cX7_act 55 = .ok (.aload_n 0, 1) := dk_42 (dk_at dksX7_act_2 7 rfl rfl)
theorem dX7_act_56 : decode cX7_act 56 = .ok (.getfield 30, 3) := dk_180 0 30 (dk_at dksX7_act_2 8 rfl rfl)
theorem dX7_act_59 : decode cX7_act 59 = .ok (.iload 6, 2) := dk_21 6 (dk_at dksX7_act_2 11 rfl rfl)
theorem dX7_act_61 : decode cX7_act 61 = .ok (.iconst 4, 1) := dk_7 (dk_at dksX7_act_2 13 rfl rfl)
theorem dX7_act_62 : decode cX7_act 62 = .ok (.iadd, 1) := dk_96 (dk_at dksX7_act_2 14 rfl rfl)
theorem dX7_act_63 : decode cX7_act 63 = .ok (.iload 5, 2) := dk_21 5 (dk_at dksX7_act_2 15 rfl rfl)
theorem dX7_act_65 : decode cX7_act 65 = .ok (.iastore, 1) := dk_79 (dk_at dksX7_act_2 17 rfl rfl)
theorem dX7_act_66 : decode cX7_act 66 = .ok (.aload_n 0, 1) := dk_42 (dk_at dksX7_act_2 18 rfl rfl)
theorem dX7_act_67 : decode cX7_act 67 = .ok (.dup, 1) := dk_89 (dk_at dksX7_act_2 19 rfl rfl)
theorem dX7_act_68 : decode cX7_act 68 = .ok (.getfield 251, 3) := dk_180 0 251 (dk_at dksX7_act_2 20 rfl rfl)
theorem dX7_act_71 : decode cX7_act 71 = .ok (.iconst 1, 1) := dk_4 (dk_at dksX7_act_2 23 rfl rfl)
theorem dX7_act_72 : decode cX7_act 72 = .ok (.iadd, 1) := dk_96 (dk_at dksX7_act_3 0 rfl rfl)
theorem dX7_act_73 : decode cX7_act 73 = .ok (.putfield 251, 3) := dk_181 0 251 (dk_at dksX7_act_3 1 rfl rfl)
theorem dX7_act_76 : decode cX7_act 76 = .ok (.return_, 1) := dk_177 (dk_at dksX7_act_3 4 rfl rfl)
abbrev cX7_readShorter : ByteArray := prog_16_method_43_code
def yX7_readShorter : MethodName := ⟨RX7, "readShorter", "()V"⟩
def dkwX7_readShorter_5 : List UInt8 := [89, 180, 1, 21, 4, 96, 181, 1, 21, 42, 4, 28, 29, 3, 3, 182, 1, 12, 177]
abbrev dktX7_readShorter_5 : List UInt8 := dkwX7_readShorter_5 ++ []
def dkwX7_readShorter_4 : List UInt8 := [4, 46, 42, 180, 1, 21, 96, 16, 6, 160, 0, 14, 42, 4, 181, 0, 214, 42, 27, 181, 0, 26, 177, 42]
abbrev dktX7_readShorter_4 : List UInt8 := dkwX7_readShorter_4 ++ dktX7_readShorter_5
def dkwX7_readShorter_3 : List UInt8 := [182, 0, 247, 42, 180, 0, 214, 154, 0, 12, 42, 28, 29, 182, 1, 18, 153, 0, 4, 177, 42, 180, 0, 13]
abbrev dktX7_readShorter_3 : List UInt8 := dkwX7_readShorter_3 ++ dktX7_readShorter_4
def dkwX7_readShorter_2 : List UInt8 := [180, 0, 224, 9, 20, 0, 152, 184, 0, 143, 153, 0, 12, 29, 28, 159, 0, 7, 4, 167, 0, 4, 3]
abbrev dktX7_readShorter_2 : List UInt8 := dkwX7_readShorter_2 ++ dktX7_readShorter_3
def dkwX7_readShorter_1 : List UInt8 := [182, 1, 4, 182, 0, 247, 42, 180, 0, 224, 136, 62, 42, 42, 180, 0, 234, 5, 160, 0, 26, 42]
abbrev dktX7_readShorter_1 : List UInt8 := dkwX7_readShorter_1 ++ dktX7_readShorter_2
def dkwX7_readShorter_0 : List UInt8 := [42, 180, 0, 221, 60, 42, 182, 0, 218, 42, 9, 20, 0, 152, 182, 0, 254, 61, 42, 42, 20, 1, 16]
abbrev dktX7_readShorter_0 : List UInt8 := dkwX7_readShorter_0 ++ dktX7_readShorter_1
theorem dksX7_readShorter_0 : cX7_readShorter.data.toList.drop 0 = dktX7_readShorter_0 := by decide +kernel
theorem dksX7_readShorter_1 : cX7_readShorter.data.toList.drop 23 = dktX7_readShorter_1 := dk_seg dksX7_readShorter_0 23 rfl rfl
theorem dksX7_readShorter_2 : cX7_readShorter.data.toList.drop 45 = dktX7_readShorter_2 := dk_seg dksX7_readShorter_1 22 rfl rfl
theorem dksX7_readShorter_3 : cX7_readShorter.data.toList.drop 68 = dktX7_readShorter_3 := dk_seg dksX7_readShorter_2 23 rfl rfl
theorem dksX7_readShorter_4 : cX7_readShorter.data.toList.drop 92 = dktX7_readShorter_4 := dk_seg dksX7_readShorter_3 24 rfl rfl
theorem dksX7_readShorter_5 : cX7_readShorter.data.toList.drop 116 = dktX7_readShorter_5 := dk_seg dksX7_readShorter_4 24 rfl rfl
theorem dX7_readShorter_0 : decode cX7_readShorter 0 = .ok (.aload_n 0, 1) := dk_42 (dk_at dksX7_readShorter_0 0 rfl rfl)
theorem dX7_readShorter_1 : decode cX7_readShorter 1 = .ok (.getfield 221, 3) := dk_180 0 221 (dk_at dksX7_readShorter_0 1 rfl rfl)
theorem dX7_readShorter_4 : decode cX7_readShorter 4 = .ok (.istore_n 1, 1) := dk_60 (dk_at dksX7_readShorter_0 4 rfl rfl)
theorem dX7_readShorter_5 : decode cX7_readShorter 5 = .ok (.aload_n 0, 1) := dk_42 (dk_at dksX7_readShorter_0 5 rfl rfl)
theorem dX7_readShorter_6 : decode cX7_readShorter 6 = .ok (.invokevirtual 218, 3) := dk_182 0 218 (dk_at dksX7_readShorter_0 6 rfl rfl)
theorem dX7_readShorter_9 : decode cX7_readShorter 9 = .ok (.aload_n 0, 1) := dk_42 (dk_at dksX7_readShorter_0 9 rfl rfl)
theorem dX7_readShorter_10 : decode cX7_readShorter 10 = .ok (.lconst 0, 1) := dk_9 (dk_at dksX7_readShorter_0 10 rfl rfl)
theorem dX7_readShorter_11 : decode cX7_readShorter 11 = .ok (.ldc2_w 152, 3) := dk_20 0 152 (dk_at dksX7_readShorter_0 11 rfl rfl)
theorem dX7_readShorter_14 : decode cX7_readShorter 14 = .ok (.invokevirtual 254, 3) := dk_182 0 254 (dk_at dksX7_readShorter_0 14 rfl rfl)
theorem dX7_readShorter_17 : decode cX7_readShorter 17 = .ok (.istore_n 2, 1) := dk_61 (dk_at dksX7_readShorter_0 17 rfl rfl)
theorem dX7_readShorter_18 : decode cX7_readShorter 18 = .ok (.aload_n 0, 1) := dk_42 (dk_at dksX7_readShorter_0 18 rfl rfl)
theorem dX7_readShorter_19 : decode cX7_readShorter 19 = .ok (.aload_n 0, 1) := dk_42 (dk_at dksX7_readShorter_0 19 rfl rfl)
theorem dX7_readShorter_20 : decode cX7_readShorter 20 = .ok (.ldc2_w 272, 3) := dk_20 1 16 (dk_at dksX7_readShorter_0 20 rfl rfl)
theorem dX7_readShorter_23 : decode cX7_readShorter 23 = .ok (.invokevirtual 260, 3) := dk_182 1 4 (dk_at dksX7_readShorter_1 0 rfl rfl)
theorem dX7_readShorter_26 : decode cX7_readShorter 26 = .ok (.invokevirtual 247, 3) := dk_182 0 247 (dk_at dksX7_readShorter_1 3 rfl rfl)
theorem dX7_readShorter_29 : decode cX7_readShorter 29 = .ok (.aload_n 0, 1) := dk_42 (dk_at dksX7_readShorter_1 6 rfl rfl)
theorem dX7_readShorter_30 : decode cX7_readShorter 30 = .ok (.getfield 224, 3) := dk_180 0 224 (dk_at dksX7_readShorter_1 7 rfl rfl)
theorem dX7_readShorter_33 : decode cX7_readShorter 33 = .ok (.l2i, 1) := dk_136 (dk_at dksX7_readShorter_1 10 rfl rfl)
theorem dX7_readShorter_34 : decode cX7_readShorter 34 = .ok (.istore_n 3, 1) := dk_62 (dk_at dksX7_readShorter_1 11 rfl rfl)
theorem dX7_readShorter_35 : decode cX7_readShorter 35 = .ok (.aload_n 0, 1) := dk_42 (dk_at dksX7_readShorter_1 12 rfl rfl)
theorem dX7_readShorter_36 : decode cX7_readShorter 36 = .ok (.aload_n 0, 1) := dk_42 (dk_at dksX7_readShorter_1 13 rfl rfl)
theorem dX7_readShorter_37 : decode cX7_readShorter 37 = .ok (.getfield 234, 3) := dk_180 0 234 (dk_at dksX7_readShorter_1 14 rfl rfl)
theorem dX7_readShorter_40 : decode cX7_readShorter 40 = .ok (.iconst 2, 1) := dk_5 (dk_at dksX7_readShorter_1 17 rfl rfl)
theorem dX7_readShorter_41 : decode cX7_readShorter 41 = .ok (.if_icmp .ne 26, 3) := dk_160 0 26 (dk_at dksX7_readShorter_1 18 rfl rfl)
theorem dX7_readShorter_44 : decode cX7_readShorter 44 = .ok (.aload_n 0, 1) := dk_42 (dk_at dksX7_readShorter_1 21 rfl rfl)
theorem dX7_readShorter_45 : decode cX7_readShorter 45 = .ok (.getfield 224, 3) := dk_180 0 224 (dk_at dksX7_readShorter_2 0 rfl rfl)
theorem dX7_readShorter_48 : decode cX7_readShorter 48 = .ok (.lconst 0, 1) := dk_9 (dk_at dksX7_readShorter_2 3 rfl rfl)
theorem dX7_readShorter_49 : decode cX7_readShorter 49 = .ok (.ldc2_w 152, 3) := dk_20 0 152 (dk_at dksX7_readShorter_2 4 rfl rfl)
theorem dX7_readShorter_52 : decode cX7_readShorter 52 = .ok (.invokestatic 143, 3) := dk_184 0 143 (dk_at dksX7_readShorter_2 7 rfl rfl)
theorem dX7_readShorter_55 : decode cX7_readShorter 55 = .ok (.ifCond .eq 12, 3) := dk_153 0 12 (dk_at dksX7_readShorter_2 10 rfl rfl)
theorem dX7_readShorter_58 : decode cX7_readShorter 58 = .ok (.iload_n 3, 1) := dk_29 (dk_at dksX7_readShorter_2 13 rfl rfl)
theorem dX7_readShorter_59 : decode cX7_readShorter 59 = .ok (.iload_n 2, 1) := dk_28 (dk_at dksX7_readShorter_2 14 rfl rfl)
theorem dX7_readShorter_60 : decode cX7_readShorter 60 = .ok (.if_icmp .eq 7, 3) := dk_159 0 7 (dk_at dksX7_readShorter_2 15 rfl rfl)
theorem dX7_readShorter_63 : decode cX7_readShorter 63 = .ok (.iconst 1, 1) := dk_4 (dk_at dksX7_readShorter_2 18 rfl rfl)
theorem dX7_readShorter_64 : decode cX7_readShorter 64 = .ok (.goto 4, 3) := dk_167 0 4 (dk_at dksX7_readShorter_2 19 rfl rfl)
theorem dX7_readShorter_67 : decode cX7_readShorter 67 = .ok (.iconst 0, 1) := dk_3 (dk_at dksX7_readShorter_2 22 rfl rfl)
theorem dX7_readShorter_68 : decode cX7_readShorter 68 = .ok (.invokevirtual 247, 3) := dk_182 0 247 (dk_at dksX7_readShorter_3 0 rfl rfl)
theorem dX7_readShorter_71 : decode cX7_readShorter 71 = .ok (.aload_n 0, 1) := dk_42 (dk_at dksX7_readShorter_3 3 rfl rfl)
theorem dX7_readShorter_72 : decode cX7_readShorter 72 = .ok (.getfield 214, 3) := dk_180 0 214 (dk_at dksX7_readShorter_3 4 rfl rfl)
theorem dX7_readShorter_75 : decode cX7_readShorter 75 = .ok (.ifCond .ne 12, 3) := dk_154 0 12 (dk_at dksX7_readShorter_3 7 rfl rfl)
theorem dX7_readShorter_78 : decode cX7_readShorter 78 = .ok (.aload_n 0, 1) := dk_42 (dk_at dksX7_readShorter_3 10 rfl rfl)
theorem dX7_readShorter_79 : decode cX7_readShorter 79 = .ok (.iload_n 2, 1) := dk_28 (dk_at dksX7_readShorter_3 11 rfl rfl)
theorem dX7_readShorter_80 : decode cX7_readShorter 80 = .ok (.iload_n 3, 1) := dk_29 (dk_at dksX7_readShorter_3 12 rfl rfl)
theorem dX7_readShorter_81 : decode cX7_readShorter 81 = .ok (.invokevirtual 274, 3) := dk_182 1 18 (dk_at dksX7_readShorter_3 13 rfl rfl)
theorem dX7_readShorter_84 : decode cX7_readShorter 84 = .ok (.ifCond .eq 4, 3) := dk_153 0 4 (dk_at dksX7_readShorter_3 16 rfl rfl)
theorem dX7_readShorter_87 : decode cX7_readShorter 87 = .ok (.return_, 1) := dk_177 (dk_at dksX7_readShorter_3 19 rfl rfl)
theorem dX7_readShorter_88 : decode cX7_readShorter 88 = .ok (.aload_n 0, 1) := dk_42 (dk_at dksX7_readShorter_3 20 rfl rfl)
theorem dX7_readShorter_89 : decode cX7_readShorter 89 = .ok (.getfield 13, 3) := dk_180 0 13 (dk_at dksX7_readShorter_3 21 rfl rfl)
theorem dX7_readShorter_92 : decode cX7_readShorter 92 = .ok (.iconst 1, 1) := dk_4 (dk_at dksX7_readShorter_4 0 rfl rfl)
theorem dX7_readShorter_93 : decode cX7_readShorter 93 = .ok (.iaload, 1) := dk_46 (dk_at dksX7_readShorter_4 1 rfl rfl)
theorem dX7_readShorter_94 : decode cX7_readShorter 94 = .ok (.aload_n 0, 1) := dk_42 (dk_at dksX7_readShorter_4 2 rfl rfl)
theorem dX7_readShorter_95 : decode cX7_readShorter 95 = .ok (.getfield 277, 3) := dk_180 1 21 (dk_at dksX7_readShorter_4 3 rfl rfl)
theorem dX7_readShorter_98 : decode cX7_readShorter 98 = .ok (.iadd, 1) := dk_96 (dk_at dksX7_readShorter_4 6 rfl rfl)
theorem dX7_readShorter_99 : decode cX7_readShorter 99 = .ok (.bipush 6, 2) := dk_16 6 (dk_at dksX7_readShorter_4 7 rfl rfl)
theorem dX7_readShorter_101 : decode cX7_readShorter 101 = .ok (.if_icmp .ne 14, 3) := dk_160 0 14 (dk_at dksX7_readShorter_4 9 rfl rfl)
theorem dX7_readShorter_104 : decode cX7_readShorter 104 = .ok (.aload_n 0, 1) := dk_42 (dk_at dksX7_readShorter_4 12 rfl rfl)
theorem dX7_readShorter_105 : decode cX7_readShorter 105 = .ok (.iconst 1, 1) := dk_4 (dk_at dksX7_readShorter_4 13 rfl rfl)
theorem dX7_readShorter_106 : decode cX7_readShorter 106 = .ok (.putfield 214, 3) := dk_181 0 214 (dk_at dksX7_readShorter_4 14 rfl rfl)
theorem dX7_readShorter_109 : decode cX7_readShorter 109 = .ok (.aload_n 0, 1) := dk_42 (dk_at dksX7_readShorter_4 17 rfl rfl)
theorem dX7_readShorter_110 : decode cX7_readShorter 110 = .ok (.iload_n 1, 1) := dk_27 (dk_at dksX7_readShorter_4 18 rfl rfl)
theorem dX7_readShorter_111 : decode cX7_readShorter 111 = .ok (.putfield 26, 3) := dk_181 0 26 (dk_at dksX7_readShorter_4 19 rfl rfl)
theorem dX7_readShorter_114 : decode cX7_readShorter 114 = .ok (.return_, 1) := dk_177 (dk_at dksX7_readShorter_4 22 rfl rfl)
theorem dX7_readShorter_115 : decode cX7_readShorter 115 = .ok (.aload_n 0, 1) := dk_42 (dk_at dksX7_readShorter_4 23 rfl rfl)
theorem dX7_readShorter_116 : decode cX7_readShorter 116 = .ok (.dup, 1) := dk_89 (dk_at dksX7_readShorter_5 0 rfl rfl)
theorem dX7_readShorter_117 : decode cX7_readShorter 117 = .ok (.getfield 277, 3) := dk_180 1 21 (dk_at dksX7_readShorter_5 1 rfl rfl)
theorem dX7_readShorter_120 : decode cX7_readShorter 120 = .ok (.iconst 1, 1) := dk_4 (dk_at dksX7_readShorter_5 4 rfl rfl)
theorem dX7_readShorter_121 : decode cX7_readShorter 121 = .ok (.iadd, 1) := dk_96 (dk_at dksX7_readShorter_5 5 rfl rfl)
theorem dX7_readShorter_122 : decode cX7_readShorter 122 = .ok (.putfield 277, 3) := dk_181 1 21 (dk_at dksX7_readShorter_5 6 rfl rfl)
theorem dX7_readShorter_125 : decode cX7_readShorter 125 = .ok (.aload_n 0, 1) := dk_42 (dk_at dksX7_readShorter_5 9 rfl rfl)
theorem dX7_readShorter_126 : decode cX7_readShorter 126 = .ok (.iconst 1, 1) := dk_4 (dk_at dksX7_readShorter_5 10 rfl rfl)
theorem dX7_readShorter_127 : decode cX7_readShorter 127 = .ok (.iload_n 2, 1) := dk_28 (dk_at dksX7_readShorter_5 11 rfl rfl)
theorem dX7_readShorter_128 : decode cX7_readShorter 128 = .ok (.iload_n 3, 1) := dk_29 (dk_at dksX7_readShorter_5 12 rfl rfl)
theorem dX7_readShorter_129 : decode cX7_readShorter 129 = .ok (.iconst 0, 1) := dk_3 (dk_at dksX7_readShorter_5 13 rfl rfl)
theorem dX7_readShorter_130 : decode cX7_readShorter 130 = .ok (.iconst 0, 1) := dk_3 (dk_at dksX7_readShorter_5 14 rfl rfl)
theorem dX7_readShorter_131 : decode cX7_readShorter 131 = .ok (.invokevirtual 268, 3) := dk_182 1 12 (dk_at dksX7_readShorter_5 15 rfl rfl)
theorem dX7_readShorter_134 : decode cX7_readShorter 134 = .ok (.return_, 1) := dk_177 (dk_at dksX7_readShorter_5 18 rfl rfl)
abbrev cX7_isDrafted : ByteArray := prog_16_method_42_code
def yX7_isDrafted : MethodName := ⟨RX7, "isDrafted", "(II)Z"⟩
def dkwX7_isDrafted_3 : List UInt8 := [132, 4, 1, 167, 255, 191, 29, 172]
abbrev dktX7_isDrafted_3 : List UInt8 := dkwX7_isDrafted_3 ++ []
def dkwX7_isDrafted_2 : List UInt8 := [160, 0, 22, 42, 180, 0, 30, 8, 21, 4, 104, 5, 96, 46, 28, 160, 0, 7, 4, 167, 0, 4, 3, 62]
abbrev dktX7_isDrafted_2 : List UInt8 := dkwX7_isDrafted_2 ++ dktX7_isDrafted_3
def dkwX7_isDrafted_1 : List UInt8 := [180, 0, 30, 8, 21, 4, 104, 46, 4, 160, 0, 37, 42, 180, 0, 30, 8, 21, 4, 104, 4, 96, 46, 27]
abbrev dktX7_isDrafted_1 : List UInt8 := dkwX7_isDrafted_1 ++ dktX7_isDrafted_2
def dkwX7_isDrafted_0 : List UInt8 := [42, 27, 28, 182, 0, 172, 62, 3, 54, 4, 21, 4, 42, 180, 0, 251, 162, 0, 62, 29, 154, 0, 46, 42]
abbrev dktX7_isDrafted_0 : List UInt8 := dkwX7_isDrafted_0 ++ dktX7_isDrafted_1
theorem dksX7_isDrafted_0 : cX7_isDrafted.data.toList.drop 0 = dktX7_isDrafted_0 := by decide +kernel
theorem dksX7_isDrafted_1 : cX7_isDrafted.data.toList.drop 24 = dktX7_isDrafted_1 := dk_seg dksX7_isDrafted_0 24 rfl rfl
theorem dksX7_isDrafted_2 : cX7_isDrafted.data.toList.drop 48 = dktX7_isDrafted_2 := dk_seg dksX7_isDrafted_1 24 rfl rfl
theorem dksX7_isDrafted_3 : cX7_isDrafted.data.toList.drop 72 = dktX7_isDrafted_3 := dk_seg dksX7_isDrafted_2 24 rfl rfl
theorem dX7_isDrafted_0 : decode cX7_isDrafted 0 = .ok (.aload_n 0, 1) := dk_42 (dk_at dksX7_isDrafted_0 0 rfl rfl)
theorem dX7_isDrafted_1 : decode cX7_isDrafted 1 = .ok (.iload_n 1, 1) := dk_27 (dk_at dksX7_isDrafted_0 1 rfl rfl)
theorem dX7_isDrafted_2 : decode cX7_isDrafted 2 = .ok (.iload_n 2, 1) := dk_28 (dk_at dksX7_isDrafted_0 2 rfl rfl)
theorem dX7_isDrafted_3 : decode cX7_isDrafted 3 = .ok (.invokevirtual 172, 3) := dk_182 0 172 (dk_at dksX7_isDrafted_0 3 rfl rfl)
theorem dX7_isDrafted_6 : decode cX7_isDrafted 6 = .ok (.istore_n 3, 1) := dk_62 (dk_at dksX7_isDrafted_0 6 rfl rfl)
theorem dX7_isDrafted_7 : decode cX7_isDrafted 7 = .ok (.iconst 0, 1) := dk_3 (dk_at dksX7_isDrafted_0 7 rfl rfl)
theorem dX7_isDrafted_8 : decode cX7_isDrafted 8 = .ok (.istore 4, 2) := dk_54 4 (dk_at dksX7_isDrafted_0 8 rfl rfl)
theorem dX7_isDrafted_10 : decode cX7_isDrafted 10 = .ok (.iload 4, 2) := dk_21 4 (dk_at dksX7_isDrafted_0 10 rfl rfl)
theorem dX7_isDrafted_12 : decode cX7_isDrafted 12 = .ok (.aload_n 0, 1) := dk_42 (dk_at dksX7_isDrafted_0 12 rfl rfl)
theorem dX7_isDrafted_13 : decode cX7_isDrafted 13 = .ok (.getfield 251, 3) := dk_180 0 251 (dk_at dksX7_isDrafted_0 13 rfl rfl)
theorem dX7_isDrafted_16 : decode cX7_isDrafted 16 = .ok (.if_icmp .ge 62, 3) := dk_162 0 62 (dk_at dksX7_isDrafted_0 16 rfl rfl)
theorem dX7_isDrafted_19 : decode cX7_isDrafted 19 = .ok (.iload_n 3, 1) := dk_29 (dk_at dksX7_isDrafted_0 19 rfl rfl)
theorem dX7_isDrafted_20 : decode cX7_isDrafted 20 = .ok (.ifCond .ne 46, 3) := dk_154 0 46 (dk_at dksX7_isDrafted_0 20 rfl rfl)
theorem dX7_isDrafted_23 : decode cX7_isDrafted 23 = .ok (.aload_n 0, 1) := dk_42 (dk_at dksX7_isDrafted_0 23 rfl rfl)
theorem dX7_isDrafted_24 : decode cX7_isDrafted 24 = .ok (.getfield 30, 3) := dk_180 0 30 (dk_at dksX7_isDrafted_1 0 rfl rfl)
theorem dX7_isDrafted_27 : decode cX7_isDrafted 27 = .ok (.iconst 5, 1) := dk_8 (dk_at dksX7_isDrafted_1 3 rfl rfl)
theorem dX7_isDrafted_28 : decode cX7_isDrafted 28 = .ok (.iload 4, 2) := dk_21 4 (dk_at dksX7_isDrafted_1 4 rfl rfl)
theorem dX7_isDrafted_30 : decode cX7_isDrafted 30 = .ok (.imul, 1) := dk_104 (dk_at dksX7_isDrafted_1 6 rfl rfl)
theorem dX7_isDrafted_31 : decode cX7_isDrafted 31 = .ok (.iaload, 1) := dk_46 (dk_at dksX7_isDrafted_1 7 rfl rfl)
theorem dX7_isDrafted_32 : decode cX7_isDrafted 32 = .ok (.iconst 1, 1) := dk_4 (dk_at dksX7_isDrafted_1 8 rfl rfl)
theorem dX7_isDrafted_33 : decode cX7_isDrafted 33 = .ok (.if_icmp .ne 37, 3) := dk_160 0 37 (dk_at dksX7_isDrafted_1 9 rfl rfl)
theorem dX7_isDrafted_36 : decode cX7_isDrafted 36 = .ok (.aload_n 0, 1) := dk_42 (dk_at dksX7_isDrafted_1 12 rfl rfl)
theorem dX7_isDrafted_37 : decode cX7_isDrafted 37 = .ok (.getfield 30, 3) := dk_180 0 30 (dk_at dksX7_isDrafted_1 13 rfl rfl)
theorem dX7_isDrafted_40 : decode cX7_isDrafted 40 = .ok (.iconst 5, 1) := dk_8 (dk_at dksX7_isDrafted_1 16 rfl rfl)
theorem dX7_isDrafted_41 : decode cX7_isDrafted 41 = .ok (.iload 4, 2) := dk_21 4 (dk_at dksX7_isDrafted_1 17 rfl rfl)
theorem dX7_isDrafted_43 : decode cX7_isDrafted 43 = .ok (.imul, 1) := dk_104 (dk_at dksX7_isDrafted_1 19 rfl rfl)
theorem dX7_isDrafted_44 : decode cX7_isDrafted 44 = .ok (.iconst 1, 1) := dk_4 (dk_at dksX7_isDrafted_1 20 rfl rfl)
theorem dX7_isDrafted_45 : decode cX7_isDrafted 45 = .ok (.iadd, 1) := dk_96 (dk_at dksX7_isDrafted_1 21 rfl rfl)
theorem dX7_isDrafted_46 : decode cX7_isDrafted 46 = .ok (.iaload, 1) := dk_46 (dk_at dksX7_isDrafted_1 22 rfl rfl)
theorem dX7_isDrafted_47 : decode cX7_isDrafted 47 = .ok (.iload_n 1, 1) := dk_27 (dk_at dksX7_isDrafted_1 23 rfl rfl)
theorem dX7_isDrafted_48 : decode cX7_isDrafted 48 = .ok (.if_icmp .ne 22, 3) := dk_160 0 22 (dk_at dksX7_isDrafted_2 0 rfl rfl)
theorem dX7_isDrafted_51 : decode cX7_isDrafted 51 = .ok (.aload_n 0, 1) := dk_42 (dk_at dksX7_isDrafted_2 3 rfl rfl)
theorem dX7_isDrafted_52 : decode cX7_isDrafted 52 = .ok (.getfield 30, 3) := dk_180 0 30 (dk_at dksX7_isDrafted_2 4 rfl rfl)
theorem dX7_isDrafted_55 : decode cX7_isDrafted 55 = .ok (.iconst 5, 1) := dk_8 (dk_at dksX7_isDrafted_2 7 rfl rfl)
theorem dX7_isDrafted_56 : decode cX7_isDrafted 56 = .ok (.iload 4, 2) := dk_21 4 (dk_at dksX7_isDrafted_2 8 rfl rfl)
theorem dX7_isDrafted_58 : decode cX7_isDrafted 58 = .ok (.imul, 1) := dk_104 (dk_at dksX7_isDrafted_2 10 rfl rfl)
theorem dX7_isDrafted_59 : decode cX7_isDrafted 59 = .ok (.iconst 2, 1) := dk_5 (dk_at dksX7_isDrafted_2 11 rfl rfl)
theorem dX7_isDrafted_60 : decode cX7_isDrafted 60 = .ok (.iadd, 1) := dk_96 (dk_at dksX7_isDrafted_2 12 rfl rfl)
theorem dX7_isDrafted_61 : decode cX7_isDrafted 61 = .ok (.iaload, 1) := dk_46 (dk_at dksX7_isDrafted_2 13 rfl rfl)
theorem dX7_isDrafted_62 : decode cX7_isDrafted 62 = .ok (.iload_n 2, 1) := dk_28 (dk_at dksX7_isDrafted_2 14 rfl rfl)
theorem dX7_isDrafted_63 : decode cX7_isDrafted 63 = .ok (.if_icmp .ne 7, 3) := dk_160 0 7 (dk_at dksX7_isDrafted_2 15 rfl rfl)
theorem dX7_isDrafted_66 : decode cX7_isDrafted 66 = .ok (.iconst 1, 1) := dk_4 (dk_at dksX7_isDrafted_2 18 rfl rfl)
theorem dX7_isDrafted_67 : decode cX7_isDrafted 67 = .ok (.goto 4, 3) := dk_167 0 4 (dk_at dksX7_isDrafted_2 19 rfl rfl)
theorem dX7_isDrafted_70 : decode cX7_isDrafted 70 = .ok (.iconst 0, 1) := dk_3 (dk_at dksX7_isDrafted_2 22 rfl rfl)
theorem dX7_isDrafted_71 : decode cX7_isDrafted 71 = .ok (.istore_n 3, 1) := dk_62 (dk_at dksX7_isDrafted_2 23 rfl rfl)
theorem dX7_isDrafted_72 : decode cX7_isDrafted 72 = .ok (.iinc 4 1, 3) := dk_132 4 1 (dk_at dksX7_isDrafted_3 0 rfl rfl)
theorem dX7_isDrafted_75 : decode cX7_isDrafted 75 = .ok (.goto (-65), 3) := dk_167 255 191 (dk_at dksX7_isDrafted_3 3 rfl rfl)
theorem dX7_isDrafted_78 : decode cX7_isDrafted 78 = .ok (.iload_n 3, 1) := dk_29 (dk_at dksX7_isDrafted_3 6 rfl rfl)
theorem dX7_isDrafted_79 : decode cX7_isDrafted 79 = .ok (.ireturn, 1) := dk_172 (dk_at dksX7_isDrafted_3 7 rfl rfl)
abbrev cX7_readThing : ByteArray := prog_16_method_45_code
def yX7_readThing : MethodName := ⟨RX7, "readThing", "()V"⟩
def dkwX7_readThing_5 : List UInt8 := [167, 255, 231, 177]
abbrev dktX7_readThing_5 : List UInt8 := dkwX7_readThing_5 ++ []
def dkwX7_readThing_4 : List UInt8 := [180, 0, 214, 154, 0, 24, 42, 16, 44, 182, 1, 44, 153, 0, 15, 42, 182, 0, 218, 42, 27, 182, 1, 41]
abbrev dktX7_readThing_4 : List UInt8 := dkwX7_readThing_4 ++ dktX7_readThing_5
def dkwX7_readThing_3 : List UInt8 := [5, 27, 42, 10, 20, 0, 154, 182, 0, 254, 3, 3, 182, 1, 12, 177, 42, 27, 182, 1, 41, 42]
abbrev dktX7_readThing_3 : List UInt8 := dkwX7_readThing_3 ++ dktX7_readThing_4
def dkwX7_readThing_2 : List UInt8 := [42, 5, 27, 2, 3, 3, 182, 1, 12, 167, 0, 30, 42, 42, 20, 1, 24, 182, 1, 4, 182, 0, 247, 42]
abbrev dktX7_readThing_2 : List UInt8 := dkwX7_readThing_2 ++ dktX7_readThing_3
def dkwX7_readThing_1 : List UInt8 := [182, 1, 4, 153, 0, 61, 42, 182, 0, 218, 42, 20, 1, 39, 182, 1, 4, 153, 0, 19, 42, 182, 0, 218]
abbrev dktX7_readThing_1 : List UInt8 := dkwX7_readThing_1 ++ dktX7_readThing_2
def dkwX7_readThing_0 : List UInt8 := [42, 182, 0, 218, 42, 9, 20, 0, 150, 182, 0, 254, 60, 42, 180, 0, 214, 154, 0, 71, 42, 20, 1, 37]
abbrev dktX7_readThing_0 : List UInt8 := dkwX7_readThing_0 ++ dktX7_readThing_1
theorem dksX7_readThing_0 : cX7_readThing.data.toList.drop 0 = dktX7_readThing_0 := by decide +kernel
theorem dksX7_readThing_1 : cX7_readThing.data.toList.drop 24 = dktX7_readThing_1 := dk_seg dksX7_readThing_0 24 rfl rfl
theorem dksX7_readThing_2 : cX7_readThing.data.toList.drop 48 = dktX7_readThing_2 := dk_seg dksX7_readThing_1 24 rfl rfl
theorem dksX7_readThing_3 : cX7_readThing.data.toList.drop 72 = dktX7_readThing_3 := dk_seg dksX7_readThing_2 24 rfl rfl
theorem dksX7_readThing_4 : cX7_readThing.data.toList.drop 94 = dktX7_readThing_4 := dk_seg dksX7_readThing_3 22 rfl rfl
theorem dksX7_readThing_5 : cX7_readThing.data.toList.drop 118 = dktX7_readThing_5 := dk_seg dksX7_readThing_4 24 rfl rfl
theorem dX7_readThing_0 : decode cX7_readThing 0 = .ok (.aload_n 0, 1) := dk_42 (dk_at dksX7_readThing_0 0 rfl rfl)
theorem dX7_readThing_1 : decode cX7_readThing 1 = .ok (.invokevirtual 218, 3) := dk_182 0 218 (dk_at dksX7_readThing_0 1 rfl rfl)
theorem dX7_readThing_4 : decode cX7_readThing 4 = .ok (.aload_n 0, 1) := dk_42 (dk_at dksX7_readThing_0 4 rfl rfl)
theorem dX7_readThing_5 : decode cX7_readThing 5 = .ok (.lconst 0, 1) := dk_9 (dk_at dksX7_readThing_0 5 rfl rfl)
theorem dX7_readThing_6 : decode cX7_readThing 6 = .ok (.ldc2_w 150, 3) := dk_20 0 150 (dk_at dksX7_readThing_0 6 rfl rfl)
theorem dX7_readThing_9 : decode cX7_readThing 9 = .ok (.invokevirtual 254, 3) := dk_182 0 254 (dk_at dksX7_readThing_0 9 rfl rfl)
theorem dX7_readThing_12 : decode cX7_readThing 12 = .ok (.istore_n 1, 1) := dk_60 (dk_at dksX7_readThing_0 12 rfl rfl)
theorem dX7_readThing_13 : decode cX7_readThing 13 = .ok (.aload_n 0, 1) := dk_42 (dk_at dksX7_readThing_0 13 rfl rfl)
theorem dX7_readThing_14 : decode cX7_readThing 14 = .ok (.getfield 214, 3) := dk_180 0 214 (dk_at dksX7_readThing_0 14 rfl rfl)
theorem dX7_readThing_17 : decode cX7_readThing 17 = .ok (.ifCond .ne 71, 3) := dk_154 0 71 (dk_at dksX7_readThing_0 17 rfl rfl)
theorem dX7_readThing_20 : decode cX7_readThing 20 = .ok (.aload_n 0, 1) := dk_42 (dk_at dksX7_readThing_0 20 rfl rfl)
theorem dX7_readThing_21 : decode cX7_readThing 21 = .ok (.ldc2_w 293, 3) := dk_20 1 37 (dk_at dksX7_readThing_0 21 rfl rfl)
theorem dX7_readThing_24 : decode cX7_readThing 24 = .ok (.invokevirtual 260, 3) := dk_182 1 4 (dk_at dksX7_readThing_1 0 rfl rfl)
theorem dX7_readThing_27 : decode cX7_readThing 27 = .ok (.ifCond .eq 61, 3) := dk_153 0 61 (dk_at dksX7_readThing_1 3 rfl rfl)
theorem dX7_readThing_30 : decode cX7_readThing 30 = .ok (.aload_n 0, 1) := dk_42 (dk_at dksX7_readThing_1 6 rfl rfl)
theorem dX7_readThing_31 : decode cX7_readThing 31 = .ok (.invokevirtual 218, 3) := dk_182 0 218 (dk_at dksX7_readThing_1 7 rfl rfl)
theorem dX7_readThing_34 : decode cX7_readThing 34 = .ok (.aload_n 0, 1) := dk_42 (dk_at dksX7_readThing_1 10 rfl rfl)
theorem dX7_readThing_35 : decode cX7_readThing 35 = .ok (.ldc2_w 295, 3) := dk_20 1 39 (dk_at dksX7_readThing_1 11 rfl rfl)
theorem dX7_readThing_38 : decode cX7_readThing 38 = .ok (.invokevirtual 260, 3) := dk_182 1 4 (dk_at dksX7_readThing_1 14 rfl rfl)
theorem dX7_readThing_41 : decode cX7_readThing 41 = .ok (.ifCond .eq 19, 3) := dk_153 0 19 (dk_at dksX7_readThing_1 17 rfl rfl)
theorem dX7_readThing_44 : decode cX7_readThing 44 = .ok (.aload_n 0, 1) := dk_42 (dk_at dksX7_readThing_1 20 rfl rfl)
theorem dX7_readThing_45 : decode cX7_readThing 45 = .ok (.invokevirtual 218, 3) := dk_182 0 218 (dk_at dksX7_readThing_1 21 rfl rfl)
theorem dX7_readThing_48 : decode cX7_readThing 48 = .ok (.aload_n 0, 1) := dk_42 (dk_at dksX7_readThing_2 0 rfl rfl)
theorem dX7_readThing_49 : decode cX7_readThing 49 = .ok (.iconst 2, 1) := dk_5 (dk_at dksX7_readThing_2 1 rfl rfl)
theorem dX7_readThing_50 : decode cX7_readThing 50 = .ok (.iload_n 1, 1) := dk_27 (dk_at dksX7_readThing_2 2 rfl rfl)
theorem dX7_readThing_51 : decode cX7_readThing 51 = .ok (.iconst (-1), 1) := dk_2 (dk_at dksX7_readThing_2 3 rfl rfl)
theorem dX7_readThing_52 : decode cX7_readThing 52 = .ok (.iconst 0, 1) := dk_3 (dk_at dksX7_readThing_2 4 rfl rfl)
theorem dX7_readThing_53 : decode cX7_readThing 53 = .ok (.iconst 0, 1) := dk_3 (dk_at dksX7_readThing_2 5 rfl rfl)
theorem dX7_readThing_54 : decode cX7_readThing 54 = .ok (.invokevirtual 268, 3) := dk_182 1 12 (dk_at dksX7_readThing_2 6 rfl rfl)
theorem dX7_readThing_57 : decode cX7_readThing 57 = .ok (.goto 30, 3) := dk_167 0 30 (dk_at dksX7_readThing_2 9 rfl rfl)
theorem dX7_readThing_60 : decode cX7_readThing 60 = .ok (.aload_n 0, 1) := dk_42 (dk_at dksX7_readThing_2 12 rfl rfl)
theorem dX7_readThing_61 : decode cX7_readThing 61 = .ok (.aload_n 0, 1) := dk_42 (dk_at dksX7_readThing_2 13 rfl rfl)
theorem dX7_readThing_62 : decode cX7_readThing 62 = .ok (.ldc2_w 280, 3) := dk_20 1 24 (dk_at dksX7_readThing_2 14 rfl rfl)
theorem dX7_readThing_65 : decode cX7_readThing 65 = .ok (.invokevirtual 260, 3) := dk_182 1 4 (dk_at dksX7_readThing_2 17 rfl rfl)
theorem dX7_readThing_68 : decode cX7_readThing 68 = .ok (.invokevirtual 247, 3) := dk_182 0 247 (dk_at dksX7_readThing_2 20 rfl rfl)
theorem dX7_readThing_71 : decode cX7_readThing 71 = .ok (.aload_n 0, 1) := dk_42 (dk_at dksX7_readThing_2 23 rfl rfl)
theorem dX7_readThing_72 : decode cX7_readThing 72 = .ok (.iconst 2, 1) := dk_5 (dk_at dksX7_readThing_3 0 rfl rfl)
theorem dX7_readThing_73 : decode cX7_readThing 73 = .ok (.iload_n 1, 1) := dk_27 (dk_at dksX7_readThing_3 1 rfl rfl)
theorem dX7_readThing_74 : decode cX7_readThing 74 = .ok (.aload_n 0, 1) := dk_42 (dk_at dksX7_readThing_3 2 rfl rfl)
theorem dX7_readThing_75 : decode cX7_readThing 75 = .ok (.lconst 1, 1) := dk_10 (dk_at dksX7_readThing_3 3 rfl rfl)
theorem dX7_readThing_76 : decode cX7_readThing 76 = .ok (.ldc2_w 154, 3) := dk_20 0 154 (dk_at dksX7_readThing_3 4 rfl rfl)
theorem dX7_readThing_79 : decode cX7_readThing 79 = .ok (.invokevirtual 254, 3) := dk_182 0 254 (dk_at dksX7_readThing_3 7 rfl rfl)
theorem dX7_readThing_82 : decode cX7_readThing 82 = .ok (.iconst 0, 1) := dk_3 (dk_at dksX7_readThing_3 10 rfl rfl)
theorem dX7_readThing_83 : decode cX7_readThing 83 = .ok (.iconst 0, 1) := dk_3 (dk_at dksX7_readThing_3 11 rfl rfl)
theorem dX7_readThing_84 : decode cX7_readThing 84 = .ok (.invokevirtual 268, 3) := dk_182 1 12 (dk_at dksX7_readThing_3 12 rfl rfl)
theorem dX7_readThing_87 : decode cX7_readThing 87 = .ok (.return_, 1) := dk_177 (dk_at dksX7_readThing_3 15 rfl rfl)
theorem dX7_readThing_88 : decode cX7_readThing 88 = .ok (.aload_n 0, 1) := dk_42 (dk_at dksX7_readThing_3 16 rfl rfl)
theorem dX7_readThing_89 : decode cX7_readThing 89 = .ok (.iload_n 1, 1) := dk_27 (dk_at dksX7_readThing_3 17 rfl rfl)
theorem dX7_readThing_90 : decode cX7_readThing 90 = .ok (.invokevirtual 297, 3) := dk_182 1 41 (dk_at dksX7_readThing_3 18 rfl rfl)
theorem dX7_readThing_93 : decode cX7_readThing 93 = .ok (.aload_n 0, 1) := dk_42 (dk_at dksX7_readThing_3 21 rfl rfl)
theorem dX7_readThing_94 : decode cX7_readThing 94 = .ok (.getfield 214, 3) := dk_180 0 214 (dk_at dksX7_readThing_4 0 rfl rfl)
theorem dX7_readThing_97 : decode cX7_readThing 97 = .ok (.ifCond .ne 24, 3) := dk_154 0 24 (dk_at dksX7_readThing_4 3 rfl rfl)
theorem dX7_readThing_100 : decode cX7_readThing 100 = .ok (.aload_n 0, 1) := dk_42 (dk_at dksX7_readThing_4 6 rfl rfl)
theorem dX7_readThing_101 : decode cX7_readThing 101 = .ok (.bipush 44, 2) := dk_16 44 (dk_at dksX7_readThing_4 7 rfl rfl)
theorem dX7_readThing_103 : decode cX7_readThing 103 = .ok (.invokevirtual 300, 3) := dk_182 1 44 (dk_at dksX7_readThing_4 9 rfl rfl)
theorem dX7_readThing_106 : decode cX7_readThing 106 = .ok (.ifCond .eq 15, 3) := dk_153 0 15 (dk_at dksX7_readThing_4 12 rfl rfl)
theorem dX7_readThing_109 : decode cX7_readThing 109 = .ok (.aload_n 0, 1) := dk_42 (dk_at dksX7_readThing_4 15 rfl rfl)
theorem dX7_readThing_110 : decode cX7_readThing 110 = .ok (.invokevirtual 218, 3) := dk_182 0 218 (dk_at dksX7_readThing_4 16 rfl rfl)
theorem dX7_readThing_113 : decode cX7_readThing 113 = .ok (.aload_n 0, 1) := dk_42 (dk_at dksX7_readThing_4 19 rfl rfl)
theorem dX7_readThing_114 : decode cX7_readThing 114 = .ok (.iload_n 1, 1) := dk_27 (dk_at dksX7_readThing_4 20 rfl rfl)
theorem dX7_readThing_115 : decode cX7_readThing 115 = .ok (.invokevirtual 297, 3) := dk_182 1 41 (dk_at dksX7_readThing_4 21 rfl rfl)
theorem dX7_readThing_118 : decode cX7_readThing 118 = .ok (.goto (-25), 3) := dk_167 255 231 (dk_at dksX7_readThing_5 0 rfl rfl)
theorem dX7_readThing_121 : decode cX7_readThing 121 = .ok (.return_, 1) := dk_177 (dk_at dksX7_readThing_5 3 rfl rfl)
abbrev cX7_readMeasure : ByteArray := prog_16_method_44_code
def yX7_readMeasure : MethodName := ⟨RX7, "readMeasure", "(I)V"⟩
def dkwX7_readMeasure_6 : List UInt8 := [29, 21, 4, 182, 1, 12, 177]
abbrev dktX7_readMeasure_6 : List UInt8 := dkwX7_readMeasure_6 ++ []
def dkwX7_readMeasure_5 : List UInt8 := [182, 1, 4, 153, 0, 7, 42, 182, 0, 218, 42, 89, 180, 1, 26, 4, 96, 181, 1, 26, 42, 6, 27, 28]
abbrev dktX7_readMeasure_5 : List UInt8 := dkwX7_readMeasure_5 ++ dktX7_readMeasure_6
def dkwX7_readMeasure_4 : List UInt8 := [182, 1, 4, 153, 0, 7, 5, 167, 0, 4, 3, 54, 4, 21, 4, 157, 0, 13, 42, 20, 1, 35]
abbrev dktX7_readMeasure_4 : List UInt8 := dkwX7_readMeasure_4 ++ dktX7_readMeasure_5
def dkwX7_readMeasure_3 : List UInt8 := [180, 0, 214, 154, 0, 63, 42, 20, 1, 31, 182, 1, 4, 153, 0, 7, 4, 167, 0, 18, 42, 20, 1, 33]
abbrev dktX7_readMeasure_3 : List UInt8 := dkwX7_readMeasure_3 ++ dktX7_readMeasure_4
def dkwX7_readMeasure_2 : List UInt8 := [20, 1, 29, 182, 1, 4, 182, 0, 247, 42, 10, 20, 0, 180, 182, 0, 254, 62, 3, 54, 4, 42]
abbrev dktX7_readMeasure_2 : List UInt8 := dkwX7_readMeasure_2 ++ dktX7_readMeasure_3
def dkwX7_readMeasure_1 : List UInt8 := [162, 0, 7, 4, 167, 0, 4, 3, 182, 0, 247, 42, 9, 20, 0, 154, 182, 0, 254, 61, 42, 42]
abbrev dktX7_readMeasure_1 : List UInt8 := dkwX7_readMeasure_1 ++ dktX7_readMeasure_2
def dkwX7_readMeasure_0 : List UInt8 := [42, 42, 20, 1, 24, 182, 1, 4, 153, 0, 23, 42, 180, 0, 13, 3, 46, 42, 180, 1, 26, 96, 16, 24]
abbrev dktX7_readMeasure_0 : List UInt8 := dkwX7_readMeasure_0 ++ dktX7_readMeasure_1
theorem dksX7_readMeasure_0 : cX7_readMeasure.data.toList.drop 0 = dktX7_readMeasure_0 := by decide +kernel
theorem dksX7_readMeasure_1 : cX7_readMeasure.data.toList.drop 24 = dktX7_readMeasure_1 := dk_seg dksX7_readMeasure_0 24 rfl rfl
theorem dksX7_readMeasure_2 : cX7_readMeasure.data.toList.drop 46 = dktX7_readMeasure_2 := dk_seg dksX7_readMeasure_1 22 rfl rfl
theorem dksX7_readMeasure_3 : cX7_readMeasure.data.toList.drop 68 = dktX7_readMeasure_3 := dk_seg dksX7_readMeasure_2 22 rfl rfl
theorem dksX7_readMeasure_4 : cX7_readMeasure.data.toList.drop 92 = dktX7_readMeasure_4 := dk_seg dksX7_readMeasure_3 24 rfl rfl
theorem dksX7_readMeasure_5 : cX7_readMeasure.data.toList.drop 114 = dktX7_readMeasure_5 := dk_seg dksX7_readMeasure_4 22 rfl rfl
theorem dksX7_readMeasure_6 : cX7_readMeasure.data.toList.drop 138 = dktX7_readMeasure_6 := dk_seg dksX7_readMeasure_5 24 rfl rfl
theorem dX7_readMeasure_0 : decode cX7_readMeasure 0 = .ok (.aload_n 0, 1) := dk_42 (dk_at dksX7_readMeasure_0 0 rfl rfl)
theorem dX7_readMeasure_1 : decode cX7_readMeasure 1 = .ok (.aload_n 0, 1) := dk_42 (dk_at dksX7_readMeasure_0 1 rfl rfl)
theorem dX7_readMeasure_2 : decode cX7_readMeasure 2 = .ok (.ldc2_w 280, 3) := dk_20 1 24 (dk_at dksX7_readMeasure_0 2 rfl rfl)
theorem dX7_readMeasure_5 : decode cX7_readMeasure 5 = .ok (.invokevirtual 260, 3) := dk_182 1 4 (dk_at dksX7_readMeasure_0 5 rfl rfl)
theorem dX7_readMeasure_8 : decode cX7_readMeasure 8 = .ok (.ifCond .eq 23, 3) := dk_153 0 23 (dk_at dksX7_readMeasure_0 8 rfl rfl)
theorem dX7_readMeasure_11 : decode cX7_readMeasure 11 = .ok (.aload_n 0, 1) := dk_42 (dk_at dksX7_readMeasure_0 11 rfl rfl)
theorem dX7_readMeasure_12 : decode cX7_readMeasure 12 = .ok (.getfield 13, 3) := dk_180 0 13 (dk_at dksX7_readMeasure_0 12 rfl rfl)
theorem dX7_readMeasure_15 : decode cX7_readMeasure 15 = .ok (.iconst 0, 1) := dk_3 (dk_at dksX7_readMeasure_0 15 rfl rfl)
theorem dX7_readMeasure_16 : decode cX7_readMeasure 16 = .ok (.iaload, 1) := dk_46 (dk_at dksX7_readMeasure_0 16 rfl rfl)
theorem dX7_readMeasure_17 : decode cX7_readMeasure 17 = .ok (.aload_n 0, 1) := dk_42 (dk_at dksX7_readMeasure_0 17 rfl rfl)
theorem dX7_readMeasure_18 : decode cX7_readMeasure 18 = .ok (.getfield 282, 3) := dk_180 1 26 (dk_at dksX7_readMeasure_0 18 rfl rfl)
theorem dX7_readMeasure_21 : decode cX7_readMeasure 21 = .ok (.iadd, 1) := dk_96 (dk_at dksX7_readMeasure_0 21 rfl rfl)
theorem dX7_readMeasure_22 : decode cX7_readMeasure 22 = .ok (.bipush 24, 2) := dk_16 24 (dk_at dksX7_readMeasure_0 22 rfl rfl)
theorem dX7_readMeasure_24 : decode cX7_readMeasure 24 = .ok (.if_icmp .ge 7, 3) := dk_162 0 7 (dk_at dksX7_readMeasure_1 0 rfl rfl)
theorem dX7_readMeasure_27 : decode cX7_readMeasure 27 = .ok (.iconst 1, 1) := dk_4 (dk_at dksX7_readMeasure_1 3 rfl rfl)
theorem dX7_readMeasure_28 : decode cX7_readMeasure 28 = .ok (.goto 4, 3) := dk_167 0 4 (dk_at dksX7_readMeasure_1 4 rfl rfl)
theorem dX7_readMeasure_31 : decode cX7_readMeasure 31 = .ok (.iconst 0, 1) := dk_3 (dk_at dksX7_readMeasure_1 7 rfl rfl)
theorem dX7_readMeasure_32 : decode cX7_readMeasure 32 = .ok (.invokevirtual 247, 3) := dk_182 0 247 (dk_at dksX7_readMeasure_1 8 rfl rfl)
theorem dX7_readMeasure_35 : decode cX7_readMeasure 35 = .ok (.aload_n 0, 1) := dk_42 (dk_at dksX7_readMeasure_1 11 rfl rfl)
theorem dX7_readMeasure_36 : decode cX7_readMeasure 36 = .ok (.lconst 0, 1) := dk_9 (dk_at dksX7_readMeasure_1 12 rfl rfl)
theorem dX7_readMeasure_37 : decode cX7_readMeasure 37 = .ok (.ldc2_w 154, 3) := dk_20 0 154 (dk_at dksX7_readMeasure_1 13 rfl rfl)
theorem dX7_readMeasure_40 : decode cX7_readMeasure 40 = .ok (.invokevirtual 254, 3) := dk_182 0 254 (dk_at dksX7_readMeasure_1 16 rfl rfl)
theorem dX7_readMeasure_43 : decode cX7_readMeasure 43 = .ok (.istore_n 2, 1) := dk_61 (dk_at dksX7_readMeasure_1 19 rfl rfl)
theorem dX7_readMeasure_44 : decode cX7_readMeasure 44 = .ok (.aload_n 0, 1) := dk_42 (dk_at dksX7_readMeasure_1 20 rfl rfl)
theorem dX7_readMeasure_45 : decode cX7_readMeasure 45 = .ok (.aload_n 0, 1) := dk_42 (dk_at dksX7_readMeasure_1 21 rfl rfl)
theorem dX7_readMeasure_46 : decode cX7_readMeasure 46 = .ok (.ldc2_w 285, 3) := dk_20 1 29 (dk_at dksX7_readMeasure_2 0 rfl rfl)
theorem dX7_readMeasure_49 : decode cX7_readMeasure 49 = .ok (.invokevirtual 260, 3) := dk_182 1 4 (dk_at dksX7_readMeasure_2 3 rfl rfl)
theorem dX7_readMeasure_52 : decode cX7_readMeasure 52 = .ok (.invokevirtual 247, 3) := dk_182 0 247 (dk_at dksX7_readMeasure_2 6 rfl rfl)
theorem dX7_readMeasure_55 : decode cX7_readMeasure 55 = .ok (.aload_n 0, 1) := dk_42 (dk_at dksX7_readMeasure_2 9 rfl rfl)
theorem dX7_readMeasure_56 : decode cX7_readMeasure 56 = .ok (.lconst 1, 1) := dk_10 (dk_at dksX7_readMeasure_2 10 rfl rfl)
theorem dX7_readMeasure_57 : decode cX7_readMeasure 57 = .ok (.ldc2_w 180, 3) := dk_20 0 180 (dk_at dksX7_readMeasure_2 11 rfl rfl)
theorem dX7_readMeasure_60 : decode cX7_readMeasure 60 = .ok (.invokevirtual 254, 3) := dk_182 0 254 (dk_at dksX7_readMeasure_2 14 rfl rfl)
theorem dX7_readMeasure_63 : decode cX7_readMeasure 63 = .ok (.istore_n 3, 1) := dk_62 (dk_at dksX7_readMeasure_2 17 rfl rfl)
theorem dX7_readMeasure_64 : decode cX7_readMeasure 64 = .ok (.iconst 0, 1) := dk_3 (dk_at dksX7_readMeasure_2 18 rfl rfl)
theorem dX7_readMeasure_65 : decode cX7_readMeasure 65 = .ok (.istore 4, 2) := dk_54 4 (dk_at dksX7_readMeasure_2 19 rfl rfl)
theorem dX7_readMeasure_67 : decode cX7_readMeasure 67 = .ok (.aload_n 0, 1) := dk_42 (dk_at dksX7_readMeasure_2 21 rfl rfl)
theorem dX7_readMeasure_68 : decode cX7_readMeasure 68 = .ok (.getfield 214, 3) := dk_180 0 214 (dk_at dksX7_readMeasure_3 0 rfl rfl)
theorem dX7_readMeasure_71 : decode cX7_readMeasure 71 = .ok (.ifCond .ne 63, 3) := dk_154 0 63 (dk_at dksX7_readMeasure_3 3 rfl rfl)
theorem dX7_readMeasure_74 : decode cX7_readMeasure 74 = .ok (.aload_n 0, 1) := dk_42 (dk_at dksX7_readMeasure_3 6 rfl rfl)
theorem dX7_readMeasure_75 : decode cX7_readMeasure 75 = .ok (.ldc2_w 287, 3) := dk_20 1 31 (dk_at dksX7_readMeasure_3 7 rfl rfl)
theorem dX7_readMeasure_78 : decode cX7_readMeasure 78 = .ok (.invokevirtual 260, 3) := dk_182 1 4 (dk_at dksX7_readMeasure_3 10 rfl rfl)
theorem dX7_readMeasure_81 : decode cX7_readMeasure 81 = .ok (.ifCond .eq 7, 3) := dk_153 0 7 (dk_at dksX7_readMeasure_3 13 rfl rfl)
theorem dX7_readMeasure_84 : decode cX7_readMeasure 84 = .ok (.iconst 1, 1) := dk_4 (dk_at dksX7_readMeasure_3 16 rfl rfl)
theorem dX7_readMeasure_85 : decode cX7_readMeasure 85 = .ok (.goto 18, 3) := dk_167 0 18 (dk_at dksX7_readMeasure_3 17 rfl rfl)
theorem dX7_readMeasure_88 : decode cX7_readMeasure 88 = .ok (.aload_n 0, 1) := dk_42 (dk_at dksX7_readMeasure_3 20 rfl rfl)
theorem dX7_readMeasure_89 : decode cX7_readMeasure 89 = .ok (.ldc2_w 289, 3) := dk_20 1 33 (dk_at dksX7_readMeasure_3 21 rfl rfl)
theorem dX7_readMeasure_92 : decode cX7_readMeasure 92 = .ok (.invokevirtual 260, 3) := dk_182 1 4 (dk_at dksX7_readMeasure_4 0 rfl rfl)
theorem dX7_readMeasure_95 : decode cX7_readMeasure 95 = .ok (.ifCond .eq 7, 3) := dk_153 0 7 (dk_at dksX7_readMeasure_4 3 rfl rfl)
theorem dX7_readMeasure_98 : decode cX7_readMeasure 98 = .ok (.iconst 2, 1) := dk_5 (dk_at dksX7_readMeasure_4 6 rfl rfl)
theorem dX7_readMeasure_99 : decode cX7_readMeasure 99 = .ok (.goto 4, 3) := dk_167 0 4 (dk_at dksX7_readMeasure_4 7 rfl rfl)
theorem dX7_readMeasure_102 : decode cX7_readMeasure 102 = .ok (.iconst 0, 1) := dk_3 (dk_at dksX7_readMeasure_4 10 rfl rfl)
theorem dX7_readMeasure_103 : decode cX7_readMeasure 103 = .ok (.istore 4, 2) := dk_54 4 (dk_at dksX7_readMeasure_4 11 rfl rfl)
theorem dX7_readMeasure_105 : decode cX7_readMeasure 105 = .ok (.iload 4, 2) := dk_21 4 (dk_at dksX7_readMeasure_4 13 rfl rfl)
theorem dX7_readMeasure_107 : decode cX7_readMeasure 107 = .ok (.ifCond .gt 13, 3) := dk_157 0 13 (dk_at dksX7_readMeasure_4 15 rfl rfl)
theorem dX7_readMeasure_110 : decode cX7_readMeasure 110 = .ok (.aload_n 0, 1) := dk_42 (dk_at dksX7_readMeasure_4 18 rfl rfl)
theorem dX7_readMeasure_111 : decode cX7_readMeasure 111 = .ok (.ldc2_w 291, 3) := dk_20 1 35 (dk_at dksX7_readMeasure_4 19 rfl rfl)
theorem dX7_readMeasure_114 : decode cX7_readMeasure 114 = .ok (.invokevirtual 260, 3) := dk_182 1 4 (dk_at dksX7_readMeasure_5 0 rfl rfl)
theorem dX7_readMeasure_117 : decode cX7_readMeasure 117 = .ok (.ifCond .eq 7, 3) := dk_153 0 7 (dk_at dksX7_readMeasure_5 3 rfl rfl)
theorem dX7_readMeasure_120 : decode cX7_readMeasure 120 = .ok (.aload_n 0, 1) := dk_42 (dk_at dksX7_readMeasure_5 6 rfl rfl)
theorem dX7_readMeasure_121 : decode cX7_readMeasure 121 = .ok (.invokevirtual 218, 3) := dk_182 0 218 (dk_at dksX7_readMeasure_5 7 rfl rfl)
theorem dX7_readMeasure_124 : decode cX7_readMeasure 124 = .ok (.aload_n 0, 1) := dk_42 (dk_at dksX7_readMeasure_5 10 rfl rfl)
theorem dX7_readMeasure_125 : decode cX7_readMeasure 125 = .ok (.dup, 1) := dk_89 (dk_at dksX7_readMeasure_5 11 rfl rfl)
theorem dX7_readMeasure_126 : decode cX7_readMeasure 126 = .ok (.getfield 282, 3) := dk_180 1 26 (dk_at dksX7_readMeasure_5 12 rfl rfl)
theorem dX7_readMeasure_129 : decode cX7_readMeasure 129 = .ok (.iconst 1, 1) := dk_4 (dk_at dksX7_readMeasure_5 15 rfl rfl)
theorem dX7_readMeasure_130 : decode cX7_readMeasure 130 = .ok (.iadd, 1) := dk_96 (dk_at dksX7_readMeasure_5 16 rfl rfl)
theorem dX7_readMeasure_131 : decode cX7_readMeasure 131 = .ok (.putfield 282, 3) := dk_181 1 26 (dk_at dksX7_readMeasure_5 17 rfl rfl)
theorem dX7_readMeasure_134 : decode cX7_readMeasure 134 = .ok (.aload_n 0, 1) := dk_42 (dk_at dksX7_readMeasure_5 20 rfl rfl)
theorem dX7_readMeasure_135 : decode cX7_readMeasure 135 = .ok (.iconst 3, 1) := dk_6 (dk_at dksX7_readMeasure_5 21 rfl rfl)
theorem dX7_readMeasure_136 : decode cX7_readMeasure 136 = .ok (.iload_n 1, 1) := dk_27 (dk_at dksX7_readMeasure_5 22 rfl rfl)
theorem dX7_readMeasure_137 : decode cX7_readMeasure 137 = .ok (.iload_n 2, 1) := dk_28 (dk_at dksX7_readMeasure_5 23 rfl rfl)
theorem dX7_readMeasure_138 : decode cX7_readMeasure 138 = .ok (.iload_n 3, 1) := dk_29 (dk_at dksX7_readMeasure_6 0 rfl rfl)
theorem dX7_readMeasure_139 : decode cX7_readMeasure 139 = .ok (.iload 4, 2) := dk_21 4 (dk_at dksX7_readMeasure_6 1 rfl rfl)
theorem dX7_readMeasure_141 : decode cX7_readMeasure 141 = .ok (.invokevirtual 268, 3) := dk_182 1 12 (dk_at dksX7_readMeasure_6 3 rfl rfl)
theorem dX7_readMeasure_144 : decode cX7_readMeasure 144 = .ok (.return_, 1) := dk_177 (dk_at dksX7_readMeasure_6 6 rfl rfl)
abbrev cX7_isSign : ByteArray := prog_16_method_36_code
def yX7_isSign : MethodName := ⟨RX7, "isSign", "(I)Z"⟩
def dkwX7_isSign_0 : List UInt8 := [42, 180, 0, 234, 6, 160, 0, 17, 42, 180, 0, 224, 27, 133, 148, 154, 0, 7, 4, 167, 0, 4, 3, 172]
abbrev dktX7_isSign_0 : List UInt8 := dkwX7_isSign_0 ++ []
theorem dksX7_isSign_0 : cX7_isSign.data.toList.drop 0 = dktX7_isSign_0 := by decide +kernel
theorem dX7_isSign_0 : decode cX7_isSign 0 = .ok (.aload_n 0, 1) := dk_42 (dk_at dksX7_isSign_0 0 rfl rfl)
theorem dX7_isSign_1 : decode cX7_isSign 1 = .ok (.getfield 234, 3) := dk_180 0 234 (dk_at dksX7_isSign_0 1 rfl rfl)
theorem dX7_isSign_4 : decode cX7_isSign 4 = .ok (.iconst 3, 1) := dk_6 (dk_at dksX7_isSign_0 4 rfl rfl)
theorem dX7_isSign_5 : decode cX7_isSign 5 = .ok (.if_icmp .ne 17, 3) := dk_160 0 17 (dk_at dksX7_isSign_0 5 rfl rfl)
theorem dX7_isSign_8 : decode cX7_isSign 8 = .ok (.aload_n 0, 1) := dk_42 (dk_at dksX7_isSign_0 8 rfl rfl)
theorem dX7_isSign_9 : decode cX7_isSign 9 = .ok (.getfield 224, 3) := dk_180 0 224 (dk_at dksX7_isSign_0 9 rfl rfl)
theorem dX7_isSign_12 : decode cX7_isSign 12 = .ok (.iload_n 1, 1) := dk_27 (dk_at dksX7_isSign_0 12 rfl rfl)
theorem dX7_isSign_13 : decode cX7_isSign 13 = .ok (.i2l, 1) := dk_133 (dk_at dksX7_isSign_0 13 rfl rfl)
theorem dX7_isSign_14 : decode cX7_isSign 14 = .ok (.lcmp, 1) := dk_148 (dk_at dksX7_isSign_0 14 rfl rfl)
theorem dX7_isSign_15 : decode cX7_isSign 15 = .ok (.ifCond .ne 7, 3) := dk_154 0 7 (dk_at dksX7_isSign_0 15 rfl rfl)
theorem dX7_isSign_18 : decode cX7_isSign 18 = .ok (.iconst 1, 1) := dk_4 (dk_at dksX7_isSign_0 18 rfl rfl)
theorem dX7_isSign_19 : decode cX7_isSign 19 = .ok (.goto 4, 3) := dk_167 0 4 (dk_at dksX7_isSign_0 19 rfl rfl)
theorem dX7_isSign_22 : decode cX7_isSign 22 = .ok (.iconst 0, 1) := dk_3 (dk_at dksX7_isSign_0 22 rfl rfl)
theorem dX7_isSign_23 : decode cX7_isSign 23 = .ok (.ireturn, 1) := dk_172 (dk_at dksX7_isSign_0 23 rfl rfl)
abbrev cX7_doAct : ByteArray := prog_16_method_48_code
def yX7_doAct : MethodName := ⟨RX7, "doAct", "(I)V"⟩
def dkwX7_doAct_6 : List UInt8 := [42, 180, 0, 30, 27, 6, 96, 46, 42, 180, 0, 30, 27, 7, 96, 46, 182, 0, 188, 177]
abbrev dktX7_doAct_6 : List UInt8 := dkwX7_doAct_6 ++ []
def dkwX7_doAct_5 : List UInt8 := [5, 96, 46, 79, 167, 0, 39, 42, 42, 180, 0, 30, 27, 4, 96, 46, 42, 180, 0, 30, 27, 5, 96, 46]
abbrev dktX7_doAct_5 : List UInt8 := dkwX7_doAct_5 ++ dktX7_doAct_6
def dkwX7_doAct_4 : List UInt8 := [5, 160, 0, 30, 42, 180, 0, 13, 16, 42, 42, 180, 0, 30, 27, 4, 96, 46, 96, 42, 180, 0, 30, 27]
abbrev dktX7_doAct_4 : List UInt8 := dkwX7_doAct_4 ++ dktX7_doAct_5
def dkwX7_doAct_3 : List UInt8 := [27, 4, 96, 46, 42, 180, 0, 30, 27, 5, 96, 46, 182, 0, 176, 167, 0, 76, 42, 180, 0, 30, 27, 46]
abbrev dktX7_doAct_3 : List UInt8 := dkwX7_doAct_3 ++ dktX7_doAct_4
def dkwX7_doAct_2 : List UInt8 := [132, 2, 1, 167, 255, 224, 167, 0, 109, 42, 180, 0, 30, 27, 46, 4, 160, 0, 26, 42, 42, 180, 0, 30]
abbrev dktX7_doAct_2 : List UInt8 := dkwX7_doAct_2 ++ dktX7_doAct_3
def dkwX7_doAct_1 : List UInt8 := [5, 96, 46, 163, 0, 26, 42, 180, 0, 13, 16, 10, 28, 96, 42, 180, 0, 30, 27, 6, 96, 46, 79]
abbrev dktX7_doAct_1 : List UInt8 := dkwX7_doAct_1 ++ dktX7_doAct_2
def dkwX7_doAct_0 : List UInt8 := [42, 180, 0, 30, 27, 46, 154, 0, 50, 42, 180, 0, 30, 27, 4, 96, 46, 61, 28, 42, 180, 0, 30, 27]
abbrev dktX7_doAct_0 : List UInt8 := dkwX7_doAct_0 ++ dktX7_doAct_1
theorem dksX7_doAct_0 : cX7_doAct.data.toList.drop 0 = dktX7_doAct_0 := by decide +kernel
theorem dksX7_doAct_1 : cX7_doAct.data.toList.drop 24 = dktX7_doAct_1 := dk_seg dksX7_doAct_0 24 rfl rfl
theorem dksX7_doAct_2 : cX7_doAct.data.toList.drop 47 = dktX7_doAct_2 := dk_seg dksX7_doAct_1 23 rfl rfl
theorem dksX7_doAct_3 : cX7_doAct.data.toList.drop 71 = dktX7_doAct_3 := dk_seg dksX7_doAct_2 24 rfl rfl
theorem dksX7_doAct_4 : cX7_doAct.data.toList.drop 95 = dktX7_doAct_4 := dk_seg dksX7_doAct_3 24 rfl rfl
theorem dksX7_doAct_5 : cX7_doAct.data.toList.drop 119 = dktX7_doAct_5 := dk_seg dksX7_doAct_4 24 rfl rfl
theorem dksX7_doAct_6 : cX7_doAct.data.toList.drop 143 = dktX7_doAct_6 := dk_seg dksX7_doAct_5 24 rfl rfl
theorem dX7_doAct_0 : decode cX7_doAct 0 = .ok (.aload_n 0, 1) := dk_42 (dk_at dksX7_doAct_0 0 rfl rfl)
theorem dX7_doAct_1 : decode cX7_doAct 1 = .ok (.getfield 30, 3) := dk_180 0 30 (dk_at dksX7_doAct_0 1 rfl rfl)
theorem dX7_doAct_4 : decode cX7_doAct 4 = .ok (.iload_n 1, 1) := dk_27 (dk_at dksX7_doAct_0 4 rfl rfl)
theorem dX7_doAct_5 : decode cX7_doAct 5 = .ok (.iaload, 1) := dk_46 (dk_at dksX7_doAct_0 5 rfl rfl)
theorem dX7_doAct_6 : decode cX7_doAct 6 = .ok (.ifCond .ne 50, 3) := dk_154 0 50 (dk_at dksX7_doAct_0 6 rfl rfl)
theorem dX7_doAct_9 : decode cX7_doAct 9 = .ok (.aload_n 0, 1) := dk_42 (dk_at dksX7_doAct_0 9 rfl rfl)
theorem dX7_doAct_10 : decode cX7_doAct 10 = .ok (.getfield 30, 3) := dk_180 0 30 (dk_at dksX7_doAct_0 10 rfl rfl)
theorem dX7_doAct_13 : decode cX7_doAct 13 = .ok (.iload_n 1, 1) := dk_27 (dk_at dksX7_doAct_0 13 rfl rfl)
theorem dX7_doAct_14 : decode cX7_doAct 14 = .ok (.iconst 1, 1) := dk_4 (dk_at dksX7_doAct_0 14 rfl rfl)
theorem dX7_doAct_15 : decode cX7_doAct 15 = .ok (.iadd, 1) := dk_96 (dk_at dksX7_doAct_0 15 rfl rfl)
theorem dX7_doAct_16 : decode cX7_doAct 16 = .ok (.iaload, 1) := dk_46 (dk_at dksX7_doAct_0 16 rfl rfl)
theorem dX7_doAct_17 : decode cX7_doAct 17 = .ok (.istore_n 2, 1) := dk_61 (dk_at dksX7_doAct_0 17 rfl rfl)
theorem dX7_doAct_18 : decode cX7_doAct 18 = .ok (.iload_n 2, 1) := dk_28 (dk_at dksX7_doAct_0 18 rfl rfl)
theorem dX7_doAct_19 : decode cX7_doAct 19 = .ok (.aload_n 0, 1) := dk_42 (dk_at dksX7_doAct_0 19 rfl rfl)
theorem dX7_doAct_20 : decode cX7_doAct 20 = .ok (.getfield 30, 3) := dk_180 0 30 (dk_at dksX7_doAct_0 20 rfl rfl)
theorem dX7_doAct_23 : decode cX7_doAct 23 = .ok (.iload_n 1, 1) := dk_27 (dk_at dksX7_doAct_0 23 rfl rfl)
theorem dX7_doAct_24 : decode cX7_doAct 24 = .ok (.iconst 2, 1) := dk_5 (dk_at dksX7_doAct_1 0 rfl rfl)
theorem dX7_doAct_25 : decode cX7_doAct 25 = .ok (.iadd, 1) := dk_96 (dk_at dksX7_doAct_1 1 rfl rfl)
theorem dX7_doAct_26 : decode cX7_doAct 26 = .ok (.iaload, 1) := dk_46 (dk_at dksX7_doAct_1 2 rfl rfl)
theorem dX7_doAct_27 : decode cX7_doAct 27 = .ok (.if_icmp .gt 26, 3) := dk_163 0 26 (dk_at dksX7_doAct_1 3 rfl rfl)
theorem dX7_doAct_30 : decode cX7_doAct 30 = .ok (.aload_n 0, 1) := dk_42 (dk_at dksX7_doAct_1 6 rfl rfl)
theorem dX7_doAct_31 : decode cX7_doAct 31 = .ok (.getfield 13, 3) := dk_180 0 13 (dk_at dksX7_doAct_1 7 rfl rfl)
theorem dX7_doAct_34 : decode cX7_doAct 34 = .ok (.bipush 10, 2) := dk_16 10 (dk_at dksX7_doAct_1 10 rfl rfl)
theorem dX7_doAct_36 : decode cX7_doAct 36 = .ok (.iload_n 2, 1) := dk_28 (dk_at dksX7_doAct_1 12 rfl rfl)
theorem dX7_doAct_37 : decode cX7_doAct 37 = .ok (.iadd, 1) := dk_96 (dk_at dksX7_doAct_1 13 rfl rfl)
theorem dX7_doAct_38 : decode cX7_doAct 38 = .ok (.aload_n 0, 1) := dk_42 (dk_at dksX7_doAct_1 14 rfl rfl)
theorem dX7_doAct_39 : decode cX7_doAct 39 = .ok (.getfield 30, 3) := dk_180 0 30 (dk_at dksX7_doAct_1 15 rfl rfl)
theorem dX7_doAct_42 : decode cX7_doAct 42 = .ok (.iload_n 1, 1) := dk_27 (dk_at dksX7_doAct_1 18 rfl rfl)
theorem dX7_doAct_43 : decode cX7_doAct 43 = .ok (.iconst 3, 1) := dk_6 (dk_at dksX7_doAct_1 19 rfl rfl)
theorem dX7_doAct_44 : decode cX7_doAct 44 = .ok (.iadd, 1) := dk_96 (dk_at dksX7_doAct_1 20 rfl rfl)
theorem dX7_doAct_45 : decode cX7_doAct 45 = .ok (.iaload, 1) := dk_46 (dk_at dksX7_doAct_1 21 rfl rfl)
theorem dX7_doAct_46 : decode cX7_doAct 46 = .ok (.iastore, 1) := dk_79 (dk_at dksX7_doAct_1 22 rfl rfl)
theorem dX7_doAct_47 : decode cX7_doAct 47 = .ok (.iinc 2 1, 3) := dk_132 2 1 (dk_at dksX7_doAct_2 0 rfl rfl)
theorem dX7_doAct_50 : decode cX7_doAct 50 = .ok (.goto (-32), 3) := dk_167 255 224 (dk_at dksX7_doAct_2 3 rfl rfl)
theorem dX7_doAct_53 : decode cX7_doAct 53 = .ok (.goto 109, 3) := dk_167 0 109 (dk_at dksX7_doAct_2 6 rfl rfl)
theorem dX7_doAct_56 : decode cX7_doAct 56 = .ok (.aload_n 0, 1) := dk_42 (dk_at dksX7_doAct_2 9 rfl rfl)
theorem dX7_doAct_57 : decode cX7_doAct 57 = .ok (.getfield 30, 3) := dk_180 0 30 (dk_at dksX7_doAct_2 10 rfl rfl)
theorem dX7_doAct_60 : decode cX7_doAct 60 = .ok (.iload_n 1, 1) := dk_27 (dk_at dksX7_doAct_2 13 rfl rfl)
theorem dX7_doAct_61 : decode cX7_doAct 61 = .ok (.iaload, 1) := dk_46 (dk_at dksX7_doAct_2 14 rfl rfl)
theorem dX7_doAct_62 : decode cX7_doAct 62 = .ok (.iconst 1, 1) := dk_4 (dk_at dksX7_doAct_2 15 rfl rfl)
theorem dX7_doAct_63 : decode cX7_doAct 63 = .ok (.if_icmp .ne 26, 3) := dk_160 0 26 (dk_at dksX7_doAct_2 16 rfl rfl)
theorem dX7_doAct_66 : decode cX7_doAct 66 = .ok (.aload_n 0, 1) := dk_42 (dk_at dksX7_doAct_2 19 rfl rfl)
theorem dX7_doAct_67 : decode cX7_doAct 67 = .ok (.aload_n 0, 1) := dk_42 (dk_at dksX7_doAct_2 20 rfl rfl)
theorem dX7_doAct_68 : decode cX7_doAct 68 = .ok (.getfield 30, 3) := dk_180 0 30 (dk_at dksX7_doAct_2 21 rfl rfl)
theorem dX7_doAct_71 : decode cX7_doAct 71 = .ok (.iload_n 1, 1) := dk_27 (dk_at dksX7_doAct_3 0 rfl rfl)
theorem dX7_doAct_72 : decode cX7_doAct 72 = .ok (.iconst 1, 1) := dk_4 (dk_at dksX7_doAct_3 1 rfl rfl)
theorem dX7_doAct_73 : decode cX7_doAct 73 = .ok (.iadd, 1) := dk_96 (dk_at dksX7_doAct_3 2 rfl rfl)
theorem dX7_doAct_74 : decode cX7_doAct 74 = .ok (.iaload, 1) := dk_46 (dk_at dksX7_doAct_3 3 rfl rfl)
theorem dX7_doAct_75 : decode cX7_doAct 75 = .ok (.aload_n 0, 1) := dk_42 (dk_at dksX7_doAct_3 4 rfl rfl)
theorem dX7_doAct_76 : decode cX7_doAct 76 = .ok (.getfield 30, 3) := dk_180 0 30 (dk_at dksX7_doAct_3 5 rfl rfl)
theorem dX7_doAct_79 : decode cX7_doAct 79 = .ok (.iload_n 1, 1) := dk_27 (dk_at dksX7_doAct_3 8 rfl rfl)
theorem dX7_doAct_80 : decode cX7_doAct 80 = .ok (.iconst 2, 1) := dk_5 (dk_at dksX7_doAct_3 9 rfl rfl)
theorem dX7_doAct_81 : decode cX7_doAct 81 = .ok (.iadd, 1) := dk_96 (dk_at dksX7_doAct_3 10 rfl rfl)
theorem dX7_doAct_82 : decode cX7_doAct 82 = .ok (.iaload, 1) := dk_46 (dk_at dksX7_doAct_3 11 rfl rfl)
theorem dX7_doAct_83 : decode cX7_doAct 83 = .ok (.invokevirtual 176, 3) := dk_182 0 176 (dk_at dksX7_doAct_3 12 rfl rfl)
theorem dX7_doAct_86 : decode cX7_doAct 86 = .ok (.goto 76, 3) := dk_167 0 76 (dk_at dksX7_doAct_3 15 rfl rfl)
theorem dX7_doAct_89 : decode cX7_doAct 89 = .ok (.aload_n 0, 1) := dk_42 (dk_at dksX7_doAct_3 18 rfl rfl)
theorem dX7_doAct_90 : decode cX7_doAct 90 = .ok (.getfield 30, 3) := dk_180 0 30 (dk_at dksX7_doAct_3 19 rfl rfl)
theorem dX7_doAct_93 : decode cX7_doAct 93 = .ok (.iload_n 1, 1) := dk_27 (dk_at dksX7_doAct_3 22 rfl rfl)
theorem dX7_doAct_94 : decode cX7_doAct 94 = .ok (.iaload, 1) := dk_46 (dk_at dksX7_doAct_3 23 rfl rfl)
theorem dX7_doAct_95 : decode cX7_doAct 95 = .ok (.iconst 2, 1) := dk_5 (dk_at dksX7_doAct_4 0 rfl rfl)
theorem dX7_doAct_96 : decode cX7_doAct 96 = .ok (.if_icmp .ne 30, 3) := dk_160 0 30 (dk_at dksX7_doAct_4 1 rfl rfl)
theorem dX7_doAct_99 : decode cX7_doAct 99 = .ok (.aload_n 0, 1) := dk_42 (dk_at dksX7_doAct_4 4 rfl rfl)
theorem dX7_doAct_100 : decode cX7_doAct 100 = .ok (.getfield 13, 3) := dk_180 0 13 (dk_at dksX7_doAct_4 5 rfl rfl)
theorem dX7_doAct_103 : decode cX7_doAct 103 = .ok (.bipush 42, 2) := dk_16 42 (dk_at dksX7_doAct_4 8 rfl rfl)
theorem dX7_doAct_105 : decode cX7_doAct 105 = .ok (.aload_n 0, 1) := dk_42 (dk_at dksX7_doAct_4 10 rfl rfl)
theorem dX7_doAct_106 : decode cX7_doAct 106 = .ok (.getfield 30, 3) := dk_180 0 30 (dk_at dksX7_doAct_4 11 rfl rfl)
theorem dX7_doAct_109 : decode cX7_doAct 109 = .ok (.iload_n 1, 1) := dk_27 (dk_at dksX7_doAct_4 14 rfl rfl)
theorem dX7_doAct_110 : decode cX7_doAct 110 = .ok (.iconst 1, 1) := dk_4 (dk_at dksX7_doAct_4 15 rfl rfl)
theorem dX7_doAct_111 : decode cX7_doAct 111 = .ok (.iadd, 1) := dk_96 (dk_at dksX7_doAct_4 16 rfl rfl)
theorem dX7_doAct_112 : decode cX7_doAct 112 = .ok (.iaload, 1) := dk_46 (dk_at dksX7_doAct_4 17 rfl rfl)
theorem dX7_doAct_113 : decode cX7_doAct 113 = .ok (.iadd, 1) := dk_96 (dk_at dksX7_doAct_4 18 rfl rfl)
theorem dX7_doAct_114 : decode cX7_doAct 114 = .ok (.aload_n 0, 1) := dk_42 (dk_at dksX7_doAct_4 19 rfl rfl)
theorem dX7_doAct_115 : decode cX7_doAct 115 = .ok (.getfield 30, 3) := dk_180 0 30 (dk_at dksX7_doAct_4 20 rfl rfl)
theorem dX7_doAct_118 : decode cX7_doAct 118 = .ok (.iload_n 1, 1) := dk_27 (dk_at dksX7_doAct_4 23 rfl rfl)
theorem dX7_doAct_119 : decode cX7_doAct 119 = .ok (.iconst 2, 1) := dk_5 (dk_at dksX7_doAct_5 0 rfl rfl)
theorem dX7_doAct_120 : decode cX7_doAct 120 = .ok (.iadd, 1) := dk_96 (dk_at dksX7_doAct_5 1 rfl rfl)
theorem dX7_doAct_121 : decode cX7_doAct 121 = .ok (.iaload, 1) := dk_46 (dk_at dksX7_doAct_5 2 rfl rfl)
theorem dX7_doAct_122 : decode cX7_doAct 122 = .ok (.iastore, 1) := dk_79 (dk_at dksX7_doAct_5 3 rfl rfl)
theorem dX7_doAct_123 : decode cX7_doAct 123 = .ok (.goto 39, 3) := dk_167 0 39 (dk_at dksX7_doAct_5 4 rfl rfl)
theorem dX7_doAct_126 : decode cX7_doAct 126 = .ok (.aload_n 0, 1) := dk_42 (dk_at dksX7_doAct_5 7 rfl rfl)
theorem dX7_doAct_127 : decode cX7_doAct 127 = .ok (.aload_n 0, 1) := dk_42 (dk_at dksX7_doAct_5 8 rfl rfl)
theorem dX7_doAct_128 : decode cX7_doAct 128 = .ok (.getfield 30, 3) := dk_180 0 30 (dk_at dksX7_doAct_5 9 rfl rfl)
theorem dX7_doAct_131 : decode cX7_doAct 131 = .ok (.iload_n 1, 1) := dk_27 (dk_at dksX7_doAct_5 12 rfl rfl)
theorem dX7_doAct_132 : decode cX7_doAct 132 = .ok (.iconst 1, 1) := dk_4 (dk_at dksX7_doAct_5 13 rfl rfl)
theorem dX7_doAct_133 : decode cX7_doAct 133 = .ok (.iadd, 1) := dk_96 (dk_at dksX7_doAct_5 14 rfl rfl)
theorem dX7_doAct_134 : decode cX7_doAct 134 = .ok (.iaload, 1) := dk_46 (dk_at dksX7_doAct_5 15 rfl rfl)
theorem dX7_doAct_135 : decode cX7_doAct 135 = .ok (.aload_n 0, 1) := dk_42 (dk_at dksX7_doAct_5 16 rfl rfl)
theorem dX7_doAct_136 : decode cX7_doAct 136 = .ok (.getfield 30, 3) := dk_180 0 30 (dk_at dksX7_doAct_5 17 rfl rfl)
theorem dX7_doAct_139 : decode cX7_doAct 139 = .ok (.iload_n 1, 1) := dk_27 (dk_at dksX7_doAct_5 20 rfl rfl)
theorem dX7_doAct_140 : decode cX7_doAct 140 = .ok (.iconst 2, 1) := dk_5 (dk_at dksX7_doAct_5 21 rfl rfl)
theorem dX7_doAct_141 : decode cX7_doAct 141 = .ok (.iadd, 1) := dk_96 (dk_at dksX7_doAct_5 22 rfl rfl)
theorem dX7_doAct_142 : decode cX7_doAct 142 = .ok (.iaload, 1) := dk_46 (dk_at dksX7_doAct_5 23 rfl rfl)
theorem dX7_doAct_143 : decode cX7_doAct 143 = .ok (.aload_n 0, 1) := dk_42 (dk_at dksX7_doAct_6 0 rfl rfl)
theorem dX7_doAct_144 : decode cX7_doAct 144 = .ok (.getfield 30, 3) := dk_180 0 30 (dk_at dksX7_doAct_6 1 rfl rfl)
theorem dX7_doAct_147 : decode cX7_doAct 147 = .ok (.iload_n 1, 1) := dk_27 (dk_at dksX7_doAct_6 4 rfl rfl)
theorem dX7_doAct_148 : decode cX7_doAct 148 = .ok (.iconst 3, 1) := dk_6 (dk_at dksX7_doAct_6 5 rfl rfl)
theorem dX7_doAct_149 : decode cX7_doAct 149 = .ok (.iadd, 1) := dk_96 (dk_at dksX7_doAct_6 6 rfl rfl)
theorem dX7_doAct_150 : decode cX7_doAct 150 = .ok (.iaload, 1) := dk_46 (dk_at dksX7_doAct_6 7 rfl rfl)
theorem dX7_doAct_151 : decode cX7_doAct 151 = .ok (.aload_n 0, 1) := dk_42 (dk_at dksX7_doAct_6 8 rfl rfl)
theorem dX7_doAct_152 : decode cX7_doAct 152 = .ok (.getfield 30, 3) := dk_180 0 30 (dk_at dksX7_doAct_6 9 rfl rfl)
theorem dX7_doAct_155 : decode cX7_doAct 155 = .ok (.iload_n 1, 1) := dk_27 (dk_at dksX7_doAct_6 12 rfl rfl)
theorem dX7_doAct_156 : decode cX7_doAct 156 = .ok (.iconst 4, 1) := dk_7 (dk_at dksX7_doAct_6 13 rfl rfl)
theorem dX7_doAct_157 : decode cX7_doAct 157 = .ok (.iadd, 1) := dk_96 (dk_at dksX7_doAct_6 14 rfl rfl)
theorem dX7_doAct_158 : decode cX7_doAct 158 = .ok (.iaload, 1) := dk_46 (dk_at dksX7_doAct_6 15 rfl rfl)
theorem dX7_doAct_159 : decode cX7_doAct 159 = .ok (.invokevirtual 188, 3) := dk_182 0 188 (dk_at dksX7_doAct_6 16 rfl rfl)
theorem dX7_doAct_162 : decode cX7_doAct 162 = .ok (.return_, 1) := dk_177 (dk_at dksX7_doAct_6 19 rfl rfl)
abbrev cX7_fits : ByteArray := prog_16_method_62_code
def yX7_fits : MethodName := ⟨RX7, "fits", "()I"⟩
def dkwX7_fits_0 : List UInt8 := [42, 3, 181, 0, 133, 42, 182, 1, 121, 153, 0, 7, 4, 167, 0, 4, 3, 172]
abbrev dktX7_fits_0 : List UInt8 := dkwX7_fits_0 ++ []
theorem dksX7_fits_0 : cX7_fits.data.toList.drop 0 = dktX7_fits_0 := by decide +kernel
theorem dX7_fits_0 : decode cX7_fits 0 = .ok (.aload_n 0, 1) := dk_42 (dk_at dksX7_fits_0 0 rfl rfl)
theorem dX7_fits_1 : decode cX7_fits 1 = .ok (.iconst 0, 1) := dk_3 (dk_at dksX7_fits_0 1 rfl rfl)
theorem dX7_fits_2 : decode cX7_fits 2 = .ok (.putfield 133, 3) := dk_181 0 133 (dk_at dksX7_fits_0 2 rfl rfl)
theorem dX7_fits_5 : decode cX7_fits 5 = .ok (.aload_n 0, 1) := dk_42 (dk_at dksX7_fits_0 5 rfl rfl)
theorem dX7_fits_6 : decode cX7_fits 6 = .ok (.invokevirtual 377, 3) := dk_182 1 121 (dk_at dksX7_fits_0 6 rfl rfl)
theorem dX7_fits_9 : decode cX7_fits 9 = .ok (.ifCond .eq 7, 3) := dk_153 0 7 (dk_at dksX7_fits_0 9 rfl rfl)
theorem dX7_fits_12 : decode cX7_fits 12 = .ok (.iconst 1, 1) := dk_4 (dk_at dksX7_fits_0 12 rfl rfl)
theorem dX7_fits_13 : decode cX7_fits 13 = .ok (.goto 4, 3) := dk_167 0 4 (dk_at dksX7_fits_0 13 rfl rfl)
theorem dX7_fits_16 : decode cX7_fits 16 = .ok (.iconst 0, 1) := dk_3 (dk_at dksX7_fits_0 16 rfl rfl)
theorem dX7_fits_17 : decode cX7_fits 17 = .ok (.ireturn, 1) := dk_172 (dk_at dksX7_fits_0 17 rfl rfl)
abbrev cX7_canBeNow : ByteArray := prog_16_method_61_code
def yX7_canBeNow : MethodName := ⟨RX7, "canBeNow", "()Z"⟩
def dkwX7_canBeNow_0 : List UInt8 := [42, 182, 1, 111, 42, 42, 182, 1, 114, 182, 1, 118, 172]
abbrev dktX7_canBeNow_0 : List UInt8 := dkwX7_canBeNow_0 ++ []
theorem dksX7_canBeNow_0 : cX7_canBeNow.data.toList.drop 0 = dktX7_canBeNow_0 := by decide +kernel
theorem dX7_canBeNow_0 : decode cX7_canBeNow 0 = .ok (.aload_n 0, 1) := dk_42 (dk_at dksX7_canBeNow_0 0 rfl rfl)
theorem dX7_canBeNow_1 : decode cX7_canBeNow 1 = .ok (.invokevirtual 367, 3) := dk_182 1 111 (dk_at dksX7_canBeNow_0 1 rfl rfl)
theorem dX7_canBeNow_4 : decode cX7_canBeNow 4 = .ok (.aload_n 0, 1) := dk_42 (dk_at dksX7_canBeNow_0 4 rfl rfl)
theorem dX7_canBeNow_5 : decode cX7_canBeNow 5 = .ok (.aload_n 0, 1) := dk_42 (dk_at dksX7_canBeNow_0 5 rfl rfl)
theorem dX7_canBeNow_6 : decode cX7_canBeNow 6 = .ok (.invokevirtual 370, 3) := dk_182 1 114 (dk_at dksX7_canBeNow_0 6 rfl rfl)
theorem dX7_canBeNow_9 : decode cX7_canBeNow 9 = .ok (.invokevirtual 374, 3) := dk_182 1 118 (dk_at dksX7_canBeNow_0 9 rfl rfl)
theorem dX7_canBeNow_12 : decode cX7_canBeNow 12 = .ok (.ireturn, 1) := dk_172 (dk_at dksX7_canBeNow_0 12 rfl rfl)
abbrev cX7_asIs : ByteArray := prog_16_method_52_code
def yX7_asIs : MethodName := ⟨RX7, "asIs", "()V"⟩
def dkwX7_asIs_2 : List UInt8 := [16, 42, 27, 96, 46, 79, 132, 1, 1, 167, 255, 232, 177]
abbrev dktX7_asIs_2 : List UInt8 := dkwX7_asIs_2 ++ []
def dkwX7_asIs_1 : List UInt8 := [132, 1, 1, 167, 255, 232, 3, 60, 27, 16, 6, 162, 0, 24, 42, 180, 0, 58, 27, 42, 180, 0, 13]
abbrev dktX7_asIs_1 : List UInt8 := dkwX7_asIs_1 ++ dktX7_asIs_2
def dkwX7_asIs_0 : List UInt8 := [3, 60, 27, 16, 32, 162, 0, 24, 42, 180, 0, 55, 27, 42, 180, 0, 13, 16, 10, 27, 96, 46, 79]
abbrev dktX7_asIs_0 : List UInt8 := dkwX7_asIs_0 ++ dktX7_asIs_1
theorem dksX7_asIs_0 : cX7_asIs.data.toList.drop 0 = dktX7_asIs_0 := by decide +kernel
theorem dksX7_asIs_1 : cX7_asIs.data.toList.drop 23 = dktX7_asIs_1 := dk_seg dksX7_asIs_0 23 rfl rfl
theorem dksX7_asIs_2 : cX7_asIs.data.toList.drop 46 = dktX7_asIs_2 := dk_seg dksX7_asIs_1 23 rfl rfl
theorem dX7_asIs_0 : decode cX7_asIs 0 = .ok (.iconst 0, 1) := dk_3 (dk_at dksX7_asIs_0 0 rfl rfl)
theorem dX7_asIs_1 : decode cX7_asIs 1 = .ok (.istore_n 1, 1) := dk_60 (dk_at dksX7_asIs_0 1 rfl rfl)
theorem dX7_asIs_2 : decode cX7_asIs 2 = .ok (.iload_n 1, 1) := dk_27 (dk_at dksX7_asIs_0 2 rfl rfl)
theorem dX7_asIs_3 : decode cX7_asIs 3 = .ok (.bipush 32, 2) := dk_16 32 (dk_at dksX7_asIs_0 3 rfl rfl)
theorem dX7_asIs_5 : decode cX7_asIs 5 = .ok (.if_icmp .ge 24, 3) := dk_162 0 24 (dk_at dksX7_asIs_0 5 rfl rfl)
theorem dX7_asIs_8 : decode cX7_asIs 8 = .ok (.aload_n 0, 1) := dk_42 (dk_at dksX7_asIs_0 8 rfl rfl)
theorem dX7_asIs_9 : decode cX7_asIs 9 = .ok (.getfield 55, 3) := dk_180 0 55 (dk_at dksX7_asIs_0 9 rfl rfl)
theorem dX7_asIs_12 : decode cX7_asIs 12 = .ok (.iload_n 1, 1) := dk_27 (dk_at dksX7_asIs_0 12 rfl rfl)
theorem dX7_asIs_13 : decode cX7_asIs 13 = .ok (.aload_n 0, 1) := dk_42 (dk_at dksX7_asIs_0 13 rfl rfl)
theorem dX7_asIs_14 : decode cX7_asIs 14 = .ok (.getfield 13, 3) := dk_180 0 13 (dk_at dksX7_asIs_0 14 rfl rfl)
theorem dX7_asIs_17 : decode cX7_asIs 17 = .ok (.bipush 10, 2) := dk_16 10 (dk_at dksX7_asIs_0 17 rfl rfl)
theorem dX7_asIs_19 : decode cX7_asIs 19 = .ok (.iload_n 1, 1) := dk_27 (dk_at dksX7_asIs_0 19 rfl rfl)
theorem dX7_asIs_20 : decode cX7_asIs 20 = .ok (.iadd, 1) := dk_96 (dk_at dksX7_asIs_0 20 rfl rfl)
theorem dX7_asIs_21 : decode cX7_asIs 21 = .ok (.iaload, 1) := dk_46 (dk_at dksX7_asIs_0 21 rfl rfl)
theorem dX7_asIs_22 : decode cX7_asIs 22 = .ok (.iastore, 1) := dk_79 (dk_at dksX7_asIs_0 22 rfl rfl)
theorem dX7_asIs_23 : decode cX7_asIs 23 = .ok (.iinc 1 1, 3) := dk_132 1 1 (dk_at dksX7_asIs_1 0 rfl rfl)
theorem dX7_asIs_26 : decode cX7_asIs 26 = .ok (.goto (-24), 3) := dk_167 255 232 (dk_at dksX7_asIs_1 3 rfl rfl)
theorem dX7_asIs_29 : decode cX7_asIs 29 = .ok (.iconst 0, 1) := dk_3 (dk_at dksX7_asIs_1 6 rfl rfl)
theorem dX7_asIs_30 : decode cX7_asIs 30 = .ok (.istore_n 1, 1) := dk_60 (dk_at dksX7_asIs_1 7 rfl rfl)
theorem dX7_asIs_31 : decode cX7_asIs 31 = .ok (.iload_n 1, 1) := dk_27 (dk_at dksX7_asIs_1 8 rfl rfl)
theorem dX7_asIs_32 : decode cX7_asIs 32 = .ok (.bipush 6, 2) := dk_16 6 (dk_at dksX7_asIs_1 9 rfl rfl)
theorem dX7_asIs_34 : decode cX7_asIs 34 = .ok (.if_icmp .ge 24, 3) := dk_162 0 24 (dk_at dksX7_asIs_1 11 rfl rfl)
theorem dX7_asIs_37 : decode cX7_asIs 37 = .ok (.aload_n 0, 1) := dk_42 (dk_at dksX7_asIs_1 14 rfl rfl)
theorem dX7_asIs_38 : decode cX7_asIs 38 = .ok (.getfield 58, 3) := dk_180 0 58 (dk_at dksX7_asIs_1 15 rfl rfl)
theorem dX7_asIs_41 : decode cX7_asIs 41 = .ok (.iload_n 1, 1) := dk_27 (dk_at dksX7_asIs_1 18 rfl rfl)
theorem dX7_asIs_42 : decode cX7_asIs 42 = .ok (.aload_n 0, 1) := dk_42 (dk_at dksX7_asIs_1 19 rfl rfl)
theorem dX7_asIs_43 : decode cX7_asIs 43 = .ok (.getfield 13, 3) := dk_180 0 13 (dk_at dksX7_asIs_1 20 rfl rfl)
theorem dX7_asIs_46 : decode cX7_asIs 46 = .ok (.bipush 42, 2) := dk_16 42 (dk_at dksX7_asIs_2 0 rfl rfl)
theorem dX7_asIs_48 : decode cX7_asIs 48 = .ok (.iload_n 1, 1) := dk_27 (dk_at dksX7_asIs_2 2 rfl rfl)
theorem dX7_asIs_49 : decode cX7_asIs 49 = .ok (.iadd, 1) := dk_96 (dk_at dksX7_asIs_2 3 rfl rfl)
theorem dX7_asIs_50 : decode cX7_asIs 50 = .ok (.iaload, 1) := dk_46 (dk_at dksX7_asIs_2 4 rfl rfl)
theorem dX7_asIs_51 : decode cX7_asIs 51 = .ok (.iastore, 1) := dk_79 (dk_at dksX7_asIs_2 5 rfl rfl)
theorem dX7_asIs_52 : decode cX7_asIs 52 = .ok (.iinc 1 1, 3) := dk_132 1 1 (dk_at dksX7_asIs_2 6 rfl rfl)
theorem dX7_asIs_55 : decode cX7_asIs 55 = .ok (.goto (-24), 3) := dk_167 255 232 (dk_at dksX7_asIs_2 9 rfl rfl)
theorem dX7_asIs_58 : decode cX7_asIs 58 = .ok (.return_, 1) := dk_177 (dk_at dksX7_asIs_2 12 rfl rfl)
abbrev cX7_counting : ByteArray := prog_16_method_54_code
def yX7_counting : MethodName := ⟨RX7, "counting", "()I"⟩
def dkwX7_counting_1 : List UInt8 := [160, 0, 9, 4, 28, 120, 167, 0, 4, 3, 128, 60, 132, 2, 1, 167, 255, 223, 27, 172]
abbrev dktX7_counting_1 : List UInt8 := dkwX7_counting_1 ++ []
def dkwX7_counting_0 : List UInt8 := [3, 60, 3, 61, 28, 42, 180, 0, 13, 3, 46, 162, 0, 29, 27, 42, 28, 7, 182, 0, 195, 4]
abbrev dktX7_counting_0 : List UInt8 := dkwX7_counting_0 ++ dktX7_counting_1
theorem dksX7_counting_0 : cX7_counting.data.toList.drop 0 = dktX7_counting_0 := by decide +kernel
theorem dksX7_counting_1 : cX7_counting.data.toList.drop 22 = dktX7_counting_1 := dk_seg dksX7_counting_0 22 rfl rfl
theorem dX7_counting_0 : decode cX7_counting 0 = .ok (.iconst 0, 1) := dk_3 (dk_at dksX7_counting_0 0 rfl rfl)
theorem dX7_counting_1 : decode cX7_counting 1 = .ok (.istore_n 1, 1) := dk_60 (dk_at dksX7_counting_0 1 rfl rfl)
theorem dX7_counting_2 : decode cX7_counting 2 = .ok (.iconst 0, 1) := dk_3 (dk_at dksX7_counting_0 2 rfl rfl)
theorem dX7_counting_3 : decode cX7_counting 3 = .ok (.istore_n 2, 1) := dk_61 (dk_at dksX7_counting_0 3 rfl rfl)
theorem dX7_counting_4 : decode cX7_counting 4 = .ok (.iload_n 2, 1) := dk_28 (dk_at dksX7_counting_0 4 rfl rfl)
theorem dX7_counting_5 : decode cX7_counting 5 = .ok (.aload_n 0, 1) := dk_42 (dk_at dksX7_counting_0 5 rfl rfl)
theorem dX7_counting_6 : decode cX7_counting 6 = .ok (.getfield 13, 3) := dk_180 0 13 (dk_at dksX7_counting_0 6 rfl rfl)
theorem dX7_counting_9 : decode cX7_counting 9 = .ok (.iconst 0, 1) := dk_3 (dk_at dksX7_counting_0 9 rfl rfl)
theorem dX7_counting_10 : decode cX7_counting 10 = .ok (.iaload, 1) := dk_46 (dk_at dksX7_counting_0 10 rfl rfl)
theorem dX7_counting_11 : decode cX7_counting 11 = .ok (.if_icmp .ge 29, 3) := dk_162 0 29 (dk_at dksX7_counting_0 11 rfl rfl)
theorem dX7_counting_14 : decode cX7_counting 14 = .ok (.iload_n 1, 1) := dk_27 (dk_at dksX7_counting_0 14 rfl rfl)
theorem dX7_counting_15 : decode cX7_counting 15 = .ok (.aload_n 0, 1) := dk_42 (dk_at dksX7_counting_0 15 rfl rfl)
theorem dX7_counting_16 : decode cX7_counting 16 = .ok (.iload_n 2, 1) := dk_28 (dk_at dksX7_counting_0 16 rfl rfl)
theorem dX7_counting_17 : decode cX7_counting 17 = .ok (.iconst 4, 1) := dk_7 (dk_at dksX7_counting_0 17 rfl rfl)
theorem dX7_counting_18 : decode cX7_counting 18 = .ok (.invokevirtual 195, 3) := dk_182 0 195 (dk_at dksX7_counting_0 18 rfl rfl)
theorem dX7_counting_21 : decode cX7_counting 21 = .ok (.iconst 1, 1) := dk_4 (dk_at dksX7_counting_0 21 rfl rfl)
theorem dX7_counting_22 : decode cX7_counting 22 = .ok (.if_icmp .ne 9, 3) := dk_160 0 9 (dk_at dksX7_counting_1 0 rfl rfl)
theorem dX7_counting_25 : decode cX7_counting 25 = .ok (.iconst 1, 1) := dk_4 (dk_at dksX7_counting_1 3 rfl rfl)
theorem dX7_counting_26 : decode cX7_counting 26 = .ok (.iload_n 2, 1) := dk_28 (dk_at dksX7_counting_1 4 rfl rfl)
theorem dX7_counting_27 : decode cX7_counting 27 = .ok (.ishl, 1) := dk_120 (dk_at dksX7_counting_1 5 rfl rfl)
theorem dX7_counting_28 : decode cX7_counting 28 = .ok (.goto 4, 3) := dk_167 0 4 (dk_at dksX7_counting_1 6 rfl rfl)
theorem dX7_counting_31 : decode cX7_counting 31 = .ok (.iconst 0, 1) := dk_3 (dk_at dksX7_counting_1 9 rfl rfl)
theorem dX7_counting_32 : decode cX7_counting 32 = .ok (.ior, 1) := dk_128 (dk_at dksX7_counting_1 10 rfl rfl)
theorem dX7_counting_33 : decode cX7_counting 33 = .ok (.istore_n 1, 1) := dk_60 (dk_at dksX7_counting_1 11 rfl rfl)
theorem dX7_counting_34 : decode cX7_counting 34 = .ok (.iinc 2 1, 3) := dk_132 2 1 (dk_at dksX7_counting_1 12 rfl rfl)
theorem dX7_counting_37 : decode cX7_counting 37 = .ok (.goto (-33), 3) := dk_167 255 223 (dk_at dksX7_counting_1 15 rfl rfl)
theorem dX7_counting_40 : decode cX7_counting 40 = .ok (.iload_n 1, 1) := dk_27 (dk_at dksX7_counting_1 18 rfl rfl)
theorem dX7_counting_41 : decode cX7_counting 41 = .ok (.ireturn, 1) := dk_172 (dk_at dksX7_counting_1 19 rfl rfl)
abbrev cX7_canBe : ByteArray := prog_16_method_59_code
def yX7_canBe : MethodName := ⟨RX7, "canBe", "(I)Z"⟩
def dkwX7_canBe_13 : List UInt8 := [46, 96, 51, 153, 0, 5, 3, 172, 132, 3, 1, 167, 255, 202, 4, 172]
abbrev dktX7_canBe_13 : List UInt8 := dkwX7_canBe_13 ++ []
def dkwX7_canBe_12 : List UInt8 := [182, 1, 108, 153, 0, 29, 42, 180, 0, 91, 16, 16, 42, 180, 0, 43, 29, 46, 104, 42, 180, 0, 40, 29]
abbrev dktX7_canBe_12 : List UInt8 := dkwX7_canBe_12 ++ dktX7_canBe_13
def dkwX7_canBe_11 : List UInt8 := [167, 255, 151, 3, 62, 29, 42, 180, 1, 77, 162, 0, 52, 42, 180, 0, 52, 29, 51, 153, 0, 37, 42, 29]
abbrev dktX7_canBe_11 : List UInt8 := dkwX7_canBe_11 ++ dktX7_canBe_12
def dkwX7_canBe_10 : List UInt8 := [153, 0, 7, 4, 167, 0, 4, 3, 84, 132, 5, 1, 167, 255, 182, 132, 4, 1, 167, 255, 166, 132, 3, 1]
abbrev dktX7_canBe_10 : List UInt8 := dkwX7_canBe_10 ++ dktX7_canBe_11
def dkwX7_canBe_9 : List UInt8 := [16, 16, 21, 4, 104, 29, 96, 51, 153, 0, 22, 42, 180, 0, 91, 16, 16, 29, 104, 21, 5, 96, 51]
abbrev dktX7_canBe_9 : List UInt8 := dkwX7_canBe_9 ++ dktX7_canBe_10
def dkwX7_canBe_8 : List UInt8 := [21, 5, 96, 42, 180, 0, 91, 16, 16, 21, 4, 104, 21, 5, 96, 51, 154, 0, 33, 42, 180, 0, 91]
abbrev dktX7_canBe_8 : List UInt8 := dkwX7_canBe_8 ++ dktX7_canBe_9
def dkwX7_canBe_7 : List UInt8 := [16, 16, 162, 0, 89, 3, 54, 5, 21, 5, 16, 16, 162, 0, 73, 42, 180, 0, 91, 16, 16, 21, 4, 104]
abbrev dktX7_canBe_7 : List UInt8 := dkwX7_canBe_7 ++ dktX7_canBe_8
def dkwX7_canBe_6 : List UInt8 := [167, 0, 4, 3, 84, 132, 3, 1, 167, 255, 187, 3, 62, 29, 16, 16, 162, 0, 105, 3, 54, 4, 21, 4]
abbrev dktX7_canBe_6 : List UInt8 := dkwX7_canBe_6 ++ dktX7_canBe_7
def dkwX7_canBe_5 : List UInt8 := [46, 104, 42, 180, 0, 43, 29, 46, 96, 51, 154, 0, 11, 42, 29, 182, 1, 108, 153, 0, 7, 4]
abbrev dktX7_canBe_5 : List UInt8 := dkwX7_canBe_5 ++ dktX7_canBe_6
def dkwX7_canBe_4 : List UInt8 := [180, 0, 40, 29, 46, 104, 42, 180, 0, 43, 29, 46, 96, 42, 180, 0, 91, 16, 16, 42, 180, 0, 40, 29]
abbrev dktX7_canBe_4 : List UInt8 := dkwX7_canBe_4 ++ dktX7_canBe_5
def dkwX7_canBe_3 : List UInt8 := [84, 132, 3, 1, 167, 255, 224, 3, 62, 29, 42, 180, 1, 77, 162, 0, 67, 42, 180, 0, 91, 16, 16, 42]
abbrev dktX7_canBe_3 : List UInt8 := dkwX7_canBe_3 ++ dktX7_canBe_4
def dkwX7_canBe_2 : List UInt8 := [162, 0, 31, 42, 180, 0, 91, 29, 29, 16, 16, 108, 29, 16, 16, 112, 160, 0, 7, 4, 167, 0, 4, 3]
abbrev dktX7_canBe_2 : List UInt8 := dkwX7_canBe_2 ++ dktX7_canBe_3
def dkwX7_canBe_1 : List UInt8 := [42, 3, 182, 1, 104, 61, 132, 3, 1, 167, 255, 237, 28, 153, 0, 5, 3, 172, 3, 62, 29, 17, 1, 0]
abbrev dktX7_canBe_1 : List UInt8 := dkwX7_canBe_1 ++ dktX7_canBe_2
def dkwX7_canBe_0 : List UInt8 := [42, 27, 182, 1, 98, 42, 2, 182, 1, 101, 4, 61, 3, 62, 29, 16, 17, 162, 0, 19, 28, 153, 0, 15]
abbrev dktX7_canBe_0 : List UInt8 := dkwX7_canBe_0 ++ dktX7_canBe_1
theorem dksX7_canBe_0 : cX7_canBe.data.toList.drop 0 = dktX7_canBe_0 := by decide +kernel
theorem dksX7_canBe_1 : cX7_canBe.data.toList.drop 24 = dktX7_canBe_1 := dk_seg dksX7_canBe_0 24 rfl rfl
theorem dksX7_canBe_2 : cX7_canBe.data.toList.drop 48 = dktX7_canBe_2 := dk_seg dksX7_canBe_1 24 rfl rfl
theorem dksX7_canBe_3 : cX7_canBe.data.toList.drop 72 = dktX7_canBe_3 := dk_seg dksX7_canBe_2 24 rfl rfl
theorem dksX7_canBe_4 : cX7_canBe.data.toList.drop 96 = dktX7_canBe_4 := dk_seg dksX7_canBe_3 24 rfl rfl
theorem dksX7_canBe_5 : cX7_canBe.data.toList.drop 120 = dktX7_canBe_5 := dk_seg dksX7_canBe_4 24 rfl rfl
theorem dksX7_canBe_6 : cX7_canBe.data.toList.drop 142 = dktX7_canBe_6 := dk_seg dksX7_canBe_5 22 rfl rfl
theorem dksX7_canBe_7 : cX7_canBe.data.toList.drop 166 = dktX7_canBe_7 := dk_seg dksX7_canBe_6 24 rfl rfl
theorem dksX7_canBe_8 : cX7_canBe.data.toList.drop 190 = dktX7_canBe_8 := dk_seg dksX7_canBe_7 24 rfl rfl
theorem dksX7_canBe_9 : cX7_canBe.data.toList.drop 213 = dktX7_canBe_9 := dk_seg dksX7_canBe_8 23 rfl rfl
theorem dksX7_canBe_10 : cX7_canBe.data.toList.drop 236 = dktX7_canBe_10 := dk_seg dksX7_canBe_9 23 rfl rfl
theorem dksX7_canBe_11 : cX7_canBe.data.toList.drop 260 = dktX7_canBe_11 := dk_seg dksX7_canBe_10 24 rfl rfl
theorem dksX7_canBe_12 : cX7_canBe.data.toList.drop 284 = dktX7_canBe_12 := dk_seg dksX7_canBe_11 24 rfl rfl
theorem dksX7_canBe_13 : cX7_canBe.data.toList.drop 308 = dktX7_canBe_13 := dk_seg dksX7_canBe_12 24 rfl rfl
theorem dX7_canBe_0 : decode cX7_canBe 0 = .ok (.aload_n 0, 1) := dk_42 (dk_at dksX7_canBe_0 0 rfl rfl)
theorem dX7_canBe_1 : decode cX7_canBe 1 = .ok (.iload_n 1, 1) := dk_27 (dk_at dksX7_canBe_0 1 rfl rfl)
theorem dX7_canBe_2 : decode cX7_canBe 2 = .ok (.invokevirtual 354, 3) := dk_182 1 98 (dk_at dksX7_canBe_0 2 rfl rfl)
theorem dX7_canBe_5 : decode cX7_canBe 5 = .ok (.aload_n 0, 1) := dk_42 (dk_at dksX7_canBe_0 5 rfl rfl)
theorem dX7_canBe_6 : decode cX7_canBe 6 = .ok (.iconst (-1), 1) := dk_2 (dk_at dksX7_canBe_0 6 rfl rfl)
theorem dX7_canBe_7 : decode cX7_canBe 7 = .ok (.invokevirtual 357, 3) := dk_182 1 101 (dk_at dksX7_canBe_0 7 rfl rfl)
theorem dX7_canBe_10 : decode cX7_canBe 10 = .ok (.iconst 1, 1) := dk_4 (dk_at dksX7_canBe_0 10 rfl rfl)
theorem dX7_canBe_11 : decode cX7_canBe 11 = .ok (.istore_n 2, 1) := dk_61 (dk_at dksX7_canBe_0 11 rfl rfl)
theorem dX7_canBe_12 : decode cX7_canBe 12 = .ok (.iconst 0, 1) := dk_3 (dk_at dksX7_canBe_0 12 rfl rfl)
theorem dX7_canBe_13 : decode cX7_canBe 13 = .ok (.istore_n 3, 1) := dk_62 (dk_at dksX7_canBe_0 13 rfl rfl)
theorem dX7_canBe_14 : decode cX7_canBe 14 = .ok (.iload_n 3, 1) := dk_29 (dk_at dksX7_canBe_0 14 rfl rfl)
theorem dX7_canBe_15 : decode cX7_canBe 15 = .ok (.bipush 17, 2) := dk_16 17 (dk_at dksX7_canBe_0 15 rfl rfl)
theorem dX7_canBe_17 : decode cX7_canBe 17 = .ok (.if_icmp .ge 19, 3) := dk_162 0 19 (dk_at dksX7_canBe_0 17 rfl rfl)
theorem dX7_canBe_20 : decode cX7_canBe 20 = .ok (.iload_n 2, 1) := dk_28 (dk_at dksX7_canBe_0 20 rfl rfl)
theorem dX7_canBe_21 : decode cX7_canBe 21 = .ok (.ifCond .eq 15, 3) := dk_153 0 15 (dk_at dksX7_canBe_0 21 rfl rfl)
theorem dX7_canBe_24 : decode cX7_canBe 24 = .ok (.aload_n 0, 1) := dk_42 (dk_at dksX7_canBe_1 0 rfl rfl)
theorem dX7_canBe_25 : decode cX7_canBe 25 = .ok (.iconst 0, 1) := dk_3 (dk_at dksX7_canBe_1 1 rfl rfl)
theorem dX7_canBe_26 : decode cX7_canBe 26 = .ok (.invokevirtual 360, 3) := dk_182 1 104 (dk_at dksX7_canBe_1 2 rfl rfl)
theorem dX7_canBe_29 : decode cX7_canBe 29 = .ok (.istore_n 2, 1) := dk_61 (dk_at dksX7_canBe_1 5 rfl rfl)
theorem dX7_canBe_30 : decode cX7_canBe 30 = .ok (.iinc 3 1, 3) := dk_132 3 1 (dk_at dksX7_canBe_1 6 rfl rfl)
theorem dX7_canBe_33 : decode cX7_canBe 33 = .ok (.goto (-19), 3) := dk_167 255 237 (dk_at dksX7_canBe_1 9 rfl rfl)
theorem dX7_canBe_36 : decode cX7_canBe 36 = .ok (.iload_n 2, 1) := dk_28 (dk_at dksX7_canBe_1 12 rfl rfl)
theorem dX7_canBe_37 : decode cX7_canBe 37 = .ok (.ifCond .eq 5, 3) := dk_153 0 5 (dk_at dksX7_canBe_1 13 rfl rfl)
theorem dX7_canBe_40 : decode cX7_canBe 40 = .ok (.iconst 0, 1) := dk_3 (dk_at dksX7_canBe_1 16 rfl rfl)
theorem dX7_canBe_41 : decode cX7_canBe 41 = .ok (.ireturn, 1) := dk_172 (dk_at dksX7_canBe_1 17 rfl rfl)
theorem dX7_canBe_42 : decode cX7_canBe 42 = .ok (.iconst 0, 1) := dk_3 (dk_at dksX7_canBe_1 18 rfl rfl)
theorem dX7_canBe_43 : decode cX7_canBe 43 = .ok (.istore_n 3, 1) := dk_62 (dk_at dksX7_canBe_1 19 rfl rfl)
theorem dX7_canBe_44 : decode cX7_canBe 44 = .ok (.iload_n 3, 1) := dk_29 (dk_at dksX7_canBe_1 20 rfl rfl)
theorem dX7_canBe_45 : decode cX7_canBe 45 = .ok (.sipush 256, 3) := dk_17 1 0 (dk_at dksX7_canBe_1 21 rfl rfl)
theorem dX7_canBe_48 : decode cX7_canBe 48 = .ok (.if_icmp .ge 31, 3) := dk_162 0 31 (dk_at dksX7_canBe_2 0 rfl rfl)
theorem dX7_canBe_51 : decode cX7_canBe 51 = .ok (.aload_n 0, 1) := dk_42 (dk_at dksX7_canBe_2 3 rfl rfl)
theorem dX7_canBe_52 : decode cX7_canBe 52 = .ok (.getfield 91, 3) := dk_180 0 91 (dk_at dksX7_canBe_2 4 rfl rfl)
theorem dX7_canBe_55 : decode cX7_canBe 55 = .ok (.iload_n 3, 1) := dk_29 (dk_at dksX7_canBe_2 7 rfl rfl)
theorem dX7_canBe_56 : decode cX7_canBe 56 = .ok (.iload_n 3, 1) := dk_29 (dk_at dksX7_canBe_2 8 rfl rfl)
theorem dX7_canBe_57 : decode cX7_canBe 57 = .ok (.bipush 16, 2) := dk_16 16 (dk_at dksX7_canBe_2 9 rfl rfl)
theorem dX7_canBe_59 : decode cX7_canBe 59 = .ok (.idiv, 1) := dk_108 (dk_at dksX7_canBe_2 11 rfl rfl)
theorem dX7_canBe_60 : decode cX7_canBe 60 = .ok (.iload_n 3, 1) := dk_29 (dk_at dksX7_canBe_2 12 rfl rfl)
theorem dX7_canBe_61 : decode cX7_canBe 61 = .ok (.bipush 16, 2) := dk_16 16 (dk_at dksX7_canBe_2 13 rfl rfl)
theorem dX7_canBe_63 : decode cX7_canBe 63 = .ok (.irem, 1) := dk_112 (dk_at dksX7_canBe_2 15 rfl rfl)
theorem dX7_canBe_64 : decode cX7_canBe 64 = .ok (.if_icmp .ne 7, 3) := dk_160 0 7 (dk_at dksX7_canBe_2 16 rfl rfl)
theorem dX7_canBe_67 : decode cX7_canBe 67 = .ok (.iconst 1, 1) := dk_4 (dk_at dksX7_canBe_2 19 rfl rfl)
theorem dX7_canBe_68 : decode cX7_canBe 68 = .ok (.goto 4, 3) := dk_167 0 4 (dk_at dksX7_canBe_2 20 rfl rfl)
theorem dX7_canBe_71 : decode cX7_canBe 71 = .ok (.iconst 0, 1) := dk_3 (dk_at dksX7_canBe_2 23 rfl rfl)
theorem dX7_canBe_72 : decode cX7_canBe 72 = .ok (.bastore, 1) := dk_84 (dk_at dksX7_canBe_3 0 rfl rfl)
theorem dX7_canBe_73 : decode cX7_canBe 73 = .ok (.iinc 3 1, 3) := dk_132 3 1 (dk_at dksX7_canBe_3 1 rfl rfl)
theorem dX7_canBe_76 : decode cX7_canBe 76 = .ok (.goto (-32), 3) := dk_167 255 224 (dk_at dksX7_canBe_3 4 rfl rfl)
theorem dX7_canBe_79 : decode cX7_canBe 79 = .ok (.iconst 0, 1) := dk_3 (dk_at dksX7_canBe_3 7 rfl rfl)
theorem dX7_canBe_80 : decode cX7_canBe 80 = .ok (.istore_n 3, 1) := dk_62 (dk_at dksX7_canBe_3 8 rfl rfl)
theorem dX7_canBe_81 : decode cX7_canBe 81 = .ok (.iload_n 3, 1) := dk_29 (dk_at dksX7_canBe_3 9 rfl rfl)
theorem dX7_canBe_82 : decode cX7_canBe 82 = .ok (.aload_n 0, 1) := dk_42 (dk_at dksX7_canBe_3 10 rfl rfl)
theorem dX7_canBe_83 : decode cX7_canBe 83 = .ok (.getfield 333, 3) := dk_180 1 77 (dk_at dksX7_canBe_3 11 rfl rfl)
theorem dX7_canBe_86 : decode cX7_canBe 86 = .ok (.if_icmp .ge 67, 3) := dk_162 0 67 (dk_at dksX7_canBe_3 14 rfl rfl)
theorem dX7_canBe_89 : decode cX7_canBe 89 = .ok (.aload_n 0, 1) := dk_42 (dk_at dksX7_canBe_3 17 rfl rfl)
theorem dX7_canBe_90 : decode cX7_canBe 90 = .ok (.getfield 91, 3) := dk_180 0 91 (dk_at dksX7_canBe_3 18 rfl rfl)
theorem dX7_canBe_93 : decode cX7_canBe 93 = .ok (.bipush 16, 2) := dk_16 16 (dk_at dksX7_canBe_3 21 rfl rfl)
theorem dX7_canBe_95 : decode cX7_canBe 95 = .ok (.aload_n 0, 1) := dk_42 (dk_at dksX7_canBe_3 23 rfl rfl)
theorem dX7_canBe_96 : decode cX7_canBe 96 = .ok (.getfield 40, 3) := dk_180 0 40 (dk_at dksX7_canBe_4 0 rfl rfl)
theorem dX7_canBe_99 : decode cX7_canBe 99 = .ok (.iload_n 3, 1) := dk_29 (dk_at dksX7_canBe_4 3 rfl rfl)
theorem dX7_canBe_100 : decode cX7_canBe 100 = .ok (.iaload, 1) := dk_46 (dk_at dksX7_canBe_4 4 rfl rfl)
theorem dX7_canBe_101 : decode cX7_canBe 101 = .ok (.imul, 1) := dk_104 (dk_at dksX7_canBe_4 5 rfl rfl)
theorem dX7_canBe_102 : decode cX7_canBe 102 = .ok (.aload_n 0, 1) := dk_42 (dk_at dksX7_canBe_4 6 rfl rfl)
theorem dX7_canBe_103 : decode cX7_canBe 103 = .ok (.getfield 43, 3) := dk_180 0 43 (dk_at dksX7_canBe_4 7 rfl rfl)
theorem dX7_canBe_106 : decode cX7_canBe 106 = .ok (.iload_n 3, 1) := dk_29 (dk_at dksX7_canBe_4 10 rfl rfl)
theorem dX7_canBe_107 : decode cX7_canBe 107 = .ok (.iaload, 1) := dk_46 (dk_at dksX7_canBe_4 11 rfl rfl)
theorem dX7_canBe_108 : decode cX7_canBe 108 = .ok (.iadd, 1) := dk_96 (dk_at dksX7_canBe_4 12 rfl rfl)
theorem dX7_canBe_109 : decode cX7_canBe 109 = .ok (.aload_n 0, 1) := dk_42 (dk_at dksX7_canBe_4 13 rfl rfl)
theorem dX7_canBe_110 : decode cX7_canBe 110 = .ok (.getfield 91, 3) := dk_180 0 91 (dk_at dksX7_canBe_4 14 rfl rfl)
theorem dX7_canBe_113 : decode cX7_canBe 113 = .ok (.bipush 16, 2) := dk_16 16 (dk_at dksX7_canBe_4 17 rfl rfl)
theorem dX7_canBe_115 : decode cX7_canBe 115 = .ok (.aload_n 0, 1) := dk_42 (dk_at dksX7_canBe_4 19 rfl rfl)
theorem dX7_canBe_116 : decode cX7_canBe 116 = .ok (.getfield 40, 3) := dk_180 0 40 (dk_at dksX7_canBe_4 20 rfl rfl)
theorem dX7_canBe_119 : decode cX7_canBe 119 = .ok (.iload_n 3, 1) := dk_29 (dk_at dksX7_canBe_4 23 rfl rfl)
theorem dX7_canBe_120 : decode cX7_canBe 120 = .ok (.iaload, 1) := dk_46 (dk_at dksX7_canBe_5 0 rfl rfl)
theorem dX7_canBe_121 : decode cX7_canBe 121 = .ok (.imul, 1) := dk_104 (dk_at dksX7_canBe_5 1 rfl rfl)
theorem dX7_canBe_122 : decode cX7_canBe 122 = .ok (.aload_n 0, 1) := dk_42 (dk_at dksX7_canBe_5 2 rfl rfl)
theorem dX7_canBe_123 : decode cX7_canBe 123 = .ok (.getfield 43, 3) := dk_180 0 43 (dk_at dksX7_canBe_5 3 rfl rfl)
theorem dX7_canBe_126 : decode cX7_canBe 126 = .ok (.iload_n 3, 1) := dk_29 (dk_at dksX7_canBe_5 6 rfl rfl)
theorem dX7_canBe_127 : decode cX7_canBe 127 = .ok (.iaload, 1) := dk_46 (dk_at dksX7_canBe_5 7 rfl rfl)
theorem dX7_canBe_128 : decode cX7_canBe 128 = .ok (.iadd, 1) := dk_96 (dk_at dksX7_canBe_5 8 rfl rfl)
theorem dX7_canBe_129 : decode cX7_canBe 129 = .ok (.baload, 1) := dk_51 (dk_at dksX7_canBe_5 9 rfl rfl)
theorem dX7_canBe_130 : decode cX7_canBe 130 = .ok (.ifCond .ne 11, 3) := dk_154 0 11 (dk_at dksX7_canBe_5 10 rfl rfl)
theorem dX7_canBe_133 : decode cX7_canBe 133 = .ok (.aload_n 0, 1) := dk_42 (dk_at dksX7_canBe_5 13 rfl rfl)
theorem dX7_canBe_134 : decode cX7_canBe 134 = .ok (.iload_n 3, 1) := dk_29 (dk_at dksX7_canBe_5 14 rfl rfl)
theorem dX7_canBe_135 : decode cX7_canBe 135 = .ok (.invokevirtual 364, 3) := dk_182 1 108 (dk_at dksX7_canBe_5 15 rfl rfl)
theorem dX7_canBe_138 : decode cX7_canBe 138 = .ok (.ifCond .eq 7, 3) := dk_153 0 7 (dk_at dksX7_canBe_5 18 rfl rfl)
theorem dX7_canBe_141 : decode cX7_canBe 141 = .ok (.iconst 1, 1) := dk_4 (dk_at dksX7_canBe_5 21 rfl rfl)
theorem dX7_canBe_142 : decode cX7_canBe 142 = .ok (.goto 4, 3) := dk_167 0 4 (dk_at dksX7_canBe_6 0 rfl rfl)
theorem dX7_canBe_145 : decode cX7_canBe 145 = .ok (.iconst 0, 1) := dk_3 (dk_at dksX7_canBe_6 3 rfl rfl)
theorem dX7_canBe_146 : decode cX7_canBe 146 = .ok (.bastore, 1) := dk_84 (dk_at dksX7_canBe_6 4 rfl rfl)
theorem dX7_canBe_147 : decode cX7_canBe 147 = .ok (.iinc 3 1, 3) := dk_132 3 1 (dk_at dksX7_canBe_6 5 rfl rfl)
theorem dX7_canBe_150 : decode cX7_canBe 150 = .ok (.goto (-69), 3) := dk_167 255 187 (dk_at dksX7_canBe_6 8 rfl rfl)
theorem dX7_canBe_153 : decode cX7_canBe 153 = .ok (.iconst 0, 1) := dk_3 (dk_at dksX7_canBe_6 11 rfl rfl)
theorem dX7_canBe_154 : decode cX7_canBe 154 = .ok (.istore_n 3, 1) := dk_62 (dk_at dksX7_canBe_6 12 rfl rfl)
theorem dX7_canBe_155 : decode cX7_canBe 155 = .ok (.iload_n 3, 1) := dk_29 (dk_at dksX7_canBe_6 13 rfl rfl)
theorem dX7_canBe_156 : decode cX7_canBe 156 = .ok (.bipush 16, 2) := dk_16 16 (dk_at dksX7_canBe_6 14 rfl rfl)
theorem dX7_canBe_158 : decode cX7_canBe 158 = .ok (.if_icmp .ge 105, 3) := dk_162 0 105 (dk_at dksX7_canBe_6 16 rfl rfl)
theorem dX7_canBe_161 : decode cX7_canBe 161 = .ok (.iconst 0, 1) := dk_3 (dk_at dksX7_canBe_6 19 rfl rfl)
theorem dX7_canBe_162 : decode cX7_canBe 162 = .ok (.istore 4, 2) := dk_54 4 (dk_at dksX7_canBe_6 20 rfl rfl)
theorem dX7_canBe_164 : decode cX7_canBe 164 = .ok (.iload 4, 2) := dk_21 4 (dk_at dksX7_canBe_6 22 rfl rfl)
theorem dX7_canBe_166 : decode cX7_canBe 166 = .ok (.bipush 16, 2) := dk_16 16 (dk_at dksX7_canBe_7 0 rfl rfl)
theorem dX7_canBe_168 : decode cX7_canBe 168 = .ok (.if_icmp .ge 89, 3) := dk_162 0 89 (dk_at dksX7_canBe_7 2 rfl rfl)
theorem dX7_canBe_171 : decode cX7_canBe 171 = .ok (.iconst 0, 1) := dk_3 (dk_at dksX7_canBe_7 5 rfl rfl)
theorem dX7_canBe_172 : decode cX7_canBe 172 = .ok (.istore 5, 2) := dk_54 5 (dk_at dksX7_canBe_7 6 rfl rfl)
theorem dX7_canBe_174 : decode cX7_canBe 174 = .ok (.iload 5, 2) := dk_21 5 (dk_at dksX7_canBe_7 8 rfl rfl)
theorem dX7_canBe_176 : decode cX7_canBe 176 = .ok (.bipush 16, 2) := dk_16 16 (dk_at dksX7_canBe_7 10 rfl rfl)
theorem dX7_canBe_178 : decode cX7_canBe 178 = .ok (.if_icmp .ge 73, 3) := dk_162 0 73 (dk_at dksX7_canBe_7 12 rfl rfl)
theorem dX7_canBe_181 : decode cX7_canBe 181 = .ok (.aload_n 0, 1) := dk_42 (dk_at dksX7_canBe_7 15 rfl rfl)
theorem dX7_canBe_182 : decode cX7_canBe 182 = .ok (.getfield 91, 3) := dk_180 0 91 (dk_at dksX7_canBe_7 16 rfl rfl)
theorem dX7_canBe_185 : decode cX7_canBe 185 = .ok (.bipush 16, 2) := dk_16 16 (dk_at dksX7_canBe_7 19 rfl rfl)
theorem dX7_canBe_187 : decode cX7_canBe 187 = .ok (.iload 4, 2) := dk_21 4 (dk_at dksX7_canBe_7 21 rfl rfl)
theorem dX7_canBe_189 : decode cX7_canBe 189 = .ok (.imul, 1) := dk_104 (dk_at dksX7_canBe_7 23 rfl rfl)
theorem dX7_canBe_190 : decode cX7_canBe 190 = .ok (.iload 5, 2) := dk_21 5 (dk_at dksX7_canBe_8 0 rfl rfl)
theorem dX7_canBe_192 : decode cX7_canBe 192 = .ok (.iadd, 1) := dk_96 (dk_at dksX7_canBe_8 2 rfl rfl)
theorem dX7_canBe_193 : decode cX7_canBe 193 = .ok (.aload_n 0, 1) := dk_42 (dk_at dksX7_canBe_8 3 rfl rfl)
theorem dX7_canBe_194 : decode cX7_canBe 194 = .ok (.getfield 91, 3) := dk_180 0 91 (dk_at dksX7_canBe_8 4 rfl rfl)
theorem dX7_canBe_197 : decode cX7_canBe 197 = .ok (.bipush 16, 2) := dk_16 16 (dk_at dksX7_canBe_8 7 rfl rfl)
theorem dX7_canBe_199 : decode cX7_canBe 199 = .ok (.iload 4, 2) := dk_21 4 (dk_at dksX7_canBe_8 9 rfl rfl)
theorem dX7_canBe_201 : decode cX7_canBe 201 = .ok (.imul, 1) := dk_104 (dk_at dksX7_canBe_8 11 rfl rfl)
theorem dX7_canBe_202 : decode cX7_canBe 202 = .ok (.iload 5, 2) := dk_21 5 (dk_at dksX7_canBe_8 12 rfl rfl)
theorem dX7_canBe_204 : decode cX7_canBe 204 = .ok (.iadd, 1) := dk_96 (dk_at dksX7_canBe_8 14 rfl rfl)
theorem dX7_canBe_205 : decode cX7_canBe 205 = .ok (.baload, 1) := dk_51 (dk_at dksX7_canBe_8 15 rfl rfl)
theorem dX7_canBe_206 : decode cX7_canBe 206 = .ok (.ifCond .ne 33, 3) := dk_154 0 33 (dk_at dksX7_canBe_8 16 rfl rfl)
theorem dX7_canBe_209 : decode cX7_canBe 209 = .ok (.aload_n 0, 1) := dk_42 (dk_at dksX7_canBe_8 19 rfl rfl)
theorem dX7_canBe_210 : decode cX7_canBe 210 = .ok (.getfield 91, 3) := dk_180 0 91 (dk_at dksX7_canBe_8 20 rfl rfl)
theorem dX7_canBe_213 : decode cX7_canBe 213 = .ok (.bipush 16, 2) := dk_16 16 (dk_at dksX7_canBe_9 0 rfl rfl)
theorem dX7_canBe_215 : decode cX7_canBe 215 = .ok (.iload 4, 2) := dk_21 4 (dk_at dksX7_canBe_9 2 rfl rfl)
theorem dX7_canBe_217 : decode cX7_canBe 217 = .ok (.imul, 1) := dk_104 (dk_at dksX7_canBe_9 4 rfl rfl)
theorem dX7_canBe_218 : decode cX7_canBe 218 = .ok (.iload_n 3, 1) := dk_29 (dk_at dksX7_canBe_9 5 rfl rfl)
theorem dX7_canBe_219 : decode cX7_canBe 219 = .ok (.iadd, 1) := dk_96 (dk_at dksX7_canBe_9 6 rfl rfl)
theorem dX7_canBe_220 : decode cX7_canBe 220 = .ok (.baload, 1) := dk_51 (dk_at dksX7_canBe_9 7 rfl rfl)
theorem dX7_canBe_221 : decode cX7_canBe 221 = .ok (.ifCond .eq 22, 3) := dk_153 0 22 (dk_at dksX7_canBe_9 8 rfl rfl)
theorem dX7_canBe_224 : decode cX7_canBe 224 = .ok (.aload_n 0, 1) := dk_42 (dk_at dksX7_canBe_9 11 rfl rfl)
theorem dX7_canBe_225 : decode cX7_canBe 225 = .ok (.getfield 91, 3) := dk_180 0 91 (dk_at dksX7_canBe_9 12 rfl rfl)
theorem dX7_canBe_228 : decode cX7_canBe 228 = .ok (.bipush 16, 2) := dk_16 16 (dk_at dksX7_canBe_9 15 rfl rfl)
theorem dX7_canBe_230 : decode cX7_canBe 230 = .ok (.iload_n 3, 1) := dk_29 (dk_at dksX7_canBe_9 17 rfl rfl)
theorem dX7_canBe_231 : decode cX7_canBe 231 = .ok (.imul, 1) := dk_104 (dk_at dksX7_canBe_9 18 rfl rfl)
theorem dX7_canBe_232 : decode cX7_canBe 232 = .ok (.iload 5, 2) := dk_21 5 (dk_at dksX7_canBe_9 19 rfl rfl)
theorem dX7_canBe_234 : decode cX7_canBe 234 = .ok (.iadd, 1) := dk_96 (dk_at dksX7_canBe_9 21 rfl rfl)
theorem dX7_canBe_235 : decode cX7_canBe 235 = .ok (.baload, 1) := dk_51 (dk_at dksX7_canBe_9 22 rfl rfl)
theorem dX7_canBe_236 : decode cX7_canBe 236 = .ok (.ifCond .eq 7, 3) := dk_153 0 7 (dk_at dksX7_canBe_10 0 rfl rfl)
theorem dX7_canBe_239 : decode cX7_canBe 239 = .ok (.iconst 1, 1) := dk_4 (dk_at dksX7_canBe_10 3 rfl rfl)
theorem dX7_canBe_240 : decode cX7_canBe 240 = .ok (.goto 4, 3) := dk_167 0 4 (dk_at dksX7_canBe_10 4 rfl rfl)
theorem dX7_canBe_243 : decode cX7_canBe 243 = .ok (.iconst 0, 1) := dk_3 (dk_at dksX7_canBe_10 7 rfl rfl)
theorem dX7_canBe_244 : decode cX7_canBe 244 = .ok (.bastore, 1) := dk_84 (dk_at dksX7_canBe_10 8 rfl rfl)
theorem dX7_canBe_245 : decode cX7_canBe 245 = .ok (.iinc 5 1, 3) := dk_132 5 1 (dk_at dksX7_canBe_10 9 rfl rfl)
theorem dX7_canBe_248 : decode cX7_canBe 248 = .ok (.goto (-74), 3) := dk_167 255 182 (dk_at dksX7_canBe_10 12 rfl rfl)
theorem dX7_canBe_251 : decode cX7_canBe 251 = .ok (.iinc 4 1, 3) := dk_132 4 1 (dk_at dksX7_canBe_10 15 rfl rfl)
theorem dX7_canBe_254 : decode cX7_canBe 254 = .ok (.goto (-90), 3) := dk_167 255 166 (dk_at dksX7_canBe_10 18 rfl rfl)
theorem dX7_canBe_257 : decode cX7_canBe 257 = .ok (.iinc 3 1, 3) := dk_132 3 1 (dk_at dksX7_canBe_10 21 rfl rfl)
theorem dX7_canBe_260 : decode cX7_canBe 260 = .ok (.goto (-105), 3) := dk_167 255 151 (dk_at dksX7_canBe_11 0 rfl rfl)
theorem dX7_canBe_263 : decode cX7_canBe 263 = .ok (.iconst 0, 1) := dk_3 (dk_at dksX7_canBe_11 3 rfl rfl)
theorem dX7_canBe_264 : decode cX7_canBe 264 = .ok (.istore_n 3, 1) := dk_62 (dk_at dksX7_canBe_11 4 rfl rfl)
theorem dX7_canBe_265 : decode cX7_canBe 265 = .ok (.iload_n 3, 1) := dk_29 (dk_at dksX7_canBe_11 5 rfl rfl)
theorem dX7_canBe_266 : decode cX7_canBe 266 = .ok (.aload_n 0, 1) := dk_42 (dk_at dksX7_canBe_11 6 rfl rfl)
theorem dX7_canBe_267 : decode cX7_canBe 267 = .ok (.getfield 333, 3) := dk_180 1 77 (dk_at dksX7_canBe_11 7 rfl rfl)
theorem dX7_canBe_270 : decode cX7_canBe 270 = .ok (.if_icmp .ge 52, 3) := dk_162 0 52 (dk_at dksX7_canBe_11 10 rfl rfl)
theorem dX7_canBe_273 : decode cX7_canBe 273 = .ok (.aload_n 0, 1) := dk_42 (dk_at dksX7_canBe_11 13 rfl rfl)
theorem dX7_canBe_274 : decode cX7_canBe 274 = .ok (.getfield 52, 3) := dk_180 0 52 (dk_at dksX7_canBe_11 14 rfl rfl)
theorem dX7_canBe_277 : decode cX7_canBe 277 = .ok (.iload_n 3, 1) := dk_29 (dk_at dksX7_canBe_11 17 rfl rfl)
theorem dX7_canBe_278 : decode cX7_canBe 278 = .ok (.baload, 1) := dk_51 (dk_at dksX7_canBe_11 18 rfl rfl)
theorem dX7_canBe_279 : decode cX7_canBe 279 = .ok (.ifCond .eq 37, 3) := dk_153 0 37 (dk_at dksX7_canBe_11 19 rfl rfl)
theorem dX7_canBe_282 : decode cX7_canBe 282 = .ok (.aload_n 0, 1) := dk_42 (dk_at dksX7_canBe_11 22 rfl rfl)
theorem dX7_canBe_283 : decode cX7_canBe 283 = .ok (.iload_n 3, 1) := dk_29 (dk_at dksX7_canBe_11 23 rfl rfl)
theorem dX7_canBe_284 : decode cX7_canBe 284 = .ok (.invokevirtual 364, 3) := dk_182 1 108 (dk_at dksX7_canBe_12 0 rfl rfl)
theorem dX7_canBe_287 : decode cX7_canBe 287 = .ok (.ifCond .eq 29, 3) := dk_153 0 29 (dk_at dksX7_canBe_12 3 rfl rfl)
theorem dX7_canBe_290 : decode cX7_canBe 290 = .ok (.aload_n 0, 1) := dk_42 (dk_at dksX7_canBe_12 6 rfl rfl)
theorem dX7_canBe_291 : decode cX7_canBe 291 = .ok (.getfield 91, 3) := dk_180 0 91 (dk_at dksX7_canBe_12 7 rfl rfl)
theorem dX7_canBe_294 : decode cX7_canBe 294 = .ok (.bipush 16, 2) := dk_16 16 (dk_at dksX7_canBe_12 10 rfl rfl)
theorem dX7_canBe_296 : decode cX7_canBe 296 = .ok (.aload_n 0, 1) := dk_42 (dk_at dksX7_canBe_12 12 rfl rfl)
theorem dX7_canBe_297 : decode cX7_canBe 297 = .ok (.getfield 43, 3) := dk_180 0 43 (dk_at dksX7_canBe_12 13 rfl rfl)
theorem dX7_canBe_300 : decode cX7_canBe 300 = .ok (.iload_n 3, 1) := dk_29 (dk_at dksX7_canBe_12 16 rfl rfl)
theorem dX7_canBe_301 : decode cX7_canBe 301 = .ok (.iaload, 1) := dk_46 (dk_at dksX7_canBe_12 17 rfl rfl)
theorem dX7_canBe_302 : decode cX7_canBe 302 = .ok (.imul, 1) := dk_104 (dk_at dksX7_canBe_12 18 rfl rfl)
theorem dX7_canBe_303 : decode cX7_canBe 303 = .ok (.aload_n 0, 1) := dk_42 (dk_at dksX7_canBe_12 19 rfl rfl)
theorem dX7_canBe_304 : decode cX7_canBe 304 = .ok (.getfield 40, 3) := dk_180 0 40 (dk_at dksX7_canBe_12 20 rfl rfl)
theorem dX7_canBe_307 : decode cX7_canBe 307 = .ok (.iload_n 3, 1) := dk_29 (dk_at dksX7_canBe_12 23 rfl rfl)
theorem dX7_canBe_308 : decode cX7_canBe 308 = .ok (.iaload, 1) := dk_46 (dk_at dksX7_canBe_13 0 rfl rfl)
theorem dX7_canBe_309 : decode cX7_canBe 309 = .ok (.iadd, 1) := dk_96 (dk_at dksX7_canBe_13 1 rfl rfl)
theorem dX7_canBe_310 : decode cX7_canBe 310 = .ok (.baload, 1) := dk_51 (dk_at dksX7_canBe_13 2 rfl rfl)
theorem dX7_canBe_311 : decode cX7_canBe 311 = .ok (.ifCond .eq 5, 3) := dk_153 0 5 (dk_at dksX7_canBe_13 3 rfl rfl)
theorem dX7_canBe_314 : decode cX7_canBe 314 = .ok (.iconst 0, 1) := dk_3 (dk_at dksX7_canBe_13 6 rfl rfl)
theorem dX7_canBe_315 : decode cX7_canBe 315 = .ok (.ireturn, 1) := dk_172 (dk_at dksX7_canBe_13 7 rfl rfl)
theorem dX7_canBe_316 : decode cX7_canBe 316 = .ok (.iinc 3 1, 3) := dk_132 3 1 (dk_at dksX7_canBe_13 8 rfl rfl)
theorem dX7_canBe_319 : decode cX7_canBe 319 = .ok (.goto (-54), 3) := dk_167 255 202 (dk_at dksX7_canBe_13 11 rfl rfl)
theorem dX7_canBe_322 : decode cX7_canBe 322 = .ok (.iconst 1, 1) := dk_4 (dk_at dksX7_canBe_13 14 rfl rfl)
theorem dX7_canBe_323 : decode cX7_canBe 323 = .ok (.ireturn, 1) := dk_172 (dk_at dksX7_canBe_13 15 rfl rfl)
abbrev cX7_build : ByteArray := prog_16_method_55_code
def yX7_build : MethodName := ⟨RX7, "build", "(I)V"⟩
def dkwX7_build_12 : List UInt8 := [2, 159, 0, 15, 42, 16, 6, 28, 96, 28, 4, 4, 3, 182, 1, 83, 132, 2, 1, 167, 255, 225, 177]
abbrev dktX7_build_12 : List UInt8 := dkwX7_build_12 ++ []
def dkwX7_build_11 : List UInt8 := [4, 182, 1, 83, 132, 2, 1, 167, 255, 206, 3, 61, 28, 16, 6, 162, 0, 31, 42, 180, 0, 58, 28, 46]
abbrev dktX7_build_11 : List UInt8 := dkwX7_build_11 ++ dktX7_build_12
def dkwX7_build_10 : List UInt8 := [5, 28, 104, 96, 46, 96, 16, 12, 42, 180, 0, 13, 16, 48, 5, 28, 104, 96, 4, 96, 46, 96, 4, 4]
abbrev dktX7_build_10 : List UInt8 := dkwX7_build_10 ++ dktX7_build_11
def dkwX7_build_9 : List UInt8 := [167, 255, 53, 3, 61, 28, 42, 180, 0, 13, 4, 46, 162, 0, 46, 42, 16, 12, 42, 180, 0, 13, 16, 48]
abbrev dktX7_build_9 : List UInt8 := dkwX7_build_9 ++ dktX7_build_10
def dkwX7_build_8 : List UInt8 := [16, 12, 29, 96, 21, 10, 21, 9, 21, 7, 158, 0, 7, 4, 167, 0, 4, 3, 182, 1, 83, 132, 2, 1]
abbrev dktX7_build_8 : List UInt8 := dkwX7_build_8 ++ dktX7_build_9
def dkwX7_build_7 : List UInt8 := [167, 0, 4, 4, 54, 10, 42, 16, 12, 29, 96, 21, 5, 21, 8, 21, 10, 3, 182, 1, 83, 42, 21, 5]
abbrev dktX7_build_7 : List UInt8 := dkwX7_build_7 ++ dktX7_build_8
def dkwX7_build_6 : List UInt8 := [21, 6, 4, 96, 167, 0, 9, 5, 21, 6, 104, 4, 96, 54, 9, 21, 7, 5, 160, 0, 7, 5]
abbrev dktX7_build_6 : List UInt8 := dkwX7_build_6 ++ dktX7_build_7
def dkwX7_build_5 : List UInt8 := [167, 0, 5, 21, 6, 54, 8, 21, 7, 154, 0, 8, 21, 6, 167, 0, 22, 21, 7, 4, 160, 0, 10]
abbrev dktX7_build_5 : List UInt8 := dkwX7_build_5 ++ dktX7_build_6
def dkwX7_build_4 : List UInt8 := [54, 6, 42, 28, 6, 182, 0, 195, 54, 7, 21, 7, 5, 160, 0, 12, 5, 21, 6, 104, 4, 100]
abbrev dktX7_build_4 : List UInt8 := dkwX7_build_4 ++ dktX7_build_5
def dkwX7_build_3 : List UInt8 := [21, 4, 46, 161, 0, 11, 16, 6, 21, 4, 96, 167, 0, 5, 21, 4, 54, 5, 42, 28, 5, 182, 0, 195]
abbrev dktX7_build_3 : List UInt8 := dkwX7_build_3 ++ dktX7_build_4
def dkwX7_build_2 : List UInt8 := [54, 4, 42, 180, 0, 58, 21, 4, 46, 2, 159, 0, 27, 42, 28, 4, 182, 0, 195, 42, 180, 0, 58]
abbrev dktX7_build_2 : List UInt8 := dkwX7_build_2 ++ dktX7_build_3
def dkwX7_build_1 : List UInt8 := [182, 0, 195, 46, 62, 27, 28, 184, 1, 80, 153, 0, 173, 29, 2, 159, 0, 168, 42, 28, 3, 182, 0, 195]
abbrev dktX7_build_1 : List UInt8 := dkwX7_build_1 ++ dktX7_build_2
def dkwX7_build_0 : List UInt8 := [42, 3, 181, 1, 77, 3, 61, 28, 42, 180, 0, 13, 3, 46, 162, 0, 199, 42, 180, 0, 55, 42, 28, 4]
abbrev dktX7_build_0 : List UInt8 := dkwX7_build_0 ++ dktX7_build_1
theorem dksX7_build_0 : cX7_build.data.toList.drop 0 = dktX7_build_0 := by decide +kernel
theorem dksX7_build_1 : cX7_build.data.toList.drop 24 = dktX7_build_1 := dk_seg dksX7_build_0 24 rfl rfl
theorem dksX7_build_2 : cX7_build.data.toList.drop 48 = dktX7_build_2 := dk_seg dksX7_build_1 24 rfl rfl
theorem dksX7_build_3 : cX7_build.data.toList.drop 71 = dktX7_build_3 := dk_seg dksX7_build_2 23 rfl rfl
theorem dksX7_build_4 : cX7_build.data.toList.drop 95 = dktX7_build_4 := dk_seg dksX7_build_3 24 rfl rfl
theorem dksX7_build_5 : cX7_build.data.toList.drop 117 = dktX7_build_5 := dk_seg dksX7_build_4 22 rfl rfl
theorem dksX7_build_6 : cX7_build.data.toList.drop 140 = dktX7_build_6 := dk_seg dksX7_build_5 23 rfl rfl
theorem dksX7_build_7 : cX7_build.data.toList.drop 162 = dktX7_build_7 := dk_seg dksX7_build_6 22 rfl rfl
theorem dksX7_build_8 : cX7_build.data.toList.drop 186 = dktX7_build_8 := dk_seg dksX7_build_7 24 rfl rfl
theorem dksX7_build_9 : cX7_build.data.toList.drop 210 = dktX7_build_9 := dk_seg dksX7_build_8 24 rfl rfl
theorem dksX7_build_10 : cX7_build.data.toList.drop 234 = dktX7_build_10 := dk_seg dksX7_build_9 24 rfl rfl
theorem dksX7_build_11 : cX7_build.data.toList.drop 258 = dktX7_build_11 := dk_seg dksX7_build_10 24 rfl rfl
theorem dksX7_build_12 : cX7_build.data.toList.drop 282 = dktX7_build_12 := dk_seg dksX7_build_11 24 rfl rfl
theorem dX7_build_0 : decode cX7_build 0 = .ok (.aload_n 0, 1) := dk_42 (dk_at dksX7_build_0 0 rfl rfl)
theorem dX7_build_1 : decode cX7_build 1 = .ok (.iconst 0, 1) := dk_3 (dk_at dksX7_build_0 1 rfl rfl)
theorem dX7_build_2 : decode cX7_build 2 = .ok (.putfield 333, 3) := dk_181 1 77 (dk_at dksX7_build_0 2 rfl rfl)
theorem dX7_build_5 : decode cX7_build 5 = .ok (.iconst 0, 1) := dk_3 (dk_at dksX7_build_0 5 rfl rfl)
theorem dX7_build_6 : decode cX7_build 6 = .ok (.istore_n 2, 1) := dk_61 (dk_at dksX7_build_0 6 rfl rfl)
theorem dX7_build_7 : decode cX7_build 7 = .ok (.iload_n 2, 1) := dk_28 (dk_at dksX7_build_0 7 rfl rfl)
theorem dX7_build_8 : decode cX7_build 8 = .ok (.aload_n 0, 1) := dk_42 (dk_at dksX7_build_0 8 rfl rfl)
theorem dX7_build_9 : decode cX7_build 9 = .ok (.getfield 13, 3) := dk_180 0 13 (dk_at dksX7_build_0 9 rfl rfl)
theorem dX7_build_12 : decode cX7_build 12 = .ok (.iconst 0, 1) := dk_3 (dk_at dksX7_build_0 12 rfl rfl)
theorem dX7_build_13 : decode cX7_build 13 = .ok (.iaload, 1) := dk_46 (dk_at dksX7_build_0 13 rfl rfl)
theorem dX7_build_14 : decode cX7_build 14 = .ok (.if_icmp .ge 199, 3) := dk_162 0 199 (dk_at dksX7_build_0 14 rfl rfl)
theorem dX7_build_17 : decode cX7_build 17 = .ok (.aload_n 0, 1) := dk_42 (dk_at dksX7_build_0 17 rfl rfl)
theorem dX7_build_18 : decode cX7_build 18 = .ok (.getfield 55, 3) := dk_180 0 55 (dk_at dksX7_build_0 18 rfl rfl)
theorem dX7_build_21 : decode cX7_build 21 = .ok (.aload_n 0, 1) := dk_42 (dk_at dksX7_build_0 21 rfl rfl)
theorem dX7_build_22 : decode cX7_build 22 = .ok (.iload_n 2, 1) := dk_28 (dk_at dksX7_build_0 22 rfl rfl)
theorem dX7_build_23 : decode cX7_build 23 = .ok (.iconst 1, 1) := dk_4 (dk_at dksX7_build_0 23 rfl rfl)
theorem dX7_build_24 : decode cX7_build 24 = .ok (.invokevirtual 195, 3) := dk_182 0 195 (dk_at dksX7_build_1 0 rfl rfl)
theorem dX7_build_27 : decode cX7_build 27 = .ok (.iaload, 1) := dk_46 (dk_at dksX7_build_1 3 rfl rfl)
theorem dX7_build_28 : decode cX7_build 28 = .ok (.istore_n 3, 1) := dk_62 (dk_at dksX7_build_1 4 rfl rfl)
theorem dX7_build_29 : decode cX7_build 29 = .ok (.iload_n 1, 1) := dk_27 (dk_at dksX7_build_1 5 rfl rfl)
theorem dX7_build_30 : decode cX7_build 30 = .ok (.iload_n 2, 1) := dk_28 (dk_at dksX7_build_1 6 rfl rfl)
theorem dX7_build_31 : decode cX7_build 31 = .ok (.invokestatic 336, 3) := dk_184 1 80 (dk_at dksX7_build_1 7 rfl rfl)
theorem dX7_build_34 : decode cX7_build 34 = .ok (.ifCond .eq 173, 3) := dk_153 0 173 (dk_at dksX7_build_1 10 rfl rfl)
theorem dX7_build_37 : decode cX7_build 37 = .ok (.iload_n 3, 1) := dk_29 (dk_at dksX7_build_1 13 rfl rfl)
theorem dX7_build_38 : decode cX7_build 38 = .ok (.iconst (-1), 1) := dk_2 (dk_at dksX7_build_1 14 rfl rfl)
theorem dX7_build_39 : decode cX7_build 39 = .ok (.if_icmp .eq 168, 3) := dk_159 0 168 (dk_at dksX7_build_1 15 rfl rfl)
theorem dX7_build_42 : decode cX7_build 42 = .ok (.aload_n 0, 1) := dk_42 (dk_at dksX7_build_1 18 rfl rfl)
theorem dX7_build_43 : decode cX7_build 43 = .ok (.iload_n 2, 1) := dk_28 (dk_at dksX7_build_1 19 rfl rfl)
theorem dX7_build_44 : decode cX7_build 44 = .ok (.iconst 0, 1) := dk_3 (dk_at dksX7_build_1 20 rfl rfl)
theorem dX7_build_45 : decode cX7_build 45 = .ok (.invokevirtual 195, 3) := dk_182 0 195 (dk_at dksX7_build_1 21 rfl rfl)
theorem dX7_build_48 : decode cX7_build 48 = .ok (.istore 4, 2) := dk_54 4 (dk_at dksX7_build_2 0 rfl rfl)
theorem dX7_build_50 : decode cX7_build 50 = .ok (.aload_n 0, 1) := dk_42 (dk_at dksX7_build_2 2 rfl rfl)
theorem dX7_build_51 : decode cX7_build 51 = .ok (.getfield 58, 3) := dk_180 0 58 (dk_at dksX7_build_2 3 rfl rfl)
theorem dX7_build_54 : decode cX7_build 54 = .ok (.iload 4, 2) := dk_21 4 (dk_at dksX7_build_2 6 rfl rfl)
theorem dX7_build_56 : decode cX7_build 56 = .ok (.iaload, 1) := dk_46 (dk_at dksX7_build_2 8 rfl rfl)
theorem dX7_build_57 : decode cX7_build 57 = .ok (.iconst (-1), 1) := dk_2 (dk_at dksX7_build_2 9 rfl rfl)
theorem dX7_build_58 : decode cX7_build 58 = .ok (.if_icmp .eq 27, 3) := dk_159 0 27 (dk_at dksX7_build_2 10 rfl rfl)
theorem dX7_build_61 : decode cX7_build 61 = .ok (.aload_n 0, 1) := dk_42 (dk_at dksX7_build_2 13 rfl rfl)
theorem dX7_build_62 : decode cX7_build 62 = .ok (.iload_n 2, 1) := dk_28 (dk_at dksX7_build_2 14 rfl rfl)
theorem dX7_build_63 : decode cX7_build 63 = .ok (.iconst 1, 1) := dk_4 (dk_at dksX7_build_2 15 rfl rfl)
theorem dX7_build_64 : decode cX7_build 64 = .ok (.invokevirtual 195, 3) := dk_182 0 195 (dk_at dksX7_build_2 16 rfl rfl)
theorem dX7_build_67 : decode cX7_build 67 = .ok (.aload_n 0, 1) := dk_42 (dk_at dksX7_build_2 19 rfl rfl)
theorem dX7_build_68 : decode cX7_build 68 = .ok (.getfield 58, 3) := dk_180 0 58 (dk_at dksX7_build_2 20 rfl rfl)
theorem dX7_build_71 : decode cX7_build 71 = .ok (.iload 4, 2) := dk_21 4 (dk_at dksX7_build_3 0 rfl rfl)
theorem dX7_build_73 : decode cX7_build 73 = .ok (.iaload, 1) := dk_46 (dk_at dksX7_build_3 2 rfl rfl)
theorem dX7_build_74 : decode cX7_build 74 = .ok (.if_icmp .lt 11, 3) := dk_161 0 11 (dk_at dksX7_build_3 3 rfl rfl)
theorem dX7_build_77 : decode cX7_build 77 = .ok (.bipush 6, 2) := dk_16 6 (dk_at dksX7_build_3 6 rfl rfl)
theorem dX7_build_79 : decode cX7_build 79 = .ok (.iload 4, 2) := dk_21 4 (dk_at dksX7_build_3 8 rfl rfl)
theorem dX7_build_81 : decode cX7_build 81 = .ok (.iadd, 1) := dk_96 (dk_at dksX7_build_3 10 rfl rfl)
theorem dX7_build_82 : decode cX7_build 82 = .ok (.goto 5, 3) := dk_167 0 5 (dk_at dksX7_build_3 11 rfl rfl)
theorem dX7_build_85 : decode cX7_build 85 = .ok (.iload 4, 2) := dk_21 4 (dk_at dksX7_build_3 14 rfl rfl)
theorem dX7_build_87 : decode cX7_build 87 = .ok (.istore 5, 2) := dk_54 5 (dk_at dksX7_build_3 16 rfl rfl)
theorem dX7_build_89 : decode cX7_build 89 = .ok (.aload_n 0, 1) := dk_42 (dk_at dksX7_build_3 18 rfl rfl)
theorem dX7_build_90 : decode cX7_build 90 = .ok (.iload_n 2, 1) := dk_28 (dk_at dksX7_build_3 19 rfl rfl)
theorem dX7_build_91 : decode cX7_build 91 = .ok (.iconst 2, 1) := dk_5 (dk_at dksX7_build_3 20 rfl rfl)
theorem dX7_build_92 : decode cX7_build 92 = .ok (.invokevirtual 195, 3) := dk_182 0 195 (dk_at dksX7_build_3 21 rfl rfl)
theorem dX7_build_95 : decode cX7_build 95 = .ok (.istore 6, 2) := dk_54 6 (dk_at dksX7_build_4 0 rfl rfl)
theorem dX7_build_97 : decode cX7_build 97 = .ok (.aload_n 0, 1) := dk_42 (dk_at dksX7_build_4 2 rfl rfl)
theorem dX7_build_98 : decode cX7_build 98 = .ok (.iload_n 2, 1) := dk_28 (dk_at dksX7_build_4 3 rfl rfl)
theorem dX7_build_99 : decode cX7_build 99 = .ok (.iconst 3, 1) := dk_6 (dk_at dksX7_build_4 4 rfl rfl)
theorem dX7_build_100 : decode cX7_build 100 = .ok (.invokevirtual 195, 3) := dk_182 0 195 (dk_at dksX7_build_4 5 rfl rfl)
theorem dX7_build_103 : decode cX7_build 103 = .ok (.istore 7, 2) := dk_54 7 (dk_at dksX7_build_4 8 rfl rfl)
theorem dX7_build_105 : decode cX7_build 105 = .ok (.iload 7, 2) := dk_21 7 (dk_at dksX7_build_4 10 rfl rfl)
theorem dX7_build_107 : decode cX7_build 107 = .ok (.iconst 2, 1) := dk_5 (dk_at dksX7_build_4 12 rfl rfl)
theorem dX7_build_108 : decode cX7_build 108 = .ok (.if_icmp .ne 12, 3) := dk_160 0 12 (dk_at dksX7_build_4 13 rfl rfl)
theorem dX7_build_111 : decode cX7_build 111 = .ok (.iconst 2, 1) := dk_5 (dk_at dksX7_build_4 16 rfl rfl)
theorem dX7_build_112 : decode cX7_build 112 = .ok (.iload 6, 2) := dk_21 6 (dk_at dksX7_build_4 17 rfl rfl)
theorem dX7_build_114 : decode cX7_build 114 = .ok (.imul, 1) := dk_104 (dk_at dksX7_build_4 19 rfl rfl)
theorem dX7_build_115 : decode cX7_build 115 = .ok (.iconst 1, 1) := dk_4 (dk_at dksX7_build_4 20 rfl rfl)
theorem dX7_build_116 : decode cX7_build 116 = .ok (.isub, 1) := dk_100 (dk_at dksX7_build_4 21 rfl rfl)
theorem dX7_build_117 : decode cX7_build 117 = .ok (.goto 5, 3) := dk_167 0 5 (dk_at dksX7_build_5 0 rfl rfl)
theorem dX7_build_120 : decode cX7_build 120 = .ok (.iload 6, 2) := dk_21 6 (dk_at dksX7_build_5 3 rfl rfl)
theorem dX7_build_122 : decode cX7_build 122 = .ok (.istore 8, 2) := dk_54 8 (dk_at dksX7_build_5 5 rfl rfl)
theorem dX7_build_124 : decode cX7_build 124 = .ok (.iload 7, 2) := dk_21 7 (dk_at dksX7_build_5 7 rfl rfl)
theorem dX7_build_126 : decode cX7_build 126 = .ok (.ifCond .ne 8, 3) := dk_154 0 8 (dk_at dksX7_build_5 9 rfl rfl)
theorem dX7_build_129 : decode cX7_build 129 = .ok (.iload 6, 2) := dk_21 6 (dk_at dksX7_build_5 12 rfl rfl)
theorem dX7_build_131 : decode cX7_build 131 = .ok (.goto 22, 3) := dk_167 0 22 (dk_at dksX7_build_5 14 rfl rfl)
theorem dX7_build_134 : decode cX7_build 134 = .ok (.iload 7, 2) := dk_21 7 (dk_at dksX7_build_5 17 rfl rfl)
theorem dX7_build_136 : decode cX7_build 136 = .ok (.iconst 1, 1) := dk_4 (dk_at dksX7_build_5 19 rfl rfl)
theorem dX7_build_137 : decode cX7_build 137 = .ok (.if_icmp .ne 10, 3) := dk_160 0 10 (dk_at dksX7_build_5 20 rfl rfl)
theorem dX7_build_140 : decode cX7_build 140 = .ok (.iload 6, 2) := dk_21 6 (dk_at dksX7_build_6 0 rfl rfl)
theorem dX7_build_142 : decode cX7_build 142 = .ok (.iconst 1, 1) := dk_4 (dk_at dksX7_build_6 2 rfl rfl)
theorem dX7_build_143 : decode cX7_build 143 = .ok (.iadd, 1) := dk_96 (dk_at dksX7_build_6 3 rfl rfl)
theorem dX7_build_144 : decode cX7_build 144 = .ok (.goto 9, 3) := dk_167 0 9 (dk_at dksX7_build_6 4 rfl rfl)
theorem dX7_build_147 : decode cX7_build 147 = .ok (.iconst 2, 1) := dk_5 (dk_at dksX7_build_6 7 rfl rfl)
theorem dX7_build_148 : decode cX7_build 148 = .ok (.iload 6, 2) := dk_21 6 (dk_at dksX7_build_6 8 rfl rfl)
theorem dX7_build_150 : decode cX7_build 150 = .ok (.imul, 1) := dk_104 (dk_at dksX7_build_6 10 rfl rfl)
theorem dX7_build_151 : decode cX7_build 151 = .ok (.iconst 1, 1) := dk_4 (dk_at dksX7_build_6 11 rfl rfl)
theorem dX7_build_152 : decode cX7_build 152 = .ok (.iadd, 1) := dk_96 (dk_at dksX7_build_6 12 rfl rfl)
theorem dX7_build_153 : decode cX7_build 153 = .ok (.istore 9, 2) := dk_54 9 (dk_at dksX7_build_6 13 rfl rfl)
theorem dX7_build_155 : decode cX7_build 155 = .ok (.iload 7, 2) := dk_21 7 (dk_at dksX7_build_6 15 rfl rfl)
theorem dX7_build_157 : decode cX7_build 157 = .ok (.iconst 2, 1) := dk_5 (dk_at dksX7_build_6 17 rfl rfl)
theorem dX7_build_158 : decode cX7_build 158 = .ok (.if_icmp .ne 7, 3) := dk_160 0 7 (dk_at dksX7_build_6 18 rfl rfl)
theorem dX7_build_161 : decode cX7_build 161 = .ok (.iconst 2, 1) := dk_5 (dk_at dksX7_build_6 21 rfl rfl)
theorem dX7_build_162 : decode cX7_build 162 = .ok (.goto 4, 3) := dk_167 0 4 (dk_at dksX7_build_7 0 rfl rfl)
theorem dX7_build_165 : decode cX7_build 165 = .ok (.iconst 1, 1) := dk_4 (dk_at dksX7_build_7 3 rfl rfl)
theorem dX7_build_166 : decode cX7_build 166 = .ok (.istore 10, 2) := dk_54 10 (dk_at dksX7_build_7 4 rfl rfl)
theorem dX7_build_168 : decode cX7_build 168 = .ok (.aload_n 0, 1) := dk_42 (dk_at dksX7_build_7 6 rfl rfl)
theorem dX7_build_169 : decode cX7_build 169 = .ok (.bipush 12, 2) := dk_16 12 (dk_at dksX7_build_7 7 rfl rfl)
theorem dX7_build_171 : decode cX7_build 171 = .ok (.iload_n 3, 1) := dk_29 (dk_at dksX7_build_7 9 rfl rfl)
theorem dX7_build_172 : decode cX7_build 172 = .ok (.iadd, 1) := dk_96 (dk_at dksX7_build_7 10 rfl rfl)
theorem dX7_build_173 : decode cX7_build 173 = .ok (.iload 5, 2) := dk_21 5 (dk_at dksX7_build_7 11 rfl rfl)
theorem dX7_build_175 : decode cX7_build 175 = .ok (.iload 8, 2) := dk_21 8 (dk_at dksX7_build_7 13 rfl rfl)
theorem dX7_build_177 : decode cX7_build 177 = .ok (.iload 10, 2) := dk_21 10 (dk_at dksX7_build_7 15 rfl rfl)
theorem dX7_build_179 : decode cX7_build 179 = .ok (.iconst 0, 1) := dk_3 (dk_at dksX7_build_7 17 rfl rfl)
theorem dX7_build_180 : decode cX7_build 180 = .ok (.invokevirtual 339, 3) := dk_182 1 83 (dk_at dksX7_build_7 18 rfl rfl)
theorem dX7_build_183 : decode cX7_build 183 = .ok (.aload_n 0, 1) := dk_42 (dk_at dksX7_build_7 21 rfl rfl)
theorem dX7_build_184 : decode cX7_build 184 = .ok (.iload 5, 2) := dk_21 5 (dk_at dksX7_build_7 22 rfl rfl)
theorem dX7_build_186 : decode cX7_build 186 = .ok (.bipush 12, 2) := dk_16 12 (dk_at dksX7_build_8 0 rfl rfl)
theorem dX7_build_188 : decode cX7_build 188 = .ok (.iload_n 3, 1) := dk_29 (dk_at dksX7_build_8 2 rfl rfl)
theorem dX7_build_189 : decode cX7_build 189 = .ok (.iadd, 1) := dk_96 (dk_at dksX7_build_8 3 rfl rfl)
theorem dX7_build_190 : decode cX7_build 190 = .ok (.iload 10, 2) := dk_21 10 (dk_at dksX7_build_8 4 rfl rfl)
theorem dX7_build_192 : decode cX7_build 192 = .ok (.iload 9, 2) := dk_21 9 (dk_at dksX7_build_8 6 rfl rfl)
theorem dX7_build_194 : decode cX7_build 194 = .ok (.iload 7, 2) := dk_21 7 (dk_at dksX7_build_8 8 rfl rfl)
theorem dX7_build_196 : decode cX7_build 196 = .ok (.ifCond .le 7, 3) := dk_158 0 7 (dk_at dksX7_build_8 10 rfl rfl)
theorem dX7_build_199 : decode cX7_build 199 = .ok (.iconst 1, 1) := dk_4 (dk_at dksX7_build_8 13 rfl rfl)
theorem dX7_build_200 : decode cX7_build 200 = .ok (.goto 4, 3) := dk_167 0 4 (dk_at dksX7_build_8 14 rfl rfl)
theorem dX7_build_203 : decode cX7_build 203 = .ok (.iconst 0, 1) := dk_3 (dk_at dksX7_build_8 17 rfl rfl)
theorem dX7_build_204 : decode cX7_build 204 = .ok (.invokevirtual 339, 3) := dk_182 1 83 (dk_at dksX7_build_8 18 rfl rfl)
theorem dX7_build_207 : decode cX7_build 207 = .ok (.iinc 2 1, 3) := dk_132 2 1 (dk_at dksX7_build_8 21 rfl rfl)
theorem dX7_build_210 : decode cX7_build 210 = .ok (.goto (-203), 3) := dk_167 255 53 (dk_at dksX7_build_9 0 rfl rfl)
theorem dX7_build_213 : decode cX7_build 213 = .ok (.iconst 0, 1) := dk_3 (dk_at dksX7_build_9 3 rfl rfl)
theorem dX7_build_214 : decode cX7_build 214 = .ok (.istore_n 2, 1) := dk_61 (dk_at dksX7_build_9 4 rfl rfl)
theorem dX7_build_215 : decode cX7_build 215 = .ok (.iload_n 2, 1) := dk_28 (dk_at dksX7_build_9 5 rfl rfl)
theorem dX7_build_216 : decode cX7_build 216 = .ok (.aload_n 0, 1) := dk_42 (dk_at dksX7_build_9 6 rfl rfl)
theorem dX7_build_217 : decode cX7_build 217 = .ok (.getfield 13, 3) := dk_180 0 13 (dk_at dksX7_build_9 7 rfl rfl)
theorem dX7_build_220 : decode cX7_build 220 = .ok (.iconst 1, 1) := dk_4 (dk_at dksX7_build_9 10 rfl rfl)
theorem dX7_build_221 : decode cX7_build 221 = .ok (.iaload, 1) := dk_46 (dk_at dksX7_build_9 11 rfl rfl)
theorem dX7_build_222 : decode cX7_build 222 = .ok (.if_icmp .ge 46, 3) := dk_162 0 46 (dk_at dksX7_build_9 12 rfl rfl)
theorem dX7_build_225 : decode cX7_build 225 = .ok (.aload_n 0, 1) := dk_42 (dk_at dksX7_build_9 15 rfl rfl)
theorem dX7_build_226 : decode cX7_build 226 = .ok (.bipush 12, 2) := dk_16 12 (dk_at dksX7_build_9 16 rfl rfl)
theorem dX7_build_228 : decode cX7_build 228 = .ok (.aload_n 0, 1) := dk_42 (dk_at dksX7_build_9 18 rfl rfl)
theorem dX7_build_229 : decode cX7_build 229 = .ok (.getfield 13, 3) := dk_180 0 13 (dk_at dksX7_build_9 19 rfl rfl)
theorem dX7_build_232 : decode cX7_build 232 = .ok (.bipush 48, 2) := dk_16 48 (dk_at dksX7_build_9 22 rfl rfl)
theorem dX7_build_234 : decode cX7_build 234 = .ok (.iconst 2, 1) := dk_5 (dk_at dksX7_build_10 0 rfl rfl)
theorem dX7_build_235 : decode cX7_build 235 = .ok (.iload_n 2, 1) := dk_28 (dk_at dksX7_build_10 1 rfl rfl)
theorem dX7_build_236 : decode cX7_build 236 = .ok (.imul, 1) := dk_104 (dk_at dksX7_build_10 2 rfl rfl)
theorem dX7_build_237 : decode cX7_build 237 = .ok (.iadd, 1) := dk_96 (dk_at dksX7_build_10 3 rfl rfl)
theorem dX7_build_238 : decode cX7_build 238 = .ok (.iaload, 1) := dk_46 (dk_at dksX7_build_10 4 rfl rfl)
theorem dX7_build_239 : decode cX7_build 239 = .ok (.iadd, 1) := dk_96 (dk_at dksX7_build_10 5 rfl rfl)
theorem dX7_build_240 : decode cX7_build 240 = .ok (.bipush 12, 2) := dk_16 12 (dk_at dksX7_build_10 6 rfl rfl)
theorem dX7_build_242 : decode cX7_build 242 = .ok (.aload_n 0, 1) := dk_42 (dk_at dksX7_build_10 8 rfl rfl)
theorem dX7_build_243 : decode cX7_build 243 = .ok (.getfield 13, 3) := dk_180 0 13 (dk_at dksX7_build_10 9 rfl rfl)
theorem dX7_build_246 : decode cX7_build 246 = .ok (.bipush 48, 2) := dk_16 48 (dk_at dksX7_build_10 12 rfl rfl)
theorem dX7_build_248 : decode cX7_build 248 = .ok (.iconst 2, 1) := dk_5 (dk_at dksX7_build_10 14 rfl rfl)
theorem dX7_build_249 : decode cX7_build 249 = .ok (.iload_n 2, 1) := dk_28 (dk_at dksX7_build_10 15 rfl rfl)
theorem dX7_build_250 : decode cX7_build 250 = .ok (.imul, 1) := dk_104 (dk_at dksX7_build_10 16 rfl rfl)
theorem dX7_build_251 : decode cX7_build 251 = .ok (.iadd, 1) := dk_96 (dk_at dksX7_build_10 17 rfl rfl)
theorem dX7_build_252 : decode cX7_build 252 = .ok (.iconst 1, 1) := dk_4 (dk_at dksX7_build_10 18 rfl rfl)
theorem dX7_build_253 : decode cX7_build 253 = .ok (.iadd, 1) := dk_96 (dk_at dksX7_build_10 19 rfl rfl)
theorem dX7_build_254 : decode cX7_build 254 = .ok (.iaload, 1) := dk_46 (dk_at dksX7_build_10 20 rfl rfl)
theorem dX7_build_255 : decode cX7_build 255 = .ok (.iadd, 1) := dk_96 (dk_at dksX7_build_10 21 rfl rfl)
theorem dX7_build_256 : decode cX7_build 256 = .ok (.iconst 1, 1) := dk_4 (dk_at dksX7_build_10 22 rfl rfl)
theorem dX7_build_257 : decode cX7_build 257 = .ok (.iconst 1, 1) := dk_4 (dk_at dksX7_build_10 23 rfl rfl)
theorem dX7_build_258 : decode cX7_build 258 = .ok (.iconst 1, 1) := dk_4 (dk_at dksX7_build_11 0 rfl rfl)
theorem dX7_build_259 : decode cX7_build 259 = .ok (.invokevirtual 339, 3) := dk_182 1 83 (dk_at dksX7_build_11 1 rfl rfl)
theorem dX7_build_262 : decode cX7_build 262 = .ok (.iinc 2 1, 3) := dk_132 2 1 (dk_at dksX7_build_11 4 rfl rfl)
theorem dX7_build_265 : decode cX7_build 265 = .ok (.goto (-50), 3) := dk_167 255 206 (dk_at dksX7_build_11 7 rfl rfl)
theorem dX7_build_268 : decode cX7_build 268 = .ok (.iconst 0, 1) := dk_3 (dk_at dksX7_build_11 10 rfl rfl)
theorem dX7_build_269 : decode cX7_build 269 = .ok (.istore_n 2, 1) := dk_61 (dk_at dksX7_build_11 11 rfl rfl)
theorem dX7_build_270 : decode cX7_build 270 = .ok (.iload_n 2, 1) := dk_28 (dk_at dksX7_build_11 12 rfl rfl)
theorem dX7_build_271 : decode cX7_build 271 = .ok (.bipush 6, 2) := dk_16 6 (dk_at dksX7_build_11 13 rfl rfl)
theorem dX7_build_273 : decode cX7_build 273 = .ok (.if_icmp .ge 31, 3) := dk_162 0 31 (dk_at dksX7_build_11 15 rfl rfl)
theorem dX7_build_276 : decode cX7_build 276 = .ok (.aload_n 0, 1) := dk_42 (dk_at dksX7_build_11 18 rfl rfl)
theorem dX7_build_277 : decode cX7_build 277 = .ok (.getfield 58, 3) := dk_180 0 58 (dk_at dksX7_build_11 19 rfl rfl)
theorem dX7_build_280 : decode cX7_build 280 = .ok (.iload_n 2, 1) := dk_28 (dk_at dksX7_build_11 22 rfl rfl)
theorem dX7_build_281 : decode cX7_build 281 = .ok (.iaload, 1) := dk_46 (dk_at dksX7_build_11 23 rfl rfl)
theorem dX7_build_282 : decode cX7_build 282 = .ok (.iconst (-1), 1) := dk_2 (dk_at dksX7_build_12 0 rfl rfl)
theorem dX7_build_283 : decode cX7_build 283 = .ok (.if_icmp .eq 15, 3) := dk_159 0 15 (dk_at dksX7_build_12 1 rfl rfl)
theorem dX7_build_286 : decode cX7_build 286 = .ok (.aload_n 0, 1) := dk_42 (dk_at dksX7_build_12 4 rfl rfl)
theorem dX7_build_287 : decode cX7_build 287 = .ok (.bipush 6, 2) := dk_16 6 (dk_at dksX7_build_12 5 rfl rfl)
theorem dX7_build_289 : decode cX7_build 289 = .ok (.iload_n 2, 1) := dk_28 (dk_at dksX7_build_12 7 rfl rfl)
theorem dX7_build_290 : decode cX7_build 290 = .ok (.iadd, 1) := dk_96 (dk_at dksX7_build_12 8 rfl rfl)
theorem dX7_build_291 : decode cX7_build 291 = .ok (.iload_n 2, 1) := dk_28 (dk_at dksX7_build_12 9 rfl rfl)
theorem dX7_build_292 : decode cX7_build 292 = .ok (.iconst 1, 1) := dk_4 (dk_at dksX7_build_12 10 rfl rfl)
theorem dX7_build_293 : decode cX7_build 293 = .ok (.iconst 1, 1) := dk_4 (dk_at dksX7_build_12 11 rfl rfl)
theorem dX7_build_294 : decode cX7_build 294 = .ok (.iconst 0, 1) := dk_3 (dk_at dksX7_build_12 12 rfl rfl)
theorem dX7_build_295 : decode cX7_build 295 = .ok (.invokevirtual 339, 3) := dk_182 1 83 (dk_at dksX7_build_12 13 rfl rfl)
theorem dX7_build_298 : decode cX7_build 298 = .ok (.iinc 2 1, 3) := dk_132 2 1 (dk_at dksX7_build_12 16 rfl rfl)
theorem dX7_build_301 : decode cX7_build 301 = .ok (.goto (-31), 3) := dk_167 255 225 (dk_at dksX7_build_12 19 rfl rfl)
theorem dX7_build_304 : decode cX7_build 304 = .ok (.return_, 1) := dk_177 (dk_at dksX7_build_12 22 rfl rfl)
abbrev cX7_is : ByteArray := prog_16_method_4_code
def yX7_is : MethodName := ⟨RX7, "is", "(II)Z"⟩
def dkwX7_is_0 : List UInt8 := [26, 27, 122, 4, 126, 4, 160, 0, 7, 4, 167, 0, 4, 3, 172]
abbrev dktX7_is_0 : List UInt8 := dkwX7_is_0 ++ []
theorem dksX7_is_0 : cX7_is.data.toList.drop 0 = dktX7_is_0 := by decide +kernel
theorem dX7_is_0 : decode cX7_is 0 = .ok (.iload_n 0, 1) := dk_26 (dk_at dksX7_is_0 0 rfl rfl)
theorem dX7_is_1 : decode cX7_is 1 = .ok (.iload_n 1, 1) := dk_27 (dk_at dksX7_is_0 1 rfl rfl)
theorem dX7_is_2 : decode cX7_is 2 = .ok (.ishr, 1) := dk_122 (dk_at dksX7_is_0 2 rfl rfl)
theorem dX7_is_3 : decode cX7_is 3 = .ok (.iconst 1, 1) := dk_4 (dk_at dksX7_is_0 3 rfl rfl)
theorem dX7_is_4 : decode cX7_is 4 = .ok (.iand, 1) := dk_126 (dk_at dksX7_is_0 4 rfl rfl)
theorem dX7_is_5 : decode cX7_is 5 = .ok (.iconst 1, 1) := dk_4 (dk_at dksX7_is_0 5 rfl rfl)
theorem dX7_is_6 : decode cX7_is 6 = .ok (.if_icmp .ne 7, 3) := dk_160 0 7 (dk_at dksX7_is_0 6 rfl rfl)
theorem dX7_is_9 : decode cX7_is 9 = .ok (.iconst 1, 1) := dk_4 (dk_at dksX7_is_0 9 rfl rfl)
theorem dX7_is_10 : decode cX7_is 10 = .ok (.goto 4, 3) := dk_167 0 4 (dk_at dksX7_is_0 10 rfl rfl)
theorem dX7_is_13 : decode cX7_is 13 = .ok (.iconst 0, 1) := dk_3 (dk_at dksX7_is_0 13 rfl rfl)
theorem dX7_is_14 : decode cX7_is 14 = .ok (.ireturn, 1) := dk_172 (dk_at dksX7_is_0 14 rfl rfl)
abbrev cX7_edge : ByteArray := prog_16_method_53_code
def yX7_edge : MethodName := ⟨RX7, "edge", "(IIIIZ)V"⟩
def dkwX7_edge_2 : List UInt8 := [180, 1, 77, 21, 5, 84, 42, 89, 180, 1, 77, 4, 96, 181, 1, 77, 177]
abbrev dktX7_edge_2 : List UInt8 := dkwX7_edge_2 ++ []
def dkwX7_edge_1 : List UInt8 := [42, 180, 1, 77, 29, 79, 42, 180, 0, 49, 42, 180, 1, 77, 21, 4, 79, 42, 180, 0, 52, 42]
abbrev dktX7_edge_1 : List UInt8 := dkwX7_edge_1 ++ dktX7_edge_2
def dkwX7_edge_0 : List UInt8 := [42, 180, 0, 40, 42, 180, 1, 77, 27, 79, 42, 180, 0, 43, 42, 180, 1, 77, 28, 79, 42, 180, 0, 46]
abbrev dktX7_edge_0 : List UInt8 := dkwX7_edge_0 ++ dktX7_edge_1
theorem dksX7_edge_0 : cX7_edge.data.toList.drop 0 = dktX7_edge_0 := by decide +kernel
theorem dksX7_edge_1 : cX7_edge.data.toList.drop 24 = dktX7_edge_1 := dk_seg dksX7_edge_0 24 rfl rfl
theorem dksX7_edge_2 : cX7_edge.data.toList.drop 46 = dktX7_edge_2 := dk_seg dksX7_edge_1 22 rfl rfl
theorem dX7_edge_0 : decode cX7_edge 0 = .ok (.aload_n 0, 1) := dk_42 (dk_at dksX7_edge_0 0 rfl rfl)
theorem dX7_edge_1 : decode cX7_edge 1 = .ok (.getfield 40, 3) := dk_180 0 40 (dk_at dksX7_edge_0 1 rfl rfl)
theorem dX7_edge_4 : decode cX7_edge 4 = .ok (.aload_n 0, 1) := dk_42 (dk_at dksX7_edge_0 4 rfl rfl)
theorem dX7_edge_5 : decode cX7_edge 5 = .ok (.getfield 333, 3) := dk_180 1 77 (dk_at dksX7_edge_0 5 rfl rfl)
theorem dX7_edge_8 : decode cX7_edge 8 = .ok (.iload_n 1, 1) := dk_27 (dk_at dksX7_edge_0 8 rfl rfl)
theorem dX7_edge_9 : decode cX7_edge 9 = .ok (.iastore, 1) := dk_79 (dk_at dksX7_edge_0 9 rfl rfl)
theorem dX7_edge_10 : decode cX7_edge 10 = .ok (.aload_n 0, 1) := dk_42 (dk_at dksX7_edge_0 10 rfl rfl)
theorem dX7_edge_11 : decode cX7_edge 11 = .ok (.getfield 43, 3) := dk_180 0 43 (dk_at dksX7_edge_0 11 rfl rfl)
theorem dX7_edge_14 : decode cX7_edge 14 = .ok (.aload_n 0, 1) := dk_42 (dk_at dksX7_edge_0 14 rfl rfl)
theorem dX7_edge_15 : decode cX7_edge 15 = .ok (.getfield 333, 3) := dk_180 1 77 (dk_at dksX7_edge_0 15 rfl rfl)
theorem dX7_edge_18 : decode cX7_edge 18 = .ok (.iload_n 2, 1) := dk_28 (dk_at dksX7_edge_0 18 rfl rfl)
theorem dX7_edge_19 : decode cX7_edge 19 = .ok (.iastore, 1) := dk_79 (dk_at dksX7_edge_0 19 rfl rfl)
theorem dX7_edge_20 : decode cX7_edge 20 = .ok (.aload_n 0, 1) := dk_42 (dk_at dksX7_edge_0 20 rfl rfl)
theorem dX7_edge_21 : decode cX7_edge 21 = .ok (.getfield 46, 3) := dk_180 0 46 (dk_at dksX7_edge_0 21 rfl rfl)
theorem dX7_edge_24 : decode cX7_edge 24 = .ok (.aload_n 0, 1) := dk_42 (dk_at dksX7_edge_1 0 rfl rfl)
theorem dX7_edge_25 : decode cX7_edge 25 = .ok (.getfield 333, 3) := dk_180 1 77 (dk_at dksX7_edge_1 1 rfl rfl)
theorem dX7_edge_28 : decode cX7_edge 28 = .ok (.iload_n 3, 1) := dk_29 (dk_at dksX7_edge_1 4 rfl rfl)
theorem dX7_edge_29 : decode cX7_edge 29 = .ok (.iastore, 1) := dk_79 (dk_at dksX7_edge_1 5 rfl rfl)
theorem dX7_edge_30 : decode cX7_edge 30 = .ok (.aload_n 0, 1) := dk_42 (dk_at dksX7_edge_1 6 rfl rfl)
theorem dX7_edge_31 : decode cX7_edge 31 = .ok (.getfield 49, 3) := dk_180 0 49 (dk_at dksX7_edge_1 7 rfl rfl)
theorem dX7_edge_34 : decode cX7_edge 34 = .ok (.aload_n 0, 1) := dk_42 (dk_at dksX7_edge_1 10 rfl rfl)
theorem dX7_edge_35 : decode cX7_edge 35 = .ok (.getfield 333, 3) := dk_180 1 77 (dk_at dksX7_edge_1 11 rfl rfl)
theorem dX7_edge_38 : decode cX7_edge 38 = .ok (.iload 4, 2) := dk_21 4 (dk_at dksX7_edge_1 14 rfl rfl)
theorem dX7_edge_40 : decode cX7_edge 40 = .ok (.iastore, 1) := dk_79 (dk_at dksX7_edge_1 16 rfl rfl)
theorem dX7_edge_41 : decode cX7_edge 41 = .ok (.aload_n 0, 1) := dk_42 (dk_at dksX7_edge_1 17 rfl rfl)
theorem dX7_edge_42 : decode cX7_edge 42 = .ok (.getfield 52, 3) := dk_180 0 52 (dk_at dksX7_edge_1 18 rfl rfl)
theorem dX7_edge_45 : decode cX7_edge 45 = .ok (.aload_n 0, 1) := dk_42 (dk_at dksX7_edge_1 21 rfl rfl)
theorem dX7_edge_46 : decode cX7_edge 46 = .ok (.getfield 333, 3) := dk_180 1 77 (dk_at dksX7_edge_2 0 rfl rfl)
theorem dX7_edge_49 : decode cX7_edge 49 = .ok (.iload 5, 2) := dk_21 5 (dk_at dksX7_edge_2 3 rfl rfl)
theorem dX7_edge_51 : decode cX7_edge 51 = .ok (.bastore, 1) := dk_84 (dk_at dksX7_edge_2 5 rfl rfl)
theorem dX7_edge_52 : decode cX7_edge 52 = .ok (.aload_n 0, 1) := dk_42 (dk_at dksX7_edge_2 6 rfl rfl)
theorem dX7_edge_53 : decode cX7_edge 53 = .ok (.dup, 1) := dk_89 (dk_at dksX7_edge_2 7 rfl rfl)
theorem dX7_edge_54 : decode cX7_edge 54 = .ok (.getfield 333, 3) := dk_180 1 77 (dk_at dksX7_edge_2 8 rfl rfl)
theorem dX7_edge_57 : decode cX7_edge 57 = .ok (.iconst 1, 1) := dk_4 (dk_at dksX7_edge_2 11 rfl rfl)
theorem dX7_edge_58 : decode cX7_edge 58 = .ok (.iadd, 1) := dk_96 (dk_at dksX7_edge_2 12 rfl rfl)
theorem dX7_edge_59 : decode cX7_edge 59 = .ok (.putfield 333, 3) := dk_181 1 77 (dk_at dksX7_edge_2 13 rfl rfl)
theorem dX7_edge_62 : decode cX7_edge 62 = .ok (.return_, 1) := dk_177 (dk_at dksX7_edge_2 16 rfl rfl)
abbrev cX7_startAt : ByteArray := prog_16_method_56_code
def yX7_startAt : MethodName := ⟨RX7, "startAt", "(I)V"⟩
def dkwX7_startAt_3 : List UInt8 := [2, 159, 0, 8, 28, 27, 160, 0, 7, 4, 167, 0, 4, 3, 84, 132, 2, 1, 167, 255, 168, 177]
abbrev dktX7_startAt_3 : List UInt8 := dkwX7_startAt_3 ++ []
def dkwX7_startAt_2 : List UInt8 := [167, 0, 4, 9, 80, 132, 3, 1, 167, 255, 210, 42, 180, 0, 67, 28, 3, 84, 42, 180, 0, 70, 28, 27]
abbrev dktX7_startAt_2 : List UInt8 := dkwX7_startAt_2 ++ dktX7_startAt_3
def dkwX7_startAt_1 : List UInt8 := [29, 154, 0, 7, 10, 167, 0, 4, 9, 80, 42, 180, 0, 64, 8, 28, 104, 29, 96, 29, 154, 0, 7, 10]
abbrev dktX7_startAt_1 : List UInt8 := dkwX7_startAt_1 ++ dktX7_startAt_2
def dkwX7_startAt_0 : List UInt8 := [3, 61, 28, 16, 16, 162, 0, 88, 3, 62, 29, 8, 162, 0, 47, 42, 180, 0, 61, 8, 28, 104, 29, 96]
abbrev dktX7_startAt_0 : List UInt8 := dkwX7_startAt_0 ++ dktX7_startAt_1
theorem dksX7_startAt_0 : cX7_startAt.data.toList.drop 0 = dktX7_startAt_0 := by decide +kernel
theorem dksX7_startAt_1 : cX7_startAt.data.toList.drop 24 = dktX7_startAt_1 := dk_seg dksX7_startAt_0 24 rfl rfl
theorem dksX7_startAt_2 : cX7_startAt.data.toList.drop 48 = dktX7_startAt_2 := dk_seg dksX7_startAt_1 24 rfl rfl
theorem dksX7_startAt_3 : cX7_startAt.data.toList.drop 72 = dktX7_startAt_3 := dk_seg dksX7_startAt_2 24 rfl rfl
theorem dX7_startAt_0 : decode cX7_startAt 0 = .ok (.iconst 0, 1) := dk_3 (dk_at dksX7_startAt_0 0 rfl rfl)
theorem dX7_startAt_1 : decode cX7_startAt 1 = .ok (.istore_n 2, 1) := dk_61 (dk_at dksX7_startAt_0 1 rfl rfl)
theorem dX7_startAt_2 : decode cX7_startAt 2 = .ok (.iload_n 2, 1) := dk_28 (dk_at dksX7_startAt_0 2 rfl rfl)
theorem dX7_startAt_3 : decode cX7_startAt 3 = .ok (.bipush 16, 2) := dk_16 16 (dk_at dksX7_startAt_0 3 rfl rfl)
theorem dX7_startAt_5 : decode cX7_startAt 5 = .ok (.if_icmp .ge 88, 3) := dk_162 0 88 (dk_at dksX7_startAt_0 5 rfl rfl)
theorem dX7_startAt_8 : decode cX7_startAt 8 = .ok (.iconst 0, 1) := dk_3 (dk_at dksX7_startAt_0 8 rfl rfl)
theorem dX7_startAt_9 : decode cX7_startAt 9 = .ok (.istore_n 3, 1) := dk_62 (dk_at dksX7_startAt_0 9 rfl rfl)
theorem dX7_startAt_10 : decode cX7_startAt 10 = .ok (.iload_n 3, 1) := dk_29 (dk_at dksX7_startAt_0 10 rfl rfl)
theorem dX7_startAt_11 : decode cX7_startAt 11 = .ok (.iconst 5, 1) := dk_8 (dk_at dksX7_startAt_0 11 rfl rfl)
theorem dX7_startAt_12 : decode cX7_startAt 12 = .ok (.if_icmp .ge 47, 3) := dk_162 0 47 (dk_at dksX7_startAt_0 12 rfl rfl)
theorem dX7_startAt_15 : decode cX7_startAt 15 = .ok (.aload_n 0, 1) := dk_42 (dk_at dksX7_startAt_0 15 rfl rfl)
theorem dX7_startAt_16 : decode cX7_startAt 16 = .ok (.getfield 61, 3) := dk_180 0 61 (dk_at dksX7_startAt_0 16 rfl rfl)
theorem dX7_startAt_19 : decode cX7_startAt 19 = .ok (.iconst 5, 1) := dk_8 (dk_at dksX7_startAt_0 19 rfl rfl)
theorem dX7_startAt_20 : decode cX7_startAt 20 = .ok (.iload_n 2, 1) := dk_28 (dk_at dksX7_startAt_0 20 rfl rfl)
theorem dX7_startAt_21 : decode cX7_startAt 21 = .ok (.imul, 1) := dk_104 (dk_at dksX7_startAt_0 21 rfl rfl)
theorem dX7_startAt_22 : decode cX7_startAt 22 = .ok (.iload_n 3, 1) := dk_29 (dk_at dksX7_startAt_0 22 rfl rfl)
theorem dX7_startAt_23 : decode cX7_startAt 23 = .ok (.iadd, 1) := dk_96 (dk_at dksX7_startAt_0 23 rfl rfl)
theorem dX7_startAt_24 : decode cX7_startAt 24 = .ok (.iload_n 3, 1) := dk_29 (dk_at dksX7_startAt_1 0 rfl rfl)
theorem dX7_startAt_25 : decode cX7_startAt 25 = .ok (.ifCond .ne 7, 3) := dk_154 0 7 (dk_at dksX7_startAt_1 1 rfl rfl)
theorem dX7_startAt_28 : decode cX7_startAt 28 = .ok (.lconst 1, 1) := dk_10 (dk_at dksX7_startAt_1 4 rfl rfl)
theorem dX7_startAt_29 : decode cX7_startAt 29 = .ok (.goto 4, 3) := dk_167 0 4 (dk_at dksX7_startAt_1 5 rfl rfl)
theorem dX7_startAt_32 : decode cX7_startAt 32 = .ok (.lconst 0, 1) := dk_9 (dk_at dksX7_startAt_1 8 rfl rfl)
theorem dX7_startAt_33 : decode cX7_startAt 33 = .ok (.lastore, 1) := dk_80 (dk_at dksX7_startAt_1 9 rfl rfl)
theorem dX7_startAt_34 : decode cX7_startAt 34 = .ok (.aload_n 0, 1) := dk_42 (dk_at dksX7_startAt_1 10 rfl rfl)
theorem dX7_startAt_35 : decode cX7_startAt 35 = .ok (.getfield 64, 3) := dk_180 0 64 (dk_at dksX7_startAt_1 11 rfl rfl)
theorem dX7_startAt_38 : decode cX7_startAt 38 = .ok (.iconst 5, 1) := dk_8 (dk_at dksX7_startAt_1 14 rfl rfl)
theorem dX7_startAt_39 : decode cX7_startAt 39 = .ok (.iload_n 2, 1) := dk_28 (dk_at dksX7_startAt_1 15 rfl rfl)
theorem dX7_startAt_40 : decode cX7_startAt 40 = .ok (.imul, 1) := dk_104 (dk_at dksX7_startAt_1 16 rfl rfl)
theorem dX7_startAt_41 : decode cX7_startAt 41 = .ok (.iload_n 3, 1) := dk_29 (dk_at dksX7_startAt_1 17 rfl rfl)
theorem dX7_startAt_42 : decode cX7_startAt 42 = .ok (.iadd, 1) := dk_96 (dk_at dksX7_startAt_1 18 rfl rfl)
theorem dX7_startAt_43 : decode cX7_startAt 43 = .ok (.iload_n 3, 1) := dk_29 (dk_at dksX7_startAt_1 19 rfl rfl)
theorem dX7_startAt_44 : decode cX7_startAt 44 = .ok (.ifCond .ne 7, 3) := dk_154 0 7 (dk_at dksX7_startAt_1 20 rfl rfl)
theorem dX7_startAt_47 : decode cX7_startAt 47 = .ok (.lconst 1, 1) := dk_10 (dk_at dksX7_startAt_1 23 rfl rfl)
theorem dX7_startAt_48 : decode cX7_startAt 48 = .ok (.goto 4, 3) := dk_167 0 4 (dk_at dksX7_startAt_2 0 rfl rfl)
theorem dX7_startAt_51 : decode cX7_startAt 51 = .ok (.lconst 0, 1) := dk_9 (dk_at dksX7_startAt_2 3 rfl rfl)
theorem dX7_startAt_52 : decode cX7_startAt 52 = .ok (.lastore, 1) := dk_80 (dk_at dksX7_startAt_2 4 rfl rfl)
theorem dX7_startAt_53 : decode cX7_startAt 53 = .ok (.iinc 3 1, 3) := dk_132 3 1 (dk_at dksX7_startAt_2 5 rfl rfl)
theorem dX7_startAt_56 : decode cX7_startAt 56 = .ok (.goto (-46), 3) := dk_167 255 210 (dk_at dksX7_startAt_2 8 rfl rfl)
theorem dX7_startAt_59 : decode cX7_startAt 59 = .ok (.aload_n 0, 1) := dk_42 (dk_at dksX7_startAt_2 11 rfl rfl)
theorem dX7_startAt_60 : decode cX7_startAt 60 = .ok (.getfield 67, 3) := dk_180 0 67 (dk_at dksX7_startAt_2 12 rfl rfl)
theorem dX7_startAt_63 : decode cX7_startAt 63 = .ok (.iload_n 2, 1) := dk_28 (dk_at dksX7_startAt_2 15 rfl rfl)
theorem dX7_startAt_64 : decode cX7_startAt 64 = .ok (.iconst 0, 1) := dk_3 (dk_at dksX7_startAt_2 16 rfl rfl)
theorem dX7_startAt_65 : decode cX7_startAt 65 = .ok (.bastore, 1) := dk_84 (dk_at dksX7_startAt_2 17 rfl rfl)
theorem dX7_startAt_66 : decode cX7_startAt 66 = .ok (.aload_n 0, 1) := dk_42 (dk_at dksX7_startAt_2 18 rfl rfl)
theorem dX7_startAt_67 : decode cX7_startAt 67 = .ok (.getfield 70, 3) := dk_180 0 70 (dk_at dksX7_startAt_2 19 rfl rfl)
theorem dX7_startAt_70 : decode cX7_startAt 70 = .ok (.iload_n 2, 1) := dk_28 (dk_at dksX7_startAt_2 22 rfl rfl)
theorem dX7_startAt_71 : decode cX7_startAt 71 = .ok (.iload_n 1, 1) := dk_27 (dk_at dksX7_startAt_2 23 rfl rfl)
theorem dX7_startAt_72 : decode cX7_startAt 72 = .ok (.iconst (-1), 1) := dk_2 (dk_at dksX7_startAt_3 0 rfl rfl)
theorem dX7_startAt_73 : decode cX7_startAt 73 = .ok (.if_icmp .eq 8, 3) := dk_159 0 8 (dk_at dksX7_startAt_3 1 rfl rfl)
theorem dX7_startAt_76 : decode cX7_startAt 76 = .ok (.iload_n 2, 1) := dk_28 (dk_at dksX7_startAt_3 4 rfl rfl)
theorem dX7_startAt_77 : decode cX7_startAt 77 = .ok (.iload_n 1, 1) := dk_27 (dk_at dksX7_startAt_3 5 rfl rfl)
theorem dX7_startAt_78 : decode cX7_startAt 78 = .ok (.if_icmp .ne 7, 3) := dk_160 0 7 (dk_at dksX7_startAt_3 6 rfl rfl)
theorem dX7_startAt_81 : decode cX7_startAt 81 = .ok (.iconst 1, 1) := dk_4 (dk_at dksX7_startAt_3 9 rfl rfl)
theorem dX7_startAt_82 : decode cX7_startAt 82 = .ok (.goto 4, 3) := dk_167 0 4 (dk_at dksX7_startAt_3 10 rfl rfl)
theorem dX7_startAt_85 : decode cX7_startAt 85 = .ok (.iconst 0, 1) := dk_3 (dk_at dksX7_startAt_3 13 rfl rfl)
theorem dX7_startAt_86 : decode cX7_startAt 86 = .ok (.bastore, 1) := dk_84 (dk_at dksX7_startAt_3 14 rfl rfl)
theorem dX7_startAt_87 : decode cX7_startAt 87 = .ok (.iinc 2 1, 3) := dk_132 2 1 (dk_at dksX7_startAt_3 15 rfl rfl)
theorem dX7_startAt_90 : decode cX7_startAt 90 = .ok (.goto (-88), 3) := dk_167 255 168 (dk_at dksX7_startAt_3 18 rfl rfl)
theorem dX7_startAt_93 : decode cX7_startAt 93 = .ok (.return_, 1) := dk_177 (dk_at dksX7_startAt_3 21 rfl rfl)
abbrev cX7_round : ByteArray := prog_16_method_58_code
def yX7_round : MethodName := ⟨RX7, "round", "(Z)Z"⟩
def dkwX7_round_11 : List UInt8 := [167, 255, 7, 42, 4, 182, 1, 87, 28, 172]
abbrev dktX7_round_11 : List UInt8 := dkwX7_round_11 ++ []
def dkwX7_round_10 : List UInt8 := [42, 180, 0, 79, 21, 5, 21, 6, 84, 42, 180, 0, 82, 21, 5, 4, 84, 4, 61, 132, 3, 1]
abbrev dktX7_round_10 : List UInt8 := dkwX7_round_10 ++ dktX7_round_11
def dkwX7_round_9 : List UInt8 := [180, 0, 76, 8, 21, 5, 104, 21, 8, 96, 42, 180, 0, 88, 21, 8, 47, 80, 132, 8, 1, 167, 255, 209]
abbrev dktX7_round_9 : List UInt8 := dkwX7_round_9 ++ dktX7_round_10
def dkwX7_round_8 : List UInt8 := [162, 0, 47, 42, 180, 0, 73, 8, 21, 5, 104, 21, 8, 96, 42, 180, 0, 85, 21, 8, 47, 80, 42]
abbrev dktX7_round_8 : List UInt8 := dkwX7_round_8 ++ dktX7_round_9
def dkwX7_round_7 : List UInt8 := [154, 0, 90, 21, 6, 153, 0, 85, 42, 180, 0, 79, 21, 5, 51, 154, 0, 75, 3, 54, 8, 21, 8, 8]
abbrev dktX7_round_7 : List UInt8 := dkwX7_round_7 ++ dktX7_round_8
def dkwX7_round_6 : List UInt8 := [180, 0, 76, 8, 21, 5, 104, 182, 1, 94, 167, 0, 4, 4, 54, 7, 21, 7, 157, 0, 23, 21, 7]
abbrev dktX7_round_6 : List UInt8 := dkwX7_round_6 ++ dktX7_round_7
def dkwX7_round_5 : List UInt8 := [180, 0, 82, 21, 5, 51, 153, 0, 31, 42, 42, 180, 0, 85, 42, 180, 0, 88, 3, 42, 180, 0, 73, 42]
abbrev dktX7_round_5 : List UInt8 := dkwX7_round_5 ++ dktX7_round_6
def dkwX7_round_4 : List UInt8 := [21, 4, 51, 154, 0, 12, 42, 180, 0, 52, 29, 51, 153, 0, 7, 4, 167, 0, 4, 3, 54, 6, 42]
abbrev dktX7_round_4 : List UInt8 := dkwX7_round_4 ++ dktX7_round_5
def dkwX7_round_3 : List UInt8 := [180, 0, 64, 8, 21, 4, 104, 42, 180, 0, 49, 29, 46, 184, 1, 90, 27, 153, 0, 26, 42, 180, 0, 67]
abbrev dktX7_round_3 : List UInt8 := dkwX7_round_3 ++ dktX7_round_4
def dkwX7_round_2 : List UInt8 := [3, 42, 180, 0, 61, 8, 21, 4, 104, 42, 180, 0, 46, 29, 46, 184, 1, 90, 42, 180, 0, 88, 3, 42]
abbrev dktX7_round_2 : List UInt8 := dkwX7_round_2 ++ dktX7_round_3
def dkwX7_round_1 : List UInt8 := [54, 4, 42, 180, 0, 43, 29, 46, 54, 5, 42, 180, 0, 70, 21, 4, 51, 153, 0, 215, 42, 180, 0, 85]
abbrev dktX7_round_1 : List UInt8 := dkwX7_round_1 ++ dktX7_round_2
def dkwX7_round_0 : List UInt8 := [3, 61, 42, 3, 182, 1, 87, 3, 62, 29, 42, 180, 1, 77, 162, 0, 247, 42, 180, 0, 40, 29, 46]
abbrev dktX7_round_0 : List UInt8 := dkwX7_round_0 ++ dktX7_round_1
theorem dksX7_round_0 : cX7_round.data.toList.drop 0 = dktX7_round_0 := by decide +kernel
theorem dksX7_round_1 : cX7_round.data.toList.drop 23 = dktX7_round_1 := dk_seg dksX7_round_0 23 rfl rfl
theorem dksX7_round_2 : cX7_round.data.toList.drop 47 = dktX7_round_2 := dk_seg dksX7_round_1 24 rfl rfl
theorem dksX7_round_3 : cX7_round.data.toList.drop 71 = dktX7_round_3 := dk_seg dksX7_round_2 24 rfl rfl
theorem dksX7_round_4 : cX7_round.data.toList.drop 95 = dktX7_round_4 := dk_seg dksX7_round_3 24 rfl rfl
theorem dksX7_round_5 : cX7_round.data.toList.drop 118 = dktX7_round_5 := dk_seg dksX7_round_4 23 rfl rfl
theorem dksX7_round_6 : cX7_round.data.toList.drop 142 = dktX7_round_6 := dk_seg dksX7_round_5 24 rfl rfl
theorem dksX7_round_7 : cX7_round.data.toList.drop 165 = dktX7_round_7 := dk_seg dksX7_round_6 23 rfl rfl
theorem dksX7_round_8 : cX7_round.data.toList.drop 189 = dktX7_round_8 := dk_seg dksX7_round_7 24 rfl rfl
theorem dksX7_round_9 : cX7_round.data.toList.drop 212 = dktX7_round_9 := dk_seg dksX7_round_8 23 rfl rfl
theorem dksX7_round_10 : cX7_round.data.toList.drop 236 = dktX7_round_10 := dk_seg dksX7_round_9 24 rfl rfl
theorem dksX7_round_11 : cX7_round.data.toList.drop 258 = dktX7_round_11 := dk_seg dksX7_round_10 22 rfl rfl
theorem dX7_round_0 : decode cX7_round 0 = .ok (.iconst 0, 1) := dk_3 (dk_at dksX7_round_0 0 rfl rfl)
theorem dX7_round_1 : decode cX7_round 1 = .ok (.istore_n 2, 1) := dk_61 (dk_at dksX7_round_0 1 rfl rfl)
theorem dX7_round_2 : decode cX7_round 2 = .ok (.aload_n 0, 1) := dk_42 (dk_at dksX7_round_0 2 rfl rfl)
theorem dX7_round_3 : decode cX7_round 3 = .ok (.iconst 0, 1) := dk_3 (dk_at dksX7_round_0 3 rfl rfl)
theorem dX7_round_4 : decode cX7_round 4 = .ok (.invokevirtual 343, 3) := dk_182 1 87 (dk_at dksX7_round_0 4 rfl rfl)
theorem dX7_round_7 : decode cX7_round 7 = .ok (.iconst 0, 1) := dk_3 (dk_at dksX7_round_0 7 rfl rfl)
theorem dX7_round_8 : decode cX7_round 8 = .ok (.istore_n 3, 1) := dk_62 (dk_at dksX7_round_0 8 rfl rfl)
theorem dX7_round_9 : decode cX7_round 9 = .ok (.iload_n 3, 1) := dk_29 (dk_at dksX7_round_0 9 rfl rfl)
theorem dX7_round_10 : decode cX7_round 10 = .ok (.aload_n 0, 1) := dk_42 (dk_at dksX7_round_0 10 rfl rfl)
theorem dX7_round_11 : decode cX7_round 11 = .ok (.getfield 333, 3) := dk_180 1 77 (dk_at dksX7_round_0 11 rfl rfl)
theorem dX7_round_14 : decode cX7_round 14 = .ok (.if_icmp .ge 247, 3) := dk_162 0 247 (dk_at dksX7_round_0 14 rfl rfl)
theorem dX7_round_17 : decode cX7_round 17 = .ok (.aload_n 0, 1) := dk_42 (dk_at dksX7_round_0 17 rfl rfl)
theorem dX7_round_18 : decode cX7_round 18 = .ok (.getfield 40, 3) := dk_180 0 40 (dk_at dksX7_round_0 18 rfl rfl)
theorem dX7_round_21 : decode cX7_round 21 = .ok (.iload_n 3, 1) := dk_29 (dk_at dksX7_round_0 21 rfl rfl)
theorem dX7_round_22 : decode cX7_round 22 = .ok (.iaload, 1) := dk_46 (dk_at dksX7_round_0 22 rfl rfl)
theorem dX7_round_23 : decode cX7_round 23 = .ok (.istore 4, 2) := dk_54 4 (dk_at dksX7_round_1 0 rfl rfl)
theorem dX7_round_25 : decode cX7_round 25 = .ok (.aload_n 0, 1) := dk_42 (dk_at dksX7_round_1 2 rfl rfl)
theorem dX7_round_26 : decode cX7_round 26 = .ok (.getfield 43, 3) := dk_180 0 43 (dk_at dksX7_round_1 3 rfl rfl)
theorem dX7_round_29 : decode cX7_round 29 = .ok (.iload_n 3, 1) := dk_29 (dk_at dksX7_round_1 6 rfl rfl)
theorem dX7_round_30 : decode cX7_round 30 = .ok (.iaload, 1) := dk_46 (dk_at dksX7_round_1 7 rfl rfl)
theorem dX7_round_31 : decode cX7_round 31 = .ok (.istore 5, 2) := dk_54 5 (dk_at dksX7_round_1 8 rfl rfl)
theorem dX7_round_33 : decode cX7_round 33 = .ok (.aload_n 0, 1) := dk_42 (dk_at dksX7_round_1 10 rfl rfl)
theorem dX7_round_34 : decode cX7_round 34 = .ok (.getfield 70, 3) := dk_180 0 70 (dk_at dksX7_round_1 11 rfl rfl)
theorem dX7_round_37 : decode cX7_round 37 = .ok (.iload 4, 2) := dk_21 4 (dk_at dksX7_round_1 14 rfl rfl)
theorem dX7_round_39 : decode cX7_round 39 = .ok (.baload, 1) := dk_51 (dk_at dksX7_round_1 16 rfl rfl)
theorem dX7_round_40 : decode cX7_round 40 = .ok (.ifCond .eq 215, 3) := dk_153 0 215 (dk_at dksX7_round_1 17 rfl rfl)
theorem dX7_round_43 : decode cX7_round 43 = .ok (.aload_n 0, 1) := dk_42 (dk_at dksX7_round_1 20 rfl rfl)
theorem dX7_round_44 : decode cX7_round 44 = .ok (.getfield 85, 3) := dk_180 0 85 (dk_at dksX7_round_1 21 rfl rfl)
theorem dX7_round_47 : decode cX7_round 47 = .ok (.iconst 0, 1) := dk_3 (dk_at dksX7_round_2 0 rfl rfl)
theorem dX7_round_48 : decode cX7_round 48 = .ok (.aload_n 0, 1) := dk_42 (dk_at dksX7_round_2 1 rfl rfl)
theorem dX7_round_49 : decode cX7_round 49 = .ok (.getfield 61, 3) := dk_180 0 61 (dk_at dksX7_round_2 2 rfl rfl)
theorem dX7_round_52 : decode cX7_round 52 = .ok (.iconst 5, 1) := dk_8 (dk_at dksX7_round_2 5 rfl rfl)
theorem dX7_round_53 : decode cX7_round 53 = .ok (.iload 4, 2) := dk_21 4 (dk_at dksX7_round_2 6 rfl rfl)
theorem dX7_round_55 : decode cX7_round 55 = .ok (.imul, 1) := dk_104 (dk_at dksX7_round_2 8 rfl rfl)
theorem dX7_round_56 : decode cX7_round 56 = .ok (.aload_n 0, 1) := dk_42 (dk_at dksX7_round_2 9 rfl rfl)
theorem dX7_round_57 : decode cX7_round 57 = .ok (.getfield 46, 3) := dk_180 0 46 (dk_at dksX7_round_2 10 rfl rfl)
theorem dX7_round_60 : decode cX7_round 60 = .ok (.iload_n 3, 1) := dk_29 (dk_at dksX7_round_2 13 rfl rfl)
theorem dX7_round_61 : decode cX7_round 61 = .ok (.iaload, 1) := dk_46 (dk_at dksX7_round_2 14 rfl rfl)
theorem dX7_round_62 : decode cX7_round 62 = .ok (.invokestatic 346, 3) := dk_184 1 90 (dk_at dksX7_round_2 15 rfl rfl)
theorem dX7_round_65 : decode cX7_round 65 = .ok (.aload_n 0, 1) := dk_42 (dk_at dksX7_round_2 18 rfl rfl)
theorem dX7_round_66 : decode cX7_round 66 = .ok (.getfield 88, 3) := dk_180 0 88 (dk_at dksX7_round_2 19 rfl rfl)
theorem dX7_round_69 : decode cX7_round 69 = .ok (.iconst 0, 1) := dk_3 (dk_at dksX7_round_2 22 rfl rfl)
theorem dX7_round_70 : decode cX7_round 70 = .ok (.aload_n 0, 1) := dk_42 (dk_at dksX7_round_2 23 rfl rfl)
theorem dX7_round_71 : decode cX7_round 71 = .ok (.getfield 64, 3) := dk_180 0 64 (dk_at dksX7_round_3 0 rfl rfl)
theorem dX7_round_74 : decode cX7_round 74 = .ok (.iconst 5, 1) := dk_8 (dk_at dksX7_round_3 3 rfl rfl)
theorem dX7_round_75 : decode cX7_round 75 = .ok (.iload 4, 2) := dk_21 4 (dk_at dksX7_round_3 4 rfl rfl)
theorem dX7_round_77 : decode cX7_round 77 = .ok (.imul, 1) := dk_104 (dk_at dksX7_round_3 6 rfl rfl)
theorem dX7_round_78 : decode cX7_round 78 = .ok (.aload_n 0, 1) := dk_42 (dk_at dksX7_round_3 7 rfl rfl)
theorem dX7_round_79 : decode cX7_round 79 = .ok (.getfield 49, 3) := dk_180 0 49 (dk_at dksX7_round_3 8 rfl rfl)
theorem dX7_round_82 : decode cX7_round 82 = .ok (.iload_n 3, 1) := dk_29 (dk_at dksX7_round_3 11 rfl rfl)
theorem dX7_round_83 : decode cX7_round 83 = .ok (.iaload, 1) := dk_46 (dk_at dksX7_round_3 12 rfl rfl)
theorem dX7_round_84 : decode cX7_round 84 = .ok (.invokestatic 346, 3) := dk_184 1 90 (dk_at dksX7_round_3 13 rfl rfl)
theorem dX7_round_87 : decode cX7_round 87 = .ok (.iload_n 1, 1) := dk_27 (dk_at dksX7_round_3 16 rfl rfl)
theorem dX7_round_88 : decode cX7_round 88 = .ok (.ifCond .eq 26, 3) := dk_153 0 26 (dk_at dksX7_round_3 17 rfl rfl)
theorem dX7_round_91 : decode cX7_round 91 = .ok (.aload_n 0, 1) := dk_42 (dk_at dksX7_round_3 20 rfl rfl)
theorem dX7_round_92 : decode cX7_round 92 = .ok (.getfield 67, 3) := dk_180 0 67 (dk_at dksX7_round_3 21 rfl rfl)
theorem dX7_round_95 : decode cX7_round 95 = .ok (.iload 4, 2) := dk_21 4 (dk_at dksX7_round_4 0 rfl rfl)
theorem dX7_round_97 : decode cX7_round 97 = .ok (.baload, 1) := dk_51 (dk_at dksX7_round_4 2 rfl rfl)
theorem dX7_round_98 : decode cX7_round 98 = .ok (.ifCond .ne 12, 3) := dk_154 0 12 (dk_at dksX7_round_4 3 rfl rfl)
theorem dX7_round_101 : decode cX7_round 101 = .ok (.aload_n 0, 1) := dk_42 (dk_at dksX7_round_4 6 rfl rfl)
theorem dX7_round_102 : decode cX7_round 102 = .ok (.getfield 52, 3) := dk_180 0 52 (dk_at dksX7_round_4 7 rfl rfl)
theorem dX7_round_105 : decode cX7_round 105 = .ok (.iload_n 3, 1) := dk_29 (dk_at dksX7_round_4 10 rfl rfl)
theorem dX7_round_106 : decode cX7_round 106 = .ok (.baload, 1) := dk_51 (dk_at dksX7_round_4 11 rfl rfl)
theorem dX7_round_107 : decode cX7_round 107 = .ok (.ifCond .eq 7, 3) := dk_153 0 7 (dk_at dksX7_round_4 12 rfl rfl)
theorem dX7_round_110 : decode cX7_round 110 = .ok (.iconst 1, 1) := dk_4 (dk_at dksX7_round_4 15 rfl rfl)
theorem dX7_round_111 : decode cX7_round 111 = .ok (.goto 4, 3) := dk_167 0 4 (dk_at dksX7_round_4 16 rfl rfl)
theorem dX7_round_114 : decode cX7_round 114 = .ok (.iconst 0, 1) := dk_3 (dk_at dksX7_round_4 19 rfl rfl)
theorem dX7_round_115 : decode cX7_round 115 = .ok (.istore 6, 2) := dk_54 6 (dk_at dksX7_round_4 20 rfl rfl)
theorem dX7_round_117 : decode cX7_round 117 = .ok (.aload_n 0, 1) := dk_42 (dk_at dksX7_round_4 22 rfl rfl)
theorem dX7_round_118 : decode cX7_round 118 = .ok (.getfield 82, 3) := dk_180 0 82 (dk_at dksX7_round_5 0 rfl rfl)
theorem dX7_round_121 : decode cX7_round 121 = .ok (.iload 5, 2) := dk_21 5 (dk_at dksX7_round_5 3 rfl rfl)
theorem dX7_round_123 : decode cX7_round 123 = .ok (.baload, 1) := dk_51 (dk_at dksX7_round_5 5 rfl rfl)
theorem dX7_round_124 : decode cX7_round 124 = .ok (.ifCond .eq 31, 3) := dk_153 0 31 (dk_at dksX7_round_5 6 rfl rfl)
theorem dX7_round_127 : decode cX7_round 127 = .ok (.aload_n 0, 1) := dk_42 (dk_at dksX7_round_5 9 rfl rfl)
theorem dX7_round_128 : decode cX7_round 128 = .ok (.aload_n 0, 1) := dk_42 (dk_at dksX7_round_5 10 rfl rfl)
theorem dX7_round_129 : decode cX7_round 129 = .ok (.getfield 85, 3) := dk_180 0 85 (dk_at dksX7_round_5 11 rfl rfl)
theorem dX7_round_132 : decode cX7_round 132 = .ok (.aload_n 0, 1) := dk_42 (dk_at dksX7_round_5 14 rfl rfl)
theorem dX7_round_133 : decode cX7_round 133 = .ok (.getfield 88, 3) := dk_180 0 88 (dk_at dksX7_round_5 15 rfl rfl)
theorem dX7_round_136 : decode cX7_round 136 = .ok (.iconst 0, 1) := dk_3 (dk_at dksX7_round_5 18 rfl rfl)
theorem dX7_round_137 : decode cX7_round 137 = .ok (.aload_n 0, 1) := dk_42 (dk_at dksX7_round_5 19 rfl rfl)
theorem dX7_round_138 : decode cX7_round 138 = .ok (.getfield 73, 3) := dk_180 0 73 (dk_at dksX7_round_5 20 rfl rfl)
theorem dX7_round_141 : decode cX7_round 141 = .ok (.aload_n 0, 1) := dk_42 (dk_at dksX7_round_5 23 rfl rfl)
theorem dX7_round_142 : decode cX7_round 142 = .ok (.getfield 76, 3) := dk_180 0 76 (dk_at dksX7_round_6 0 rfl rfl)
theorem dX7_round_145 : decode cX7_round 145 = .ok (.iconst 5, 1) := dk_8 (dk_at dksX7_round_6 3 rfl rfl)
theorem dX7_round_146 : decode cX7_round 146 = .ok (.iload 5, 2) := dk_21 5 (dk_at dksX7_round_6 4 rfl rfl)
theorem dX7_round_148 : decode cX7_round 148 = .ok (.imul, 1) := dk_104 (dk_at dksX7_round_6 6 rfl rfl)
theorem dX7_round_149 : decode cX7_round 149 = .ok (.invokevirtual 350, 3) := dk_182 1 94 (dk_at dksX7_round_6 7 rfl rfl)
theorem dX7_round_152 : decode cX7_round 152 = .ok (.goto 4, 3) := dk_167 0 4 (dk_at dksX7_round_6 10 rfl rfl)
theorem dX7_round_155 : decode cX7_round 155 = .ok (.iconst 1, 1) := dk_4 (dk_at dksX7_round_6 13 rfl rfl)
theorem dX7_round_156 : decode cX7_round 156 = .ok (.istore 7, 2) := dk_54 7 (dk_at dksX7_round_6 14 rfl rfl)
theorem dX7_round_158 : decode cX7_round 158 = .ok (.iload 7, 2) := dk_21 7 (dk_at dksX7_round_6 16 rfl rfl)
theorem dX7_round_160 : decode cX7_round 160 = .ok (.ifCond .gt 23, 3) := dk_157 0 23 (dk_at dksX7_round_6 18 rfl rfl)
theorem dX7_round_163 : decode cX7_round 163 = .ok (.iload 7, 2) := dk_21 7 (dk_at dksX7_round_6 21 rfl rfl)
theorem dX7_round_165 : decode cX7_round 165 = .ok (.ifCond .ne 90, 3) := dk_154 0 90 (dk_at dksX7_round_7 0 rfl rfl)
theorem dX7_round_168 : decode cX7_round 168 = .ok (.iload 6, 2) := dk_21 6 (dk_at dksX7_round_7 3 rfl rfl)
theorem dX7_round_170 : decode cX7_round 170 = .ok (.ifCond .eq 85, 3) := dk_153 0 85 (dk_at dksX7_round_7 5 rfl rfl)
theorem dX7_round_173 : decode cX7_round 173 = .ok (.aload_n 0, 1) := dk_42 (dk_at dksX7_round_7 8 rfl rfl)
theorem dX7_round_174 : decode cX7_round 174 = .ok (.getfield 79, 3) := dk_180 0 79 (dk_at dksX7_round_7 9 rfl rfl)
theorem dX7_round_177 : decode cX7_round 177 = .ok (.iload 5, 2) := dk_21 5 (dk_at dksX7_round_7 12 rfl rfl)
theorem dX7_round_179 : decode cX7_round 179 = .ok (.baload, 1) := dk_51 (dk_at dksX7_round_7 14 rfl rfl)
theorem dX7_round_180 : decode cX7_round 180 = .ok (.ifCond .ne 75, 3) := dk_154 0 75 (dk_at dksX7_round_7 15 rfl rfl)
theorem dX7_round_183 : decode cX7_round 183 = .ok (.iconst 0, 1) := dk_3 (dk_at dksX7_round_7 18 rfl rfl)
theorem dX7_round_184 : decode cX7_round 184 = .ok (.istore 8, 2) := dk_54 8 (dk_at dksX7_round_7 19 rfl rfl)
theorem dX7_round_186 : decode cX7_round 186 = .ok (.iload 8, 2) := dk_21 8 (dk_at dksX7_round_7 21 rfl rfl)
theorem dX7_round_188 : decode cX7_round 188 = .ok (.iconst 5, 1) := dk_8 (dk_at dksX7_round_7 23 rfl rfl)
theorem dX7_round_189 : decode cX7_round 189 = .ok (.if_icmp .ge 47, 3) := dk_162 0 47 (dk_at dksX7_round_8 0 rfl rfl)
theorem dX7_round_192 : decode cX7_round 192 = .ok (.aload_n 0, 1) := dk_42 (dk_at dksX7_round_8 3 rfl rfl)
theorem dX7_round_193 : decode cX7_round 193 = .ok (.getfield 73, 3) := dk_180 0 73 (dk_at dksX7_round_8 4 rfl rfl)
theorem dX7_round_196 : decode cX7_round 196 = .ok (.iconst 5, 1) := dk_8 (dk_at dksX7_round_8 7 rfl rfl)
theorem dX7_round_197 : decode cX7_round 197 = .ok (.iload 5, 2) := dk_21 5 (dk_at dksX7_round_8 8 rfl rfl)
theorem dX7_round_199 : decode cX7_round 199 = .ok (.imul, 1) := dk_104 (dk_at dksX7_round_8 10 rfl rfl)
theorem dX7_round_200 : decode cX7_round 200 = .ok (.iload 8, 2) := dk_21 8 (dk_at dksX7_round_8 11 rfl rfl)
theorem dX7_round_202 : decode cX7_round 202 = .ok (.iadd, 1) := dk_96 (dk_at dksX7_round_8 13 rfl rfl)
theorem dX7_round_203 : decode cX7_round 203 = .ok (.aload_n 0, 1) := dk_42 (dk_at dksX7_round_8 14 rfl rfl)
theorem dX7_round_204 : decode cX7_round 204 = .ok (.getfield 85, 3) := dk_180 0 85 (dk_at dksX7_round_8 15 rfl rfl)
theorem dX7_round_207 : decode cX7_round 207 = .ok (.iload 8, 2) := dk_21 8 (dk_at dksX7_round_8 18 rfl rfl)
theorem dX7_round_209 : decode cX7_round 209 = .ok (.laload, 1) := dk_47 (dk_at dksX7_round_8 20 rfl rfl)
theorem dX7_round_210 : decode cX7_round 210 = .ok (.lastore, 1) := dk_80 (dk_at dksX7_round_8 21 rfl rfl)
theorem dX7_round_211 : decode cX7_round 211 = .ok (.aload_n 0, 1) := dk_42 (dk_at dksX7_round_8 22 rfl rfl)
theorem dX7_round_212 : decode cX7_round 212 = .ok (.getfield 76, 3) := dk_180 0 76 (dk_at dksX7_round_9 0 rfl rfl)
theorem dX7_round_215 : decode cX7_round 215 = .ok (.iconst 5, 1) := dk_8 (dk_at dksX7_round_9 3 rfl rfl)
theorem dX7_round_216 : decode cX7_round 216 = .ok (.iload 5, 2) := dk_21 5 (dk_at dksX7_round_9 4 rfl rfl)
theorem dX7_round_218 : decode cX7_round 218 = .ok (.imul, 1) := dk_104 (dk_at dksX7_round_9 6 rfl rfl)
theorem dX7_round_219 : decode cX7_round 219 = .ok (.iload 8, 2) := dk_21 8 (dk_at dksX7_round_9 7 rfl rfl)
theorem dX7_round_221 : decode cX7_round 221 = .ok (.iadd, 1) := dk_96 (dk_at dksX7_round_9 9 rfl rfl)
theorem dX7_round_222 : decode cX7_round 222 = .ok (.aload_n 0, 1) := dk_42 (dk_at dksX7_round_9 10 rfl rfl)
theorem dX7_round_223 : decode cX7_round 223 = .ok (.getfield 88, 3) := dk_180 0 88 (dk_at dksX7_round_9 11 rfl rfl)
theorem dX7_round_226 : decode cX7_round 226 = .ok (.iload 8, 2) := dk_21 8 (dk_at dksX7_round_9 14 rfl rfl)
theorem dX7_round_228 : decode cX7_round 228 = .ok (.laload, 1) := dk_47 (dk_at dksX7_round_9 16 rfl rfl)
theorem dX7_round_229 : decode cX7_round 229 = .ok (.lastore, 1) := dk_80 (dk_at dksX7_round_9 17 rfl rfl)
theorem dX7_round_230 : decode cX7_round 230 = .ok (.iinc 8 1, 3) := dk_132 8 1 (dk_at dksX7_round_9 18 rfl rfl)
theorem dX7_round_233 : decode cX7_round 233 = .ok (.goto (-47), 3) := dk_167 255 209 (dk_at dksX7_round_9 21 rfl rfl)
theorem dX7_round_236 : decode cX7_round 236 = .ok (.aload_n 0, 1) := dk_42 (dk_at dksX7_round_10 0 rfl rfl)
theorem dX7_round_237 : decode cX7_round 237 = .ok (.getfield 79, 3) := dk_180 0 79 (dk_at dksX7_round_10 1 rfl rfl)
theorem dX7_round_240 : decode cX7_round 240 = .ok (.iload 5, 2) := dk_21 5 (dk_at dksX7_round_10 4 rfl rfl)
theorem dX7_round_242 : decode cX7_round 242 = .ok (.iload 6, 2) := dk_21 6 (dk_at dksX7_round_10 6 rfl rfl)
theorem dX7_round_244 : decode cX7_round 244 = .ok (.bastore, 1) := dk_84 (dk_at dksX7_round_10 8 rfl rfl)
theorem dX7_round_245 : decode cX7_round 245 = .ok (.aload_n 0, 1) := dk_42 (dk_at dksX7_round_10 9 rfl rfl)
theorem dX7_round_246 : decode cX7_round 246 = .ok (.getfield 82, 3) := dk_180 0 82 (dk_at dksX7_round_10 10 rfl rfl)
theorem dX7_round_249 : decode cX7_round 249 = .ok (.iload 5, 2) := dk_21 5 (dk_at dksX7_round_10 13 rfl rfl)
theorem dX7_round_251 : decode cX7_round 251 = .ok (.iconst 1, 1) := dk_4 (dk_at dksX7_round_10 15 rfl rfl)
theorem dX7_round_252 : decode cX7_round 252 = .ok (.bastore, 1) := dk_84 (dk_at dksX7_round_10 16 rfl rfl)
theorem dX7_round_253 : decode cX7_round 253 = .ok (.iconst 1, 1) := dk_4 (dk_at dksX7_round_10 17 rfl rfl)
theorem dX7_round_254 : decode cX7_round 254 = .ok (.istore_n 2, 1) := dk_61 (dk_at dksX7_round_10 18 rfl rfl)
theorem dX7_round_255 : decode cX7_round 255 = .ok (.iinc 3 1, 3) := dk_132 3 1 (dk_at dksX7_round_10 19 rfl rfl)
theorem dX7_round_258 : decode cX7_round 258 = .ok (.goto (-249), 3) := dk_167 255 7 (dk_at dksX7_round_11 0 rfl rfl)
theorem dX7_round_261 : decode cX7_round 261 = .ok (.aload_n 0, 1) := dk_42 (dk_at dksX7_round_11 3 rfl rfl)
theorem dX7_round_262 : decode cX7_round 262 = .ok (.iconst 1, 1) := dk_4 (dk_at dksX7_round_11 4 rfl rfl)
theorem dX7_round_263 : decode cX7_round 263 = .ok (.invokevirtual 343, 3) := dk_182 1 87 (dk_at dksX7_round_11 5 rfl rfl)
theorem dX7_round_266 : decode cX7_round 266 = .ok (.iload_n 2, 1) := dk_28 (dk_at dksX7_round_11 8 rfl rfl)
theorem dX7_round_267 : decode cX7_round 267 = .ok (.ireturn, 1) := dk_172 (dk_at dksX7_round_11 9 rfl rfl)
abbrev cX7_keep : ByteArray := prog_16_method_57_code
def yX7_keep : MethodName := ⟨RX7, "keep", "(Z)V"⟩
def dkwX7_keep_9 : List UInt8 := [51, 167, 0, 9, 42, 180, 0, 70, 28, 51, 84, 132, 2, 1, 167, 255, 147, 177]
abbrev dktX7_keep_9 : List UInt8 := dkwX7_keep_9 ++ []
def dkwX7_keep_8 : List UInt8 := [167, 0, 9, 42, 180, 0, 67, 28, 51, 84, 42, 180, 0, 70, 28, 27, 153, 0, 12, 42, 180, 0, 82, 28]
abbrev dktX7_keep_8 : List UInt8 := dkwX7_keep_8 ++ dktX7_keep_9
def dkwX7_keep_7 : List UInt8 := [42, 180, 0, 70, 28, 51, 84, 42, 180, 0, 67, 28, 27, 153, 0, 12, 42, 180, 0, 79, 28, 51]
abbrev dktX7_keep_7 : List UInt8 := dkwX7_keep_7 ++ dktX7_keep_8
def dkwX7_keep_6 : List UInt8 := [180, 0, 67, 28, 51, 84, 42, 180, 0, 82, 28, 27, 153, 0, 12, 42, 180, 0, 82, 28, 51, 167, 0, 9]
abbrev dktX7_keep_6 : List UInt8 := dkwX7_keep_6 ++ dktX7_keep_7
def dkwX7_keep_5 : List UInt8 := [16, 16, 162, 0, 109, 42, 180, 0, 79, 28, 27, 153, 0, 12, 42, 180, 0, 79, 28, 51, 167, 0, 9, 42]
abbrev dktX7_keep_5 : List UInt8 := dkwX7_keep_5 ++ dktX7_keep_6
def dkwX7_keep_4 : List UInt8 := [180, 0, 76, 28, 47, 167, 0, 9, 42, 180, 0, 64, 28, 47, 80, 132, 2, 1, 167, 255, 147, 3, 61, 28]
abbrev dktX7_keep_4 : List UInt8 := dkwX7_keep_4 ++ dktX7_keep_5
def dkwX7_keep_3 : List UInt8 := [28, 47, 167, 0, 9, 42, 180, 0, 61, 28, 47, 80, 42, 180, 0, 64, 28, 27, 153, 0, 12, 42]
abbrev dktX7_keep_3 : List UInt8 := dkwX7_keep_3 ++ dktX7_keep_4
def dkwX7_keep_2 : List UInt8 := [47, 167, 0, 9, 42, 180, 0, 64, 28, 47, 80, 42, 180, 0, 61, 28, 27, 153, 0, 12, 42, 180, 0, 73]
abbrev dktX7_keep_2 : List UInt8 := dkwX7_keep_2 ++ dktX7_keep_3
def dkwX7_keep_1 : List UInt8 := [167, 0, 9, 42, 180, 0, 61, 28, 47, 80, 42, 180, 0, 76, 28, 27, 153, 0, 12, 42, 180, 0, 76, 28]
abbrev dktX7_keep_1 : List UInt8 := dkwX7_keep_1 ++ dktX7_keep_2
def dkwX7_keep_0 : List UInt8 := [3, 61, 28, 16, 80, 162, 0, 109, 42, 180, 0, 73, 28, 27, 153, 0, 12, 42, 180, 0, 73, 28, 47]
abbrev dktX7_keep_0 : List UInt8 := dkwX7_keep_0 ++ dktX7_keep_1
theorem dksX7_keep_0 : cX7_keep.data.toList.drop 0 = dktX7_keep_0 := by decide +kernel
theorem dksX7_keep_1 : cX7_keep.data.toList.drop 23 = dktX7_keep_1 := dk_seg dksX7_keep_0 23 rfl rfl
theorem dksX7_keep_2 : cX7_keep.data.toList.drop 47 = dktX7_keep_2 := dk_seg dksX7_keep_1 24 rfl rfl
theorem dksX7_keep_3 : cX7_keep.data.toList.drop 71 = dktX7_keep_3 := dk_seg dksX7_keep_2 24 rfl rfl
theorem dksX7_keep_4 : cX7_keep.data.toList.drop 93 = dktX7_keep_4 := dk_seg dksX7_keep_3 22 rfl rfl
theorem dksX7_keep_5 : cX7_keep.data.toList.drop 117 = dktX7_keep_5 := dk_seg dksX7_keep_4 24 rfl rfl
theorem dksX7_keep_6 : cX7_keep.data.toList.drop 141 = dktX7_keep_6 := dk_seg dksX7_keep_5 24 rfl rfl
theorem dksX7_keep_7 : cX7_keep.data.toList.drop 165 = dktX7_keep_7 := dk_seg dksX7_keep_6 24 rfl rfl
theorem dksX7_keep_8 : cX7_keep.data.toList.drop 187 = dktX7_keep_8 := dk_seg dksX7_keep_7 22 rfl rfl
theorem dksX7_keep_9 : cX7_keep.data.toList.drop 211 = dktX7_keep_9 := dk_seg dksX7_keep_8 24 rfl rfl
theorem dX7_keep_0 : decode cX7_keep 0 = .ok (.iconst 0, 1) := dk_3 (dk_at dksX7_keep_0 0 rfl rfl)
theorem dX7_keep_1 : decode cX7_keep 1 = .ok (.istore_n 2, 1) := dk_61 (dk_at dksX7_keep_0 1 rfl rfl)
theorem dX7_keep_2 : decode cX7_keep 2 = .ok (.iload_n 2, 1) := dk_28 (dk_at dksX7_keep_0 2 rfl rfl)
theorem dX7_keep_3 : decode cX7_keep 3 = .ok (.bipush 80, 2) := dk_16 80 (dk_at dksX7_keep_0 3 rfl rfl)
theorem dX7_keep_5 : decode cX7_keep 5 = .ok (.if_icmp .ge 109, 3) := dk_162 0 109 (dk_at dksX7_keep_0 5 rfl rfl)
theorem dX7_keep_8 : decode cX7_keep 8 = .ok (.aload_n 0, 1) := dk_42 (dk_at dksX7_keep_0 8 rfl rfl)
theorem dX7_keep_9 : decode cX7_keep 9 = .ok (.getfield 73, 3) := dk_180 0 73 (dk_at dksX7_keep_0 9 rfl rfl)
theorem dX7_keep_12 : decode cX7_keep 12 = .ok (.iload_n 2, 1) := dk_28 (dk_at dksX7_keep_0 12 rfl rfl)
theorem dX7_keep_13 : decode cX7_keep 13 = .ok (.iload_n 1, 1) := dk_27 (dk_at dksX7_keep_0 13 rfl rfl)
theorem dX7_keep_14 : decode cX7_keep 14 = .ok (.ifCond .eq 12, 3) := dk_153 0 12 (dk_at dksX7_keep_0 14 rfl rfl)
theorem dX7_keep_17 : decode cX7_keep 17 = .ok (.aload_n 0, 1) := dk_42 (dk_at dksX7_keep_0 17 rfl rfl)
theorem dX7_keep_18 : decode cX7_keep 18 = .ok (.getfield 73, 3) := dk_180 0 73 (dk_at dksX7_keep_0 18 rfl rfl)
theorem dX7_keep_21 : decode cX7_keep 21 = .ok (.iload_n 2, 1) := dk_28 (dk_at dksX7_keep_0 21 rfl rfl)
theorem dX7_keep_22 : decode cX7_keep 22 = .ok (.laload, 1) := dk_47 (dk_at dksX7_keep_0 22 rfl rfl)
theorem dX7_keep_23 : decode cX7_keep 23 = .ok (.goto 9, 3) := dk_167 0 9 (dk_at dksX7_keep_1 0 rfl rfl)
theorem dX7_keep_26 : decode cX7_keep 26 = .ok (.aload_n 0, 1) := dk_42 (dk_at dksX7_keep_1 3 rfl rfl)
theorem dX7_keep_27 : decode cX7_keep 27 = .ok (.getfield 61, 3) := dk_180 0 61 (dk_at dksX7_keep_1 4 rfl rfl)
theorem dX7_keep_30 : decode cX7_keep 30 = .ok (.iload_n 2, 1) := dk_28 (dk_at dksX7_keep_1 7 rfl rfl)
theorem dX7_keep_31 : decode cX7_keep 31 = .ok (.laload, 1) := dk_47 (dk_at dksX7_keep_1 8 rfl rfl)
theorem dX7_keep_32 : decode cX7_keep 32 = .ok (.lastore, 1) := dk_80 (dk_at dksX7_keep_1 9 rfl rfl)
theorem dX7_keep_33 : decode cX7_keep 33 = .ok (.aload_n 0, 1) := dk_42 (dk_at dksX7_keep_1 10 rfl rfl)
theorem dX7_keep_34 : decode cX7_keep 34 = .ok (.getfield 76, 3) := dk_180 0 76 (dk_at dksX7_keep_1 11 rfl rfl)
theorem dX7_keep_37 : decode cX7_keep 37 = .ok (.iload_n 2, 1) := dk_28 (dk_at dksX7_keep_1 14 rfl rfl)
theorem dX7_keep_38 : decode cX7_keep 38 = .ok (.iload_n 1, 1) := dk_27 (dk_at dksX7_keep_1 15 rfl rfl)
theorem dX7_keep_39 : decode cX7_keep 39 = .ok (.ifCond .eq 12, 3) := dk_153 0 12 (dk_at dksX7_keep_1 16 rfl rfl)
theorem dX7_keep_42 : decode cX7_keep 42 = .ok (.aload_n 0, 1) := dk_42 (dk_at dksX7_keep_1 19 rfl rfl)
theorem dX7_keep_43 : decode cX7_keep 43 = .ok (.getfield 76, 3) := dk_180 0 76 (dk_at dksX7_keep_1 20 rfl rfl)
theorem dX7_keep_46 : decode cX7_keep 46 = .ok (.iload_n 2, 1) := dk_28 (dk_at dksX7_keep_1 23 rfl rfl)
theorem dX7_keep_47 : decode cX7_keep 47 = .ok (.laload, 1) := dk_47 (dk_at dksX7_keep_2 0 rfl rfl)
theorem dX7_keep_48 : decode cX7_keep 48 = .ok (.goto 9, 3) := dk_167 0 9 (dk_at dksX7_keep_2 1 rfl rfl)
theorem dX7_keep_51 : decode cX7_keep 51 = .ok (.aload_n 0, 1) := dk_42 (dk_at dksX7_keep_2 4 rfl rfl)
theorem dX7_keep_52 : decode cX7_keep 52 = .ok (.getfield 64, 3) := dk_180 0 64 (dk_at dksX7_keep_2 5 rfl rfl)
theorem dX7_keep_55 : decode cX7_keep 55 = .ok (.iload_n 2, 1) := dk_28 (dk_at dksX7_keep_2 8 rfl rfl)
theorem dX7_keep_56 : decode cX7_keep 56 = .ok (.laload, 1) := dk_47 (dk_at dksX7_keep_2 9 rfl rfl)
theorem dX7_keep_57 : decode cX7_keep 57 = .ok (.lastore, 1) := dk_80 (dk_at dksX7_keep_2 10 rfl rfl)
theorem dX7_keep_58 : decode cX7_keep 58 = .ok (.aload_n 0, 1) := dk_42 (dk_at dksX7_keep_2 11 rfl rfl)
theorem dX7_keep_59 : decode cX7_keep 59 = .ok (.getfield 61, 3) := dk_180 0 61 (dk_at dksX7_keep_2 12 rfl rfl)
theorem dX7_keep_62 : decode cX7_keep 62 = .ok (.iload_n 2, 1) := dk_28 (dk_at dksX7_keep_2 15 rfl rfl)
theorem dX7_keep_63 : decode cX7_keep 63 = .ok (.iload_n 1, 1) := dk_27 (dk_at dksX7_keep_2 16 rfl rfl)
theorem dX7_keep_64 : decode cX7_keep 64 = .ok (.ifCond .eq 12, 3) := dk_153 0 12 (dk_at dksX7_keep_2 17 rfl rfl)
theorem dX7_keep_67 : decode cX7_keep 67 = .ok (.aload_n 0, 1) := dk_42 (dk_at dksX7_keep_2 20 rfl rfl)
theorem dX7_keep_68 : decode cX7_keep 68 = .ok (.getfield 73, 3) := dk_180 0 73 (dk_at dksX7_keep_2 21 rfl rfl)
theorem dX7_keep_71 : decode cX7_keep 71 = .ok (.iload_n 2, 1) := dk_28 (dk_at dksX7_keep_3 0 rfl rfl)
theorem dX7_keep_72 : decode cX7_keep 72 = .ok (.laload, 1) := dk_47 (dk_at dksX7_keep_3 1 rfl rfl)
theorem dX7_keep_73 : decode cX7_keep 73 = .ok (.goto 9, 3) := dk_167 0 9 (dk_at dksX7_keep_3 2 rfl rfl)
theorem dX7_keep_76 : decode cX7_keep 76 = .ok (.aload_n 0, 1) := dk_42 (dk_at dksX7_keep_3 5 rfl rfl)
theorem dX7_keep_77 : decode cX7_keep 77 = .ok (.getfield 61, 3) := dk_180 0 61 (dk_at dksX7_keep_3 6 rfl rfl)
theorem dX7_keep_80 : decode cX7_keep 80 = .ok (.iload_n 2, 1) := dk_28 (dk_at dksX7_keep_3 9 rfl rfl)
theorem dX7_keep_81 : decode cX7_keep 81 = .ok (.laload, 1) := dk_47 (dk_at dksX7_keep_3 10 rfl rfl)
theorem dX7_keep_82 : decode cX7_keep 82 = .ok (.lastore, 1) := dk_80 (dk_at dksX7_keep_3 11 rfl rfl)
theorem dX7_keep_83 : decode cX7_keep 83 = .ok (.aload_n 0, 1) := dk_42 (dk_at dksX7_keep_3 12 rfl rfl)
theorem dX7_keep_84 : decode cX7_keep 84 = .ok (.getfield 64, 3) := dk_180 0 64 (dk_at dksX7_keep_3 13 rfl rfl)
theorem dX7_keep_87 : decode cX7_keep 87 = .ok (.iload_n 2, 1) := dk_28 (dk_at dksX7_keep_3 16 rfl rfl)
theorem dX7_keep_88 : decode cX7_keep 88 = .ok (.iload_n 1, 1) := dk_27 (dk_at dksX7_keep_3 17 rfl rfl)
theorem dX7_keep_89 : decode cX7_keep 89 = .ok (.ifCond .eq 12, 3) := dk_153 0 12 (dk_at dksX7_keep_3 18 rfl rfl)
theorem dX7_keep_92 : decode cX7_keep 92 = .ok (.aload_n 0, 1) := dk_42 (dk_at dksX7_keep_3 21 rfl rfl)
theorem dX7_keep_93 : decode cX7_keep 93 = .ok (.getfield 76, 3) := dk_180 0 76 (dk_at dksX7_keep_4 0 rfl rfl)
theorem dX7_keep_96 : decode cX7_keep 96 = .ok (.iload_n 2, 1) := dk_28 (dk_at dksX7_keep_4 3 rfl rfl)
theorem dX7_keep_97 : decode cX7_keep 97 = .ok (.laload, 1) := dk_47 (dk_at dksX7_keep_4 4 rfl rfl)
theorem dX7_keep_98 : decode cX7_keep 98 = .ok (.goto 9, 3) := dk_167 0 9 (dk_at dksX7_keep_4 5 rfl rfl)
theorem dX7_keep_101 : decode cX7_keep 101 = .ok (.aload_n 0, 1) := dk_42 (dk_at dksX7_keep_4 8 rfl rfl)
theorem dX7_keep_102 : decode cX7_keep 102 = .ok (.getfield 64, 3) := dk_180 0 64 (dk_at dksX7_keep_4 9 rfl rfl)
theorem dX7_keep_105 : decode cX7_keep 105 = .ok (.iload_n 2, 1) := dk_28 (dk_at dksX7_keep_4 12 rfl rfl)
theorem dX7_keep_106 : decode cX7_keep 106 = .ok (.laload, 1) := dk_47 (dk_at dksX7_keep_4 13 rfl rfl)
theorem dX7_keep_107 : decode cX7_keep 107 = .ok (.lastore, 1) := dk_80 (dk_at dksX7_keep_4 14 rfl rfl)
theorem dX7_keep_108 : decode cX7_keep 108 = .ok (.iinc 2 1, 3) := dk_132 2 1 (dk_at dksX7_keep_4 15 rfl rfl)
theorem dX7_keep_111 : decode cX7_keep 111 = .ok (.goto (-109), 3) := dk_167 255 147 (dk_at dksX7_keep_4 18 rfl rfl)
theorem dX7_keep_114 : decode cX7_keep 114 = .ok (.iconst 0, 1) := dk_3 (dk_at dksX7_keep_4 21 rfl rfl)
theorem dX7_keep_115 : decode cX7_keep 115 = .ok (.istore_n 2, 1) := dk_61 (dk_at dksX7_keep_4 22 rfl rfl)
theorem dX7_keep_116 : decode cX7_keep 116 = .ok (.iload_n 2, 1) := dk_28 (dk_at dksX7_keep_4 23 rfl rfl)
theorem dX7_keep_117 : decode cX7_keep 117 = .ok (.bipush 16, 2) := dk_16 16 (dk_at dksX7_keep_5 0 rfl rfl)
theorem dX7_keep_119 : decode cX7_keep 119 = .ok (.if_icmp .ge 109, 3) := dk_162 0 109 (dk_at dksX7_keep_5 2 rfl rfl)
theorem dX7_keep_122 : decode cX7_keep 122 = .ok (.aload_n 0, 1) := dk_42 (dk_at dksX7_keep_5 5 rfl rfl)
theorem dX7_keep_123 : decode cX7_keep 123 = .ok (.getfield 79, 3) := dk_180 0 79 (dk_at dksX7_keep_5 6 rfl rfl)
theorem dX7_keep_126 : decode cX7_keep 126 = .ok (.iload_n 2, 1) := dk_28 (dk_at dksX7_keep_5 9 rfl rfl)
theorem dX7_keep_127 : decode cX7_keep 127 = .ok (.iload_n 1, 1) := dk_27 (dk_at dksX7_keep_5 10 rfl rfl)
theorem dX7_keep_128 : decode cX7_keep 128 = .ok (.ifCond .eq 12, 3) := dk_153 0 12 (dk_at dksX7_keep_5 11 rfl rfl)
theorem dX7_keep_131 : decode cX7_keep 131 = .ok (.aload_n 0, 1) := dk_42 (dk_at dksX7_keep_5 14 rfl rfl)
theorem dX7_keep_132 : decode cX7_keep 132 = .ok (.getfield 79, 3) := dk_180 0 79 (dk_at dksX7_keep_5 15 rfl rfl)
theorem dX7_keep_135 : decode cX7_keep 135 = .ok (.iload_n 2, 1) := dk_28 (dk_at dksX7_keep_5 18 rfl rfl)
theorem dX7_keep_136 : decode cX7_keep 136 = .ok (.baload, 1) := dk_51 (dk_at dksX7_keep_5 19 rfl rfl)
theorem dX7_keep_137 : decode cX7_keep 137 = .ok (.goto 9, 3) := dk_167 0 9 (dk_at dksX7_keep_5 20 rfl rfl)
theorem dX7_keep_140 : decode cX7_keep 140 = .ok (.aload_n 0, 1) := dk_42 (dk_at dksX7_keep_5 23 rfl rfl)
theorem dX7_keep_141 : decode cX7_keep 141 = .ok (.getfield 67, 3) := dk_180 0 67 (dk_at dksX7_keep_6 0 rfl rfl)
theorem dX7_keep_144 : decode cX7_keep 144 = .ok (.iload_n 2, 1) := dk_28 (dk_at dksX7_keep_6 3 rfl rfl)
theorem dX7_keep_145 : decode cX7_keep 145 = .ok (.baload, 1) := dk_51 (dk_at dksX7_keep_6 4 rfl rfl)
theorem dX7_keep_146 : decode cX7_keep 146 = .ok (.bastore, 1) := dk_84 (dk_at dksX7_keep_6 5 rfl rfl)
theorem dX7_keep_147 : decode cX7_keep 147 = .ok (.aload_n 0, 1) := dk_42 (dk_at dksX7_keep_6 6 rfl rfl)
theorem dX7_keep_148 : decode cX7_keep 148 = .ok (.getfield 82, 3) := dk_180 0 82 (dk_at dksX7_keep_6 7 rfl rfl)
theorem dX7_keep_151 : decode cX7_keep 151 = .ok (.iload_n 2, 1) := dk_28 (dk_at dksX7_keep_6 10 rfl rfl)
theorem dX7_keep_152 : decode cX7_keep 152 = .ok (.iload_n 1, 1) := dk_27 (dk_at dksX7_keep_6 11 rfl rfl)
theorem dX7_keep_153 : decode cX7_keep 153 = .ok (.ifCond .eq 12, 3) := dk_153 0 12 (dk_at dksX7_keep_6 12 rfl rfl)
theorem dX7_keep_156 : decode cX7_keep 156 = .ok (.aload_n 0, 1) := dk_42 (dk_at dksX7_keep_6 15 rfl rfl)
theorem dX7_keep_157 : decode cX7_keep 157 = .ok (.getfield 82, 3) := dk_180 0 82 (dk_at dksX7_keep_6 16 rfl rfl)
theorem dX7_keep_160 : decode cX7_keep 160 = .ok (.iload_n 2, 1) := dk_28 (dk_at dksX7_keep_6 19 rfl rfl)
theorem dX7_keep_161 : decode cX7_keep 161 = .ok (.baload, 1) := dk_51 (dk_at dksX7_keep_6 20 rfl rfl)
theorem dX7_keep_162 : decode cX7_keep 162 = .ok (.goto 9, 3) := dk_167 0 9 (dk_at dksX7_keep_6 21 rfl rfl)
theorem dX7_keep_165 : decode cX7_keep 165 = .ok (.aload_n 0, 1) := dk_42 (dk_at dksX7_keep_7 0 rfl rfl)
theorem dX7_keep_166 : decode cX7_keep 166 = .ok (.getfield 70, 3) := dk_180 0 70 (dk_at dksX7_keep_7 1 rfl rfl)
theorem dX7_keep_169 : decode cX7_keep 169 = .ok (.iload_n 2, 1) := dk_28 (dk_at dksX7_keep_7 4 rfl rfl)
theorem dX7_keep_170 : decode cX7_keep 170 = .ok (.baload, 1) := dk_51 (dk_at dksX7_keep_7 5 rfl rfl)
theorem dX7_keep_171 : decode cX7_keep 171 = .ok (.bastore, 1) := dk_84 (dk_at dksX7_keep_7 6 rfl rfl)
theorem dX7_keep_172 : decode cX7_keep 172 = .ok (.aload_n 0, 1) := dk_42 (dk_at dksX7_keep_7 7 rfl rfl)
theorem dX7_keep_173 : decode cX7_keep 173 = .ok (.getfield 67, 3) := dk_180 0 67 (dk_at dksX7_keep_7 8 rfl rfl)
theorem dX7_keep_176 : decode cX7_keep 176 = .ok (.iload_n 2, 1) := dk_28 (dk_at dksX7_keep_7 11 rfl rfl)
theorem dX7_keep_177 : decode cX7_keep 177 = .ok (.iload_n 1, 1) := dk_27 (dk_at dksX7_keep_7 12 rfl rfl)
theorem dX7_keep_178 : decode cX7_keep 178 = .ok (.ifCond .eq 12, 3) := dk_153 0 12 (dk_at dksX7_keep_7 13 rfl rfl)
theorem dX7_keep_181 : decode cX7_keep 181 = .ok (.aload_n 0, 1) := dk_42 (dk_at dksX7_keep_7 16 rfl rfl)
theorem dX7_keep_182 : decode cX7_keep 182 = .ok (.getfield 79, 3) := dk_180 0 79 (dk_at dksX7_keep_7 17 rfl rfl)
theorem dX7_keep_185 : decode cX7_keep 185 = .ok (.iload_n 2, 1) := dk_28 (dk_at dksX7_keep_7 20 rfl rfl)
theorem dX7_keep_186 : decode cX7_keep 186 = .ok (.baload, 1) := dk_51 (dk_at dksX7_keep_7 21 rfl rfl)
theorem dX7_keep_187 : decode cX7_keep 187 = .ok (.goto 9, 3) := dk_167 0 9 (dk_at dksX7_keep_8 0 rfl rfl)
theorem dX7_keep_190 : decode cX7_keep 190 = .ok (.aload_n 0, 1) := dk_42 (dk_at dksX7_keep_8 3 rfl rfl)
theorem dX7_keep_191 : decode cX7_keep 191 = .ok (.getfield 67, 3) := dk_180 0 67 (dk_at dksX7_keep_8 4 rfl rfl)
theorem dX7_keep_194 : decode cX7_keep 194 = .ok (.iload_n 2, 1) := dk_28 (dk_at dksX7_keep_8 7 rfl rfl)
theorem dX7_keep_195 : decode cX7_keep 195 = .ok (.baload, 1) := dk_51 (dk_at dksX7_keep_8 8 rfl rfl)
theorem dX7_keep_196 : decode cX7_keep 196 = .ok (.bastore, 1) := dk_84 (dk_at dksX7_keep_8 9 rfl rfl)
theorem dX7_keep_197 : decode cX7_keep 197 = .ok (.aload_n 0, 1) := dk_42 (dk_at dksX7_keep_8 10 rfl rfl)
theorem dX7_keep_198 : decode cX7_keep 198 = .ok (.getfield 70, 3) := dk_180 0 70 (dk_at dksX7_keep_8 11 rfl rfl)
theorem dX7_keep_201 : decode cX7_keep 201 = .ok (.iload_n 2, 1) := dk_28 (dk_at dksX7_keep_8 14 rfl rfl)
theorem dX7_keep_202 : decode cX7_keep 202 = .ok (.iload_n 1, 1) := dk_27 (dk_at dksX7_keep_8 15 rfl rfl)
theorem dX7_keep_203 : decode cX7_keep 203 = .ok (.ifCond .eq 12, 3) := dk_153 0 12 (dk_at dksX7_keep_8 16 rfl rfl)
theorem dX7_keep_206 : decode cX7_keep 206 = .ok (.aload_n 0, 1) := dk_42 (dk_at dksX7_keep_8 19 rfl rfl)
theorem dX7_keep_207 : decode cX7_keep 207 = .ok (.getfield 82, 3) := dk_180 0 82 (dk_at dksX7_keep_8 20 rfl rfl)
theorem dX7_keep_210 : decode cX7_keep 210 = .ok (.iload_n 2, 1) := dk_28 (dk_at dksX7_keep_8 23 rfl rfl)
theorem dX7_keep_211 : decode cX7_keep 211 = .ok (.baload, 1) := dk_51 (dk_at dksX7_keep_9 0 rfl rfl)
theorem dX7_keep_212 : decode cX7_keep 212 = .ok (.goto 9, 3) := dk_167 0 9 (dk_at dksX7_keep_9 1 rfl rfl)
theorem dX7_keep_215 : decode cX7_keep 215 = .ok (.aload_n 0, 1) := dk_42 (dk_at dksX7_keep_9 4 rfl rfl)
theorem dX7_keep_216 : decode cX7_keep 216 = .ok (.getfield 70, 3) := dk_180 0 70 (dk_at dksX7_keep_9 5 rfl rfl)
theorem dX7_keep_219 : decode cX7_keep 219 = .ok (.iload_n 2, 1) := dk_28 (dk_at dksX7_keep_9 8 rfl rfl)
theorem dX7_keep_220 : decode cX7_keep 220 = .ok (.baload, 1) := dk_51 (dk_at dksX7_keep_9 9 rfl rfl)
theorem dX7_keep_221 : decode cX7_keep 221 = .ok (.bastore, 1) := dk_84 (dk_at dksX7_keep_9 10 rfl rfl)
theorem dX7_keep_222 : decode cX7_keep 222 = .ok (.iinc 2 1, 3) := dk_132 2 1 (dk_at dksX7_keep_9 11 rfl rfl)
theorem dX7_keep_225 : decode cX7_keep 225 = .ok (.goto (-109), 3) := dk_167 255 147 (dk_at dksX7_keep_9 14 rfl rfl)
theorem dX7_keep_228 : decode cX7_keep 228 = .ok (.return_, 1) := dk_177 (dk_at dksX7_keep_9 17 rfl rfl)
abbrev cX7_times : ByteArray := prog_16_method_49_code
def yX7_times : MethodName := ⟨RX7, "times", "([JI[JII)V"⟩
def dkwX7_times_2 : List UInt8 := [132, 7, 1, 167, 255, 212, 177]
abbrev dktX7_times_2 : List UInt8 := dkwX7_times_2 ++ []
def dkwX7_times_1 : List UInt8 := [97, 55, 8, 42, 27, 21, 7, 96, 22, 8, 20, 1, 71, 113, 80, 22, 8, 20, 1, 71, 109, 55, 5]
abbrev dktX7_times_1 : List UInt8 := dkwX7_times_1 ++ dktX7_times_2
def dkwX7_times_0 : List UInt8 := [9, 55, 5, 3, 54, 7, 21, 7, 8, 162, 0, 44, 44, 29, 21, 7, 96, 47, 21, 4, 133, 105, 22, 5]
abbrev dktX7_times_0 : List UInt8 := dkwX7_times_0 ++ dktX7_times_1
theorem dksX7_times_0 : cX7_times.data.toList.drop 0 = dktX7_times_0 := by decide +kernel
theorem dksX7_times_1 : cX7_times.data.toList.drop 24 = dktX7_times_1 := dk_seg dksX7_times_0 24 rfl rfl
theorem dksX7_times_2 : cX7_times.data.toList.drop 47 = dktX7_times_2 := dk_seg dksX7_times_1 23 rfl rfl
theorem dX7_times_0 : decode cX7_times 0 = .ok (.lconst 0, 1) := dk_9 (dk_at dksX7_times_0 0 rfl rfl)
theorem dX7_times_1 : decode cX7_times 1 = .ok (.lstore 5, 2) := dk_55 5 (dk_at dksX7_times_0 1 rfl rfl)
theorem dX7_times_3 : decode cX7_times 3 = .ok (.iconst 0, 1) := dk_3 (dk_at dksX7_times_0 3 rfl rfl)
theorem dX7_times_4 : decode cX7_times 4 = .ok (.istore 7, 2) := dk_54 7 (dk_at dksX7_times_0 4 rfl rfl)
theorem dX7_times_6 : decode cX7_times 6 = .ok (.iload 7, 2) := dk_21 7 (dk_at dksX7_times_0 6 rfl rfl)
theorem dX7_times_8 : decode cX7_times 8 = .ok (.iconst 5, 1) := dk_8 (dk_at dksX7_times_0 8 rfl rfl)
theorem dX7_times_9 : decode cX7_times 9 = .ok (.if_icmp .ge 44, 3) := dk_162 0 44 (dk_at dksX7_times_0 9 rfl rfl)
theorem dX7_times_12 : decode cX7_times 12 = .ok (.aload_n 2, 1) := dk_44 (dk_at dksX7_times_0 12 rfl rfl)
theorem dX7_times_13 : decode cX7_times 13 = .ok (.iload_n 3, 1) := dk_29 (dk_at dksX7_times_0 13 rfl rfl)
theorem dX7_times_14 : decode cX7_times 14 = .ok (.iload 7, 2) := dk_21 7 (dk_at dksX7_times_0 14 rfl rfl)
theorem dX7_times_16 : decode cX7_times 16 = .ok (.iadd, 1) := dk_96 (dk_at dksX7_times_0 16 rfl rfl)
theorem dX7_times_17 : decode cX7_times 17 = .ok (.laload, 1) := dk_47 (dk_at dksX7_times_0 17 rfl rfl)
theorem dX7_times_18 : decode cX7_times 18 = .ok (.iload 4, 2) := dk_21 4 (dk_at dksX7_times_0 18 rfl rfl)
theorem dX7_times_20 : decode cX7_times 20 = .ok (.i2l, 1) := dk_133 (dk_at dksX7_times_0 20 rfl rfl)
theorem dX7_times_21 : decode cX7_times 21 = .ok (.lmul, 1) := dk_105 (dk_at dksX7_times_0 21 rfl rfl)
theorem dX7_times_22 : decode cX7_times 22 = .ok (.lload 5, 2) := dk_22 5 (dk_at dksX7_times_0 22 rfl rfl)
theorem dX7_times_24 : decode cX7_times 24 = .ok (.ladd, 1) := dk_97 (dk_at dksX7_times_1 0 rfl rfl)
theorem dX7_times_25 : decode cX7_times 25 = .ok (.lstore 8, 2) := dk_55 8 (dk_at dksX7_times_1 1 rfl rfl)
theorem dX7_times_27 : decode cX7_times 27 = .ok (.aload_n 0, 1) := dk_42 (dk_at dksX7_times_1 3 rfl rfl)
theorem dX7_times_28 : decode cX7_times 28 = .ok (.iload_n 1, 1) := dk_27 (dk_at dksX7_times_1 4 rfl rfl)
theorem dX7_times_29 : decode cX7_times 29 = .ok (.iload 7, 2) := dk_21 7 (dk_at dksX7_times_1 5 rfl rfl)
theorem dX7_times_31 : decode cX7_times 31 = .ok (.iadd, 1) := dk_96 (dk_at dksX7_times_1 7 rfl rfl)
theorem dX7_times_32 : decode cX7_times 32 = .ok (.lload 8, 2) := dk_22 8 (dk_at dksX7_times_1 8 rfl rfl)
theorem dX7_times_34 : decode cX7_times 34 = .ok (.ldc2_w 327, 3) := dk_20 1 71 (dk_at dksX7_times_1 10 rfl rfl)
theorem dX7_times_37 : decode cX7_times 37 = .ok (.lrem, 1) := dk_113 (dk_at dksX7_times_1 13 rfl rfl)
theorem dX7_times_38 : decode cX7_times 38 = .ok (.lastore, 1) := dk_80 (dk_at dksX7_times_1 14 rfl rfl)
theorem dX7_times_39 : decode cX7_times 39 = .ok (.lload 8, 2) := dk_22 8 (dk_at dksX7_times_1 15 rfl rfl)
theorem dX7_times_41 : decode cX7_times 41 = .ok (.ldc2_w 327, 3) := dk_20 1 71 (dk_at dksX7_times_1 17 rfl rfl)
theorem dX7_times_44 : decode cX7_times 44 = .ok (.ldiv, 1) := dk_109 (dk_at dksX7_times_1 20 rfl rfl)
theorem dX7_times_45 : decode cX7_times 45 = .ok (.lstore 5, 2) := dk_55 5 (dk_at dksX7_times_1 21 rfl rfl)
theorem dX7_times_47 : decode cX7_times 47 = .ok (.iinc 7 1, 3) := dk_132 7 1 (dk_at dksX7_times_2 0 rfl rfl)
theorem dX7_times_50 : decode cX7_times 50 = .ok (.goto (-44), 3) := dk_167 255 212 (dk_at dksX7_times_2 3 rfl rfl)
theorem dX7_times_53 : decode cX7_times 53 = .ok (.return_, 1) := dk_177 (dk_at dksX7_times_2 6 rfl rfl)
abbrev cX7_compare : ByteArray := prog_16_method_51_code
def yX7_compare : MethodName := ⟨RX7, "compare", "([J[JI[J[JI)I"⟩
def dkwX7_compare_3 : List UInt8 := [156, 0, 7, 2, 167, 0, 4, 4, 172, 132, 7, 255, 167, 255, 206, 3, 172]
abbrev dktX7_compare_3 : List UInt8 := dkwX7_compare_3 ++ []
def dkwX7_compare_2 : List UInt8 := [21, 7, 47, 148, 153, 0, 27, 42, 180, 0, 33, 21, 7, 47, 42, 180, 0, 37, 21, 7, 47, 148]
abbrev dktX7_compare_2 : List UInt8 := dkwX7_compare_2 ++ dktX7_compare_3
def dkwX7_compare_1 : List UInt8 := [184, 1, 73, 16, 9, 54, 7, 21, 7, 155, 0, 51, 42, 180, 0, 33, 21, 7, 47, 42, 180, 0, 37]
abbrev dktX7_compare_1 : List UInt8 := dkwX7_compare_1 ++ dktX7_compare_2
def dkwX7_compare_0 : List UInt8 := [42, 180, 0, 33, 43, 29, 25, 5, 21, 6, 184, 1, 73, 42, 180, 0, 37, 25, 4, 21, 6, 44, 29]
abbrev dktX7_compare_0 : List UInt8 := dkwX7_compare_0 ++ dktX7_compare_1
theorem dksX7_compare_0 : cX7_compare.data.toList.drop 0 = dktX7_compare_0 := by decide +kernel
theorem dksX7_compare_1 : cX7_compare.data.toList.drop 23 = dktX7_compare_1 := dk_seg dksX7_compare_0 23 rfl rfl
theorem dksX7_compare_2 : cX7_compare.data.toList.drop 46 = dktX7_compare_2 := dk_seg dksX7_compare_1 23 rfl rfl
theorem dksX7_compare_3 : cX7_compare.data.toList.drop 68 = dktX7_compare_3 := dk_seg dksX7_compare_2 22 rfl rfl
theorem dX7_compare_0 : decode cX7_compare 0 = .ok (.aload_n 0, 1) := dk_42 (dk_at dksX7_compare_0 0 rfl rfl)
theorem dX7_compare_1 : decode cX7_compare 1 = .ok (.getfield 33, 3) := dk_180 0 33 (dk_at dksX7_compare_0 1 rfl rfl)
theorem dX7_compare_4 : decode cX7_compare 4 = .ok (.aload_n 1, 1) := dk_43 (dk_at dksX7_compare_0 4 rfl rfl)
theorem dX7_compare_5 : decode cX7_compare 5 = .ok (.iload_n 3, 1) := dk_29 (dk_at dksX7_compare_0 5 rfl rfl)
theorem dX7_compare_6 : decode cX7_compare 6 = .ok (.aload 5, 2) := dk_25 5 (dk_at dksX7_compare_0 6 rfl rfl)
theorem dX7_compare_8 : decode cX7_compare 8 = .ok (.iload 6, 2) := dk_21 6 (dk_at dksX7_compare_0 8 rfl rfl)
theorem dX7_compare_10 : decode cX7_compare 10 = .ok (.invokestatic 329, 3) := dk_184 1 73 (dk_at dksX7_compare_0 10 rfl rfl)
theorem dX7_compare_13 : decode cX7_compare 13 = .ok (.aload_n 0, 1) := dk_42 (dk_at dksX7_compare_0 13 rfl rfl)
theorem dX7_compare_14 : decode cX7_compare 14 = .ok (.getfield 37, 3) := dk_180 0 37 (dk_at dksX7_compare_0 14 rfl rfl)
theorem dX7_compare_17 : decode cX7_compare 17 = .ok (.aload 4, 2) := dk_25 4 (dk_at dksX7_compare_0 17 rfl rfl)
theorem dX7_compare_19 : decode cX7_compare 19 = .ok (.iload 6, 2) := dk_21 6 (dk_at dksX7_compare_0 19 rfl rfl)
theorem dX7_compare_21 : decode cX7_compare 21 = .ok (.aload_n 2, 1) := dk_44 (dk_at dksX7_compare_0 21 rfl rfl)
theorem dX7_compare_22 : decode cX7_compare 22 = .ok (.iload_n 3, 1) := dk_29 (dk_at dksX7_compare_0 22 rfl rfl)
theorem dX7_compare_23 : decode cX7_compare 23 = .ok (.invokestatic 329, 3) := dk_184 1 73 (dk_at dksX7_compare_1 0 rfl rfl)
theorem dX7_compare_26 : decode cX7_compare 26 = .ok (.bipush 9, 2) := dk_16 9 (dk_at dksX7_compare_1 3 rfl rfl)
theorem dX7_compare_28 : decode cX7_compare 28 = .ok (.istore 7, 2) := dk_54 7 (dk_at dksX7_compare_1 5 rfl rfl)
theorem dX7_compare_30 : decode cX7_compare 30 = .ok (.iload 7, 2) := dk_21 7 (dk_at dksX7_compare_1 7 rfl rfl)
theorem dX7_compare_32 : decode cX7_compare 32 = .ok (.ifCond .lt 51, 3) := dk_155 0 51 (dk_at dksX7_compare_1 9 rfl rfl)
theorem dX7_compare_35 : decode cX7_compare 35 = .ok (.aload_n 0, 1) := dk_42 (dk_at dksX7_compare_1 12 rfl rfl)
theorem dX7_compare_36 : decode cX7_compare 36 = .ok (.getfield 33, 3) := dk_180 0 33 (dk_at dksX7_compare_1 13 rfl rfl)
theorem dX7_compare_39 : decode cX7_compare 39 = .ok (.iload 7, 2) := dk_21 7 (dk_at dksX7_compare_1 16 rfl rfl)
theorem dX7_compare_41 : decode cX7_compare 41 = .ok (.laload, 1) := dk_47 (dk_at dksX7_compare_1 18 rfl rfl)
theorem dX7_compare_42 : decode cX7_compare 42 = .ok (.aload_n 0, 1) := dk_42 (dk_at dksX7_compare_1 19 rfl rfl)
theorem dX7_compare_43 : decode cX7_compare 43 = .ok (.getfield 37, 3) := dk_180 0 37 (dk_at dksX7_compare_1 20 rfl rfl)
theorem dX7_compare_46 : decode cX7_compare 46 = .ok (.iload 7, 2) := dk_21 7 (dk_at dksX7_compare_2 0 rfl rfl)
theorem dX7_compare_48 : decode cX7_compare 48 = .ok (.laload, 1) := dk_47 (dk_at dksX7_compare_2 2 rfl rfl)
theorem dX7_compare_49 : decode cX7_compare 49 = .ok (.lcmp, 1) := dk_148 (dk_at dksX7_compare_2 3 rfl rfl)
theorem dX7_compare_50 : decode cX7_compare 50 = .ok (.ifCond .eq 27, 3) := dk_153 0 27 (dk_at dksX7_compare_2 4 rfl rfl)
theorem dX7_compare_53 : decode cX7_compare 53 = .ok (.aload_n 0, 1) := dk_42 (dk_at dksX7_compare_2 7 rfl rfl)
theorem dX7_compare_54 : decode cX7_compare 54 = .ok (.getfield 33, 3) := dk_180 0 33 (dk_at dksX7_compare_2 8 rfl rfl)
theorem dX7_compare_57 : decode cX7_compare 57 = .ok (.iload 7, 2) := dk_21 7 (dk_at dksX7_compare_2 11 rfl rfl)
theorem dX7_compare_59 : decode cX7_compare 59 = .ok (.laload, 1) := dk_47 (dk_at dksX7_compare_2 13 rfl rfl)
theorem dX7_compare_60 : decode cX7_compare 60 = .ok (.aload_n 0, 1) := dk_42 (dk_at dksX7_compare_2 14 rfl rfl)
theorem dX7_compare_61 : decode cX7_compare 61 = .ok (.getfield 37, 3) := dk_180 0 37 (dk_at dksX7_compare_2 15 rfl rfl)
theorem dX7_compare_64 : decode cX7_compare 64 = .ok (.iload 7, 2) := dk_21 7 (dk_at dksX7_compare_2 18 rfl rfl)
theorem dX7_compare_66 : decode cX7_compare 66 = .ok (.laload, 1) := dk_47 (dk_at dksX7_compare_2 20 rfl rfl)
theorem dX7_compare_67 : decode cX7_compare 67 = .ok (.lcmp, 1) := dk_148 (dk_at dksX7_compare_2 21 rfl rfl)
theorem dX7_compare_68 : decode cX7_compare 68 = .ok (.ifCond .ge 7, 3) := dk_156 0 7 (dk_at dksX7_compare_3 0 rfl rfl)
theorem dX7_compare_71 : decode cX7_compare 71 = .ok (.iconst (-1), 1) := dk_2 (dk_at dksX7_compare_3 3 rfl rfl)
theorem dX7_compare_72 : decode cX7_compare 72 = .ok (.goto 4, 3) := dk_167 0 4 (dk_at dksX7_compare_3 4 rfl rfl)
theorem dX7_compare_75 : decode cX7_compare 75 = .ok (.iconst 1, 1) := dk_4 (dk_at dksX7_compare_3 7 rfl rfl)
theorem dX7_compare_76 : decode cX7_compare 76 = .ok (.ireturn, 1) := dk_172 (dk_at dksX7_compare_3 8 rfl rfl)
theorem dX7_compare_77 : decode cX7_compare 77 = .ok (.iinc 7 (-1), 3) := dk_132 7 255 (dk_at dksX7_compare_3 9 rfl rfl)
theorem dX7_compare_80 : decode cX7_compare 80 = .ok (.goto (-50), 3) := dk_167 255 206 (dk_at dksX7_compare_3 12 rfl rfl)
theorem dX7_compare_83 : decode cX7_compare 83 = .ok (.iconst 0, 1) := dk_3 (dk_at dksX7_compare_3 15 rfl rfl)
theorem dX7_compare_84 : decode cX7_compare 84 = .ok (.ireturn, 1) := dk_172 (dk_at dksX7_compare_3 16 rfl rfl)
abbrev cX7_product : ByteArray := prog_16_method_50_code
def yX7_product : MethodName := ⟨RX7, "product", "([J[JI[JI)V"⟩
def dkwX7_product_4 : List UInt8 := [42, 21, 5, 8, 96, 92, 47, 22, 6, 97, 80, 132, 5, 1, 167, 255, 170, 177]
abbrev dktX7_product_4 : List UInt8 := dkwX7_product_4 ++ []
def dkwX7_product_3 : List UInt8 := [21, 8, 96, 22, 9, 20, 1, 71, 113, 80, 22, 9, 20, 1, 71, 109, 55, 6, 132, 8, 1, 167, 255, 199]
abbrev dktX7_product_3 : List UInt8 := dkwX7_product_3 ++ dktX7_product_4
def dkwX7_product_2 : List UInt8 := [47, 43, 28, 21, 5, 96, 47, 45, 21, 4, 21, 8, 96, 47, 105, 97, 22, 6, 97, 55, 9, 42, 21, 5]
abbrev dktX7_product_2 : List UInt8 := dkwX7_product_2 ++ dktX7_product_3
def dkwX7_product_1 : List UInt8 := [21, 5, 8, 162, 0, 86, 9, 55, 6, 3, 54, 8, 21, 8, 8, 162, 0, 57, 42, 21, 5, 21, 8, 96]
abbrev dktX7_product_1 : List UInt8 := dkwX7_product_1 ++ dktX7_product_2
def dkwX7_product_0 : List UInt8 := [3, 54, 5, 21, 5, 16, 10, 162, 0, 14, 42, 21, 5, 9, 80, 132, 5, 1, 167, 255, 241, 3, 54, 5]
abbrev dktX7_product_0 : List UInt8 := dkwX7_product_0 ++ dktX7_product_1
theorem dksX7_product_0 : cX7_product.data.toList.drop 0 = dktX7_product_0 := by decide +kernel
theorem dksX7_product_1 : cX7_product.data.toList.drop 24 = dktX7_product_1 := dk_seg dksX7_product_0 24 rfl rfl
theorem dksX7_product_2 : cX7_product.data.toList.drop 48 = dktX7_product_2 := dk_seg dksX7_product_1 24 rfl rfl
theorem dksX7_product_3 : cX7_product.data.toList.drop 72 = dktX7_product_3 := dk_seg dksX7_product_2 24 rfl rfl
theorem dksX7_product_4 : cX7_product.data.toList.drop 96 = dktX7_product_4 := dk_seg dksX7_product_3 24 rfl rfl
theorem dX7_product_0 : decode cX7_product 0 = .ok (.iconst 0, 1) := dk_3 (dk_at dksX7_product_0 0 rfl rfl)
theorem dX7_product_1 : decode cX7_product 1 = .ok (.istore 5, 2) := dk_54 5 (dk_at dksX7_product_0 1 rfl rfl)
theorem dX7_product_3 : decode cX7_product 3 = .ok (.iload 5, 2) := dk_21 5 (dk_at dksX7_product_0 3 rfl rfl)
theorem dX7_product_5 : decode cX7_product 5 = .ok (.bipush 10, 2) := dk_16 10 (dk_at dksX7_product_0 5 rfl rfl)
theorem dX7_product_7 : decode cX7_product 7 = .ok (.if_icmp .ge 14, 3) := dk_162 0 14 (dk_at dksX7_product_0 7 rfl rfl)
theorem dX7_product_10 : decode cX7_product 10 = .ok (.aload_n 0, 1) := dk_42 (dk_at dksX7_product_0 10 rfl rfl)
theorem dX7_product_11 : decode cX7_product 11 = .ok (.iload 5, 2) := dk_21 5 (dk_at dksX7_product_0 11 rfl rfl)
theorem dX7_product_13 : decode cX7_product 13 = .ok (.lconst 0, 1) := dk_9 (dk_at dksX7_product_0 13 rfl rfl)
theorem dX7_product_14 : decode cX7_product 14 = .ok (.lastore, 1) := dk_80 (dk_at dksX7_product_0 14 rfl rfl)
theorem dX7_product_15 : decode cX7_product 15 = .ok (.iinc 5 1, 3) := dk_132 5 1 (dk_at dksX7_product_0 15 rfl rfl)
theorem dX7_product_18 : decode cX7_product 18 = .ok (.goto (-15), 3) := dk_167 255 241 (dk_at dksX7_product_0 18 rfl rfl)
theorem dX7_product_21 : decode cX7_product 21 = .ok (.iconst 0, 1) := dk_3 (dk_at dksX7_product_0 21 rfl rfl)
theorem dX7_product_22 : decode cX7_product 22 = .ok (.istore 5, 2) := dk_54 5 (dk_at dksX7_product_0 22 rfl rfl)
theorem dX7_product_24 : decode cX7_product 24 = .ok (.iload 5, 2) := dk_21 5 (dk_at dksX7_product_1 0 rfl rfl)
theorem dX7_product_26 : decode cX7_product 26 = .ok (.iconst 5, 1) := dk_8 (dk_at dksX7_product_1 2 rfl rfl)
theorem dX7_product_27 : decode cX7_product 27 = .ok (.if_icmp .ge 86, 3) := dk_162 0 86 (dk_at dksX7_product_1 3 rfl rfl)
theorem dX7_product_30 : decode cX7_product 30 = .ok (.lconst 0, 1) := dk_9 (dk_at dksX7_product_1 6 rfl rfl)
theorem dX7_product_31 : decode cX7_product 31 = .ok (.lstore 6, 2) := dk_55 6 (dk_at dksX7_product_1 7 rfl rfl)
theorem dX7_product_33 : decode cX7_product 33 = .ok (.iconst 0, 1) := dk_3 (dk_at dksX7_product_1 9 rfl rfl)
theorem dX7_product_34 : decode cX7_product 34 = .ok (.istore 8, 2) := dk_54 8 (dk_at dksX7_product_1 10 rfl rfl)
theorem dX7_product_36 : decode cX7_product 36 = .ok (.iload 8, 2) := dk_21 8 (dk_at dksX7_product_1 12 rfl rfl)
theorem dX7_product_38 : decode cX7_product 38 = .ok (.iconst 5, 1) := dk_8 (dk_at dksX7_product_1 14 rfl rfl)
theorem dX7_product_39 : decode cX7_product 39 = .ok (.if_icmp .ge 57, 3) := dk_162 0 57 (dk_at dksX7_product_1 15 rfl rfl)
theorem dX7_product_42 : decode cX7_product 42 = .ok (.aload_n 0, 1) := dk_42 (dk_at dksX7_product_1 18 rfl rfl)
theorem dX7_product_43 : decode cX7_product 43 = .ok (.iload 5, 2) := dk_21 5 (dk_at dksX7_product_1 19 rfl rfl)
theorem dX7_product_45 : decode cX7_product 45 = .ok (.iload 8, 2) := dk_21 8 (dk_at dksX7_product_1 21 rfl rfl)
theorem dX7_product_47 : decode cX7_product 47 = .ok (.iadd, 1) := dk_96 (dk_at dksX7_product_1 23 rfl rfl)
theorem dX7_product_48 : decode cX7_product 48 = .ok (.laload, 1) := dk_47 (dk_at dksX7_product_2 0 rfl rfl)
theorem dX7_product_49 : decode cX7_product 49 = .ok (.aload_n 1, 1) := dk_43 (dk_at dksX7_product_2 1 rfl rfl)
theorem dX7_product_50 : decode cX7_product 50 = .ok (.iload_n 2, 1) := dk_28 (dk_at dksX7_product_2 2 rfl rfl)
theorem dX7_product_51 : decode cX7_product 51 = .ok (.iload 5, 2) := dk_21 5 (dk_at dksX7_product_2 3 rfl rfl)
theorem dX7_product_53 : decode cX7_product 53 = .ok (.iadd, 1) := dk_96 (dk_at dksX7_product_2 5 rfl rfl)
theorem dX7_product_54 : decode cX7_product 54 = .ok (.laload, 1) := dk_47 (dk_at dksX7_product_2 6 rfl rfl)
theorem dX7_product_55 : decode cX7_product 55 = .ok (.aload_n 3, 1) := dk_45 (dk_at dksX7_product_2 7 rfl rfl)
theorem dX7_product_56 : decode cX7_product 56 = .ok (.iload 4, 2) := dk_21 4 (dk_at dksX7_product_2 8 rfl rfl)
theorem dX7_product_58 : decode cX7_product 58 = .ok (.iload 8, 2) := dk_21 8 (dk_at dksX7_product_2 10 rfl rfl)
theorem dX7_product_60 : decode cX7_product 60 = .ok (.iadd, 1) := dk_96 (dk_at dksX7_product_2 12 rfl rfl)
theorem dX7_product_61 : decode cX7_product 61 = .ok (.laload, 1) := dk_47 (dk_at dksX7_product_2 13 rfl rfl)
theorem dX7_product_62 : decode cX7_product 62 = .ok (.lmul, 1) := dk_105 (dk_at dksX7_product_2 14 rfl rfl)
theorem dX7_product_63 : decode cX7_product 63 = .ok (.ladd, 1) := dk_97 (dk_at dksX7_product_2 15 rfl rfl)
theorem dX7_product_64 : decode cX7_product 64 = .ok (.lload 6, 2) := dk_22 6 (dk_at dksX7_product_2 16 rfl rfl)
theorem dX7_product_66 : decode cX7_product 66 = .ok (.ladd, 1) := dk_97 (dk_at dksX7_product_2 18 rfl rfl)
theorem dX7_product_67 : decode cX7_product 67 = .ok (.lstore 9, 2) := dk_55 9 (dk_at dksX7_product_2 19 rfl rfl)
theorem dX7_product_69 : decode cX7_product 69 = .ok (.aload_n 0, 1) := dk_42 (dk_at dksX7_product_2 21 rfl rfl)
theorem dX7_product_70 : decode cX7_product 70 = .ok (.iload 5, 2) := dk_21 5 (dk_at dksX7_product_2 22 rfl rfl)
theorem dX7_product_72 : decode cX7_product 72 = .ok (.iload 8, 2) := dk_21 8 (dk_at dksX7_product_3 0 rfl rfl)
theorem dX7_product_74 : decode cX7_product 74 = .ok (.iadd, 1) := dk_96 (dk_at dksX7_product_3 2 rfl rfl)
theorem dX7_product_75 : decode cX7_product 75 = .ok (.lload 9, 2) := dk_22 9 (dk_at dksX7_product_3 3 rfl rfl)
theorem dX7_product_77 : decode cX7_product 77 = .ok (.ldc2_w 327, 3) := dk_20 1 71 (dk_at dksX7_product_3 5 rfl rfl)
theorem dX7_product_80 : decode cX7_product 80 = .ok (.lrem, 1) := dk_113 (dk_at dksX7_product_3 8 rfl rfl)
theorem dX7_product_81 : decode cX7_product 81 = .ok (.lastore, 1) := dk_80 (dk_at dksX7_product_3 9 rfl rfl)
theorem dX7_product_82 : decode cX7_product 82 = .ok (.lload 9, 2) := dk_22 9 (dk_at dksX7_product_3 10 rfl rfl)
theorem dX7_product_84 : decode cX7_product 84 = .ok (.ldc2_w 327, 3) := dk_20 1 71 (dk_at dksX7_product_3 12 rfl rfl)
theorem dX7_product_87 : decode cX7_product 87 = .ok (.ldiv, 1) := dk_109 (dk_at dksX7_product_3 15 rfl rfl)
theorem dX7_product_88 : decode cX7_product 88 = .ok (.lstore 6, 2) := dk_55 6 (dk_at dksX7_product_3 16 rfl rfl)
theorem dX7_product_90 : decode cX7_product 90 = .ok (.iinc 8 1, 3) := dk_132 8 1 (dk_at dksX7_product_3 18 rfl rfl)
theorem dX7_product_93 : decode cX7_product 93 = .ok (.goto (-57), 3) := dk_167 255 199 (dk_at dksX7_product_3 21 rfl rfl)
theorem dX7_product_96 : decode cX7_product 96 = .ok (.aload_n 0, 1) := dk_42 (dk_at dksX7_product_4 0 rfl rfl)
theorem dX7_product_97 : decode cX7_product 97 = .ok (.iload 5, 2) := dk_21 5 (dk_at dksX7_product_4 1 rfl rfl)
theorem dX7_product_99 : decode cX7_product 99 = .ok (.iconst 5, 1) := dk_8 (dk_at dksX7_product_4 3 rfl rfl)
theorem dX7_product_100 : decode cX7_product 100 = .ok (.iadd, 1) := dk_96 (dk_at dksX7_product_4 4 rfl rfl)
theorem dX7_product_101 : decode cX7_product 101 = .ok (.dup2, 1) := dk_92 (dk_at dksX7_product_4 5 rfl rfl)
theorem dX7_product_102 : decode cX7_product 102 = .ok (.laload, 1) := dk_47 (dk_at dksX7_product_4 6 rfl rfl)
theorem dX7_product_103 : decode cX7_product 103 = .ok (.lload 6, 2) := dk_22 6 (dk_at dksX7_product_4 7 rfl rfl)
theorem dX7_product_105 : decode cX7_product 105 = .ok (.ladd, 1) := dk_97 (dk_at dksX7_product_4 9 rfl rfl)
theorem dX7_product_106 : decode cX7_product 106 = .ok (.lastore, 1) := dk_80 (dk_at dksX7_product_4 10 rfl rfl)
theorem dX7_product_107 : decode cX7_product 107 = .ok (.iinc 5 1, 3) := dk_132 5 1 (dk_at dksX7_product_4 11 rfl rfl)
theorem dX7_product_110 : decode cX7_product 110 = .ok (.goto (-86), 3) := dk_167 255 170 (dk_at dksX7_product_4 14 rfl rfl)
theorem dX7_product_113 : decode cX7_product 113 = .ok (.return_, 1) := dk_177 (dk_at dksX7_product_4 17 rfl rfl)
abbrev cX7_isTight : ByteArray := prog_16_method_60_code
def yX7_isTight : MethodName := ⟨RX7, "isTight", "(I)Z"⟩
def dkwX7_isTight_3 : List UInt8 := [42, 180, 0, 43, 27, 46, 104, 182, 1, 94, 154, 0, 7, 4, 167, 0, 4, 3, 172]
abbrev dktX7_isTight_3 : List UInt8 := dkwX7_isTight_3 ++ []
def dkwX7_isTight_2 : List UInt8 := [27, 46, 184, 1, 90, 42, 42, 180, 0, 85, 42, 180, 0, 88, 3, 42, 180, 0, 61, 42, 180, 0, 64, 8]
abbrev dktX7_isTight_2 : List UInt8 := dkwX7_isTight_2 ++ dktX7_isTight_3
def dkwX7_isTight_1 : List UInt8 := [184, 1, 90, 42, 180, 0, 88, 3, 42, 180, 0, 64, 8, 42, 180, 0, 40, 27, 46, 104, 42, 180, 0, 49]
abbrev dktX7_isTight_1 : List UInt8 := dkwX7_isTight_1 ++ dktX7_isTight_2
def dkwX7_isTight_0 : List UInt8 := [42, 180, 0, 85, 3, 42, 180, 0, 61, 8, 42, 180, 0, 40, 27, 46, 104, 42, 180, 0, 46, 27, 46]
abbrev dktX7_isTight_0 : List UInt8 := dkwX7_isTight_0 ++ dktX7_isTight_1
theorem dksX7_isTight_0 : cX7_isTight.data.toList.drop 0 = dktX7_isTight_0 := by decide +kernel
theorem dksX7_isTight_1 : cX7_isTight.data.toList.drop 23 = dktX7_isTight_1 := dk_seg dksX7_isTight_0 23 rfl rfl
theorem dksX7_isTight_2 : cX7_isTight.data.toList.drop 47 = dktX7_isTight_2 := dk_seg dksX7_isTight_1 24 rfl rfl
theorem dksX7_isTight_3 : cX7_isTight.data.toList.drop 71 = dktX7_isTight_3 := dk_seg dksX7_isTight_2 24 rfl rfl
theorem dX7_isTight_0 : decode cX7_isTight 0 = .ok (.aload_n 0, 1) := dk_42 (dk_at dksX7_isTight_0 0 rfl rfl)
theorem dX7_isTight_1 : decode cX7_isTight 1 = .ok (.getfield 85, 3) := dk_180 0 85 (dk_at dksX7_isTight_0 1 rfl rfl)
theorem dX7_isTight_4 : decode cX7_isTight 4 = .ok (.iconst 0, 1) := dk_3 (dk_at dksX7_isTight_0 4 rfl rfl)
theorem dX7_isTight_5 : decode cX7_isTight 5 = .ok (.aload_n 0, 1) := dk_42 (dk_at dksX7_isTight_0 5 rfl rfl)
theorem dX7_isTight_6 : decode cX7_isTight 6 = .ok (.getfield 61, 3) := dk_180 0 61 (dk_at dksX7_isTight_0 6 rfl rfl)
theorem dX7_isTight_9 : decode cX7_isTight 9 = .ok (.iconst 5, 1) := dk_8 (dk_at dksX7_isTight_0 9 rfl rfl)
theorem dX7_isTight_10 : decode cX7_isTight 10 = .ok (.aload_n 0, 1) := dk_42 (dk_at dksX7_isTight_0 10 rfl rfl)
theorem dX7_isTight_11 : decode cX7_isTight 11 = .ok (.getfield 40, 3) := dk_180 0 40 (dk_at dksX7_isTight_0 11 rfl rfl)
theorem dX7_isTight_14 : decode cX7_isTight 14 = .ok (.iload_n 1, 1) := dk_27 (dk_at dksX7_isTight_0 14 rfl rfl)
theorem dX7_isTight_15 : decode cX7_isTight 15 = .ok (.iaload, 1) := dk_46 (dk_at dksX7_isTight_0 15 rfl rfl)
theorem dX7_isTight_16 : decode cX7_isTight 16 = .ok (.imul, 1) := dk_104 (dk_at dksX7_isTight_0 16 rfl rfl)
theorem dX7_isTight_17 : decode cX7_isTight 17 = .ok (.aload_n 0, 1) := dk_42 (dk_at dksX7_isTight_0 17 rfl rfl)
theorem dX7_isTight_18 : decode cX7_isTight 18 = .ok (.getfield 46, 3) := dk_180 0 46 (dk_at dksX7_isTight_0 18 rfl rfl)
theorem dX7_isTight_21 : decode cX7_isTight 21 = .ok (.iload_n 1, 1) := dk_27 (dk_at dksX7_isTight_0 21 rfl rfl)
theorem dX7_isTight_22 : decode cX7_isTight 22 = .ok (.iaload, 1) := dk_46 (dk_at dksX7_isTight_0 22 rfl rfl)
theorem dX7_isTight_23 : decode cX7_isTight 23 = .ok (.invokestatic 346, 3) := dk_184 1 90 (dk_at dksX7_isTight_1 0 rfl rfl)
theorem dX7_isTight_26 : decode cX7_isTight 26 = .ok (.aload_n 0, 1) := dk_42 (dk_at dksX7_isTight_1 3 rfl rfl)
theorem dX7_isTight_27 : decode cX7_isTight 27 = .ok (.getfield 88, 3) := dk_180 0 88 (dk_at dksX7_isTight_1 4 rfl rfl)
theorem dX7_isTight_30 : decode cX7_isTight 30 = .ok (.iconst 0, 1) := dk_3 (dk_at dksX7_isTight_1 7 rfl rfl)
theorem dX7_isTight_31 : decode cX7_isTight 31 = .ok (.aload_n 0, 1) := dk_42 (dk_at dksX7_isTight_1 8 rfl rfl)
theorem dX7_isTight_32 : decode cX7_isTight 32 = .ok (.getfield 64, 3) := dk_180 0 64 (dk_at dksX7_isTight_1 9 rfl rfl)
theorem dX7_isTight_35 : decode cX7_isTight 35 = .ok (.iconst 5, 1) := dk_8 (dk_at dksX7_isTight_1 12 rfl rfl)
theorem dX7_isTight_36 : decode cX7_isTight 36 = .ok (.aload_n 0, 1) := dk_42 (dk_at dksX7_isTight_1 13 rfl rfl)
theorem dX7_isTight_37 : decode cX7_isTight 37 = .ok (.getfield 40, 3) := dk_180 0 40 (dk_at dksX7_isTight_1 14 rfl rfl)
theorem dX7_isTight_40 : decode cX7_isTight 40 = .ok (.iload_n 1, 1) := dk_27 (dk_at dksX7_isTight_1 17 rfl rfl)
theorem dX7_isTight_41 : decode cX7_isTight 41 = .ok (.iaload, 1) := dk_46 (dk_at dksX7_isTight_1 18 rfl rfl)
theorem dX7_isTight_42 : decode cX7_isTight 42 = .ok (.imul, 1) := dk_104 (dk_at dksX7_isTight_1 19 rfl rfl)
theorem dX7_isTight_43 : decode cX7_isTight 43 = .ok (.aload_n 0, 1) := dk_42 (dk_at dksX7_isTight_1 20 rfl rfl)
theorem dX7_isTight_44 : decode cX7_isTight 44 = .ok (.getfield 49, 3) := dk_180 0 49 (dk_at dksX7_isTight_1 21 rfl rfl)
theorem dX7_isTight_47 : decode cX7_isTight 47 = .ok (.iload_n 1, 1) := dk_27 (dk_at dksX7_isTight_2 0 rfl rfl)
theorem dX7_isTight_48 : decode cX7_isTight 48 = .ok (.iaload, 1) := dk_46 (dk_at dksX7_isTight_2 1 rfl rfl)
theorem dX7_isTight_49 : decode cX7_isTight 49 = .ok (.invokestatic 346, 3) := dk_184 1 90 (dk_at dksX7_isTight_2 2 rfl rfl)
theorem dX7_isTight_52 : decode cX7_isTight 52 = .ok (.aload_n 0, 1) := dk_42 (dk_at dksX7_isTight_2 5 rfl rfl)
theorem dX7_isTight_53 : decode cX7_isTight 53 = .ok (.aload_n 0, 1) := dk_42 (dk_at dksX7_isTight_2 6 rfl rfl)
theorem dX7_isTight_54 : decode cX7_isTight 54 = .ok (.getfield 85, 3) := dk_180 0 85 (dk_at dksX7_isTight_2 7 rfl rfl)
theorem dX7_isTight_57 : decode cX7_isTight 57 = .ok (.aload_n 0, 1) := dk_42 (dk_at dksX7_isTight_2 10 rfl rfl)
theorem dX7_isTight_58 : decode cX7_isTight 58 = .ok (.getfield 88, 3) := dk_180 0 88 (dk_at dksX7_isTight_2 11 rfl rfl)
theorem dX7_isTight_61 : decode cX7_isTight 61 = .ok (.iconst 0, 1) := dk_3 (dk_at dksX7_isTight_2 14 rfl rfl)
theorem dX7_isTight_62 : decode cX7_isTight 62 = .ok (.aload_n 0, 1) := dk_42 (dk_at dksX7_isTight_2 15 rfl rfl)
theorem dX7_isTight_63 : decode cX7_isTight 63 = .ok (.getfield 61, 3) := dk_180 0 61 (dk_at dksX7_isTight_2 16 rfl rfl)
theorem dX7_isTight_66 : decode cX7_isTight 66 = .ok (.aload_n 0, 1) := dk_42 (dk_at dksX7_isTight_2 19 rfl rfl)
theorem dX7_isTight_67 : decode cX7_isTight 67 = .ok (.getfield 64, 3) := dk_180 0 64 (dk_at dksX7_isTight_2 20 rfl rfl)
theorem dX7_isTight_70 : decode cX7_isTight 70 = .ok (.iconst 5, 1) := dk_8 (dk_at dksX7_isTight_2 23 rfl rfl)
theorem dX7_isTight_71 : decode cX7_isTight 71 = .ok (.aload_n 0, 1) := dk_42 (dk_at dksX7_isTight_3 0 rfl rfl)
theorem dX7_isTight_72 : decode cX7_isTight 72 = .ok (.getfield 43, 3) := dk_180 0 43 (dk_at dksX7_isTight_3 1 rfl rfl)
theorem dX7_isTight_75 : decode cX7_isTight 75 = .ok (.iload_n 1, 1) := dk_27 (dk_at dksX7_isTight_3 4 rfl rfl)
theorem dX7_isTight_76 : decode cX7_isTight 76 = .ok (.iaload, 1) := dk_46 (dk_at dksX7_isTight_3 5 rfl rfl)
theorem dX7_isTight_77 : decode cX7_isTight 77 = .ok (.imul, 1) := dk_104 (dk_at dksX7_isTight_3 6 rfl rfl)
theorem dX7_isTight_78 : decode cX7_isTight 78 = .ok (.invokevirtual 350, 3) := dk_182 1 94 (dk_at dksX7_isTight_3 7 rfl rfl)
theorem dX7_isTight_81 : decode cX7_isTight 81 = .ok (.ifCond .ne 7, 3) := dk_154 0 7 (dk_at dksX7_isTight_3 10 rfl rfl)
theorem dX7_isTight_84 : decode cX7_isTight 84 = .ok (.iconst 1, 1) := dk_4 (dk_at dksX7_isTight_3 13 rfl rfl)
theorem dX7_isTight_85 : decode cX7_isTight 85 = .ok (.goto 4, 3) := dk_167 0 4 (dk_at dksX7_isTight_3 14 rfl rfl)
theorem dX7_isTight_88 : decode cX7_isTight 88 = .ok (.iconst 0, 1) := dk_3 (dk_at dksX7_isTight_3 17 rfl rfl)
theorem dX7_isTight_89 : decode cX7_isTight 89 = .ok (.ireturn, 1) := dk_172 (dk_at dksX7_isTight_3 18 rfl rfl)
abbrev cX7_between : ByteArray := prog_16_method_68_code
def yX7_between : MethodName := ⟨RX7, "between", "(III)I"⟩
def dkwX7_between_7 : List UInt8 := [42, 180, 0, 61, 8, 21, 5, 104, 19, 1, 144, 19, 1, 145, 182, 1, 146, 172]
abbrev dktX7_between_7 : List UInt8 := dkwX7_between_7 ++ []
def dkwX7_between_6 : List UInt8 := [21, 5, 104, 19, 1, 144, 19, 1, 145, 182, 1, 146, 167, 0, 29, 42, 42, 180, 0, 64, 8, 21, 5, 104]
abbrev dktX7_between_6 : List UInt8 := dkwX7_between_6 ++ dktX7_between_7
def dkwX7_between_5 : List UInt8 := [167, 0, 4, 2, 172, 21, 4, 153, 0, 32, 42, 42, 180, 0, 61, 8, 21, 5, 104, 42, 180, 0, 64, 8]
abbrev dktX7_between_5 : List UInt8 := dkwX7_between_5 ++ dktX7_between_6
def dkwX7_between_4 : List UInt8 := [4, 167, 0, 4, 3, 172, 42, 180, 0, 70, 21, 5, 51, 154, 0, 14, 21, 4, 153, 0, 7, 3]
abbrev dktX7_between_4 : List UInt8 := dkwX7_between_4 ++ dktX7_between_5
def dkwX7_between_3 : List UInt8 := [4, 164, 0, 29, 42, 180, 0, 70, 21, 5, 51, 153, 0, 17, 42, 180, 0, 67, 21, 5, 51, 154, 0, 7]
abbrev dktX7_between_3 : List UInt8 := dkwX7_between_3 ++ dktX7_between_4
def dkwX7_between_2 : List UInt8 := [153, 0, 7, 28, 167, 0, 4, 27, 182, 1, 141, 21, 4, 153, 0, 7, 27, 167, 0, 4, 28, 54, 5, 29]
abbrev dktX7_between_2 : List UInt8 := dkwX7_between_2 ++ dktX7_between_3
def dkwX7_between_1 : List UInt8 := [154, 0, 6, 16, 254, 172, 29, 5, 112, 154, 0, 7, 4, 167, 0, 4, 3, 54, 4, 42, 21, 4]
abbrev dktX7_between_1 : List UInt8 := dkwX7_between_1 ++ dktX7_between_2
def dkwX7_between_0 : List UInt8 := [42, 3, 181, 0, 133, 29, 133, 9, 20, 0, 152, 184, 0, 143, 153, 0, 12, 42, 27, 28, 182, 1, 138]
abbrev dktX7_between_0 : List UInt8 := dkwX7_between_0 ++ dktX7_between_1
theorem dksX7_between_0 : cX7_between.data.toList.drop 0 = dktX7_between_0 := by decide +kernel
theorem dksX7_between_1 : cX7_between.data.toList.drop 23 = dktX7_between_1 := dk_seg dksX7_between_0 23 rfl rfl
theorem dksX7_between_2 : cX7_between.data.toList.drop 45 = dktX7_between_2 := dk_seg dksX7_between_1 22 rfl rfl
theorem dksX7_between_3 : cX7_between.data.toList.drop 69 = dktX7_between_3 := dk_seg dksX7_between_2 24 rfl rfl
theorem dksX7_between_4 : cX7_between.data.toList.drop 93 = dktX7_between_4 := dk_seg dksX7_between_3 24 rfl rfl
theorem dksX7_between_5 : cX7_between.data.toList.drop 115 = dktX7_between_5 := dk_seg dksX7_between_4 22 rfl rfl
theorem dksX7_between_6 : cX7_between.data.toList.drop 139 = dktX7_between_6 := dk_seg dksX7_between_5 24 rfl rfl
theorem dksX7_between_7 : cX7_between.data.toList.drop 163 = dktX7_between_7 := dk_seg dksX7_between_6 24 rfl rfl
theorem dX7_between_0 : decode cX7_between 0 = .ok (.aload_n 0, 1) := dk_42 (dk_at dksX7_between_0 0 rfl rfl)
theorem dX7_between_1 : decode cX7_between 1 = .ok (.iconst 0, 1) := dk_3 (dk_at dksX7_between_0 1 rfl rfl)
theorem dX7_between_2 : decode cX7_between 2 = .ok (.putfield 133, 3) := dk_181 0 133 (dk_at dksX7_between_0 2 rfl rfl)
theorem dX7_between_5 : decode cX7_between 5 = .ok (.iload_n 3, 1) := dk_29 (dk_at dksX7_between_0 5 rfl rfl)
theorem dX7_between_6 : decode cX7_between 6 = .ok (.i2l, 1) := dk_133 (dk_at dksX7_between_0 6 rfl rfl)
theorem dX7_between_7 : decode cX7_between 7 = .ok (.lconst 0, 1) := dk_9 (dk_at dksX7_between_0 7 rfl rfl)
theorem dX7_between_8 : decode cX7_between 8 = .ok (.ldc2_w 152, 3) := dk_20 0 152 (dk_at dksX7_between_0 8 rfl rfl)
theorem dX7_between_11 : decode cX7_between 11 = .ok (.invokestatic 143, 3) := dk_184 0 143 (dk_at dksX7_between_0 11 rfl rfl)
theorem dX7_between_14 : decode cX7_between 14 = .ok (.ifCond .eq 12, 3) := dk_153 0 12 (dk_at dksX7_between_0 14 rfl rfl)
theorem dX7_between_17 : decode cX7_between 17 = .ok (.aload_n 0, 1) := dk_42 (dk_at dksX7_between_0 17 rfl rfl)
theorem dX7_between_18 : decode cX7_between 18 = .ok (.iload_n 1, 1) := dk_27 (dk_at dksX7_between_0 18 rfl rfl)
theorem dX7_between_19 : decode cX7_between 19 = .ok (.iload_n 2, 1) := dk_28 (dk_at dksX7_between_0 19 rfl rfl)
theorem dX7_between_20 : decode cX7_between 20 = .ok (.invokevirtual 394, 3) := dk_182 1 138 (dk_at dksX7_between_0 20 rfl rfl)
theorem dX7_between_23 : decode cX7_between 23 = .ok (.ifCond .ne 6, 3) := dk_154 0 6 (dk_at dksX7_between_1 0 rfl rfl)
theorem dX7_between_26 : decode cX7_between 26 = .ok (.bipush (-2), 2) := dk_16 254 (dk_at dksX7_between_1 3 rfl rfl)
theorem dX7_between_28 : decode cX7_between 28 = .ok (.ireturn, 1) := dk_172 (dk_at dksX7_between_1 5 rfl rfl)
theorem dX7_between_29 : decode cX7_between 29 = .ok (.iload_n 3, 1) := dk_29 (dk_at dksX7_between_1 6 rfl rfl)
theorem dX7_between_30 : decode cX7_between 30 = .ok (.iconst 2, 1) := dk_5 (dk_at dksX7_between_1 7 rfl rfl)
theorem dX7_between_31 : decode cX7_between 31 = .ok (.irem, 1) := dk_112 (dk_at dksX7_between_1 8 rfl rfl)
theorem dX7_between_32 : decode cX7_between 32 = .ok (.ifCond .ne 7, 3) := dk_154 0 7 (dk_at dksX7_between_1 9 rfl rfl)
theorem dX7_between_35 : decode cX7_between 35 = .ok (.iconst 1, 1) := dk_4 (dk_at dksX7_between_1 12 rfl rfl)
theorem dX7_between_36 : decode cX7_between 36 = .ok (.goto 4, 3) := dk_167 0 4 (dk_at dksX7_between_1 13 rfl rfl)
theorem dX7_between_39 : decode cX7_between 39 = .ok (.iconst 0, 1) := dk_3 (dk_at dksX7_between_1 16 rfl rfl)
theorem dX7_between_40 : decode cX7_between 40 = .ok (.istore 4, 2) := dk_54 4 (dk_at dksX7_between_1 17 rfl rfl)
theorem dX7_between_42 : decode cX7_between 42 = .ok (.aload_n 0, 1) := dk_42 (dk_at dksX7_between_1 19 rfl rfl)
theorem dX7_between_43 : decode cX7_between 43 = .ok (.iload 4, 2) := dk_21 4 (dk_at dksX7_between_1 20 rfl rfl)
theorem dX7_between_45 : decode cX7_between 45 = .ok (.ifCond .eq 7, 3) := dk_153 0 7 (dk_at dksX7_between_2 0 rfl rfl)
theorem dX7_between_48 : decode cX7_between 48 = .ok (.iload_n 2, 1) := dk_28 (dk_at dksX7_between_2 3 rfl rfl)
theorem dX7_between_49 : decode cX7_between 49 = .ok (.goto 4, 3) := dk_167 0 4 (dk_at dksX7_between_2 4 rfl rfl)
theorem dX7_between_52 : decode cX7_between 52 = .ok (.iload_n 1, 1) := dk_27 (dk_at dksX7_between_2 7 rfl rfl)
theorem dX7_between_53 : decode cX7_between 53 = .ok (.invokevirtual 397, 3) := dk_182 1 141 (dk_at dksX7_between_2 8 rfl rfl)
theorem dX7_between_56 : decode cX7_between 56 = .ok (.iload 4, 2) := dk_21 4 (dk_at dksX7_between_2 11 rfl rfl)
theorem dX7_between_58 : decode cX7_between 58 = .ok (.ifCond .eq 7, 3) := dk_153 0 7 (dk_at dksX7_between_2 13 rfl rfl)
theorem dX7_between_61 : decode cX7_between 61 = .ok (.iload_n 1, 1) := dk_27 (dk_at dksX7_between_2 16 rfl rfl)
theorem dX7_between_62 : decode cX7_between 62 = .ok (.goto 4, 3) := dk_167 0 4 (dk_at dksX7_between_2 17 rfl rfl)
theorem dX7_between_65 : decode cX7_between 65 = .ok (.iload_n 2, 1) := dk_28 (dk_at dksX7_between_2 20 rfl rfl)
theorem dX7_between_66 : decode cX7_between 66 = .ok (.istore 5, 2) := dk_54 5 (dk_at dksX7_between_2 21 rfl rfl)
theorem dX7_between_68 : decode cX7_between 68 = .ok (.iload_n 3, 1) := dk_29 (dk_at dksX7_between_2 23 rfl rfl)
theorem dX7_between_69 : decode cX7_between 69 = .ok (.iconst 1, 1) := dk_4 (dk_at dksX7_between_3 0 rfl rfl)
theorem dX7_between_70 : decode cX7_between 70 = .ok (.if_icmp .le 29, 3) := dk_164 0 29 (dk_at dksX7_between_3 1 rfl rfl)
theorem dX7_between_73 : decode cX7_between 73 = .ok (.aload_n 0, 1) := dk_42 (dk_at dksX7_between_3 4 rfl rfl)
theorem dX7_between_74 : decode cX7_between 74 = .ok (.getfield 70, 3) := dk_180 0 70 (dk_at dksX7_between_3 5 rfl rfl)
theorem dX7_between_77 : decode cX7_between 77 = .ok (.iload 5, 2) := dk_21 5 (dk_at dksX7_between_3 8 rfl rfl)
theorem dX7_between_79 : decode cX7_between 79 = .ok (.baload, 1) := dk_51 (dk_at dksX7_between_3 10 rfl rfl)
theorem dX7_between_80 : decode cX7_between 80 = .ok (.ifCond .eq 17, 3) := dk_153 0 17 (dk_at dksX7_between_3 11 rfl rfl)
theorem dX7_between_83 : decode cX7_between 83 = .ok (.aload_n 0, 1) := dk_42 (dk_at dksX7_between_3 14 rfl rfl)
theorem dX7_between_84 : decode cX7_between 84 = .ok (.getfield 67, 3) := dk_180 0 67 (dk_at dksX7_between_3 15 rfl rfl)
theorem dX7_between_87 : decode cX7_between 87 = .ok (.iload 5, 2) := dk_21 5 (dk_at dksX7_between_3 18 rfl rfl)
theorem dX7_between_89 : decode cX7_between 89 = .ok (.baload, 1) := dk_51 (dk_at dksX7_between_3 20 rfl rfl)
theorem dX7_between_90 : decode cX7_between 90 = .ok (.ifCond .ne 7, 3) := dk_154 0 7 (dk_at dksX7_between_3 21 rfl rfl)
theorem dX7_between_93 : decode cX7_between 93 = .ok (.iconst 1, 1) := dk_4 (dk_at dksX7_between_4 0 rfl rfl)
theorem dX7_between_94 : decode cX7_between 94 = .ok (.goto 4, 3) := dk_167 0 4 (dk_at dksX7_between_4 1 rfl rfl)
theorem dX7_between_97 : decode cX7_between 97 = .ok (.iconst 0, 1) := dk_3 (dk_at dksX7_between_4 4 rfl rfl)
theorem dX7_between_98 : decode cX7_between 98 = .ok (.ireturn, 1) := dk_172 (dk_at dksX7_between_4 5 rfl rfl)
theorem dX7_between_99 : decode cX7_between 99 = .ok (.aload_n 0, 1) := dk_42 (dk_at dksX7_between_4 6 rfl rfl)
theorem dX7_between_100 : decode cX7_between 100 = .ok (.getfield 70, 3) := dk_180 0 70 (dk_at dksX7_between_4 7 rfl rfl)
theorem dX7_between_103 : decode cX7_between 103 = .ok (.iload 5, 2) := dk_21 5 (dk_at dksX7_between_4 10 rfl rfl)
theorem dX7_between_105 : decode cX7_between 105 = .ok (.baload, 1) := dk_51 (dk_at dksX7_between_4 12 rfl rfl)
theorem dX7_between_106 : decode cX7_between 106 = .ok (.ifCond .ne 14, 3) := dk_154 0 14 (dk_at dksX7_between_4 13 rfl rfl)
theorem dX7_between_109 : decode cX7_between 109 = .ok (.iload 4, 2) := dk_21 4 (dk_at dksX7_between_4 16 rfl rfl)
theorem dX7_between_111 : decode cX7_between 111 = .ok (.ifCond .eq 7, 3) := dk_153 0 7 (dk_at dksX7_between_4 18 rfl rfl)
theorem dX7_between_114 : decode cX7_between 114 = .ok (.iconst 0, 1) := dk_3 (dk_at dksX7_between_4 21 rfl rfl)
theorem dX7_between_115 : decode cX7_between 115 = .ok (.goto 4, 3) := dk_167 0 4 (dk_at dksX7_between_5 0 rfl rfl)
theorem dX7_between_118 : decode cX7_between 118 = .ok (.iconst (-1), 1) := dk_2 (dk_at dksX7_between_5 3 rfl rfl)
theorem dX7_between_119 : decode cX7_between 119 = .ok (.ireturn, 1) := dk_172 (dk_at dksX7_between_5 4 rfl rfl)
theorem dX7_between_120 : decode cX7_between 120 = .ok (.iload 4, 2) := dk_21 4 (dk_at dksX7_between_5 5 rfl rfl)
theorem dX7_between_122 : decode cX7_between 122 = .ok (.ifCond .eq 32, 3) := dk_153 0 32 (dk_at dksX7_between_5 7 rfl rfl)
theorem dX7_between_125 : decode cX7_between 125 = .ok (.aload_n 0, 1) := dk_42 (dk_at dksX7_between_5 10 rfl rfl)
theorem dX7_between_126 : decode cX7_between 126 = .ok (.aload_n 0, 1) := dk_42 (dk_at dksX7_between_5 11 rfl rfl)
theorem dX7_between_127 : decode cX7_between 127 = .ok (.getfield 61, 3) := dk_180 0 61 (dk_at dksX7_between_5 12 rfl rfl)
theorem dX7_between_130 : decode cX7_between 130 = .ok (.iconst 5, 1) := dk_8 (dk_at dksX7_between_5 15 rfl rfl)
theorem dX7_between_131 : decode cX7_between 131 = .ok (.iload 5, 2) := dk_21 5 (dk_at dksX7_between_5 16 rfl rfl)
theorem dX7_between_133 : decode cX7_between 133 = .ok (.imul, 1) := dk_104 (dk_at dksX7_between_5 18 rfl rfl)
theorem dX7_between_134 : decode cX7_between 134 = .ok (.aload_n 0, 1) := dk_42 (dk_at dksX7_between_5 19 rfl rfl)
theorem dX7_between_135 : decode cX7_between 135 = .ok (.getfield 64, 3) := dk_180 0 64 (dk_at dksX7_between_5 20 rfl rfl)
theorem dX7_between_138 : decode cX7_between 138 = .ok (.iconst 5, 1) := dk_8 (dk_at dksX7_between_5 23 rfl rfl)
theorem dX7_between_139 : decode cX7_between 139 = .ok (.iload 5, 2) := dk_21 5 (dk_at dksX7_between_6 0 rfl rfl)
theorem dX7_between_141 : decode cX7_between 141 = .ok (.imul, 1) := dk_104 (dk_at dksX7_between_6 2 rfl rfl)
theorem dX7_between_142 : decode cX7_between 142 = .ok (.ldc_w 400, 3) := dk_19 1 144 (dk_at dksX7_between_6 3 rfl rfl)
theorem dX7_between_145 : decode cX7_between 145 = .ok (.ldc_w 401, 3) := dk_19 1 145 (dk_at dksX7_between_6 6 rfl rfl)
theorem dX7_between_148 : decode cX7_between 148 = .ok (.invokevirtual 402, 3) := dk_182 1 146 (dk_at dksX7_between_6 9 rfl rfl)
theorem dX7_between_151 : decode cX7_between 151 = .ok (.goto 29, 3) := dk_167 0 29 (dk_at dksX7_between_6 12 rfl rfl)
theorem dX7_between_154 : decode cX7_between 154 = .ok (.aload_n 0, 1) := dk_42 (dk_at dksX7_between_6 15 rfl rfl)
theorem dX7_between_155 : decode cX7_between 155 = .ok (.aload_n 0, 1) := dk_42 (dk_at dksX7_between_6 16 rfl rfl)
theorem dX7_between_156 : decode cX7_between 156 = .ok (.getfield 64, 3) := dk_180 0 64 (dk_at dksX7_between_6 17 rfl rfl)
theorem dX7_between_159 : decode cX7_between 159 = .ok (.iconst 5, 1) := dk_8 (dk_at dksX7_between_6 20 rfl rfl)
theorem dX7_between_160 : decode cX7_between 160 = .ok (.iload 5, 2) := dk_21 5 (dk_at dksX7_between_6 21 rfl rfl)
theorem dX7_between_162 : decode cX7_between 162 = .ok (.imul, 1) := dk_104 (dk_at dksX7_between_6 23 rfl rfl)
theorem dX7_between_163 : decode cX7_between 163 = .ok (.aload_n 0, 1) := dk_42 (dk_at dksX7_between_7 0 rfl rfl)
theorem dX7_between_164 : decode cX7_between 164 = .ok (.getfield 61, 3) := dk_180 0 61 (dk_at dksX7_between_7 1 rfl rfl)
theorem dX7_between_167 : decode cX7_between 167 = .ok (.iconst 5, 1) := dk_8 (dk_at dksX7_between_7 4 rfl rfl)
theorem dX7_between_168 : decode cX7_between 168 = .ok (.iload 5, 2) := dk_21 5 (dk_at dksX7_between_7 5 rfl rfl)
theorem dX7_between_170 : decode cX7_between 170 = .ok (.imul, 1) := dk_104 (dk_at dksX7_between_7 7 rfl rfl)
theorem dX7_between_171 : decode cX7_between 171 = .ok (.ldc_w 400, 3) := dk_19 1 144 (dk_at dksX7_between_7 8 rfl rfl)
theorem dX7_between_174 : decode cX7_between 174 = .ok (.ldc_w 401, 3) := dk_19 1 145 (dk_at dksX7_between_7 11 rfl rfl)
theorem dX7_between_177 : decode cX7_between 177 = .ok (.invokevirtual 402, 3) := dk_182 1 146 (dk_at dksX7_between_7 14 rfl rfl)
theorem dX7_between_180 : decode cX7_between 180 = .ok (.ireturn, 1) := dk_172 (dk_at dksX7_between_7 17 rfl rfl)
abbrev cX7_isAnswered : ByteArray := prog_16_method_67_code
def yX7_isAnswered : MethodName := ⟨RX7, "isAnswered", "(II)Z"⟩
def dkwX7_isAnswered_1 : List UInt8 := [167, 0, 4, 3, 172]
abbrev dktX7_isAnswered_1 : List UInt8 := dkwX7_isAnswered_1 ++ []
def dkwX7_isAnswered_0 : List UInt8 := [42, 27, 182, 1, 135, 153, 0, 22, 42, 28, 182, 1, 135, 153, 0, 14, 42, 182, 1, 121, 153, 0, 7, 4]
abbrev dktX7_isAnswered_0 : List UInt8 := dkwX7_isAnswered_0 ++ dktX7_isAnswered_1
theorem dksX7_isAnswered_0 : cX7_isAnswered.data.toList.drop 0 = dktX7_isAnswered_0 := by decide +kernel
theorem dksX7_isAnswered_1 : cX7_isAnswered.data.toList.drop 24 = dktX7_isAnswered_1 := dk_seg dksX7_isAnswered_0 24 rfl rfl
theorem dX7_isAnswered_0 : decode cX7_isAnswered 0 = .ok (.aload_n 0, 1) := dk_42 (dk_at dksX7_isAnswered_0 0 rfl rfl)
theorem dX7_isAnswered_1 : decode cX7_isAnswered 1 = .ok (.iload_n 1, 1) := dk_27 (dk_at dksX7_isAnswered_0 1 rfl rfl)
theorem dX7_isAnswered_2 : decode cX7_isAnswered 2 = .ok (.invokevirtual 391, 3) := dk_182 1 135 (dk_at dksX7_isAnswered_0 2 rfl rfl)
theorem dX7_isAnswered_5 : decode cX7_isAnswered 5 = .ok (.ifCond .eq 22, 3) := dk_153 0 22 (dk_at dksX7_isAnswered_0 5 rfl rfl)
theorem dX7_isAnswered_8 : decode cX7_isAnswered 8 = .ok (.aload_n 0, 1) := dk_42 (dk_at dksX7_isAnswered_0 8 rfl rfl)
theorem dX7_isAnswered_9 : decode cX7_isAnswered 9 = .ok (.iload_n 2, 1) := dk_28 (dk_at dksX7_isAnswered_0 9 rfl rfl)
theorem dX7_isAnswered_10 : decode cX7_isAnswered 10 = .ok (.invokevirtual 391, 3) := dk_182 1 135 (dk_at dksX7_isAnswered_0 10 rfl rfl)
theorem dX7_isAnswered_13 : decode cX7_isAnswered 13 = .ok (.ifCond .eq 14, 3) := dk_153 0 14 (dk_at dksX7_isAnswered_0 13 rfl rfl)
theorem dX7_isAnswered_16 : decode cX7_isAnswered 16 = .ok (.aload_n 0, 1) := dk_42 (dk_at dksX7_isAnswered_0 16 rfl rfl)
theorem dX7_isAnswered_17 : decode cX7_isAnswered 17 = .ok (.invokevirtual 377, 3) := dk_182 1 121 (dk_at dksX7_isAnswered_0 17 rfl rfl)
theorem dX7_isAnswered_20 : decode cX7_isAnswered 20 = .ok (.ifCond .eq 7, 3) := dk_153 0 7 (dk_at dksX7_isAnswered_0 20 rfl rfl)
theorem dX7_isAnswered_23 : decode cX7_isAnswered 23 = .ok (.iconst 1, 1) := dk_4 (dk_at dksX7_isAnswered_0 23 rfl rfl)
theorem dX7_isAnswered_24 : decode cX7_isAnswered 24 = .ok (.goto 4, 3) := dk_167 0 4 (dk_at dksX7_isAnswered_1 0 rfl rfl)
theorem dX7_isAnswered_27 : decode cX7_isAnswered 27 = .ok (.iconst 0, 1) := dk_3 (dk_at dksX7_isAnswered_1 3 rfl rfl)
theorem dX7_isAnswered_28 : decode cX7_isAnswered 28 = .ok (.ireturn, 1) := dk_172 (dk_at dksX7_isAnswered_1 4 rfl rfl)
abbrev cX7_isLength : ByteArray := prog_16_method_63_code
def yX7_isLength : MethodName := ⟨RX7, "isLength", "(I)Z"⟩
def dkwX7_isLength_2 : List UInt8 := [167, 0, 4, 3, 96, 46, 2, 159, 0, 7, 4, 167, 0, 4, 3, 172]
abbrev dktX7_isLength_2 : List UInt8 := dkwX7_isLength_2 ++ []
def dkwX7_isLength_1 : List UInt8 := [42, 180, 0, 13, 16, 42, 27, 133, 20, 1, 127, 20, 1, 129, 184, 0, 143, 153, 0, 10, 27, 16, 6, 100]
abbrev dktX7_isLength_1 : List UInt8 := dkwX7_isLength_1 ++ dktX7_isLength_2
def dkwX7_isLength_0 : List UInt8 := [27, 133, 9, 20, 1, 125, 184, 0, 143, 153, 0, 53, 27, 16, 6, 161, 0, 43, 27, 16, 11, 163, 0, 37]
abbrev dktX7_isLength_0 : List UInt8 := dkwX7_isLength_0 ++ dktX7_isLength_1
theorem dksX7_isLength_0 : cX7_isLength.data.toList.drop 0 = dktX7_isLength_0 := by decide +kernel
theorem dksX7_isLength_1 : cX7_isLength.data.toList.drop 24 = dktX7_isLength_1 := dk_seg dksX7_isLength_0 24 rfl rfl
theorem dksX7_isLength_2 : cX7_isLength.data.toList.drop 48 = dktX7_isLength_2 := dk_seg dksX7_isLength_1 24 rfl rfl
theorem dX7_isLength_0 : decode cX7_isLength 0 = .ok (.iload_n 1, 1) := dk_27 (dk_at dksX7_isLength_0 0 rfl rfl)
theorem dX7_isLength_1 : decode cX7_isLength 1 = .ok (.i2l, 1) := dk_133 (dk_at dksX7_isLength_0 1 rfl rfl)
theorem dX7_isLength_2 : decode cX7_isLength 2 = .ok (.lconst 0, 1) := dk_9 (dk_at dksX7_isLength_0 2 rfl rfl)
theorem dX7_isLength_3 : decode cX7_isLength 3 = .ok (.ldc2_w 381, 3) := dk_20 1 125 (dk_at dksX7_isLength_0 3 rfl rfl)
theorem dX7_isLength_6 : decode cX7_isLength 6 = .ok (.invokestatic 143, 3) := dk_184 0 143 (dk_at dksX7_isLength_0 6 rfl rfl)
theorem dX7_isLength_9 : decode cX7_isLength 9 = .ok (.ifCond .eq 53, 3) := dk_153 0 53 (dk_at dksX7_isLength_0 9 rfl rfl)
theorem dX7_isLength_12 : decode cX7_isLength 12 = .ok (.iload_n 1, 1) := dk_27 (dk_at dksX7_isLength_0 12 rfl rfl)
theorem dX7_isLength_13 : decode cX7_isLength 13 = .ok (.bipush 6, 2) := dk_16 6 (dk_at dksX7_isLength_0 13 rfl rfl)
theorem dX7_isLength_15 : decode cX7_isLength 15 = .ok (.if_icmp .lt 43, 3) := dk_161 0 43 (dk_at dksX7_isLength_0 15 rfl rfl)
theorem dX7_isLength_18 : decode cX7_isLength 18 = .ok (.iload_n 1, 1) := dk_27 (dk_at dksX7_isLength_0 18 rfl rfl)
theorem dX7_isLength_19 : decode cX7_isLength 19 = .ok (.bipush 11, 2) := dk_16 11 (dk_at dksX7_isLength_0 19 rfl rfl)
theorem dX7_isLength_21 : decode cX7_isLength 21 = .ok (.if_icmp .gt 37, 3) := dk_163 0 37 (dk_at dksX7_isLength_0 21 rfl rfl)
theorem dX7_isLength_24 : decode cX7_isLength 24 = .ok (.aload_n 0, 1) := dk_42 (dk_at dksX7_isLength_1 0 rfl rfl)
theorem dX7_isLength_25 : decode cX7_isLength 25 = .ok (.getfield 13, 3) := dk_180 0 13 (dk_at dksX7_isLength_1 1 rfl rfl)
theorem dX7_isLength_28 : decode cX7_isLength 28 = .ok (.bipush 42, 2) := dk_16 42 (dk_at dksX7_isLength_1 4 rfl rfl)
theorem dX7_isLength_30 : decode cX7_isLength 30 = .ok (.iload_n 1, 1) := dk_27 (dk_at dksX7_isLength_1 6 rfl rfl)
theorem dX7_isLength_31 : decode cX7_isLength 31 = .ok (.i2l, 1) := dk_133 (dk_at dksX7_isLength_1 7 rfl rfl)
theorem dX7_isLength_32 : decode cX7_isLength 32 = .ok (.ldc2_w 383, 3) := dk_20 1 127 (dk_at dksX7_isLength_1 8 rfl rfl)
theorem dX7_isLength_35 : decode cX7_isLength 35 = .ok (.ldc2_w 385, 3) := dk_20 1 129 (dk_at dksX7_isLength_1 11 rfl rfl)
theorem dX7_isLength_38 : decode cX7_isLength 38 = .ok (.invokestatic 143, 3) := dk_184 0 143 (dk_at dksX7_isLength_1 14 rfl rfl)
theorem dX7_isLength_41 : decode cX7_isLength 41 = .ok (.ifCond .eq 10, 3) := dk_153 0 10 (dk_at dksX7_isLength_1 17 rfl rfl)
theorem dX7_isLength_44 : decode cX7_isLength 44 = .ok (.iload_n 1, 1) := dk_27 (dk_at dksX7_isLength_1 20 rfl rfl)
theorem dX7_isLength_45 : decode cX7_isLength 45 = .ok (.bipush 6, 2) := dk_16 6 (dk_at dksX7_isLength_1 21 rfl rfl)
theorem dX7_isLength_47 : decode cX7_isLength 47 = .ok (.isub, 1) := dk_100 (dk_at dksX7_isLength_1 23 rfl rfl)
theorem dX7_isLength_48 : decode cX7_isLength 48 = .ok (.goto 4, 3) := dk_167 0 4 (dk_at dksX7_isLength_2 0 rfl rfl)
theorem dX7_isLength_51 : decode cX7_isLength 51 = .ok (.iconst 0, 1) := dk_3 (dk_at dksX7_isLength_2 3 rfl rfl)
theorem dX7_isLength_52 : decode cX7_isLength 52 = .ok (.iadd, 1) := dk_96 (dk_at dksX7_isLength_2 4 rfl rfl)
theorem dX7_isLength_53 : decode cX7_isLength 53 = .ok (.iaload, 1) := dk_46 (dk_at dksX7_isLength_2 5 rfl rfl)
theorem dX7_isLength_54 : decode cX7_isLength 54 = .ok (.iconst (-1), 1) := dk_2 (dk_at dksX7_isLength_2 6 rfl rfl)
theorem dX7_isLength_55 : decode cX7_isLength 55 = .ok (.if_icmp .eq 7, 3) := dk_159 0 7 (dk_at dksX7_isLength_2 7 rfl rfl)
theorem dX7_isLength_58 : decode cX7_isLength 58 = .ok (.iconst 1, 1) := dk_4 (dk_at dksX7_isLength_2 10 rfl rfl)
theorem dX7_isLength_59 : decode cX7_isLength 59 = .ok (.goto 4, 3) := dk_167 0 4 (dk_at dksX7_isLength_2 11 rfl rfl)
theorem dX7_isLength_62 : decode cX7_isLength 62 = .ok (.iconst 0, 1) := dk_3 (dk_at dksX7_isLength_2 14 rfl rfl)
theorem dX7_isLength_63 : decode cX7_isLength 63 = .ok (.ireturn, 1) := dk_172 (dk_at dksX7_isLength_2 15 rfl rfl)
abbrev cX7_goFrom : ByteArray := prog_16_method_64_code
def yX7_goFrom : MethodName := ⟨RX7, "goFrom", "(I)V"⟩
def dkwX7_goFrom_1 : List UInt8 := [4, 182, 1, 104, 61, 167, 255, 246, 177]
abbrev dktX7_goFrom_1 : List UInt8 := dkwX7_goFrom_1 ++ []
def dkwX7_goFrom_0 : List UInt8 := [42, 182, 1, 111, 42, 42, 182, 1, 114, 182, 1, 98, 42, 27, 182, 1, 101, 4, 61, 28, 153, 0, 12, 42]
abbrev dktX7_goFrom_0 : List UInt8 := dkwX7_goFrom_0 ++ dktX7_goFrom_1
theorem dksX7_goFrom_0 : cX7_goFrom.data.toList.drop 0 = dktX7_goFrom_0 := by decide +kernel
theorem dksX7_goFrom_1 : cX7_goFrom.data.toList.drop 24 = dktX7_goFrom_1 := dk_seg dksX7_goFrom_0 24 rfl rfl
theorem dX7_goFrom_0 : decode cX7_goFrom 0 = .ok (.aload_n 0, 1) := dk_42 (dk_at dksX7_goFrom_0 0 rfl rfl)
theorem dX7_goFrom_1 : decode cX7_goFrom 1 = .ok (.invokevirtual 367, 3) := dk_182 1 111 (dk_at dksX7_goFrom_0 1 rfl rfl)
theorem dX7_goFrom_4 : decode cX7_goFrom 4 = .ok (.aload_n 0, 1) := dk_42 (dk_at dksX7_goFrom_0 4 rfl rfl)
theorem dX7_goFrom_5 : decode cX7_goFrom 5 = .ok (.aload_n 0, 1) := dk_42 (dk_at dksX7_goFrom_0 5 rfl rfl)
theorem dX7_goFrom_6 : decode cX7_goFrom 6 = .ok (.invokevirtual 370, 3) := dk_182 1 114 (dk_at dksX7_goFrom_0 6 rfl rfl)
theorem dX7_goFrom_9 : decode cX7_goFrom 9 = .ok (.invokevirtual 354, 3) := dk_182 1 98 (dk_at dksX7_goFrom_0 9 rfl rfl)
theorem dX7_goFrom_12 : decode cX7_goFrom 12 = .ok (.aload_n 0, 1) := dk_42 (dk_at dksX7_goFrom_0 12 rfl rfl)
theorem dX7_goFrom_13 : decode cX7_goFrom 13 = .ok (.iload_n 1, 1) := dk_27 (dk_at dksX7_goFrom_0 13 rfl rfl)
theorem dX7_goFrom_14 : decode cX7_goFrom 14 = .ok (.invokevirtual 357, 3) := dk_182 1 101 (dk_at dksX7_goFrom_0 14 rfl rfl)
theorem dX7_goFrom_17 : decode cX7_goFrom 17 = .ok (.iconst 1, 1) := dk_4 (dk_at dksX7_goFrom_0 17 rfl rfl)
theorem dX7_goFrom_18 : decode cX7_goFrom 18 = .ok (.istore_n 2, 1) := dk_61 (dk_at dksX7_goFrom_0 18 rfl rfl)
theorem dX7_goFrom_19 : decode cX7_goFrom 19 = .ok (.iload_n 2, 1) := dk_28 (dk_at dksX7_goFrom_0 19 rfl rfl)
theorem dX7_goFrom_20 : decode cX7_goFrom 20 = .ok (.ifCond .eq 12, 3) := dk_153 0 12 (dk_at dksX7_goFrom_0 20 rfl rfl)
theorem dX7_goFrom_23 : decode cX7_goFrom 23 = .ok (.aload_n 0, 1) := dk_42 (dk_at dksX7_goFrom_0 23 rfl rfl)
theorem dX7_goFrom_24 : decode cX7_goFrom 24 = .ok (.iconst 1, 1) := dk_4 (dk_at dksX7_goFrom_1 0 rfl rfl)
theorem dX7_goFrom_25 : decode cX7_goFrom 25 = .ok (.invokevirtual 360, 3) := dk_182 1 104 (dk_at dksX7_goFrom_1 1 rfl rfl)
theorem dX7_goFrom_28 : decode cX7_goFrom 28 = .ok (.istore_n 2, 1) := dk_61 (dk_at dksX7_goFrom_1 4 rfl rfl)
theorem dX7_goFrom_29 : decode cX7_goFrom 29 = .ok (.goto (-10), 3) := dk_167 255 246 (dk_at dksX7_goFrom_1 5 rfl rfl)
theorem dX7_goFrom_32 : decode cX7_goFrom 32 = .ok (.return_, 1) := dk_177 (dk_at dksX7_goFrom_1 8 rfl rfl)
abbrev cX7_share : ByteArray := prog_16_method_65_code
def yX7_share : MethodName := ⟨RX7, "share", "([JI[JIII)I"⟩
def dkwX7_share_6 : List UInt8 := [167, 0, 9, 21, 9, 4, 100, 54, 8, 167, 255, 128, 21, 7, 172]
abbrev dktX7_share_6 : List UInt8 := dkwX7_share_6 ++ []
def dkwX7_share_5 : List UInt8 := [4, 167, 0, 4, 3, 54, 10, 132, 12, 255, 167, 255, 193, 21, 10, 153, 0, 10, 21, 9, 54, 7]
abbrev dktX7_share_5 : List UInt8 := dkwX7_share_5 ++ dktX7_share_6
def dkwX7_share_4 : List UInt8 := [167, 0, 4, 3, 54, 11, 42, 180, 0, 97, 21, 12, 47, 42, 180, 0, 94, 21, 12, 47, 148, 157, 0, 7]
abbrev dktX7_share_4 : List UInt8 := dkwX7_share_4 ++ dktX7_share_5
def dkwX7_share_3 : List UInt8 := [153, 0, 59, 42, 180, 0, 97, 21, 12, 47, 42, 180, 0, 94, 21, 12, 47, 148, 154, 0, 7, 4]
abbrev dktX7_share_3 : List UInt8 := dkwX7_share_3 ++ dktX7_share_4
def dkwX7_share_2 : List UInt8 := [21, 9, 133, 184, 1, 131, 4, 54, 10, 4, 54, 11, 16, 9, 54, 12, 21, 12, 155, 0, 64, 21, 11]
abbrev dktX7_share_2 : List UInt8 := dkwX7_share_2 ++ dktX7_share_3
def dkwX7_share_1 : List UInt8 := [162, 0, 127, 21, 7, 21, 8, 21, 7, 100, 4, 96, 5, 108, 96, 54, 9, 42, 180, 0, 97, 45, 21, 4]
abbrev dktX7_share_1 : List UInt8 := dkwX7_share_1 ++ dktX7_share_2
def dkwX7_share_0 : List UInt8 := [3, 54, 7, 21, 6, 54, 8, 42, 180, 0, 94, 43, 28, 21, 5, 133, 184, 1, 131, 21, 7, 21, 8]
abbrev dktX7_share_0 : List UInt8 := dkwX7_share_0 ++ dktX7_share_1
theorem dksX7_share_0 : cX7_share.data.toList.drop 0 = dktX7_share_0 := by decide +kernel
theorem dksX7_share_1 : cX7_share.data.toList.drop 23 = dktX7_share_1 := dk_seg dksX7_share_0 23 rfl rfl
theorem dksX7_share_2 : cX7_share.data.toList.drop 47 = dktX7_share_2 := dk_seg dksX7_share_1 24 rfl rfl
theorem dksX7_share_3 : cX7_share.data.toList.drop 70 = dktX7_share_3 := dk_seg dksX7_share_2 23 rfl rfl
theorem dksX7_share_4 : cX7_share.data.toList.drop 92 = dktX7_share_4 := dk_seg dksX7_share_3 22 rfl rfl
theorem dksX7_share_5 : cX7_share.data.toList.drop 116 = dktX7_share_5 := dk_seg dksX7_share_4 24 rfl rfl
theorem dksX7_share_6 : cX7_share.data.toList.drop 138 = dktX7_share_6 := dk_seg dksX7_share_5 22 rfl rfl
theorem dX7_share_0 : decode cX7_share 0 = .ok (.iconst 0, 1) := dk_3 (dk_at dksX7_share_0 0 rfl rfl)
theorem dX7_share_1 : decode cX7_share 1 = .ok (.istore 7, 2) := dk_54 7 (dk_at dksX7_share_0 1 rfl rfl)
theorem dX7_share_3 : decode cX7_share 3 = .ok (.iload 6, 2) := dk_21 6 (dk_at dksX7_share_0 3 rfl rfl)
theorem dX7_share_5 : decode cX7_share 5 = .ok (.istore 8, 2) := dk_54 8 (dk_at dksX7_share_0 5 rfl rfl)
theorem dX7_share_7 : decode cX7_share 7 = .ok (.aload_n 0, 1) := dk_42 (dk_at dksX7_share_0 7 rfl rfl)
theorem dX7_share_8 : decode cX7_share 8 = .ok (.getfield 94, 3) := dk_180 0 94 (dk_at dksX7_share_0 8 rfl rfl)
theorem dX7_share_11 : decode cX7_share 11 = .ok (.aload_n 1, 1) := dk_43 (dk_at dksX7_share_0 11 rfl rfl)
theorem dX7_share_12 : decode cX7_share 12 = .ok (.iload_n 2, 1) := dk_28 (dk_at dksX7_share_0 12 rfl rfl)
theorem dX7_share_13 : decode cX7_share 13 = .ok (.iload 5, 2) := dk_21 5 (dk_at dksX7_share_0 13 rfl rfl)
theorem dX7_share_15 : decode cX7_share 15 = .ok (.i2l, 1) := dk_133 (dk_at dksX7_share_0 15 rfl rfl)
theorem dX7_share_16 : decode cX7_share 16 = .ok (.invokestatic 387, 3) := dk_184 1 131 (dk_at dksX7_share_0 16 rfl rfl)
theorem dX7_share_19 : decode cX7_share 19 = .ok (.iload 7, 2) := dk_21 7 (dk_at dksX7_share_0 19 rfl rfl)
theorem dX7_share_21 : decode cX7_share 21 = .ok (.iload 8, 2) := dk_21 8 (dk_at dksX7_share_0 21 rfl rfl)
theorem dX7_share_23 : decode cX7_share 23 = .ok (.if_icmp .ge 127, 3) := dk_162 0 127 (dk_at dksX7_share_1 0 rfl rfl)
theorem dX7_share_26 : decode cX7_share 26 = .ok (.iload 7, 2) := dk_21 7 (dk_at dksX7_share_1 3 rfl rfl)
theorem dX7_share_28 : decode cX7_share 28 = .ok (.iload 8, 2) := dk_21 8 (dk_at dksX7_share_1 5 rfl rfl)
theorem dX7_share_30 : decode cX7_share 30 = .ok (.iload 7, 2) := dk_21 7 (dk_at dksX7_share_1 7 rfl rfl)
theorem dX7_share_32 : decode cX7_share 32 = .ok (.isub, 1) := dk_100 (dk_at dksX7_share_1 9 rfl rfl)
theorem dX7_share_33 : decode cX7_share 33 = .ok (.iconst 1, 1) := dk_4 (dk_at dksX7_share_1 10 rfl rfl)
theorem dX7_share_34 : decode cX7_share 34 = .ok (.iadd, 1) := dk_96 (dk_at dksX7_share_1 11 rfl rfl)
theorem dX7_share_35 : decode cX7_share 35 = .ok (.iconst 2, 1) := dk_5 (dk_at dksX7_share_1 12 rfl rfl)
theorem dX7_share_36 : decode cX7_share 36 = .ok (.idiv, 1) := dk_108 (dk_at dksX7_share_1 13 rfl rfl)
theorem dX7_share_37 : decode cX7_share 37 = .ok (.iadd, 1) := dk_96 (dk_at dksX7_share_1 14 rfl rfl)
theorem dX7_share_38 : decode cX7_share 38 = .ok (.istore 9, 2) := dk_54 9 (dk_at dksX7_share_1 15 rfl rfl)
theorem dX7_share_40 : decode cX7_share 40 = .ok (.aload_n 0, 1) := dk_42 (dk_at dksX7_share_1 17 rfl rfl)
theorem dX7_share_41 : decode cX7_share 41 = .ok (.getfield 97, 3) := dk_180 0 97 (dk_at dksX7_share_1 18 rfl rfl)
theorem dX7_share_44 : decode cX7_share 44 = .ok (.aload_n 3, 1) := dk_45 (dk_at dksX7_share_1 21 rfl rfl)
theorem dX7_share_45 : decode cX7_share 45 = .ok (.iload 4, 2) := dk_21 4 (dk_at dksX7_share_1 22 rfl rfl)
theorem dX7_share_47 : decode cX7_share 47 = .ok (.iload 9, 2) := dk_21 9 (dk_at dksX7_share_2 0 rfl rfl)
theorem dX7_share_49 : decode cX7_share 49 = .ok (.i2l, 1) := dk_133 (dk_at dksX7_share_2 2 rfl rfl)
theorem dX7_share_50 : decode cX7_share 50 = .ok (.invokestatic 387, 3) := dk_184 1 131 (dk_at dksX7_share_2 3 rfl rfl)
theorem dX7_share_53 : decode cX7_share 53 = .ok (.iconst 1, 1) := dk_4 (dk_at dksX7_share_2 6 rfl rfl)
theorem dX7_share_54 : decode cX7_share 54 = .ok (.istore 10, 2) := dk_54 10 (dk_at dksX7_share_2 7 rfl rfl)
theorem dX7_share_56 : decode cX7_share 56 = .ok (.iconst 1, 1) := dk_4 (dk_at dksX7_share_2 9 rfl rfl)
theorem dX7_share_57 : decode cX7_share 57 = .ok (.istore 11, 2) := dk_54 11 (dk_at dksX7_share_2 10 rfl rfl)
theorem dX7_share_59 : decode cX7_share 59 = .ok (.bipush 9, 2) := dk_16 9 (dk_at dksX7_share_2 12 rfl rfl)
theorem dX7_share_61 : decode cX7_share 61 = .ok (.istore 12, 2) := dk_54 12 (dk_at dksX7_share_2 14 rfl rfl)
theorem dX7_share_63 : decode cX7_share 63 = .ok (.iload 12, 2) := dk_21 12 (dk_at dksX7_share_2 16 rfl rfl)
theorem dX7_share_65 : decode cX7_share 65 = .ok (.ifCond .lt 64, 3) := dk_155 0 64 (dk_at dksX7_share_2 18 rfl rfl)
theorem dX7_share_68 : decode cX7_share 68 = .ok (.iload 11, 2) := dk_21 11 (dk_at dksX7_share_2 21 rfl rfl)
theorem dX7_share_70 : decode cX7_share 70 = .ok (.ifCond .eq 59, 3) := dk_153 0 59 (dk_at dksX7_share_3 0 rfl rfl)
theorem dX7_share_73 : decode cX7_share 73 = .ok (.aload_n 0, 1) := dk_42 (dk_at dksX7_share_3 3 rfl rfl)
theorem dX7_share_74 : decode cX7_share 74 = .ok (.getfield 97, 3) := dk_180 0 97 (dk_at dksX7_share_3 4 rfl rfl)
theorem dX7_share_77 : decode cX7_share 77 = .ok (.iload 12, 2) := dk_21 12 (dk_at dksX7_share_3 7 rfl rfl)
theorem dX7_share_79 : decode cX7_share 79 = .ok (.laload, 1) := dk_47 (dk_at dksX7_share_3 9 rfl rfl)
theorem dX7_share_80 : decode cX7_share 80 = .ok (.aload_n 0, 1) := dk_42 (dk_at dksX7_share_3 10 rfl rfl)
theorem dX7_share_81 : decode cX7_share 81 = .ok (.getfield 94, 3) := dk_180 0 94 (dk_at dksX7_share_3 11 rfl rfl)
theorem dX7_share_84 : decode cX7_share 84 = .ok (.iload 12, 2) := dk_21 12 (dk_at dksX7_share_3 14 rfl rfl)
theorem dX7_share_86 : decode cX7_share 86 = .ok (.laload, 1) := dk_47 (dk_at dksX7_share_3 16 rfl rfl)
theorem dX7_share_87 : decode cX7_share 87 = .ok (.lcmp, 1) := dk_148 (dk_at dksX7_share_3 17 rfl rfl)
theorem dX7_share_88 : decode cX7_share 88 = .ok (.ifCond .ne 7, 3) := dk_154 0 7 (dk_at dksX7_share_3 18 rfl rfl)
theorem dX7_share_91 : decode cX7_share 91 = .ok (.iconst 1, 1) := dk_4 (dk_at dksX7_share_3 21 rfl rfl)
theorem dX7_share_92 : decode cX7_share 92 = .ok (.goto 4, 3) := dk_167 0 4 (dk_at dksX7_share_4 0 rfl rfl)
theorem dX7_share_95 : decode cX7_share 95 = .ok (.iconst 0, 1) := dk_3 (dk_at dksX7_share_4 3 rfl rfl)
theorem dX7_share_96 : decode cX7_share 96 = .ok (.istore 11, 2) := dk_54 11 (dk_at dksX7_share_4 4 rfl rfl)
theorem dX7_share_98 : decode cX7_share 98 = .ok (.aload_n 0, 1) := dk_42 (dk_at dksX7_share_4 6 rfl rfl)
theorem dX7_share_99 : decode cX7_share 99 = .ok (.getfield 97, 3) := dk_180 0 97 (dk_at dksX7_share_4 7 rfl rfl)
theorem dX7_share_102 : decode cX7_share 102 = .ok (.iload 12, 2) := dk_21 12 (dk_at dksX7_share_4 10 rfl rfl)
theorem dX7_share_104 : decode cX7_share 104 = .ok (.laload, 1) := dk_47 (dk_at dksX7_share_4 12 rfl rfl)
theorem dX7_share_105 : decode cX7_share 105 = .ok (.aload_n 0, 1) := dk_42 (dk_at dksX7_share_4 13 rfl rfl)
theorem dX7_share_106 : decode cX7_share 106 = .ok (.getfield 94, 3) := dk_180 0 94 (dk_at dksX7_share_4 14 rfl rfl)
theorem dX7_share_109 : decode cX7_share 109 = .ok (.iload 12, 2) := dk_21 12 (dk_at dksX7_share_4 17 rfl rfl)
theorem dX7_share_111 : decode cX7_share 111 = .ok (.laload, 1) := dk_47 (dk_at dksX7_share_4 19 rfl rfl)
theorem dX7_share_112 : decode cX7_share 112 = .ok (.lcmp, 1) := dk_148 (dk_at dksX7_share_4 20 rfl rfl)
theorem dX7_share_113 : decode cX7_share 113 = .ok (.ifCond .gt 7, 3) := dk_157 0 7 (dk_at dksX7_share_4 21 rfl rfl)
theorem dX7_share_116 : decode cX7_share 116 = .ok (.iconst 1, 1) := dk_4 (dk_at dksX7_share_5 0 rfl rfl)
theorem dX7_share_117 : decode cX7_share 117 = .ok (.goto 4, 3) := dk_167 0 4 (dk_at dksX7_share_5 1 rfl rfl)
theorem dX7_share_120 : decode cX7_share 120 = .ok (.iconst 0, 1) := dk_3 (dk_at dksX7_share_5 4 rfl rfl)
theorem dX7_share_121 : decode cX7_share 121 = .ok (.istore 10, 2) := dk_54 10 (dk_at dksX7_share_5 5 rfl rfl)
theorem dX7_share_123 : decode cX7_share 123 = .ok (.iinc 12 (-1), 3) := dk_132 12 255 (dk_at dksX7_share_5 7 rfl rfl)
theorem dX7_share_126 : decode cX7_share 126 = .ok (.goto (-63), 3) := dk_167 255 193 (dk_at dksX7_share_5 10 rfl rfl)
theorem dX7_share_129 : decode cX7_share 129 = .ok (.iload 10, 2) := dk_21 10 (dk_at dksX7_share_5 13 rfl rfl)
theorem dX7_share_131 : decode cX7_share 131 = .ok (.ifCond .eq 10, 3) := dk_153 0 10 (dk_at dksX7_share_5 15 rfl rfl)
theorem dX7_share_134 : decode cX7_share 134 = .ok (.iload 9, 2) := dk_21 9 (dk_at dksX7_share_5 18 rfl rfl)
theorem dX7_share_136 : decode cX7_share 136 = .ok (.istore 7, 2) := dk_54 7 (dk_at dksX7_share_5 20 rfl rfl)
theorem dX7_share_138 : decode cX7_share 138 = .ok (.goto 9, 3) := dk_167 0 9 (dk_at dksX7_share_6 0 rfl rfl)
theorem dX7_share_141 : decode cX7_share 141 = .ok (.iload 9, 2) := dk_21 9 (dk_at dksX7_share_6 3 rfl rfl)
theorem dX7_share_143 : decode cX7_share 143 = .ok (.iconst 1, 1) := dk_4 (dk_at dksX7_share_6 5 rfl rfl)
theorem dX7_share_144 : decode cX7_share 144 = .ok (.isub, 1) := dk_100 (dk_at dksX7_share_6 6 rfl rfl)
theorem dX7_share_145 : decode cX7_share 145 = .ok (.istore 8, 2) := dk_54 8 (dk_at dksX7_share_6 7 rfl rfl)
theorem dX7_share_147 : decode cX7_share 147 = .ok (.goto (-128), 3) := dk_167 255 128 (dk_at dksX7_share_6 9 rfl rfl)
theorem dX7_share_150 : decode cX7_share 150 = .ok (.iload 7, 2) := dk_21 7 (dk_at dksX7_share_6 12 rfl rfl)
theorem dX7_share_152 : decode cX7_share 152 = .ok (.ireturn, 1) := dk_172 (dk_at dksX7_share_6 14 rfl rfl)
abbrev cX7_wide : ByteArray := prog_16_method_66_code
def yX7_wide : MethodName := ⟨RX7, "wide", "([J[JIJ)V"⟩
def dkwX7_wide_2 : List UInt8 := [20, 1, 71, 109, 55, 5, 132, 7, 1, 167, 255, 205, 177]
abbrev dktX7_wide_2 : List UInt8 := dkwX7_wide_2 ++ []
def dkwX7_wide_1 : List UInt8 := [47, 33, 105, 167, 0, 4, 9, 22, 5, 97, 55, 8, 42, 21, 7, 22, 8, 20, 1, 71, 113, 80, 22, 8]
abbrev dktX7_wide_1 : List UInt8 := dkwX7_wide_1 ++ dktX7_wide_2
def dkwX7_wide_0 : List UInt8 := [9, 55, 5, 3, 54, 7, 21, 7, 16, 10, 162, 0, 50, 21, 7, 8, 162, 0, 14, 43, 28, 21, 7, 96]
abbrev dktX7_wide_0 : List UInt8 := dkwX7_wide_0 ++ dktX7_wide_1
theorem dksX7_wide_0 : cX7_wide.data.toList.drop 0 = dktX7_wide_0 := by decide +kernel
theorem dksX7_wide_1 : cX7_wide.data.toList.drop 24 = dktX7_wide_1 := dk_seg dksX7_wide_0 24 rfl rfl
theorem dksX7_wide_2 : cX7_wide.data.toList.drop 48 = dktX7_wide_2 := dk_seg dksX7_wide_1 24 rfl rfl
theorem dX7_wide_0 : decode cX7_wide 0 = .ok (.lconst 0, 1) := dk_9 (dk_at dksX7_wide_0 0 rfl rfl)
theorem dX7_wide_1 : decode cX7_wide 1 = .ok (.lstore 5, 2) := dk_55 5 (dk_at dksX7_wide_0 1 rfl rfl)
theorem dX7_wide_3 : decode cX7_wide 3 = .ok (.iconst 0, 1) := dk_3 (dk_at dksX7_wide_0 3 rfl rfl)
theorem dX7_wide_4 : decode cX7_wide 4 = .ok (.istore 7, 2) := dk_54 7 (dk_at dksX7_wide_0 4 rfl rfl)
theorem dX7_wide_6 : decode cX7_wide 6 = .ok (.iload 7, 2) := dk_21 7 (dk_at dksX7_wide_0 6 rfl rfl)
theorem dX7_wide_8 : decode cX7_wide 8 = .ok (.bipush 10, 2) := dk_16 10 (dk_at dksX7_wide_0 8 rfl rfl)
theorem dX7_wide_10 : decode cX7_wide 10 = .ok (.if_icmp .ge 50, 3) := dk_162 0 50 (dk_at dksX7_wide_0 10 rfl rfl)
theorem dX7_wide_13 : decode cX7_wide 13 = .ok (.iload 7, 2) := dk_21 7 (dk_at dksX7_wide_0 13 rfl rfl)
theorem dX7_wide_15 : decode cX7_wide 15 = .ok (.iconst 5, 1) := dk_8 (dk_at dksX7_wide_0 15 rfl rfl)
theorem dX7_wide_16 : decode cX7_wide 16 = .ok (.if_icmp .ge 14, 3) := dk_162 0 14 (dk_at dksX7_wide_0 16 rfl rfl)
theorem dX7_wide_19 : decode cX7_wide 19 = .ok (.aload_n 1, 1) := dk_43 (dk_at dksX7_wide_0 19 rfl rfl)
theorem dX7_wide_20 : decode cX7_wide 20 = .ok (.iload_n 2, 1) := dk_28 (dk_at dksX7_wide_0 20 rfl rfl)
theorem dX7_wide_21 : decode cX7_wide 21 = .ok (.iload 7, 2) := dk_21 7 (dk_at dksX7_wide_0 21 rfl rfl)
theorem dX7_wide_23 : decode cX7_wide 23 = .ok (.iadd, 1) := dk_96 (dk_at dksX7_wide_0 23 rfl rfl)
theorem dX7_wide_24 : decode cX7_wide 24 = .ok (.laload, 1) := dk_47 (dk_at dksX7_wide_1 0 rfl rfl)
theorem dX7_wide_25 : decode cX7_wide 25 = .ok (.lload_n 3, 1) := dk_33 (dk_at dksX7_wide_1 1 rfl rfl)
theorem dX7_wide_26 : decode cX7_wide 26 = .ok (.lmul, 1) := dk_105 (dk_at dksX7_wide_1 2 rfl rfl)
theorem dX7_wide_27 : decode cX7_wide 27 = .ok (.goto 4, 3) := dk_167 0 4 (dk_at dksX7_wide_1 3 rfl rfl)
theorem dX7_wide_30 : decode cX7_wide 30 = .ok (.lconst 0, 1) := dk_9 (dk_at dksX7_wide_1 6 rfl rfl)
theorem dX7_wide_31 : decode cX7_wide 31 = .ok (.lload 5, 2) := dk_22 5 (dk_at dksX7_wide_1 7 rfl rfl)
theorem dX7_wide_33 : decode cX7_wide 33 = .ok (.ladd, 1) := dk_97 (dk_at dksX7_wide_1 9 rfl rfl)
theorem dX7_wide_34 : decode cX7_wide 34 = .ok (.lstore 8, 2) := dk_55 8 (dk_at dksX7_wide_1 10 rfl rfl)
theorem dX7_wide_36 : decode cX7_wide 36 = .ok (.aload_n 0, 1) := dk_42 (dk_at dksX7_wide_1 12 rfl rfl)
theorem dX7_wide_37 : decode cX7_wide 37 = .ok (.iload 7, 2) := dk_21 7 (dk_at dksX7_wide_1 13 rfl rfl)
theorem dX7_wide_39 : decode cX7_wide 39 = .ok (.lload 8, 2) := dk_22 8 (dk_at dksX7_wide_1 15 rfl rfl)
theorem dX7_wide_41 : decode cX7_wide 41 = .ok (.ldc2_w 327, 3) := dk_20 1 71 (dk_at dksX7_wide_1 17 rfl rfl)
theorem dX7_wide_44 : decode cX7_wide 44 = .ok (.lrem, 1) := dk_113 (dk_at dksX7_wide_1 20 rfl rfl)
theorem dX7_wide_45 : decode cX7_wide 45 = .ok (.lastore, 1) := dk_80 (dk_at dksX7_wide_1 21 rfl rfl)
theorem dX7_wide_46 : decode cX7_wide 46 = .ok (.lload 8, 2) := dk_22 8 (dk_at dksX7_wide_1 22 rfl rfl)
theorem dX7_wide_48 : decode cX7_wide 48 = .ok (.ldc2_w 327, 3) := dk_20 1 71 (dk_at dksX7_wide_2 0 rfl rfl)
theorem dX7_wide_51 : decode cX7_wide 51 = .ok (.ldiv, 1) := dk_109 (dk_at dksX7_wide_2 3 rfl rfl)
theorem dX7_wide_52 : decode cX7_wide 52 = .ok (.lstore 5, 2) := dk_55 5 (dk_at dksX7_wide_2 4 rfl rfl)
theorem dX7_wide_54 : decode cX7_wide 54 = .ok (.iinc 7 1, 3) := dk_132 7 1 (dk_at dksX7_wide_2 6 rfl rfl)
theorem dX7_wide_57 : decode cX7_wide 57 = .ok (.goto (-51), 3) := dk_167 255 205 (dk_at dksX7_wide_2 9 rfl rfl)
theorem dX7_wide_60 : decode cX7_wide 60 = .ok (.return_, 1) := dk_177 (dk_at dksX7_wide_2 12 rfl rfl)
abbrev cX7_sure : ByteArray := prog_16_method_70_code
def yX7_sure : MethodName := ⟨RX7, "sure", "(II)I"⟩
def dkwX7_sure_2 : List UInt8 := [167, 0, 17, 29, 154, 0, 12, 21, 4, 154, 0, 7, 6, 167, 0, 4, 3, 172]
abbrev dktX7_sure_2 : List UInt8 := dkwX7_sure_2 ++ []
def dkwX7_sure_1 : List UInt8 := [42, 28, 27, 182, 1, 150, 54, 4, 29, 158, 0, 7, 4, 167, 0, 26, 21, 4, 158, 0, 7, 5]
abbrev dktX7_sure_1 : List UInt8 := dkwX7_sure_1 ++ dktX7_sure_2
def dkwX7_sure_0 : List UInt8 := [42, 3, 181, 0, 133, 42, 27, 28, 182, 1, 138, 154, 0, 6, 16, 254, 172, 42, 27, 28, 182, 1, 150, 62]
abbrev dktX7_sure_0 : List UInt8 := dkwX7_sure_0 ++ dktX7_sure_1
theorem dksX7_sure_0 : cX7_sure.data.toList.drop 0 = dktX7_sure_0 := by decide +kernel
theorem dksX7_sure_1 : cX7_sure.data.toList.drop 24 = dktX7_sure_1 := dk_seg dksX7_sure_0 24 rfl rfl
theorem dksX7_sure_2 : cX7_sure.data.toList.drop 46 = dktX7_sure_2 := dk_seg dksX7_sure_1 22 rfl rfl
theorem dX7_sure_0 : decode cX7_sure 0 = .ok (.aload_n 0, 1) := dk_42 (dk_at dksX7_sure_0 0 rfl rfl)
theorem dX7_sure_1 : decode cX7_sure 1 = .ok (.iconst 0, 1) := dk_3 (dk_at dksX7_sure_0 1 rfl rfl)
theorem dX7_sure_2 : decode cX7_sure 2 = .ok (.putfield 133, 3) := dk_181 0 133 (dk_at dksX7_sure_0 2 rfl rfl)
theorem dX7_sure_5 : decode cX7_sure 5 = .ok (.aload_n 0, 1) := dk_42 (dk_at dksX7_sure_0 5 rfl rfl)
theorem dX7_sure_6 : decode cX7_sure 6 = .ok (.iload_n 1, 1) := dk_27 (dk_at dksX7_sure_0 6 rfl rfl)
theorem dX7_sure_7 : decode cX7_sure 7 = .ok (.iload_n 2, 1) := dk_28 (dk_at dksX7_sure_0 7 rfl rfl)
theorem dX7_sure_8 : decode cX7_sure 8 = .ok (.invokevirtual 394, 3) := dk_182 1 138 (dk_at dksX7_sure_0 8 rfl rfl)
theorem dX7_sure_11 : decode cX7_sure 11 = .ok (.ifCond .ne 6, 3) := dk_154 0 6 (dk_at dksX7_sure_0 11 rfl rfl)
theorem dX7_sure_14 : decode cX7_sure 14 = .ok (.bipush (-2), 2) := dk_16 254 (dk_at dksX7_sure_0 14 rfl rfl)
theorem dX7_sure_16 : decode cX7_sure 16 = .ok (.ireturn, 1) := dk_172 (dk_at dksX7_sure_0 16 rfl rfl)
theorem dX7_sure_17 : decode cX7_sure 17 = .ok (.aload_n 0, 1) := dk_42 (dk_at dksX7_sure_0 17 rfl rfl)
theorem dX7_sure_18 : decode cX7_sure 18 = .ok (.iload_n 1, 1) := dk_27 (dk_at dksX7_sure_0 18 rfl rfl)
theorem dX7_sure_19 : decode cX7_sure 19 = .ok (.iload_n 2, 1) := dk_28 (dk_at dksX7_sure_0 19 rfl rfl)
theorem dX7_sure_20 : decode cX7_sure 20 = .ok (.invokevirtual 406, 3) := dk_182 1 150 (dk_at dksX7_sure_0 20 rfl rfl)
theorem dX7_sure_23 : decode cX7_sure 23 = .ok (.istore_n 3, 1) := dk_62 (dk_at dksX7_sure_0 23 rfl rfl)
theorem dX7_sure_24 : decode cX7_sure 24 = .ok (.aload_n 0, 1) := dk_42 (dk_at dksX7_sure_1 0 rfl rfl)
theorem dX7_sure_25 : decode cX7_sure 25 = .ok (.iload_n 2, 1) := dk_28 (dk_at dksX7_sure_1 1 rfl rfl)
theorem dX7_sure_26 : decode cX7_sure 26 = .ok (.iload_n 1, 1) := dk_27 (dk_at dksX7_sure_1 2 rfl rfl)
theorem dX7_sure_27 : decode cX7_sure 27 = .ok (.invokevirtual 406, 3) := dk_182 1 150 (dk_at dksX7_sure_1 3 rfl rfl)
theorem dX7_sure_30 : decode cX7_sure 30 = .ok (.istore 4, 2) := dk_54 4 (dk_at dksX7_sure_1 6 rfl rfl)
theorem dX7_sure_32 : decode cX7_sure 32 = .ok (.iload_n 3, 1) := dk_29 (dk_at dksX7_sure_1 8 rfl rfl)
theorem dX7_sure_33 : decode cX7_sure 33 = .ok (.ifCond .le 7, 3) := dk_158 0 7 (dk_at dksX7_sure_1 9 rfl rfl)
theorem dX7_sure_36 : decode cX7_sure 36 = .ok (.iconst 1, 1) := dk_4 (dk_at dksX7_sure_1 12 rfl rfl)
theorem dX7_sure_37 : decode cX7_sure 37 = .ok (.goto 26, 3) := dk_167 0 26 (dk_at dksX7_sure_1 13 rfl rfl)
theorem dX7_sure_40 : decode cX7_sure 40 = .ok (.iload 4, 2) := dk_21 4 (dk_at dksX7_sure_1 16 rfl rfl)
theorem dX7_sure_42 : decode cX7_sure 42 = .ok (.ifCond .le 7, 3) := dk_158 0 7 (dk_at dksX7_sure_1 18 rfl rfl)
theorem dX7_sure_45 : decode cX7_sure 45 = .ok (.iconst 2, 1) := dk_5 (dk_at dksX7_sure_1 21 rfl rfl)
theorem dX7_sure_46 : decode cX7_sure 46 = .ok (.goto 17, 3) := dk_167 0 17 (dk_at dksX7_sure_2 0 rfl rfl)
theorem dX7_sure_49 : decode cX7_sure 49 = .ok (.iload_n 3, 1) := dk_29 (dk_at dksX7_sure_2 3 rfl rfl)
theorem dX7_sure_50 : decode cX7_sure 50 = .ok (.ifCond .ne 12, 3) := dk_154 0 12 (dk_at dksX7_sure_2 4 rfl rfl)
theorem dX7_sure_53 : decode cX7_sure 53 = .ok (.iload 4, 2) := dk_21 4 (dk_at dksX7_sure_2 7 rfl rfl)
theorem dX7_sure_55 : decode cX7_sure 55 = .ok (.ifCond .ne 7, 3) := dk_154 0 7 (dk_at dksX7_sure_2 9 rfl rfl)
theorem dX7_sure_58 : decode cX7_sure 58 = .ok (.iconst 3, 1) := dk_6 (dk_at dksX7_sure_2 12 rfl rfl)
theorem dX7_sure_59 : decode cX7_sure 59 = .ok (.goto 4, 3) := dk_167 0 4 (dk_at dksX7_sure_2 13 rfl rfl)
theorem dX7_sure_62 : decode cX7_sure 62 = .ok (.iconst 0, 1) := dk_3 (dk_at dksX7_sure_2 16 rfl rfl)
theorem dX7_sure_63 : decode cX7_sure 63 = .ok (.ireturn, 1) := dk_172 (dk_at dksX7_sure_2 17 rfl rfl)
abbrev cX7_besideOne : ByteArray := prog_16_method_69_code
def yX7_besideOne : MethodName := ⟨RX7, "besideOne", "(II)I"⟩
def dkwX7_besideOne_2 : List UInt8 := [180, 0, 67, 27, 51, 153, 0, 7, 5, 167, 0, 4, 29, 172]
abbrev dktX7_besideOne_2 : List UInt8 := dkwX7_besideOne_2 ++ []
def dkwX7_besideOne_1 : List UInt8 := [180, 0, 64, 8, 27, 104, 42, 180, 0, 100, 42, 180, 0, 100, 3, 182, 1, 94, 62, 29, 154, 0, 16, 42]
abbrev dktX7_besideOne_1 : List UInt8 := dkwX7_besideOne_1 ++ dktX7_besideOne_2
def dkwX7_besideOne_0 : List UInt8 := [42, 28, 182, 1, 141, 42, 180, 0, 70, 27, 51, 154, 0, 5, 2, 172, 42, 42, 180, 0, 61, 42]
abbrev dktX7_besideOne_0 : List UInt8 := dkwX7_besideOne_0 ++ dktX7_besideOne_1
theorem dksX7_besideOne_0 : cX7_besideOne.data.toList.drop 0 = dktX7_besideOne_0 := by decide +kernel
theorem dksX7_besideOne_1 : cX7_besideOne.data.toList.drop 22 = dktX7_besideOne_1 := dk_seg dksX7_besideOne_0 22 rfl rfl
theorem dksX7_besideOne_2 : cX7_besideOne.data.toList.drop 46 = dktX7_besideOne_2 := dk_seg dksX7_besideOne_1 24 rfl rfl
theorem dX7_besideOne_0 : decode cX7_besideOne 0 = .ok (.aload_n 0, 1) := dk_42 (dk_at dksX7_besideOne_0 0 rfl rfl)
theorem dX7_besideOne_1 : decode cX7_besideOne 1 = .ok (.iload_n 2, 1) := dk_28 (dk_at dksX7_besideOne_0 1 rfl rfl)
theorem dX7_besideOne_2 : decode cX7_besideOne 2 = .ok (.invokevirtual 397, 3) := dk_182 1 141 (dk_at dksX7_besideOne_0 2 rfl rfl)
theorem dX7_besideOne_5 : decode cX7_besideOne 5 = .ok (.aload_n 0, 1) := dk_42 (dk_at dksX7_besideOne_0 5 rfl rfl)
theorem dX7_besideOne_6 : decode cX7_besideOne 6 = .ok (.getfield 70, 3) := dk_180 0 70 (dk_at dksX7_besideOne_0 6 rfl rfl)
theorem dX7_besideOne_9 : decode cX7_besideOne 9 = .ok (.iload_n 1, 1) := dk_27 (dk_at dksX7_besideOne_0 9 rfl rfl)
theorem dX7_besideOne_10 : decode cX7_besideOne 10 = .ok (.baload, 1) := dk_51 (dk_at dksX7_besideOne_0 10 rfl rfl)
theorem dX7_besideOne_11 : decode cX7_besideOne 11 = .ok (.ifCond .ne 5, 3) := dk_154 0 5 (dk_at dksX7_besideOne_0 11 rfl rfl)
theorem dX7_besideOne_14 : decode cX7_besideOne 14 = .ok (.iconst (-1), 1) := dk_2 (dk_at dksX7_besideOne_0 14 rfl rfl)
theorem dX7_besideOne_15 : decode cX7_besideOne 15 = .ok (.ireturn, 1) := dk_172 (dk_at dksX7_besideOne_0 15 rfl rfl)
theorem dX7_besideOne_16 : decode cX7_besideOne 16 = .ok (.aload_n 0, 1) := dk_42 (dk_at dksX7_besideOne_0 16 rfl rfl)
theorem dX7_besideOne_17 : decode cX7_besideOne 17 = .ok (.aload_n 0, 1) := dk_42 (dk_at dksX7_besideOne_0 17 rfl rfl)
theorem dX7_besideOne_18 : decode cX7_besideOne 18 = .ok (.getfield 61, 3) := dk_180 0 61 (dk_at dksX7_besideOne_0 18 rfl rfl)
theorem dX7_besideOne_21 : decode cX7_besideOne 21 = .ok (.aload_n 0, 1) := dk_42 (dk_at dksX7_besideOne_0 21 rfl rfl)
theorem dX7_besideOne_22 : decode cX7_besideOne 22 = .ok (.getfield 64, 3) := dk_180 0 64 (dk_at dksX7_besideOne_1 0 rfl rfl)
theorem dX7_besideOne_25 : decode cX7_besideOne 25 = .ok (.iconst 5, 1) := dk_8 (dk_at dksX7_besideOne_1 3 rfl rfl)
theorem dX7_besideOne_26 : decode cX7_besideOne 26 = .ok (.iload_n 1, 1) := dk_27 (dk_at dksX7_besideOne_1 4 rfl rfl)
theorem dX7_besideOne_27 : decode cX7_besideOne 27 = .ok (.imul, 1) := dk_104 (dk_at dksX7_besideOne_1 5 rfl rfl)
theorem dX7_besideOne_28 : decode cX7_besideOne 28 = .ok (.aload_n 0, 1) := dk_42 (dk_at dksX7_besideOne_1 6 rfl rfl)
theorem dX7_besideOne_29 : decode cX7_besideOne 29 = .ok (.getfield 100, 3) := dk_180 0 100 (dk_at dksX7_besideOne_1 7 rfl rfl)
theorem dX7_besideOne_32 : decode cX7_besideOne 32 = .ok (.aload_n 0, 1) := dk_42 (dk_at dksX7_besideOne_1 10 rfl rfl)
theorem dX7_besideOne_33 : decode cX7_besideOne 33 = .ok (.getfield 100, 3) := dk_180 0 100 (dk_at dksX7_besideOne_1 11 rfl rfl)
theorem dX7_besideOne_36 : decode cX7_besideOne 36 = .ok (.iconst 0, 1) := dk_3 (dk_at dksX7_besideOne_1 14 rfl rfl)
theorem dX7_besideOne_37 : decode cX7_besideOne 37 = .ok (.invokevirtual 350, 3) := dk_182 1 94 (dk_at dksX7_besideOne_1 15 rfl rfl)
theorem dX7_besideOne_40 : decode cX7_besideOne 40 = .ok (.istore_n 3, 1) := dk_62 (dk_at dksX7_besideOne_1 18 rfl rfl)
theorem dX7_besideOne_41 : decode cX7_besideOne 41 = .ok (.iload_n 3, 1) := dk_29 (dk_at dksX7_besideOne_1 19 rfl rfl)
theorem dX7_besideOne_42 : decode cX7_besideOne 42 = .ok (.ifCond .ne 16, 3) := dk_154 0 16 (dk_at dksX7_besideOne_1 20 rfl rfl)
theorem dX7_besideOne_45 : decode cX7_besideOne 45 = .ok (.aload_n 0, 1) := dk_42 (dk_at dksX7_besideOne_1 23 rfl rfl)
theorem dX7_besideOne_46 : decode cX7_besideOne 46 = .ok (.getfield 67, 3) := dk_180 0 67 (dk_at dksX7_besideOne_2 0 rfl rfl)
theorem dX7_besideOne_49 : decode cX7_besideOne 49 = .ok (.iload_n 1, 1) := dk_27 (dk_at dksX7_besideOne_2 3 rfl rfl)
theorem dX7_besideOne_50 : decode cX7_besideOne 50 = .ok (.baload, 1) := dk_51 (dk_at dksX7_besideOne_2 4 rfl rfl)
theorem dX7_besideOne_51 : decode cX7_besideOne 51 = .ok (.ifCond .eq 7, 3) := dk_153 0 7 (dk_at dksX7_besideOne_2 5 rfl rfl)
theorem dX7_besideOne_54 : decode cX7_besideOne 54 = .ok (.iconst 2, 1) := dk_5 (dk_at dksX7_besideOne_2 8 rfl rfl)
theorem dX7_besideOne_55 : decode cX7_besideOne 55 = .ok (.goto 4, 3) := dk_167 0 4 (dk_at dksX7_besideOne_2 9 rfl rfl)
theorem dX7_besideOne_58 : decode cX7_besideOne 58 = .ok (.iload_n 3, 1) := dk_29 (dk_at dksX7_besideOne_2 12 rfl rfl)
theorem dX7_besideOne_59 : decode cX7_besideOne 59 = .ok (.ireturn, 1) := dk_172 (dk_at dksX7_besideOne_2 13 rfl rfl)
abbrev cX7_feet : ByteArray := prog_16_method_71_code
def yX7_feet : MethodName := ⟨RX7, "feet", "(III)I"⟩
def dkwX7_feet_11 : List UInt8 := [54, 5, 21, 5, 17, 7, 208, 164, 0, 9, 17, 7, 208, 167, 0, 5, 21, 5, 172]
abbrev dktX7_feet_11 : List UInt8 := dkwX7_feet_11 ++ []
def dkwX7_feet_10 : List UInt8 := [21, 5, 21, 6, 153, 0, 17, 42, 180, 0, 67, 21, 4, 51, 153, 0, 7, 4, 167, 0, 4, 3, 100]
abbrev dktX7_feet_10 : List UInt8 := dkwX7_feet_10 ++ dktX7_feet_11
def dkwX7_feet_9 : List UInt8 := [42, 180, 0, 97, 21, 7, 47, 148, 154, 0, 7, 4, 167, 0, 4, 3, 54, 6, 132, 7, 1, 167, 255, 216]
abbrev dktX7_feet_9 : List UInt8 := dkwX7_feet_9 ++ dktX7_feet_10
def dkwX7_feet_8 : List UInt8 := [54, 6, 3, 54, 7, 21, 7, 16, 10, 162, 0, 39, 21, 6, 153, 0, 25, 42, 180, 0, 94, 21, 7, 47]
abbrev dktX7_feet_8 : List UInt8 := dkwX7_feet_8 ++ dktX7_feet_9
def dkwX7_feet_7 : List UInt8 := [104, 10, 184, 1, 131, 42, 180, 0, 97, 42, 180, 0, 61, 8, 21, 4, 104, 21, 5, 133, 184, 1, 131, 4]
abbrev dktX7_feet_7 : List UInt8 := dkwX7_feet_7 ++ dktX7_feet_8
def dkwX7_feet_6 : List UInt8 := [8, 21, 4, 104, 4, 17, 7, 209, 182, 1, 146, 54, 5, 42, 180, 0, 94, 42, 180, 0, 64, 8, 21, 4]
abbrev dktX7_feet_6 : List UInt8 := dkwX7_feet_6 ++ dktX7_feet_7
def dkwX7_feet_5 : List UInt8 := [21, 4, 104, 4, 17, 7, 208, 182, 1, 146, 172, 42, 42, 180, 0, 64, 8, 21, 4, 104, 42, 180, 0, 61]
abbrev dktX7_feet_5 : List UInt8 := dkwX7_feet_5 ++ dktX7_feet_6
def dkwX7_feet_4 : List UInt8 := [167, 0, 4, 2, 172, 29, 154, 0, 28, 42, 42, 180, 0, 61, 8, 21, 4, 104, 42, 180, 0, 64, 8]
abbrev dktX7_feet_4 : List UInt8 := dkwX7_feet_4 ++ dktX7_feet_5
def dkwX7_feet_3 : List UInt8 := [167, 0, 7, 16, 12, 28, 96, 54, 4, 42, 180, 0, 70, 21, 4, 51, 154, 0, 13, 29, 154, 0, 7, 3]
abbrev dktX7_feet_3 : List UInt8 := dkwX7_feet_3 ++ dktX7_feet_4
def dkwX7_feet_2 : List UInt8 := [172, 42, 29, 154, 0, 10, 16, 12, 28, 96, 167, 0, 4, 27, 182, 1, 141, 29, 154, 0, 7, 27]
abbrev dktX7_feet_2 : List UInt8 := dkwX7_feet_2 ++ dktX7_feet_3
def dkwX7_feet_1 : List UInt8 := [29, 133, 9, 10, 184, 0, 143, 153, 0, 15, 42, 27, 16, 12, 28, 96, 182, 1, 138, 154, 0, 6, 16, 254]
abbrev dktX7_feet_1 : List UInt8 := dkwX7_feet_1 ++ dktX7_feet_2
def dkwX7_feet_0 : List UInt8 := [42, 3, 181, 0, 133, 27, 133, 9, 20, 1, 129, 184, 0, 143, 153, 0, 32, 28, 184, 0, 169, 153, 0, 25]
abbrev dktX7_feet_0 : List UInt8 := dkwX7_feet_0 ++ dktX7_feet_1
theorem dksX7_feet_0 : cX7_feet.data.toList.drop 0 = dktX7_feet_0 := by decide +kernel
theorem dksX7_feet_1 : cX7_feet.data.toList.drop 24 = dktX7_feet_1 := dk_seg dksX7_feet_0 24 rfl rfl
theorem dksX7_feet_2 : cX7_feet.data.toList.drop 48 = dktX7_feet_2 := dk_seg dksX7_feet_1 24 rfl rfl
theorem dksX7_feet_3 : cX7_feet.data.toList.drop 70 = dktX7_feet_3 := dk_seg dksX7_feet_2 22 rfl rfl
theorem dksX7_feet_4 : cX7_feet.data.toList.drop 94 = dktX7_feet_4 := dk_seg dksX7_feet_3 24 rfl rfl
theorem dksX7_feet_5 : cX7_feet.data.toList.drop 117 = dktX7_feet_5 := dk_seg dksX7_feet_4 23 rfl rfl
theorem dksX7_feet_6 : cX7_feet.data.toList.drop 141 = dktX7_feet_6 := dk_seg dksX7_feet_5 24 rfl rfl
theorem dksX7_feet_7 : cX7_feet.data.toList.drop 165 = dktX7_feet_7 := dk_seg dksX7_feet_6 24 rfl rfl
theorem dksX7_feet_8 : cX7_feet.data.toList.drop 189 = dktX7_feet_8 := dk_seg dksX7_feet_7 24 rfl rfl
theorem dksX7_feet_9 : cX7_feet.data.toList.drop 213 = dktX7_feet_9 := dk_seg dksX7_feet_8 24 rfl rfl
theorem dksX7_feet_10 : cX7_feet.data.toList.drop 237 = dktX7_feet_10 := dk_seg dksX7_feet_9 24 rfl rfl
theorem dksX7_feet_11 : cX7_feet.data.toList.drop 260 = dktX7_feet_11 := dk_seg dksX7_feet_10 23 rfl rfl
theorem dX7_feet_0 : decode cX7_feet 0 = .ok (.aload_n 0, 1) := dk_42 (dk_at dksX7_feet_0 0 rfl rfl)
theorem dX7_feet_1 : decode cX7_feet 1 = .ok (.iconst 0, 1) := dk_3 (dk_at dksX7_feet_0 1 rfl rfl)
theorem dX7_feet_2 : decode cX7_feet 2 = .ok (.putfield 133, 3) := dk_181 0 133 (dk_at dksX7_feet_0 2 rfl rfl)
theorem dX7_feet_5 : decode cX7_feet 5 = .ok (.iload_n 1, 1) := dk_27 (dk_at dksX7_feet_0 5 rfl rfl)
theorem dX7_feet_6 : decode cX7_feet 6 = .ok (.i2l, 1) := dk_133 (dk_at dksX7_feet_0 6 rfl rfl)
theorem dX7_feet_7 : decode cX7_feet 7 = .ok (.lconst 0, 1) := dk_9 (dk_at dksX7_feet_0 7 rfl rfl)
theorem dX7_feet_8 : decode cX7_feet 8 = .ok (.ldc2_w 385, 3) := dk_20 1 129 (dk_at dksX7_feet_0 8 rfl rfl)
theorem dX7_feet_11 : decode cX7_feet 11 = .ok (.invokestatic 143, 3) := dk_184 0 143 (dk_at dksX7_feet_0 11 rfl rfl)
theorem dX7_feet_14 : decode cX7_feet 14 = .ok (.ifCond .eq 32, 3) := dk_153 0 32 (dk_at dksX7_feet_0 14 rfl rfl)
theorem dX7_feet_17 : decode cX7_feet 17 = .ok (.iload_n 2, 1) := dk_28 (dk_at dksX7_feet_0 17 rfl rfl)
theorem dX7_feet_18 : decode cX7_feet 18 = .ok (.invokestatic 169, 3) := dk_184 0 169 (dk_at dksX7_feet_0 18 rfl rfl)
theorem dX7_feet_21 : decode cX7_feet 21 = .ok (.ifCond .eq 25, 3) := dk_153 0 25 (dk_at dksX7_feet_0 21 rfl rfl)
theorem dX7_feet_24 : decode cX7_feet 24 = .ok (.iload_n 3, 1) := dk_29 (dk_at dksX7_feet_1 0 rfl rfl)
theorem dX7_feet_25 : decode cX7_feet 25 = .ok (.i2l, 1) := dk_133 (dk_at dksX7_feet_1 1 rfl rfl)
theorem dX7_feet_26 : decode cX7_feet 26 = .ok (.lconst 0, 1) := dk_9 (dk_at dksX7_feet_1 2 rfl rfl)
theorem dX7_feet_27 : decode cX7_feet 27 = .ok (.lconst 1, 1) := dk_10 (dk_at dksX7_feet_1 3 rfl rfl)
theorem dX7_feet_28 : decode cX7_feet 28 = .ok (.invokestatic 143, 3) := dk_184 0 143 (dk_at dksX7_feet_1 4 rfl rfl)
theorem dX7_feet_31 : decode cX7_feet 31 = .ok (.ifCond .eq 15, 3) := dk_153 0 15 (dk_at dksX7_feet_1 7 rfl rfl)
theorem dX7_feet_34 : decode cX7_feet 34 = .ok (.aload_n 0, 1) := dk_42 (dk_at dksX7_feet_1 10 rfl rfl)
theorem dX7_feet_35 : decode cX7_feet 35 = .ok (.iload_n 1, 1) := dk_27 (dk_at dksX7_feet_1 11 rfl rfl)
theorem dX7_feet_36 : decode cX7_feet 36 = .ok (.bipush 12, 2) := dk_16 12 (dk_at dksX7_feet_1 12 rfl rfl)
theorem dX7_feet_38 : decode cX7_feet 38 = .ok (.iload_n 2, 1) := dk_28 (dk_at dksX7_feet_1 14 rfl rfl)
theorem dX7_feet_39 : decode cX7_feet 39 = .ok (.iadd, 1) := dk_96 (dk_at dksX7_feet_1 15 rfl rfl)
theorem dX7_feet_40 : decode cX7_feet 40 = .ok (.invokevirtual 394, 3) := dk_182 1 138 (dk_at dksX7_feet_1 16 rfl rfl)
theorem dX7_feet_43 : decode cX7_feet 43 = .ok (.ifCond .ne 6, 3) := dk_154 0 6 (dk_at dksX7_feet_1 19 rfl rfl)
theorem dX7_feet_46 : decode cX7_feet 46 = .ok (.bipush (-2), 2) := dk_16 254 (dk_at dksX7_feet_1 22 rfl rfl)
theorem dX7_feet_48 : decode cX7_feet 48 = .ok (.ireturn, 1) := dk_172 (dk_at dksX7_feet_2 0 rfl rfl)
theorem dX7_feet_49 : decode cX7_feet 49 = .ok (.aload_n 0, 1) := dk_42 (dk_at dksX7_feet_2 1 rfl rfl)
theorem dX7_feet_50 : decode cX7_feet 50 = .ok (.iload_n 3, 1) := dk_29 (dk_at dksX7_feet_2 2 rfl rfl)
theorem dX7_feet_51 : decode cX7_feet 51 = .ok (.ifCond .ne 10, 3) := dk_154 0 10 (dk_at dksX7_feet_2 3 rfl rfl)
theorem dX7_feet_54 : decode cX7_feet 54 = .ok (.bipush 12, 2) := dk_16 12 (dk_at dksX7_feet_2 6 rfl rfl)
theorem dX7_feet_56 : decode cX7_feet 56 = .ok (.iload_n 2, 1) := dk_28 (dk_at dksX7_feet_2 8 rfl rfl)
theorem dX7_feet_57 : decode cX7_feet 57 = .ok (.iadd, 1) := dk_96 (dk_at dksX7_feet_2 9 rfl rfl)
theorem dX7_feet_58 : decode cX7_feet 58 = .ok (.goto 4, 3) := dk_167 0 4 (dk_at dksX7_feet_2 10 rfl rfl)
theorem dX7_feet_61 : decode cX7_feet 61 = .ok (.iload_n 1, 1) := dk_27 (dk_at dksX7_feet_2 13 rfl rfl)
theorem dX7_feet_62 : decode cX7_feet 62 = .ok (.invokevirtual 397, 3) := dk_182 1 141 (dk_at dksX7_feet_2 14 rfl rfl)
theorem dX7_feet_65 : decode cX7_feet 65 = .ok (.iload_n 3, 1) := dk_29 (dk_at dksX7_feet_2 17 rfl rfl)
theorem dX7_feet_66 : decode cX7_feet 66 = .ok (.ifCond .ne 7, 3) := dk_154 0 7 (dk_at dksX7_feet_2 18 rfl rfl)
theorem dX7_feet_69 : decode cX7_feet 69 = .ok (.iload_n 1, 1) := dk_27 (dk_at dksX7_feet_2 21 rfl rfl)
theorem dX7_feet_70 : decode cX7_feet 70 = .ok (.goto 7, 3) := dk_167 0 7 (dk_at dksX7_feet_3 0 rfl rfl)
theorem dX7_feet_73 : decode cX7_feet 73 = .ok (.bipush 12, 2) := dk_16 12 (dk_at dksX7_feet_3 3 rfl rfl)
theorem dX7_feet_75 : decode cX7_feet 75 = .ok (.iload_n 2, 1) := dk_28 (dk_at dksX7_feet_3 5 rfl rfl)
theorem dX7_feet_76 : decode cX7_feet 76 = .ok (.iadd, 1) := dk_96 (dk_at dksX7_feet_3 6 rfl rfl)
theorem dX7_feet_77 : decode cX7_feet 77 = .ok (.istore 4, 2) := dk_54 4 (dk_at dksX7_feet_3 7 rfl rfl)
theorem dX7_feet_79 : decode cX7_feet 79 = .ok (.aload_n 0, 1) := dk_42 (dk_at dksX7_feet_3 9 rfl rfl)
theorem dX7_feet_80 : decode cX7_feet 80 = .ok (.getfield 70, 3) := dk_180 0 70 (dk_at dksX7_feet_3 10 rfl rfl)
theorem dX7_feet_83 : decode cX7_feet 83 = .ok (.iload 4, 2) := dk_21 4 (dk_at dksX7_feet_3 13 rfl rfl)
theorem dX7_feet_85 : decode cX7_feet 85 = .ok (.baload, 1) := dk_51 (dk_at dksX7_feet_3 15 rfl rfl)
theorem dX7_feet_86 : decode cX7_feet 86 = .ok (.ifCond .ne 13, 3) := dk_154 0 13 (dk_at dksX7_feet_3 16 rfl rfl)
theorem dX7_feet_89 : decode cX7_feet 89 = .ok (.iload_n 3, 1) := dk_29 (dk_at dksX7_feet_3 19 rfl rfl)
theorem dX7_feet_90 : decode cX7_feet 90 = .ok (.ifCond .ne 7, 3) := dk_154 0 7 (dk_at dksX7_feet_3 20 rfl rfl)
theorem dX7_feet_93 : decode cX7_feet 93 = .ok (.iconst 0, 1) := dk_3 (dk_at dksX7_feet_3 23 rfl rfl)
theorem dX7_feet_94 : decode cX7_feet 94 = .ok (.goto 4, 3) := dk_167 0 4 (dk_at dksX7_feet_4 0 rfl rfl)
theorem dX7_feet_97 : decode cX7_feet 97 = .ok (.iconst (-1), 1) := dk_2 (dk_at dksX7_feet_4 3 rfl rfl)
theorem dX7_feet_98 : decode cX7_feet 98 = .ok (.ireturn, 1) := dk_172 (dk_at dksX7_feet_4 4 rfl rfl)
theorem dX7_feet_99 : decode cX7_feet 99 = .ok (.iload_n 3, 1) := dk_29 (dk_at dksX7_feet_4 5 rfl rfl)
theorem dX7_feet_100 : decode cX7_feet 100 = .ok (.ifCond .ne 28, 3) := dk_154 0 28 (dk_at dksX7_feet_4 6 rfl rfl)
theorem dX7_feet_103 : decode cX7_feet 103 = .ok (.aload_n 0, 1) := dk_42 (dk_at dksX7_feet_4 9 rfl rfl)
theorem dX7_feet_104 : decode cX7_feet 104 = .ok (.aload_n 0, 1) := dk_42 (dk_at dksX7_feet_4 10 rfl rfl)
theorem dX7_feet_105 : decode cX7_feet 105 = .ok (.getfield 61, 3) := dk_180 0 61 (dk_at dksX7_feet_4 11 rfl rfl)
theorem dX7_feet_108 : decode cX7_feet 108 = .ok (.iconst 5, 1) := dk_8 (dk_at dksX7_feet_4 14 rfl rfl)
theorem dX7_feet_109 : decode cX7_feet 109 = .ok (.iload 4, 2) := dk_21 4 (dk_at dksX7_feet_4 15 rfl rfl)
theorem dX7_feet_111 : decode cX7_feet 111 = .ok (.imul, 1) := dk_104 (dk_at dksX7_feet_4 17 rfl rfl)
theorem dX7_feet_112 : decode cX7_feet 112 = .ok (.aload_n 0, 1) := dk_42 (dk_at dksX7_feet_4 18 rfl rfl)
theorem dX7_feet_113 : decode cX7_feet 113 = .ok (.getfield 64, 3) := dk_180 0 64 (dk_at dksX7_feet_4 19 rfl rfl)
theorem dX7_feet_116 : decode cX7_feet 116 = .ok (.iconst 5, 1) := dk_8 (dk_at dksX7_feet_4 22 rfl rfl)
theorem dX7_feet_117 : decode cX7_feet 117 = .ok (.iload 4, 2) := dk_21 4 (dk_at dksX7_feet_5 0 rfl rfl)
theorem dX7_feet_119 : decode cX7_feet 119 = .ok (.imul, 1) := dk_104 (dk_at dksX7_feet_5 2 rfl rfl)
theorem dX7_feet_120 : decode cX7_feet 120 = .ok (.iconst 1, 1) := dk_4 (dk_at dksX7_feet_5 3 rfl rfl)
theorem dX7_feet_121 : decode cX7_feet 121 = .ok (.sipush 2000, 3) := dk_17 7 208 (dk_at dksX7_feet_5 4 rfl rfl)
theorem dX7_feet_124 : decode cX7_feet 124 = .ok (.invokevirtual 402, 3) := dk_182 1 146 (dk_at dksX7_feet_5 7 rfl rfl)
theorem dX7_feet_127 : decode cX7_feet 127 = .ok (.ireturn, 1) := dk_172 (dk_at dksX7_feet_5 10 rfl rfl)
theorem dX7_feet_128 : decode cX7_feet 128 = .ok (.aload_n 0, 1) := dk_42 (dk_at dksX7_feet_5 11 rfl rfl)
theorem dX7_feet_129 : decode cX7_feet 129 = .ok (.aload_n 0, 1) := dk_42 (dk_at dksX7_feet_5 12 rfl rfl)
theorem dX7_feet_130 : decode cX7_feet 130 = .ok (.getfield 64, 3) := dk_180 0 64 (dk_at dksX7_feet_5 13 rfl rfl)
theorem dX7_feet_133 : decode cX7_feet 133 = .ok (.iconst 5, 1) := dk_8 (dk_at dksX7_feet_5 16 rfl rfl)
theorem dX7_feet_134 : decode cX7_feet 134 = .ok (.iload 4, 2) := dk_21 4 (dk_at dksX7_feet_5 17 rfl rfl)
theorem dX7_feet_136 : decode cX7_feet 136 = .ok (.imul, 1) := dk_104 (dk_at dksX7_feet_5 19 rfl rfl)
theorem dX7_feet_137 : decode cX7_feet 137 = .ok (.aload_n 0, 1) := dk_42 (dk_at dksX7_feet_5 20 rfl rfl)
theorem dX7_feet_138 : decode cX7_feet 138 = .ok (.getfield 61, 3) := dk_180 0 61 (dk_at dksX7_feet_5 21 rfl rfl)
theorem dX7_feet_141 : decode cX7_feet 141 = .ok (.iconst 5, 1) := dk_8 (dk_at dksX7_feet_6 0 rfl rfl)
theorem dX7_feet_142 : decode cX7_feet 142 = .ok (.iload 4, 2) := dk_21 4 (dk_at dksX7_feet_6 1 rfl rfl)
theorem dX7_feet_144 : decode cX7_feet 144 = .ok (.imul, 1) := dk_104 (dk_at dksX7_feet_6 3 rfl rfl)
theorem dX7_feet_145 : decode cX7_feet 145 = .ok (.iconst 1, 1) := dk_4 (dk_at dksX7_feet_6 4 rfl rfl)
theorem dX7_feet_146 : decode cX7_feet 146 = .ok (.sipush 2001, 3) := dk_17 7 209 (dk_at dksX7_feet_6 5 rfl rfl)
theorem dX7_feet_149 : decode cX7_feet 149 = .ok (.invokevirtual 402, 3) := dk_182 1 146 (dk_at dksX7_feet_6 8 rfl rfl)
theorem dX7_feet_152 : decode cX7_feet 152 = .ok (.istore 5, 2) := dk_54 5 (dk_at dksX7_feet_6 11 rfl rfl)
theorem dX7_feet_154 : decode cX7_feet 154 = .ok (.aload_n 0, 1) := dk_42 (dk_at dksX7_feet_6 13 rfl rfl)
theorem dX7_feet_155 : decode cX7_feet 155 = .ok (.getfield 94, 3) := dk_180 0 94 (dk_at dksX7_feet_6 14 rfl rfl)
theorem dX7_feet_158 : decode cX7_feet 158 = .ok (.aload_n 0, 1) := dk_42 (dk_at dksX7_feet_6 17 rfl rfl)
theorem dX7_feet_159 : decode cX7_feet 159 = .ok (.getfield 64, 3) := dk_180 0 64 (dk_at dksX7_feet_6 18 rfl rfl)
theorem dX7_feet_162 : decode cX7_feet 162 = .ok (.iconst 5, 1) := dk_8 (dk_at dksX7_feet_6 21 rfl rfl)
theorem dX7_feet_163 : decode cX7_feet 163 = .ok (.iload 4, 2) := dk_21 4 (dk_at dksX7_feet_6 22 rfl rfl)
theorem dX7_feet_165 : decode cX7_feet 165 = .ok (.imul, 1) := dk_104 (dk_at dksX7_feet_7 0 rfl rfl)
theorem dX7_feet_166 : decode cX7_feet 166 = .ok (.lconst 1, 1) := dk_10 (dk_at dksX7_feet_7 1 rfl rfl)
theorem dX7_feet_167 : decode cX7_feet 167 = .ok (.invokestatic 387, 3) := dk_184 1 131 (dk_at dksX7_feet_7 2 rfl rfl)
theorem dX7_feet_170 : decode cX7_feet 170 = .ok (.aload_n 0, 1) := dk_42 (dk_at dksX7_feet_7 5 rfl rfl)
theorem dX7_feet_171 : decode cX7_feet 171 = .ok (.getfield 97, 3) := dk_180 0 97 (dk_at dksX7_feet_7 6 rfl rfl)
theorem dX7_feet_174 : decode cX7_feet 174 = .ok (.aload_n 0, 1) := dk_42 (dk_at dksX7_feet_7 9 rfl rfl)
theorem dX7_feet_175 : decode cX7_feet 175 = .ok (.getfield 61, 3) := dk_180 0 61 (dk_at dksX7_feet_7 10 rfl rfl)
theorem dX7_feet_178 : decode cX7_feet 178 = .ok (.iconst 5, 1) := dk_8 (dk_at dksX7_feet_7 13 rfl rfl)
theorem dX7_feet_179 : decode cX7_feet 179 = .ok (.iload 4, 2) := dk_21 4 (dk_at dksX7_feet_7 14 rfl rfl)
theorem dX7_feet_181 : decode cX7_feet 181 = .ok (.imul, 1) := dk_104 (dk_at dksX7_feet_7 16 rfl rfl)
theorem dX7_feet_182 : decode cX7_feet 182 = .ok (.iload 5, 2) := dk_21 5 (dk_at dksX7_feet_7 17 rfl rfl)
theorem dX7_feet_184 : decode cX7_feet 184 = .ok (.i2l, 1) := dk_133 (dk_at dksX7_feet_7 19 rfl rfl)
theorem dX7_feet_185 : decode cX7_feet 185 = .ok (.invokestatic 387, 3) := dk_184 1 131 (dk_at dksX7_feet_7 20 rfl rfl)
theorem dX7_feet_188 : decode cX7_feet 188 = .ok (.iconst 1, 1) := dk_4 (dk_at dksX7_feet_7 23 rfl rfl)
theorem dX7_feet_189 : decode cX7_feet 189 = .ok (.istore 6, 2) := dk_54 6 (dk_at dksX7_feet_8 0 rfl rfl)
theorem dX7_feet_191 : decode cX7_feet 191 = .ok (.iconst 0, 1) := dk_3 (dk_at dksX7_feet_8 2 rfl rfl)
theorem dX7_feet_192 : decode cX7_feet 192 = .ok (.istore 7, 2) := dk_54 7 (dk_at dksX7_feet_8 3 rfl rfl)
theorem dX7_feet_194 : decode cX7_feet 194 = .ok (.iload 7, 2) := dk_21 7 (dk_at dksX7_feet_8 5 rfl rfl)
theorem dX7_feet_196 : decode cX7_feet 196 = .ok (.bipush 10, 2) := dk_16 10 (dk_at dksX7_feet_8 7 rfl rfl)
theorem dX7_feet_198 : decode cX7_feet 198 = .ok (.if_icmp .ge 39, 3) := dk_162 0 39 (dk_at dksX7_feet_8 9 rfl rfl)
theorem dX7_feet_201 : decode cX7_feet 201 = .ok (.iload 6, 2) := dk_21 6 (dk_at dksX7_feet_8 12 rfl rfl)
theorem dX7_feet_203 : decode cX7_feet 203 = .ok (.ifCond .eq 25, 3) := dk_153 0 25 (dk_at dksX7_feet_8 14 rfl rfl)
theorem dX7_feet_206 : decode cX7_feet 206 = .ok (.aload_n 0, 1) := dk_42 (dk_at dksX7_feet_8 17 rfl rfl)
theorem dX7_feet_207 : decode cX7_feet 207 = .ok (.getfield 94, 3) := dk_180 0 94 (dk_at dksX7_feet_8 18 rfl rfl)
theorem dX7_feet_210 : decode cX7_feet 210 = .ok (.iload 7, 2) := dk_21 7 (dk_at dksX7_feet_8 21 rfl rfl)
theorem dX7_feet_212 : decode cX7_feet 212 = .ok (.laload, 1) := dk_47 (dk_at dksX7_feet_8 23 rfl rfl)
theorem dX7_feet_213 : decode cX7_feet 213 = .ok (.aload_n 0, 1) := dk_42 (dk_at dksX7_feet_9 0 rfl rfl)
theorem dX7_feet_214 : decode cX7_feet 214 = .ok (.getfield 97, 3) := dk_180 0 97 (dk_at dksX7_feet_9 1 rfl rfl)
theorem dX7_feet_217 : decode cX7_feet 217 = .ok (.iload 7, 2) := dk_21 7 (dk_at dksX7_feet_9 4 rfl rfl)
theorem dX7_feet_219 : decode cX7_feet 219 = .ok (.laload, 1) := dk_47 (dk_at dksX7_feet_9 6 rfl rfl)
theorem dX7_feet_220 : decode cX7_feet 220 = .ok (.lcmp, 1) := dk_148 (dk_at dksX7_feet_9 7 rfl rfl)
theorem dX7_feet_221 : decode cX7_feet 221 = .ok (.ifCond .ne 7, 3) := dk_154 0 7 (dk_at dksX7_feet_9 8 rfl rfl)
theorem dX7_feet_224 : decode cX7_feet 224 = .ok (.iconst 1, 1) := dk_4 (dk_at dksX7_feet_9 11 rfl rfl)
theorem dX7_feet_225 : decode cX7_feet 225 = .ok (.goto 4, 3) := dk_167 0 4 (dk_at dksX7_feet_9 12 rfl rfl)
theorem dX7_feet_228 : decode cX7_feet 228 = .ok (.iconst 0, 1) := dk_3 (dk_at dksX7_feet_9 15 rfl rfl)
theorem dX7_feet_229 : decode cX7_feet 229 = .ok (.istore 6, 2) := dk_54 6 (dk_at dksX7_feet_9 16 rfl rfl)
theorem dX7_feet_231 : decode cX7_feet 231 = .ok (.iinc 7 1, 3) := dk_132 7 1 (dk_at dksX7_feet_9 18 rfl rfl)
theorem dX7_feet_234 : decode cX7_feet 234 = .ok (.goto (-40), 3) := dk_167 255 216 (dk_at dksX7_feet_9 21 rfl rfl)
theorem dX7_feet_237 : decode cX7_feet 237 = .ok (.iload 5, 2) := dk_21 5 (dk_at dksX7_feet_10 0 rfl rfl)
theorem dX7_feet_239 : decode cX7_feet 239 = .ok (.iload 6, 2) := dk_21 6 (dk_at dksX7_feet_10 2 rfl rfl)
theorem dX7_feet_241 : decode cX7_feet 241 = .ok (.ifCond .eq 17, 3) := dk_153 0 17 (dk_at dksX7_feet_10 4 rfl rfl)
theorem dX7_feet_244 : decode cX7_feet 244 = .ok (.aload_n 0, 1) := dk_42 (dk_at dksX7_feet_10 7 rfl rfl)
theorem dX7_feet_245 : decode cX7_feet 245 = .ok (.getfield 67, 3) := dk_180 0 67 (dk_at dksX7_feet_10 8 rfl rfl)
theorem dX7_feet_248 : decode cX7_feet 248 = .ok (.iload 4, 2) := dk_21 4 (dk_at dksX7_feet_10 11 rfl rfl)
theorem dX7_feet_250 : decode cX7_feet 250 = .ok (.baload, 1) := dk_51 (dk_at dksX7_feet_10 13 rfl rfl)
theorem dX7_feet_251 : decode cX7_feet 251 = .ok (.ifCond .eq 7, 3) := dk_153 0 7 (dk_at dksX7_feet_10 14 rfl rfl)
theorem dX7_feet_254 : decode cX7_feet 254 = .ok (.iconst 1, 1) := dk_4 (dk_at dksX7_feet_10 17 rfl rfl)
theorem dX7_feet_255 : decode cX7_feet 255 = .ok (.goto 4, 3) := dk_167 0 4 (dk_at dksX7_feet_10 18 rfl rfl)
theorem dX7_feet_258 : decode cX7_feet 258 = .ok (.iconst 0, 1) := dk_3 (dk_at dksX7_feet_10 21 rfl rfl)
theorem dX7_feet_259 : decode cX7_feet 259 = .ok (.isub, 1) := dk_100 (dk_at dksX7_feet_10 22 rfl rfl)
theorem dX7_feet_260 : decode cX7_feet 260 = .ok (.istore 5, 2) := dk_54 5 (dk_at dksX7_feet_11 0 rfl rfl)
theorem dX7_feet_262 : decode cX7_feet 262 = .ok (.iload 5, 2) := dk_21 5 (dk_at dksX7_feet_11 2 rfl rfl)
theorem dX7_feet_264 : decode cX7_feet 264 = .ok (.sipush 2000, 3) := dk_17 7 208 (dk_at dksX7_feet_11 4 rfl rfl)
theorem dX7_feet_267 : decode cX7_feet 267 = .ok (.if_icmp .le 9, 3) := dk_164 0 9 (dk_at dksX7_feet_11 7 rfl rfl)
theorem dX7_feet_270 : decode cX7_feet 270 = .ok (.sipush 2000, 3) := dk_17 7 208 (dk_at dksX7_feet_11 10 rfl rfl)
theorem dX7_feet_273 : decode cX7_feet 273 = .ok (.goto 5, 3) := dk_167 0 5 (dk_at dksX7_feet_11 13 rfl rfl)
theorem dX7_feet_276 : decode cX7_feet 276 = .ok (.iload 5, 2) := dk_21 5 (dk_at dksX7_feet_11 16 rfl rfl)
theorem dX7_feet_278 : decode cX7_feet 278 = .ok (.ireturn, 1) := dk_172 (dk_at dksX7_feet_11 18 rfl rfl)
abbrev cX7_would : ByteArray := prog_16_method_76_code
def yX7_would : MethodName := ⟨RX7, "would", "(IIII)I"⟩
def dkwX7_would_2 : List UInt8 := [42, 29, 21, 4, 182, 1, 175, 172]
abbrev dktX7_would_2 : List UInt8 := dkwX7_would_2 ++ []
def dkwX7_would_1 : List UInt8 := [184, 0, 143, 153, 0, 12, 42, 27, 28, 182, 1, 169, 154, 0, 6, 16, 254, 172, 42, 27, 28, 182, 1, 172]
abbrev dktX7_would_1 : List UInt8 := dkwX7_would_1 ++ dktX7_would_2
def dkwX7_would_0 : List UInt8 := [42, 3, 181, 0, 133, 29, 133, 10, 20, 0, 180, 184, 0, 143, 153, 0, 25, 21, 4, 133, 9, 20, 0, 182]
abbrev dktX7_would_0 : List UInt8 := dkwX7_would_0 ++ dktX7_would_1
theorem dksX7_would_0 : cX7_would.data.toList.drop 0 = dktX7_would_0 := by decide +kernel
theorem dksX7_would_1 : cX7_would.data.toList.drop 24 = dktX7_would_1 := dk_seg dksX7_would_0 24 rfl rfl
theorem dksX7_would_2 : cX7_would.data.toList.drop 48 = dktX7_would_2 := dk_seg dksX7_would_1 24 rfl rfl
theorem dX7_would_0 : decode cX7_would 0 = .ok (.aload_n 0, 1) := dk_42 (dk_at dksX7_would_0 0 rfl rfl)
theorem dX7_would_1 : decode cX7_would 1 = .ok (.iconst 0, 1) := dk_3 (dk_at dksX7_would_0 1 rfl rfl)
theorem dX7_would_2 : decode cX7_would 2 = .ok (.putfield 133, 3) := dk_181 0 133 (dk_at dksX7_would_0 2 rfl rfl)
theorem dX7_would_5 : decode cX7_would 5 = .ok (.iload_n 3, 1) := dk_29 (dk_at dksX7_would_0 5 rfl rfl)
theorem dX7_would_6 : decode cX7_would 6 = .ok (.i2l, 1) := dk_133 (dk_at dksX7_would_0 6 rfl rfl)
theorem dX7_would_7 : decode cX7_would 7 = .ok (.lconst 1, 1) := dk_10 (dk_at dksX7_would_0 7 rfl rfl)
theorem dX7_would_8 : decode cX7_would 8 = .ok (.ldc2_w 180, 3) := dk_20 0 180 (dk_at dksX7_would_0 8 rfl rfl)
theorem dX7_would_11 : decode cX7_would 11 = .ok (.invokestatic 143, 3) := dk_184 0 143 (dk_at dksX7_would_0 11 rfl rfl)
theorem dX7_would_14 : decode cX7_would 14 = .ok (.ifCond .eq 25, 3) := dk_153 0 25 (dk_at dksX7_would_0 14 rfl rfl)
theorem dX7_would_17 : decode cX7_would 17 = .ok (.iload 4, 2) := dk_21 4 (dk_at dksX7_would_0 17 rfl rfl)
theorem dX7_would_19 : decode cX7_would 19 = .ok (.i2l, 1) := dk_133 (dk_at dksX7_would_0 19 rfl rfl)
theorem dX7_would_20 : decode cX7_would 20 = .ok (.lconst 0, 1) := dk_9 (dk_at dksX7_would_0 20 rfl rfl)
theorem dX7_would_21 : decode cX7_would 21 = .ok (.ldc2_w 182, 3) := dk_20 0 182 (dk_at dksX7_would_0 21 rfl rfl)
theorem dX7_would_24 : decode cX7_would 24 = .ok (.invokestatic 143, 3) := dk_184 0 143 (dk_at dksX7_would_1 0 rfl rfl)
theorem dX7_would_27 : decode cX7_would 27 = .ok (.ifCond .eq 12, 3) := dk_153 0 12 (dk_at dksX7_would_1 3 rfl rfl)
theorem dX7_would_30 : decode cX7_would 30 = .ok (.aload_n 0, 1) := dk_42 (dk_at dksX7_would_1 6 rfl rfl)
theorem dX7_would_31 : decode cX7_would 31 = .ok (.iload_n 1, 1) := dk_27 (dk_at dksX7_would_1 7 rfl rfl)
theorem dX7_would_32 : decode cX7_would 32 = .ok (.iload_n 2, 1) := dk_28 (dk_at dksX7_would_1 8 rfl rfl)
theorem dX7_would_33 : decode cX7_would 33 = .ok (.invokevirtual 425, 3) := dk_182 1 169 (dk_at dksX7_would_1 9 rfl rfl)
theorem dX7_would_36 : decode cX7_would 36 = .ok (.ifCond .ne 6, 3) := dk_154 0 6 (dk_at dksX7_would_1 12 rfl rfl)
theorem dX7_would_39 : decode cX7_would 39 = .ok (.bipush (-2), 2) := dk_16 254 (dk_at dksX7_would_1 15 rfl rfl)
theorem dX7_would_41 : decode cX7_would 41 = .ok (.ireturn, 1) := dk_172 (dk_at dksX7_would_1 17 rfl rfl)
theorem dX7_would_42 : decode cX7_would 42 = .ok (.aload_n 0, 1) := dk_42 (dk_at dksX7_would_1 18 rfl rfl)
theorem dX7_would_43 : decode cX7_would 43 = .ok (.iload_n 1, 1) := dk_27 (dk_at dksX7_would_1 19 rfl rfl)
theorem dX7_would_44 : decode cX7_would 44 = .ok (.iload_n 2, 1) := dk_28 (dk_at dksX7_would_1 20 rfl rfl)
theorem dX7_would_45 : decode cX7_would 45 = .ok (.invokevirtual 428, 3) := dk_182 1 172 (dk_at dksX7_would_1 21 rfl rfl)
theorem dX7_would_48 : decode cX7_would 48 = .ok (.aload_n 0, 1) := dk_42 (dk_at dksX7_would_2 0 rfl rfl)
theorem dX7_would_49 : decode cX7_would 49 = .ok (.iload_n 3, 1) := dk_29 (dk_at dksX7_would_2 1 rfl rfl)
theorem dX7_would_50 : decode cX7_would 50 = .ok (.iload 4, 2) := dk_21 4 (dk_at dksX7_would_2 2 rfl rfl)
theorem dX7_would_52 : decode cX7_would 52 = .ok (.invokevirtual 431, 3) := dk_182 1 175 (dk_at dksX7_would_2 4 rfl rfl)
theorem dX7_would_55 : decode cX7_would 55 = .ok (.ireturn, 1) := dk_172 (dk_at dksX7_would_2 7 rfl rfl)
abbrev cX7_isAsked : ByteArray := prog_16_method_75_code
def yX7_isAsked : MethodName := ⟨RX7, "isAsked", "(II)Z"⟩
def dkwX7_isAsked_1 : List UInt8 := [96, 182, 1, 138, 153, 0, 7, 4, 167, 0, 4, 3, 172]
abbrev dktX7_isAsked_1 : List UInt8 := dkwX7_isAsked_1 ++ []
def dkwX7_isAsked_0 : List UInt8 := [27, 133, 9, 20, 1, 129, 184, 0, 143, 153, 0, 26, 28, 184, 0, 169, 153, 0, 19, 42, 27, 16, 12, 28]
abbrev dktX7_isAsked_0 : List UInt8 := dkwX7_isAsked_0 ++ dktX7_isAsked_1
theorem dksX7_isAsked_0 : cX7_isAsked.data.toList.drop 0 = dktX7_isAsked_0 := by decide +kernel
theorem dksX7_isAsked_1 : cX7_isAsked.data.toList.drop 24 = dktX7_isAsked_1 := dk_seg dksX7_isAsked_0 24 rfl rfl
theorem dX7_isAsked_0 : decode cX7_isAsked 0 = .ok (.iload_n 1, 1) := dk_27 (dk_at dksX7_isAsked_0 0 rfl rfl)
theorem dX7_isAsked_1 : decode cX7_isAsked 1 = .ok (.i2l, 1) := dk_133 (dk_at dksX7_isAsked_0 1 rfl rfl)
theorem dX7_isAsked_2 : decode cX7_isAsked 2 = .ok (.lconst 0, 1) := dk_9 (dk_at dksX7_isAsked_0 2 rfl rfl)
theorem dX7_isAsked_3 : decode cX7_isAsked 3 = .ok (.ldc2_w 385, 3) := dk_20 1 129 (dk_at dksX7_isAsked_0 3 rfl rfl)
theorem dX7_isAsked_6 : decode cX7_isAsked 6 = .ok (.invokestatic 143, 3) := dk_184 0 143 (dk_at dksX7_isAsked_0 6 rfl rfl)
theorem dX7_isAsked_9 : decode cX7_isAsked 9 = .ok (.ifCond .eq 26, 3) := dk_153 0 26 (dk_at dksX7_isAsked_0 9 rfl rfl)
theorem dX7_isAsked_12 : decode cX7_isAsked 12 = .ok (.iload_n 2, 1) := dk_28 (dk_at dksX7_isAsked_0 12 rfl rfl)
theorem dX7_isAsked_13 : decode cX7_isAsked 13 = .ok (.invokestatic 169, 3) := dk_184 0 169 (dk_at dksX7_isAsked_0 13 rfl rfl)
theorem dX7_isAsked_16 : decode cX7_isAsked 16 = .ok (.ifCond .eq 19, 3) := dk_153 0 19 (dk_at dksX7_isAsked_0 16 rfl rfl)
theorem dX7_isAsked_19 : decode cX7_isAsked 19 = .ok (.aload_n 0, 1) := dk_42 (dk_at dksX7_isAsked_0 19 rfl rfl)
theorem dX7_isAsked_20 : decode cX7_isAsked 20 = .ok (.iload_n 1, 1) := dk_27 (dk_at dksX7_isAsked_0 20 rfl rfl)
theorem dX7_isAsked_21 : decode cX7_isAsked 21 = .ok (.bipush 12, 2) := dk_16 12 (dk_at dksX7_isAsked_0 21 rfl rfl)
theorem dX7_isAsked_23 : decode cX7_isAsked 23 = .ok (.iload_n 2, 1) := dk_28 (dk_at dksX7_isAsked_0 23 rfl rfl)
theorem dX7_isAsked_24 : decode cX7_isAsked 24 = .ok (.iadd, 1) := dk_96 (dk_at dksX7_isAsked_1 0 rfl rfl)
theorem dX7_isAsked_25 : decode cX7_isAsked 25 = .ok (.invokevirtual 394, 3) := dk_182 1 138 (dk_at dksX7_isAsked_1 1 rfl rfl)
theorem dX7_isAsked_28 : decode cX7_isAsked 28 = .ok (.ifCond .eq 7, 3) := dk_153 0 7 (dk_at dksX7_isAsked_1 4 rfl rfl)
theorem dX7_isAsked_31 : decode cX7_isAsked 31 = .ok (.iconst 1, 1) := dk_4 (dk_at dksX7_isAsked_1 7 rfl rfl)
theorem dX7_isAsked_32 : decode cX7_isAsked 32 = .ok (.goto 4, 3) := dk_167 0 4 (dk_at dksX7_isAsked_1 8 rfl rfl)
theorem dX7_isAsked_35 : decode cX7_isAsked 35 = .ok (.iconst 0, 1) := dk_3 (dk_at dksX7_isAsked_1 11 rfl rfl)
theorem dX7_isAsked_36 : decode cX7_isAsked 36 = .ok (.ireturn, 1) := dk_172 (dk_at dksX7_isAsked_1 12 rfl rfl)
abbrev cX7_findEnds : ByteArray := prog_16_method_72_code
def yX7_findEnds : MethodName := ⟨RX7, "findEnds", "(II)V"⟩
def dkwX7_findEnds_8 : List UInt8 := [167, 255, 205, 177]
abbrev dktX7_findEnds_8 : List UInt8 := dkwX7_findEnds_8 ++ []
def dkwX7_findEnds_7 : List UInt8 := [42, 180, 0, 103, 16, 15, 21, 4, 96, 42, 180, 0, 61, 8, 29, 104, 21, 4, 96, 47, 80, 132, 4, 1]
abbrev dktX7_findEnds_7 : List UInt8 := dkwX7_findEnds_7 ++ dktX7_findEnds_8
def dkwX7_findEnds_6 : List UInt8 := [162, 0, 51, 42, 180, 0, 103, 16, 10, 21, 4, 96, 42, 180, 0, 64, 8, 29, 104, 21, 4, 96, 47, 80]
abbrev dktX7_findEnds_6 : List UInt8 := dkwX7_findEnds_6 ++ dktX7_findEnds_7
def dkwX7_findEnds_5 : List UInt8 := [180, 0, 67, 29, 51, 154, 0, 7, 4, 167, 0, 4, 3, 181, 1, 162, 3, 54, 4, 21, 4, 8]
abbrev dktX7_findEnds_5 : List UInt8 := dkwX7_findEnds_5 ++ dktX7_findEnds_6
def dkwX7_findEnds_4 : List UInt8 := [42, 27, 182, 1, 141, 42, 42, 180, 0, 70, 29, 51, 181, 1, 159, 42, 42, 180, 1, 159, 153, 0, 16, 42]
abbrev dktX7_findEnds_4 : List UInt8 := dkwX7_findEnds_4 ++ dktX7_findEnds_5
def dkwX7_findEnds_3 : List UInt8 := [29, 96, 42, 180, 0, 64, 8, 27, 104, 29, 96, 47, 80, 132, 3, 1, 167, 255, 214, 16, 12, 28, 96, 62]
abbrev dktX7_findEnds_3 : List UInt8 := dkwX7_findEnds_3 ++ dktX7_findEnds_4
def dkwX7_findEnds_2 : List UInt8 := [162, 0, 43, 42, 180, 0, 103, 29, 42, 180, 0, 61, 8, 27, 104, 29, 96, 47, 80, 42, 180, 0, 103, 8]
abbrev dktX7_findEnds_2 : List UInt8 := dkwX7_findEnds_2 ++ dktX7_findEnds_3
def dkwX7_findEnds_1 : List UInt8 := [153, 0, 16, 42, 180, 0, 67, 27, 51, 154, 0, 7, 4, 167, 0, 4, 3, 181, 1, 156, 3, 62, 29, 8]
abbrev dktX7_findEnds_1 : List UInt8 := dkwX7_findEnds_1 ++ dktX7_findEnds_2
def dkwX7_findEnds_0 : List UInt8 := [42, 16, 12, 28, 96, 182, 1, 141, 42, 42, 180, 0, 70, 27, 51, 181, 1, 153, 42, 42, 180, 1, 153]
abbrev dktX7_findEnds_0 : List UInt8 := dkwX7_findEnds_0 ++ dktX7_findEnds_1
theorem dksX7_findEnds_0 : cX7_findEnds.data.toList.drop 0 = dktX7_findEnds_0 := by decide +kernel
theorem dksX7_findEnds_1 : cX7_findEnds.data.toList.drop 23 = dktX7_findEnds_1 := dk_seg dksX7_findEnds_0 23 rfl rfl
theorem dksX7_findEnds_2 : cX7_findEnds.data.toList.drop 47 = dktX7_findEnds_2 := dk_seg dksX7_findEnds_1 24 rfl rfl
theorem dksX7_findEnds_3 : cX7_findEnds.data.toList.drop 71 = dktX7_findEnds_3 := dk_seg dksX7_findEnds_2 24 rfl rfl
theorem dksX7_findEnds_4 : cX7_findEnds.data.toList.drop 95 = dktX7_findEnds_4 := dk_seg dksX7_findEnds_3 24 rfl rfl
theorem dksX7_findEnds_5 : cX7_findEnds.data.toList.drop 119 = dktX7_findEnds_5 := dk_seg dksX7_findEnds_4 24 rfl rfl
theorem dksX7_findEnds_6 : cX7_findEnds.data.toList.drop 141 = dktX7_findEnds_6 := dk_seg dksX7_findEnds_5 22 rfl rfl
theorem dksX7_findEnds_7 : cX7_findEnds.data.toList.drop 165 = dktX7_findEnds_7 := dk_seg dksX7_findEnds_6 24 rfl rfl
theorem dksX7_findEnds_8 : cX7_findEnds.data.toList.drop 189 = dktX7_findEnds_8 := dk_seg dksX7_findEnds_7 24 rfl rfl
theorem dX7_findEnds_0 : decode cX7_findEnds 0 = .ok (.aload_n 0, 1) := dk_42 (dk_at dksX7_findEnds_0 0 rfl rfl)
theorem dX7_findEnds_1 : decode cX7_findEnds 1 = .ok (.bipush 12, 2) := dk_16 12 (dk_at dksX7_findEnds_0 1 rfl rfl)
theorem dX7_findEnds_3 : decode cX7_findEnds 3 = .ok (.iload_n 2, 1) := dk_28 (dk_at dksX7_findEnds_0 3 rfl rfl)
theorem dX7_findEnds_4 : decode cX7_findEnds 4 = .ok (.iadd, 1) := dk_96 (dk_at dksX7_findEnds_0 4 rfl rfl)
theorem dX7_findEnds_5 : decode cX7_findEnds 5 = .ok (.invokevirtual 397, 3) := dk_182 1 141 (dk_at dksX7_findEnds_0 5 rfl rfl)
theorem dX7_findEnds_8 : decode cX7_findEnds 8 = .ok (.aload_n 0, 1) := dk_42 (dk_at dksX7_findEnds_0 8 rfl rfl)
theorem dX7_findEnds_9 : decode cX7_findEnds 9 = .ok (.aload_n 0, 1) := dk_42 (dk_at dksX7_findEnds_0 9 rfl rfl)
theorem dX7_findEnds_10 : decode cX7_findEnds 10 = .ok (.getfield 70, 3) := dk_180 0 70 (dk_at dksX7_findEnds_0 10 rfl rfl)
theorem dX7_findEnds_13 : decode cX7_findEnds 13 = .ok (.iload_n 1, 1) := dk_27 (dk_at dksX7_findEnds_0 13 rfl rfl)
theorem dX7_findEnds_14 : decode cX7_findEnds 14 = .ok (.baload, 1) := dk_51 (dk_at dksX7_findEnds_0 14 rfl rfl)
theorem dX7_findEnds_15 : decode cX7_findEnds 15 = .ok (.putfield 409, 3) := dk_181 1 153 (dk_at dksX7_findEnds_0 15 rfl rfl)
theorem dX7_findEnds_18 : decode cX7_findEnds 18 = .ok (.aload_n 0, 1) := dk_42 (dk_at dksX7_findEnds_0 18 rfl rfl)
theorem dX7_findEnds_19 : decode cX7_findEnds 19 = .ok (.aload_n 0, 1) := dk_42 (dk_at dksX7_findEnds_0 19 rfl rfl)
theorem dX7_findEnds_20 : decode cX7_findEnds 20 = .ok (.getfield 409, 3) := dk_180 1 153 (dk_at dksX7_findEnds_0 20 rfl rfl)
theorem dX7_findEnds_23 : decode cX7_findEnds 23 = .ok (.ifCond .eq 16, 3) := dk_153 0 16 (dk_at dksX7_findEnds_1 0 rfl rfl)
theorem dX7_findEnds_26 : decode cX7_findEnds 26 = .ok (.aload_n 0, 1) := dk_42 (dk_at dksX7_findEnds_1 3 rfl rfl)
theorem dX7_findEnds_27 : decode cX7_findEnds 27 = .ok (.getfield 67, 3) := dk_180 0 67 (dk_at dksX7_findEnds_1 4 rfl rfl)
theorem dX7_findEnds_30 : decode cX7_findEnds 30 = .ok (.iload_n 1, 1) := dk_27 (dk_at dksX7_findEnds_1 7 rfl rfl)
theorem dX7_findEnds_31 : decode cX7_findEnds 31 = .ok (.baload, 1) := dk_51 (dk_at dksX7_findEnds_1 8 rfl rfl)
theorem dX7_findEnds_32 : decode cX7_findEnds 32 = .ok (.ifCond .ne 7, 3) := dk_154 0 7 (dk_at dksX7_findEnds_1 9 rfl rfl)
theorem dX7_findEnds_35 : decode cX7_findEnds 35 = .ok (.iconst 1, 1) := dk_4 (dk_at dksX7_findEnds_1 12 rfl rfl)
theorem dX7_findEnds_36 : decode cX7_findEnds 36 = .ok (.goto 4, 3) := dk_167 0 4 (dk_at dksX7_findEnds_1 13 rfl rfl)
theorem dX7_findEnds_39 : decode cX7_findEnds 39 = .ok (.iconst 0, 1) := dk_3 (dk_at dksX7_findEnds_1 16 rfl rfl)
theorem dX7_findEnds_40 : decode cX7_findEnds 40 = .ok (.putfield 412, 3) := dk_181 1 156 (dk_at dksX7_findEnds_1 17 rfl rfl)
theorem dX7_findEnds_43 : decode cX7_findEnds 43 = .ok (.iconst 0, 1) := dk_3 (dk_at dksX7_findEnds_1 20 rfl rfl)
theorem dX7_findEnds_44 : decode cX7_findEnds 44 = .ok (.istore_n 3, 1) := dk_62 (dk_at dksX7_findEnds_1 21 rfl rfl)
theorem dX7_findEnds_45 : decode cX7_findEnds 45 = .ok (.iload_n 3, 1) := dk_29 (dk_at dksX7_findEnds_1 22 rfl rfl)
theorem dX7_findEnds_46 : decode cX7_findEnds 46 = .ok (.iconst 5, 1) := dk_8 (dk_at dksX7_findEnds_1 23 rfl rfl)
theorem dX7_findEnds_47 : decode cX7_findEnds 47 = .ok (.if_icmp .ge 43, 3) := dk_162 0 43 (dk_at dksX7_findEnds_2 0 rfl rfl)
theorem dX7_findEnds_50 : decode cX7_findEnds 50 = .ok (.aload_n 0, 1) := dk_42 (dk_at dksX7_findEnds_2 3 rfl rfl)
theorem dX7_findEnds_51 : decode cX7_findEnds 51 = .ok (.getfield 103, 3) := dk_180 0 103 (dk_at dksX7_findEnds_2 4 rfl rfl)
theorem dX7_findEnds_54 : decode cX7_findEnds 54 = .ok (.iload_n 3, 1) := dk_29 (dk_at dksX7_findEnds_2 7 rfl rfl)
theorem dX7_findEnds_55 : decode cX7_findEnds 55 = .ok (.aload_n 0, 1) := dk_42 (dk_at dksX7_findEnds_2 8 rfl rfl)
theorem dX7_findEnds_56 : decode cX7_findEnds 56 = .ok (.getfield 61, 3) := dk_180 0 61 (dk_at dksX7_findEnds_2 9 rfl rfl)
theorem dX7_findEnds_59 : decode cX7_findEnds 59 = .ok (.iconst 5, 1) := dk_8 (dk_at dksX7_findEnds_2 12 rfl rfl)
theorem dX7_findEnds_60 : decode cX7_findEnds 60 = .ok (.iload_n 1, 1) := dk_27 (dk_at dksX7_findEnds_2 13 rfl rfl)
theorem dX7_findEnds_61 : decode cX7_findEnds 61 = .ok (.imul, 1) := dk_104 (dk_at dksX7_findEnds_2 14 rfl rfl)
theorem dX7_findEnds_62 : decode cX7_findEnds 62 = .ok (.iload_n 3, 1) := dk_29 (dk_at dksX7_findEnds_2 15 rfl rfl)
theorem dX7_findEnds_63 : decode cX7_findEnds 63 = .ok (.iadd, 1) := dk_96 (dk_at dksX7_findEnds_2 16 rfl rfl)
theorem dX7_findEnds_64 : decode cX7_findEnds 64 = .ok (.laload, 1) := dk_47 (dk_at dksX7_findEnds_2 17 rfl rfl)
theorem dX7_findEnds_65 : decode cX7_findEnds 65 = .ok (.lastore, 1) := dk_80 (dk_at dksX7_findEnds_2 18 rfl rfl)
theorem dX7_findEnds_66 : decode cX7_findEnds 66 = .ok (.aload_n 0, 1) := dk_42 (dk_at dksX7_findEnds_2 19 rfl rfl)
theorem dX7_findEnds_67 : decode cX7_findEnds 67 = .ok (.getfield 103, 3) := dk_180 0 103 (dk_at dksX7_findEnds_2 20 rfl rfl)
theorem dX7_findEnds_70 : decode cX7_findEnds 70 = .ok (.iconst 5, 1) := dk_8 (dk_at dksX7_findEnds_2 23 rfl rfl)
theorem dX7_findEnds_71 : decode cX7_findEnds 71 = .ok (.iload_n 3, 1) := dk_29 (dk_at dksX7_findEnds_3 0 rfl rfl)
theorem dX7_findEnds_72 : decode cX7_findEnds 72 = .ok (.iadd, 1) := dk_96 (dk_at dksX7_findEnds_3 1 rfl rfl)
theorem dX7_findEnds_73 : decode cX7_findEnds 73 = .ok (.aload_n 0, 1) := dk_42 (dk_at dksX7_findEnds_3 2 rfl rfl)
theorem dX7_findEnds_74 : decode cX7_findEnds 74 = .ok (.getfield 64, 3) := dk_180 0 64 (dk_at dksX7_findEnds_3 3 rfl rfl)
theorem dX7_findEnds_77 : decode cX7_findEnds 77 = .ok (.iconst 5, 1) := dk_8 (dk_at dksX7_findEnds_3 6 rfl rfl)
theorem dX7_findEnds_78 : decode cX7_findEnds 78 = .ok (.iload_n 1, 1) := dk_27 (dk_at dksX7_findEnds_3 7 rfl rfl)
theorem dX7_findEnds_79 : decode cX7_findEnds 79 = .ok (.imul, 1) := dk_104 (dk_at dksX7_findEnds_3 8 rfl rfl)
theorem dX7_findEnds_80 : decode cX7_findEnds 80 = .ok (.iload_n 3, 1) := dk_29 (dk_at dksX7_findEnds_3 9 rfl rfl)
theorem dX7_findEnds_81 : decode cX7_findEnds 81 = .ok (.iadd, 1) := dk_96 (dk_at dksX7_findEnds_3 10 rfl rfl)
theorem dX7_findEnds_82 : decode cX7_findEnds 82 = .ok (.laload, 1) := dk_47 (dk_at dksX7_findEnds_3 11 rfl rfl)
theorem dX7_findEnds_83 : decode cX7_findEnds 83 = .ok (.lastore, 1) := dk_80 (dk_at dksX7_findEnds_3 12 rfl rfl)
theorem dX7_findEnds_84 : decode cX7_findEnds 84 = .ok (.iinc 3 1, 3) := dk_132 3 1 (dk_at dksX7_findEnds_3 13 rfl rfl)
theorem dX7_findEnds_87 : decode cX7_findEnds 87 = .ok (.goto (-42), 3) := dk_167 255 214 (dk_at dksX7_findEnds_3 16 rfl rfl)
theorem dX7_findEnds_90 : decode cX7_findEnds 90 = .ok (.bipush 12, 2) := dk_16 12 (dk_at dksX7_findEnds_3 19 rfl rfl)
theorem dX7_findEnds_92 : decode cX7_findEnds 92 = .ok (.iload_n 2, 1) := dk_28 (dk_at dksX7_findEnds_3 21 rfl rfl)
theorem dX7_findEnds_93 : decode cX7_findEnds 93 = .ok (.iadd, 1) := dk_96 (dk_at dksX7_findEnds_3 22 rfl rfl)
theorem dX7_findEnds_94 : decode cX7_findEnds 94 = .ok (.istore_n 3, 1) := dk_62 (dk_at dksX7_findEnds_3 23 rfl rfl)
theorem dX7_findEnds_95 : decode cX7_findEnds 95 = .ok (.aload_n 0, 1) := dk_42 (dk_at dksX7_findEnds_4 0 rfl rfl)
theorem dX7_findEnds_96 : decode cX7_findEnds 96 = .ok (.iload_n 1, 1) := dk_27 (dk_at dksX7_findEnds_4 1 rfl rfl)
theorem dX7_findEnds_97 : decode cX7_findEnds 97 = .ok (.invokevirtual 397, 3) := dk_182 1 141 (dk_at dksX7_findEnds_4 2 rfl rfl)
theorem dX7_findEnds_100 : decode cX7_findEnds 100 = .ok (.aload_n 0, 1) := dk_42 (dk_at dksX7_findEnds_4 5 rfl rfl)
theorem dX7_findEnds_101 : decode cX7_findEnds 101 = .ok (.aload_n 0, 1) := dk_42 (dk_at dksX7_findEnds_4 6 rfl rfl)
theorem dX7_findEnds_102 : decode cX7_findEnds 102 = .ok (.getfield 70, 3) := dk_180 0 70 (dk_at dksX7_findEnds_4 7 rfl rfl)
theorem dX7_findEnds_105 : decode cX7_findEnds 105 = .ok (.iload_n 3, 1) := dk_29 (dk_at dksX7_findEnds_4 10 rfl rfl)
theorem dX7_findEnds_106 : decode cX7_findEnds 106 = .ok (.baload, 1) := dk_51 (dk_at dksX7_findEnds_4 11 rfl rfl)
theorem dX7_findEnds_107 : decode cX7_findEnds 107 = .ok (.putfield 415, 3) := dk_181 1 159 (dk_at dksX7_findEnds_4 12 rfl rfl)
theorem dX7_findEnds_110 : decode cX7_findEnds 110 = .ok (.aload_n 0, 1) := dk_42 (dk_at dksX7_findEnds_4 15 rfl rfl)
theorem dX7_findEnds_111 : decode cX7_findEnds 111 = .ok (.aload_n 0, 1) := dk_42 (dk_at dksX7_findEnds_4 16 rfl rfl)
theorem dX7_findEnds_112 : decode cX7_findEnds 112 = .ok (.getfield 415, 3) := dk_180 1 159 (dk_at dksX7_findEnds_4 17 rfl rfl)
theorem dX7_findEnds_115 : decode cX7_findEnds 115 = .ok (.ifCond .eq 16, 3) := dk_153 0 16 (dk_at dksX7_findEnds_4 20 rfl rfl)
theorem dX7_findEnds_118 : decode cX7_findEnds 118 = .ok (.aload_n 0, 1) := dk_42 (dk_at dksX7_findEnds_4 23 rfl rfl)
theorem dX7_findEnds_119 : decode cX7_findEnds 119 = .ok (.getfield 67, 3) := dk_180 0 67 (dk_at dksX7_findEnds_5 0 rfl rfl)
theorem dX7_findEnds_122 : decode cX7_findEnds 122 = .ok (.iload_n 3, 1) := dk_29 (dk_at dksX7_findEnds_5 3 rfl rfl)
theorem dX7_findEnds_123 : decode cX7_findEnds 123 = .ok (.baload, 1) := dk_51 (dk_at dksX7_findEnds_5 4 rfl rfl)
theorem dX7_findEnds_124 : decode cX7_findEnds 124 = .ok (.ifCond .ne 7, 3) := dk_154 0 7 (dk_at dksX7_findEnds_5 5 rfl rfl)
theorem dX7_findEnds_127 : decode cX7_findEnds 127 = .ok (.iconst 1, 1) := dk_4 (dk_at dksX7_findEnds_5 8 rfl rfl)
theorem dX7_findEnds_128 : decode cX7_findEnds 128 = .ok (.goto 4, 3) := dk_167 0 4 (dk_at dksX7_findEnds_5 9 rfl rfl)
theorem dX7_findEnds_131 : decode cX7_findEnds 131 = .ok (.iconst 0, 1) := dk_3 (dk_at dksX7_findEnds_5 12 rfl rfl)
theorem dX7_findEnds_132 : decode cX7_findEnds 132 = .ok (.putfield 418, 3) := dk_181 1 162 (dk_at dksX7_findEnds_5 13 rfl rfl)
theorem dX7_findEnds_135 : decode cX7_findEnds 135 = .ok (.iconst 0, 1) := dk_3 (dk_at dksX7_findEnds_5 16 rfl rfl)
theorem dX7_findEnds_136 : decode cX7_findEnds 136 = .ok (.istore 4, 2) := dk_54 4 (dk_at dksX7_findEnds_5 17 rfl rfl)
theorem dX7_findEnds_138 : decode cX7_findEnds 138 = .ok (.iload 4, 2) := dk_21 4 (dk_at dksX7_findEnds_5 19 rfl rfl)
theorem dX7_findEnds_140 : decode cX7_findEnds 140 = .ok (.iconst 5, 1) := dk_8 (dk_at dksX7_findEnds_5 21 rfl rfl)
theorem dX7_findEnds_141 : decode cX7_findEnds 141 = .ok (.if_icmp .ge 51, 3) := dk_162 0 51 (dk_at dksX7_findEnds_6 0 rfl rfl)
theorem dX7_findEnds_144 : decode cX7_findEnds 144 = .ok (.aload_n 0, 1) := dk_42 (dk_at dksX7_findEnds_6 3 rfl rfl)
theorem dX7_findEnds_145 : decode cX7_findEnds 145 = .ok (.getfield 103, 3) := dk_180 0 103 (dk_at dksX7_findEnds_6 4 rfl rfl)
theorem dX7_findEnds_148 : decode cX7_findEnds 148 = .ok (.bipush 10, 2) := dk_16 10 (dk_at dksX7_findEnds_6 7 rfl rfl)
theorem dX7_findEnds_150 : decode cX7_findEnds 150 = .ok (.iload 4, 2) := dk_21 4 (dk_at dksX7_findEnds_6 9 rfl rfl)
theorem dX7_findEnds_152 : decode cX7_findEnds 152 = .ok (.iadd, 1) := dk_96 (dk_at dksX7_findEnds_6 11 rfl rfl)
theorem dX7_findEnds_153 : decode cX7_findEnds 153 = .ok (.aload_n 0, 1) := dk_42 (dk_at dksX7_findEnds_6 12 rfl rfl)
theorem dX7_findEnds_154 : decode cX7_findEnds 154 = .ok (.getfield 64, 3) := dk_180 0 64 (dk_at dksX7_findEnds_6 13 rfl rfl)
theorem dX7_findEnds_157 : decode cX7_findEnds 157 = .ok (.iconst 5, 1) := dk_8 (dk_at dksX7_findEnds_6 16 rfl rfl)
theorem dX7_findEnds_158 : decode cX7_findEnds 158 = .ok (.iload_n 3, 1) := dk_29 (dk_at dksX7_findEnds_6 17 rfl rfl)
theorem dX7_findEnds_159 : decode cX7_findEnds 159 = .ok (.imul, 1) := dk_104 (dk_at dksX7_findEnds_6 18 rfl rfl)
theorem dX7_findEnds_160 : decode cX7_findEnds 160 = .ok (.iload 4, 2) := dk_21 4 (dk_at dksX7_findEnds_6 19 rfl rfl)
theorem dX7_findEnds_162 : decode cX7_findEnds 162 = .ok (.iadd, 1) := dk_96 (dk_at dksX7_findEnds_6 21 rfl rfl)
theorem dX7_findEnds_163 : decode cX7_findEnds 163 = .ok (.laload, 1) := dk_47 (dk_at dksX7_findEnds_6 22 rfl rfl)
theorem dX7_findEnds_164 : decode cX7_findEnds 164 = .ok (.lastore, 1) := dk_80 (dk_at dksX7_findEnds_6 23 rfl rfl)
theorem dX7_findEnds_165 : decode cX7_findEnds 165 = .ok (.aload_n 0, 1) := dk_42 (dk_at dksX7_findEnds_7 0 rfl rfl)
theorem dX7_findEnds_166 : decode cX7_findEnds 166 = .ok (.getfield 103, 3) := dk_180 0 103 (dk_at dksX7_findEnds_7 1 rfl rfl)
theorem dX7_findEnds_169 : decode cX7_findEnds 169 = .ok (.bipush 15, 2) := dk_16 15 (dk_at dksX7_findEnds_7 4 rfl rfl)
theorem dX7_findEnds_171 : decode cX7_findEnds 171 = .ok (.iload 4, 2) := dk_21 4 (dk_at dksX7_findEnds_7 6 rfl rfl)
theorem dX7_findEnds_173 : decode cX7_findEnds 173 = .ok (.iadd, 1) := dk_96 (dk_at dksX7_findEnds_7 8 rfl rfl)
theorem dX7_findEnds_174 : decode cX7_findEnds 174 = .ok (.aload_n 0, 1) := dk_42 (dk_at dksX7_findEnds_7 9 rfl rfl)
theorem dX7_findEnds_175 : decode cX7_findEnds 175 = .ok (.getfield 61, 3) := dk_180 0 61 (dk_at dksX7_findEnds_7 10 rfl rfl)
theorem dX7_findEnds_178 : decode cX7_findEnds 178 = .ok (.iconst 5, 1) := dk_8 (dk_at dksX7_findEnds_7 13 rfl rfl)
theorem dX7_findEnds_179 : decode cX7_findEnds 179 = .ok (.iload_n 3, 1) := dk_29 (dk_at dksX7_findEnds_7 14 rfl rfl)
theorem dX7_findEnds_180 : decode cX7_findEnds 180 = .ok (.imul, 1) := dk_104 (dk_at dksX7_findEnds_7 15 rfl rfl)
theorem dX7_findEnds_181 : decode cX7_findEnds 181 = .ok (.iload 4, 2) := dk_21 4 (dk_at dksX7_findEnds_7 16 rfl rfl)
theorem dX7_findEnds_183 : decode cX7_findEnds 183 = .ok (.iadd, 1) := dk_96 (dk_at dksX7_findEnds_7 18 rfl rfl)
theorem dX7_findEnds_184 : decode cX7_findEnds 184 = .ok (.laload, 1) := dk_47 (dk_at dksX7_findEnds_7 19 rfl rfl)
theorem dX7_findEnds_185 : decode cX7_findEnds 185 = .ok (.lastore, 1) := dk_80 (dk_at dksX7_findEnds_7 20 rfl rfl)
theorem dX7_findEnds_186 : decode cX7_findEnds 186 = .ok (.iinc 4 1, 3) := dk_132 4 1 (dk_at dksX7_findEnds_7 21 rfl rfl)
theorem dX7_findEnds_189 : decode cX7_findEnds 189 = .ok (.goto (-51), 3) := dk_167 255 205 (dk_at dksX7_findEnds_8 0 rfl rfl)
theorem dX7_findEnds_192 : decode cX7_findEnds 192 = .ok (.return_, 1) := dk_177 (dk_at dksX7_findEnds_8 3 rfl rfl)
abbrev cX7_tells : ByteArray := prog_16_method_74_code
def yX7_tells : MethodName := ⟨RX7, "tells", "(II)I"⟩
def dkwX7_tells_10 : List UInt8 := [21, 12, 153, 0, 7, 4, 167, 0, 4, 5, 172]
abbrev dktX7_tells_10 : List UInt8 := dkwX7_tells_10 ++ []
def dkwX7_tells_9 : List UInt8 := [21, 9, 154, 0, 18, 28, 153, 0, 10, 42, 180, 1, 162, 154, 0, 7, 4, 167, 0, 4, 3, 54, 12]
abbrev dktX7_tells_9 : List UInt8 := dkwX7_tells_9 ++ dktX7_tells_10
def dkwX7_tells_8 : List UInt8 := [54, 11, 21, 10, 153, 0, 8, 21, 11, 154, 0, 5, 3, 172, 21, 6, 155, 0, 28, 21, 9, 155, 0, 19]
abbrev dktX7_tells_8 : List UInt8 := dkwX7_tells_8 ++ dktX7_tells_9
def dkwX7_tells_7 : List UInt8 := [54, 10, 21, 8, 157, 0, 15, 21, 8, 154, 0, 14, 42, 180, 1, 162, 153, 0, 7, 4, 167, 0, 4, 3]
abbrev dktX7_tells_7 : List UInt8 := dkwX7_tells_7 ++ dktX7_tells_8
def dkwX7_tells_6 : List UInt8 := [155, 0, 19, 21, 7, 154, 0, 18, 28, 154, 0, 14, 42, 180, 1, 156, 153, 0, 7, 4, 167, 0, 4, 3]
abbrev dktX7_tells_6 : List UInt8 := dkwX7_tells_6 ++ dktX7_tells_7
def dkwX7_tells_5 : List UInt8 := [180, 1, 159, 153, 0, 15, 42, 16, 10, 21, 5, 29, 182, 1, 165, 167, 0, 4, 4, 54, 9, 21, 7]
abbrev dktX7_tells_5 : List UInt8 := dkwX7_tells_5 ++ dktX7_tells_6
def dkwX7_tells_4 : List UInt8 := [180, 1, 159, 153, 0, 15, 42, 16, 10, 21, 4, 29, 182, 1, 165, 167, 0, 4, 4, 54, 8, 42]
abbrev dktX7_tells_4 : List UInt8 := dkwX7_tells_4 ++ dktX7_tells_5
def dkwX7_tells_3 : List UInt8 := [54, 6, 42, 180, 1, 153, 153, 0, 14, 42, 3, 21, 5, 29, 182, 1, 165, 167, 0, 4, 2, 54, 7, 42]
abbrev dktX7_tells_3 : List UInt8 := dkwX7_tells_3 ++ dktX7_tells_4
def dkwX7_tells_2 : List UInt8 := [104, 4, 96, 54, 5, 42, 180, 1, 153, 153, 0, 14, 42, 3, 21, 4, 29, 182, 1, 165, 167, 0, 4, 2]
abbrev dktX7_tells_2 : List UInt8 := dkwX7_tells_2 ++ dktX7_tells_3
def dkwX7_tells_1 : List UInt8 := [27, 54, 4, 28, 154, 0, 7, 27, 167, 0, 19, 28, 4, 160, 0, 9, 27, 4, 96, 167, 0, 8, 5, 27]
abbrev dktX7_tells_1 : List UInt8 := dkwX7_tells_1 ++ dktX7_tells_2
def dkwX7_tells_0 : List UInt8 := [28, 5, 160, 0, 7, 5, 167, 0, 4, 4, 62, 28, 5, 160, 0, 11, 5, 27, 104, 4, 100, 167, 0, 4]
abbrev dktX7_tells_0 : List UInt8 := dkwX7_tells_0 ++ dktX7_tells_1
theorem dksX7_tells_0 : cX7_tells.data.toList.drop 0 = dktX7_tells_0 := by decide +kernel
theorem dksX7_tells_1 : cX7_tells.data.toList.drop 24 = dktX7_tells_1 := dk_seg dksX7_tells_0 24 rfl rfl
theorem dksX7_tells_2 : cX7_tells.data.toList.drop 48 = dktX7_tells_2 := dk_seg dksX7_tells_1 24 rfl rfl
theorem dksX7_tells_3 : cX7_tells.data.toList.drop 72 = dktX7_tells_3 := dk_seg dksX7_tells_2 24 rfl rfl
theorem dksX7_tells_4 : cX7_tells.data.toList.drop 96 = dktX7_tells_4 := dk_seg dksX7_tells_3 24 rfl rfl
theorem dksX7_tells_5 : cX7_tells.data.toList.drop 118 = dktX7_tells_5 := dk_seg dksX7_tells_4 22 rfl rfl
theorem dksX7_tells_6 : cX7_tells.data.toList.drop 141 = dktX7_tells_6 := dk_seg dksX7_tells_5 23 rfl rfl
theorem dksX7_tells_7 : cX7_tells.data.toList.drop 165 = dktX7_tells_7 := dk_seg dksX7_tells_6 24 rfl rfl
theorem dksX7_tells_8 : cX7_tells.data.toList.drop 189 = dktX7_tells_8 := dk_seg dksX7_tells_7 24 rfl rfl
theorem dksX7_tells_9 : cX7_tells.data.toList.drop 213 = dktX7_tells_9 := dk_seg dksX7_tells_8 24 rfl rfl
theorem dksX7_tells_10 : cX7_tells.data.toList.drop 236 = dktX7_tells_10 := dk_seg dksX7_tells_9 23 rfl rfl
theorem dX7_tells_0 : decode cX7_tells 0 = .ok (.iload_n 2, 1) := dk_28 (dk_at dksX7_tells_0 0 rfl rfl)
theorem dX7_tells_1 : decode cX7_tells 1 = .ok (.iconst 2, 1) := dk_5 (dk_at dksX7_tells_0 1 rfl rfl)
theorem dX7_tells_2 : decode cX7_tells 2 = .ok (.if_icmp .ne 7, 3) := dk_160 0 7 (dk_at dksX7_tells_0 2 rfl rfl)
theorem dX7_tells_5 : decode cX7_tells 5 = .ok (.iconst 2, 1) := dk_5 (dk_at dksX7_tells_0 5 rfl rfl)
theorem dX7_tells_6 : decode cX7_tells 6 = .ok (.goto 4, 3) := dk_167 0 4 (dk_at dksX7_tells_0 6 rfl rfl)
theorem dX7_tells_9 : decode cX7_tells 9 = .ok (.iconst 1, 1) := dk_4 (dk_at dksX7_tells_0 9 rfl rfl)
theorem dX7_tells_10 : decode cX7_tells 10 = .ok (.istore_n 3, 1) := dk_62 (dk_at dksX7_tells_0 10 rfl rfl)
theorem dX7_tells_11 : decode cX7_tells 11 = .ok (.iload_n 2, 1) := dk_28 (dk_at dksX7_tells_0 11 rfl rfl)
theorem dX7_tells_12 : decode cX7_tells 12 = .ok (.iconst 2, 1) := dk_5 (dk_at dksX7_tells_0 12 rfl rfl)
theorem dX7_tells_13 : decode cX7_tells 13 = .ok (.if_icmp .ne 11, 3) := dk_160 0 11 (dk_at dksX7_tells_0 13 rfl rfl)
theorem dX7_tells_16 : decode cX7_tells 16 = .ok (.iconst 2, 1) := dk_5 (dk_at dksX7_tells_0 16 rfl rfl)
theorem dX7_tells_17 : decode cX7_tells 17 = .ok (.iload_n 1, 1) := dk_27 (dk_at dksX7_tells_0 17 rfl rfl)
theorem dX7_tells_18 : decode cX7_tells 18 = .ok (.imul, 1) := dk_104 (dk_at dksX7_tells_0 18 rfl rfl)
theorem dX7_tells_19 : decode cX7_tells 19 = .ok (.iconst 1, 1) := dk_4 (dk_at dksX7_tells_0 19 rfl rfl)
theorem dX7_tells_20 : decode cX7_tells 20 = .ok (.isub, 1) := dk_100 (dk_at dksX7_tells_0 20 rfl rfl)
theorem dX7_tells_21 : decode cX7_tells 21 = .ok (.goto 4, 3) := dk_167 0 4 (dk_at dksX7_tells_0 21 rfl rfl)
theorem dX7_tells_24 : decode cX7_tells 24 = .ok (.iload_n 1, 1) := dk_27 (dk_at dksX7_tells_1 0 rfl rfl)
theorem dX7_tells_25 : decode cX7_tells 25 = .ok (.istore 4, 2) := dk_54 4 (dk_at dksX7_tells_1 1 rfl rfl)
theorem dX7_tells_27 : decode cX7_tells 27 = .ok (.iload_n 2, 1) := dk_28 (dk_at dksX7_tells_1 3 rfl rfl)
theorem dX7_tells_28 : decode cX7_tells 28 = .ok (.ifCond .ne 7, 3) := dk_154 0 7 (dk_at dksX7_tells_1 4 rfl rfl)
theorem dX7_tells_31 : decode cX7_tells 31 = .ok (.iload_n 1, 1) := dk_27 (dk_at dksX7_tells_1 7 rfl rfl)
theorem dX7_tells_32 : decode cX7_tells 32 = .ok (.goto 19, 3) := dk_167 0 19 (dk_at dksX7_tells_1 8 rfl rfl)
theorem dX7_tells_35 : decode cX7_tells 35 = .ok (.iload_n 2, 1) := dk_28 (dk_at dksX7_tells_1 11 rfl rfl)
theorem dX7_tells_36 : decode cX7_tells 36 = .ok (.iconst 1, 1) := dk_4 (dk_at dksX7_tells_1 12 rfl rfl)
theorem dX7_tells_37 : decode cX7_tells 37 = .ok (.if_icmp .ne 9, 3) := dk_160 0 9 (dk_at dksX7_tells_1 13 rfl rfl)
theorem dX7_tells_40 : decode cX7_tells 40 = .ok (.iload_n 1, 1) := dk_27 (dk_at dksX7_tells_1 16 rfl rfl)
theorem dX7_tells_41 : decode cX7_tells 41 = .ok (.iconst 1, 1) := dk_4 (dk_at dksX7_tells_1 17 rfl rfl)
theorem dX7_tells_42 : decode cX7_tells 42 = .ok (.iadd, 1) := dk_96 (dk_at dksX7_tells_1 18 rfl rfl)
theorem dX7_tells_43 : decode cX7_tells 43 = .ok (.goto 8, 3) := dk_167 0 8 (dk_at dksX7_tells_1 19 rfl rfl)
theorem dX7_tells_46 : decode cX7_tells 46 = .ok (.iconst 2, 1) := dk_5 (dk_at dksX7_tells_1 22 rfl rfl)
theorem dX7_tells_47 : decode cX7_tells 47 = .ok (.iload_n 1, 1) := dk_27 (dk_at dksX7_tells_1 23 rfl rfl)
theorem dX7_tells_48 : decode cX7_tells 48 = .ok (.imul, 1) := dk_104 (dk_at dksX7_tells_2 0 rfl rfl)
theorem dX7_tells_49 : decode cX7_tells 49 = .ok (.iconst 1, 1) := dk_4 (dk_at dksX7_tells_2 1 rfl rfl)
theorem dX7_tells_50 : decode cX7_tells 50 = .ok (.iadd, 1) := dk_96 (dk_at dksX7_tells_2 2 rfl rfl)
theorem dX7_tells_51 : decode cX7_tells 51 = .ok (.istore 5, 2) := dk_54 5 (dk_at dksX7_tells_2 3 rfl rfl)
theorem dX7_tells_53 : decode cX7_tells 53 = .ok (.aload_n 0, 1) := dk_42 (dk_at dksX7_tells_2 5 rfl rfl)
theorem dX7_tells_54 : decode cX7_tells 54 = .ok (.getfield 409, 3) := dk_180 1 153 (dk_at dksX7_tells_2 6 rfl rfl)
theorem dX7_tells_57 : decode cX7_tells 57 = .ok (.ifCond .eq 14, 3) := dk_153 0 14 (dk_at dksX7_tells_2 9 rfl rfl)
theorem dX7_tells_60 : decode cX7_tells 60 = .ok (.aload_n 0, 1) := dk_42 (dk_at dksX7_tells_2 12 rfl rfl)
theorem dX7_tells_61 : decode cX7_tells 61 = .ok (.iconst 0, 1) := dk_3 (dk_at dksX7_tells_2 13 rfl rfl)
theorem dX7_tells_62 : decode cX7_tells 62 = .ok (.iload 4, 2) := dk_21 4 (dk_at dksX7_tells_2 14 rfl rfl)
theorem dX7_tells_64 : decode cX7_tells 64 = .ok (.iload_n 3, 1) := dk_29 (dk_at dksX7_tells_2 16 rfl rfl)
theorem dX7_tells_65 : decode cX7_tells 65 = .ok (.invokevirtual 421, 3) := dk_182 1 165 (dk_at dksX7_tells_2 17 rfl rfl)
theorem dX7_tells_68 : decode cX7_tells 68 = .ok (.goto 4, 3) := dk_167 0 4 (dk_at dksX7_tells_2 20 rfl rfl)
theorem dX7_tells_71 : decode cX7_tells 71 = .ok (.iconst (-1), 1) := dk_2 (dk_at dksX7_tells_2 23 rfl rfl)
theorem dX7_tells_72 : decode cX7_tells 72 = .ok (.istore 6, 2) := dk_54 6 (dk_at dksX7_tells_3 0 rfl rfl)
theorem dX7_tells_74 : decode cX7_tells 74 = .ok (.aload_n 0, 1) := dk_42 (dk_at dksX7_tells_3 2 rfl rfl)
theorem dX7_tells_75 : decode cX7_tells 75 = .ok (.getfield 409, 3) := dk_180 1 153 (dk_at dksX7_tells_3 3 rfl rfl)
theorem dX7_tells_78 : decode cX7_tells 78 = .ok (.ifCond .eq 14, 3) := dk_153 0 14 (dk_at dksX7_tells_3 6 rfl rfl)
theorem dX7_tells_81 : decode cX7_tells 81 = .ok (.aload_n 0, 1) := dk_42 (dk_at dksX7_tells_3 9 rfl rfl)
theorem dX7_tells_82 : decode cX7_tells 82 = .ok (.iconst 0, 1) := dk_3 (dk_at dksX7_tells_3 10 rfl rfl)
theorem dX7_tells_83 : decode cX7_tells 83 = .ok (.iload 5, 2) := dk_21 5 (dk_at dksX7_tells_3 11 rfl rfl)
theorem dX7_tells_85 : decode cX7_tells 85 = .ok (.iload_n 3, 1) := dk_29 (dk_at dksX7_tells_3 13 rfl rfl)
theorem dX7_tells_86 : decode cX7_tells 86 = .ok (.invokevirtual 421, 3) := dk_182 1 165 (dk_at dksX7_tells_3 14 rfl rfl)
theorem dX7_tells_89 : decode cX7_tells 89 = .ok (.goto 4, 3) := dk_167 0 4 (dk_at dksX7_tells_3 17 rfl rfl)
theorem dX7_tells_92 : decode cX7_tells 92 = .ok (.iconst (-1), 1) := dk_2 (dk_at dksX7_tells_3 20 rfl rfl)
theorem dX7_tells_93 : decode cX7_tells 93 = .ok (.istore 7, 2) := dk_54 7 (dk_at dksX7_tells_3 21 rfl rfl)
theorem dX7_tells_95 : decode cX7_tells 95 = .ok (.aload_n 0, 1) := dk_42 (dk_at dksX7_tells_3 23 rfl rfl)
theorem dX7_tells_96 : decode cX7_tells 96 = .ok (.getfield 415, 3) := dk_180 1 159 (dk_at dksX7_tells_4 0 rfl rfl)
theorem dX7_tells_99 : decode cX7_tells 99 = .ok (.ifCond .eq 15, 3) := dk_153 0 15 (dk_at dksX7_tells_4 3 rfl rfl)
theorem dX7_tells_102 : decode cX7_tells 102 = .ok (.aload_n 0, 1) := dk_42 (dk_at dksX7_tells_4 6 rfl rfl)
theorem dX7_tells_103 : decode cX7_tells 103 = .ok (.bipush 10, 2) := dk_16 10 (dk_at dksX7_tells_4 7 rfl rfl)
theorem dX7_tells_105 : decode cX7_tells 105 = .ok (.iload 4, 2) := dk_21 4 (dk_at dksX7_tells_4 9 rfl rfl)
theorem dX7_tells_107 : decode cX7_tells 107 = .ok (.iload_n 3, 1) := dk_29 (dk_at dksX7_tells_4 11 rfl rfl)
theorem dX7_tells_108 : decode cX7_tells 108 = .ok (.invokevirtual 421, 3) := dk_182 1 165 (dk_at dksX7_tells_4 12 rfl rfl)
theorem dX7_tells_111 : decode cX7_tells 111 = .ok (.goto 4, 3) := dk_167 0 4 (dk_at dksX7_tells_4 15 rfl rfl)
theorem dX7_tells_114 : decode cX7_tells 114 = .ok (.iconst 1, 1) := dk_4 (dk_at dksX7_tells_4 18 rfl rfl)
theorem dX7_tells_115 : decode cX7_tells 115 = .ok (.istore 8, 2) := dk_54 8 (dk_at dksX7_tells_4 19 rfl rfl)
theorem dX7_tells_117 : decode cX7_tells 117 = .ok (.aload_n 0, 1) := dk_42 (dk_at dksX7_tells_4 21 rfl rfl)
theorem dX7_tells_118 : decode cX7_tells 118 = .ok (.getfield 415, 3) := dk_180 1 159 (dk_at dksX7_tells_5 0 rfl rfl)
theorem dX7_tells_121 : decode cX7_tells 121 = .ok (.ifCond .eq 15, 3) := dk_153 0 15 (dk_at dksX7_tells_5 3 rfl rfl)
theorem dX7_tells_124 : decode cX7_tells 124 = .ok (.aload_n 0, 1) := dk_42 (dk_at dksX7_tells_5 6 rfl rfl)
theorem dX7_tells_125 : decode cX7_tells 125 = .ok (.bipush 10, 2) := dk_16 10 (dk_at dksX7_tells_5 7 rfl rfl)
theorem dX7_tells_127 : decode cX7_tells 127 = .ok (.iload 5, 2) := dk_21 5 (dk_at dksX7_tells_5 9 rfl rfl)
theorem dX7_tells_129 : decode cX7_tells 129 = .ok (.iload_n 3, 1) := dk_29 (dk_at dksX7_tells_5 11 rfl rfl)
theorem dX7_tells_130 : decode cX7_tells 130 = .ok (.invokevirtual 421, 3) := dk_182 1 165 (dk_at dksX7_tells_5 12 rfl rfl)
theorem dX7_tells_133 : decode cX7_tells 133 = .ok (.goto 4, 3) := dk_167 0 4 (dk_at dksX7_tells_5 15 rfl rfl)
theorem dX7_tells_136 : decode cX7_tells 136 = .ok (.iconst 1, 1) := dk_4 (dk_at dksX7_tells_5 18 rfl rfl)
theorem dX7_tells_137 : decode cX7_tells 137 = .ok (.istore 9, 2) := dk_54 9 (dk_at dksX7_tells_5 19 rfl rfl)
theorem dX7_tells_139 : decode cX7_tells 139 = .ok (.iload 7, 2) := dk_21 7 (dk_at dksX7_tells_5 21 rfl rfl)
theorem dX7_tells_141 : decode cX7_tells 141 = .ok (.ifCond .lt 19, 3) := dk_155 0 19 (dk_at dksX7_tells_6 0 rfl rfl)
theorem dX7_tells_144 : decode cX7_tells 144 = .ok (.iload 7, 2) := dk_21 7 (dk_at dksX7_tells_6 3 rfl rfl)
theorem dX7_tells_146 : decode cX7_tells 146 = .ok (.ifCond .ne 18, 3) := dk_154 0 18 (dk_at dksX7_tells_6 5 rfl rfl)
theorem dX7_tells_149 : decode cX7_tells 149 = .ok (.iload_n 2, 1) := dk_28 (dk_at dksX7_tells_6 8 rfl rfl)
theorem dX7_tells_150 : decode cX7_tells 150 = .ok (.ifCond .ne 14, 3) := dk_154 0 14 (dk_at dksX7_tells_6 9 rfl rfl)
theorem dX7_tells_153 : decode cX7_tells 153 = .ok (.aload_n 0, 1) := dk_42 (dk_at dksX7_tells_6 12 rfl rfl)
theorem dX7_tells_154 : decode cX7_tells 154 = .ok (.getfield 412, 3) := dk_180 1 156 (dk_at dksX7_tells_6 13 rfl rfl)
theorem dX7_tells_157 : decode cX7_tells 157 = .ok (.ifCond .eq 7, 3) := dk_153 0 7 (dk_at dksX7_tells_6 16 rfl rfl)
theorem dX7_tells_160 : decode cX7_tells 160 = .ok (.iconst 1, 1) := dk_4 (dk_at dksX7_tells_6 19 rfl rfl)
theorem dX7_tells_161 : decode cX7_tells 161 = .ok (.goto 4, 3) := dk_167 0 4 (dk_at dksX7_tells_6 20 rfl rfl)
theorem dX7_tells_164 : decode cX7_tells 164 = .ok (.iconst 0, 1) := dk_3 (dk_at dksX7_tells_6 23 rfl rfl)
theorem dX7_tells_165 : decode cX7_tells 165 = .ok (.istore 10, 2) := dk_54 10 (dk_at dksX7_tells_7 0 rfl rfl)
theorem dX7_tells_167 : decode cX7_tells 167 = .ok (.iload 8, 2) := dk_21 8 (dk_at dksX7_tells_7 2 rfl rfl)
theorem dX7_tells_169 : decode cX7_tells 169 = .ok (.ifCond .gt 15, 3) := dk_157 0 15 (dk_at dksX7_tells_7 4 rfl rfl)
theorem dX7_tells_172 : decode cX7_tells 172 = .ok (.iload 8, 2) := dk_21 8 (dk_at dksX7_tells_7 7 rfl rfl)
theorem dX7_tells_174 : decode cX7_tells 174 = .ok (.ifCond .ne 14, 3) := dk_154 0 14 (dk_at dksX7_tells_7 9 rfl rfl)
theorem dX7_tells_177 : decode cX7_tells 177 = .ok (.aload_n 0, 1) := dk_42 (dk_at dksX7_tells_7 12 rfl rfl)
theorem dX7_tells_178 : decode cX7_tells 178 = .ok (.getfield 418, 3) := dk_180 1 162 (dk_at dksX7_tells_7 13 rfl rfl)
theorem dX7_tells_181 : decode cX7_tells 181 = .ok (.ifCond .eq 7, 3) := dk_153 0 7 (dk_at dksX7_tells_7 16 rfl rfl)
theorem dX7_tells_184 : decode cX7_tells 184 = .ok (.iconst 1, 1) := dk_4 (dk_at dksX7_tells_7 19 rfl rfl)
theorem dX7_tells_185 : decode cX7_tells 185 = .ok (.goto 4, 3) := dk_167 0 4 (dk_at dksX7_tells_7 20 rfl rfl)
theorem dX7_tells_188 : decode cX7_tells 188 = .ok (.iconst 0, 1) := dk_3 (dk_at dksX7_tells_7 23 rfl rfl)
theorem dX7_tells_189 : decode cX7_tells 189 = .ok (.istore 11, 2) := dk_54 11 (dk_at dksX7_tells_8 0 rfl rfl)
theorem dX7_tells_191 : decode cX7_tells 191 = .ok (.iload 10, 2) := dk_21 10 (dk_at dksX7_tells_8 2 rfl rfl)
theorem dX7_tells_193 : decode cX7_tells 193 = .ok (.ifCond .eq 8, 3) := dk_153 0 8 (dk_at dksX7_tells_8 4 rfl rfl)
theorem dX7_tells_196 : decode cX7_tells 196 = .ok (.iload 11, 2) := dk_21 11 (dk_at dksX7_tells_8 7 rfl rfl)
theorem dX7_tells_198 : decode cX7_tells 198 = .ok (.ifCond .ne 5, 3) := dk_154 0 5 (dk_at dksX7_tells_8 9 rfl rfl)
theorem dX7_tells_201 : decode cX7_tells 201 = .ok (.iconst 0, 1) := dk_3 (dk_at dksX7_tells_8 12 rfl rfl)
theorem dX7_tells_202 : decode cX7_tells 202 = .ok (.ireturn, 1) := dk_172 (dk_at dksX7_tells_8 13 rfl rfl)
theorem dX7_tells_203 : decode cX7_tells 203 = .ok (.iload 6, 2) := dk_21 6 (dk_at dksX7_tells_8 14 rfl rfl)
theorem dX7_tells_205 : decode cX7_tells 205 = .ok (.ifCond .lt 28, 3) := dk_155 0 28 (dk_at dksX7_tells_8 16 rfl rfl)
theorem dX7_tells_208 : decode cX7_tells 208 = .ok (.iload 9, 2) := dk_21 9 (dk_at dksX7_tells_8 19 rfl rfl)
theorem dX7_tells_210 : decode cX7_tells 210 = .ok (.ifCond .lt 19, 3) := dk_155 0 19 (dk_at dksX7_tells_8 21 rfl rfl)
theorem dX7_tells_213 : decode cX7_tells 213 = .ok (.iload 9, 2) := dk_21 9 (dk_at dksX7_tells_9 0 rfl rfl)
theorem dX7_tells_215 : decode cX7_tells 215 = .ok (.ifCond .ne 18, 3) := dk_154 0 18 (dk_at dksX7_tells_9 2 rfl rfl)
theorem dX7_tells_218 : decode cX7_tells 218 = .ok (.iload_n 2, 1) := dk_28 (dk_at dksX7_tells_9 5 rfl rfl)
theorem dX7_tells_219 : decode cX7_tells 219 = .ok (.ifCond .eq 10, 3) := dk_153 0 10 (dk_at dksX7_tells_9 6 rfl rfl)
theorem dX7_tells_222 : decode cX7_tells 222 = .ok (.aload_n 0, 1) := dk_42 (dk_at dksX7_tells_9 9 rfl rfl)
theorem dX7_tells_223 : decode cX7_tells 223 = .ok (.getfield 418, 3) := dk_180 1 162 (dk_at dksX7_tells_9 10 rfl rfl)
theorem dX7_tells_226 : decode cX7_tells 226 = .ok (.ifCond .ne 7, 3) := dk_154 0 7 (dk_at dksX7_tells_9 13 rfl rfl)
theorem dX7_tells_229 : decode cX7_tells 229 = .ok (.iconst 1, 1) := dk_4 (dk_at dksX7_tells_9 16 rfl rfl)
theorem dX7_tells_230 : decode cX7_tells 230 = .ok (.goto 4, 3) := dk_167 0 4 (dk_at dksX7_tells_9 17 rfl rfl)
theorem dX7_tells_233 : decode cX7_tells 233 = .ok (.iconst 0, 1) := dk_3 (dk_at dksX7_tells_9 20 rfl rfl)
theorem dX7_tells_234 : decode cX7_tells 234 = .ok (.istore 12, 2) := dk_54 12 (dk_at dksX7_tells_9 21 rfl rfl)
theorem dX7_tells_236 : decode cX7_tells 236 = .ok (.iload 12, 2) := dk_21 12 (dk_at dksX7_tells_10 0 rfl rfl)
theorem dX7_tells_238 : decode cX7_tells 238 = .ok (.ifCond .eq 7, 3) := dk_153 0 7 (dk_at dksX7_tells_10 2 rfl rfl)
theorem dX7_tells_241 : decode cX7_tells 241 = .ok (.iconst 1, 1) := dk_4 (dk_at dksX7_tells_10 5 rfl rfl)
theorem dX7_tells_242 : decode cX7_tells 242 = .ok (.goto 4, 3) := dk_167 0 4 (dk_at dksX7_tells_10 6 rfl rfl)
theorem dX7_tells_245 : decode cX7_tells 245 = .ok (.iconst 2, 1) := dk_5 (dk_at dksX7_tells_10 9 rfl rfl)
theorem dX7_tells_246 : decode cX7_tells 246 = .ok (.ireturn, 1) := dk_172 (dk_at dksX7_tells_10 10 rfl rfl)
abbrev cX7_beside : ByteArray := prog_16_method_73_code
def yX7_beside : MethodName := ⟨RX7, "beside", "(III)I"⟩
def dkwX7_beside_3 : List UInt8 := [148, 156, 0, 7, 2, 167, 0, 4, 4, 172, 132, 4, 255, 167, 255, 206, 3, 172]
abbrev dktX7_beside_3 : List UInt8 := dkwX7_beside_3 ++ []
def dkwX7_beside_2 : List UInt8 := [180, 0, 97, 21, 4, 47, 148, 153, 0, 27, 42, 180, 0, 94, 21, 4, 47, 42, 180, 0, 97, 21, 4, 47]
abbrev dktX7_beside_2 : List UInt8 := dkwX7_beside_2 ++ dktX7_beside_3
def dkwX7_beside_1 : List UInt8 := [96, 28, 133, 184, 1, 131, 16, 9, 54, 4, 21, 4, 155, 0, 51, 42, 180, 0, 94, 21, 4, 47, 42]
abbrev dktX7_beside_1 : List UInt8 := dkwX7_beside_1 ++ dktX7_beside_2
def dkwX7_beside_0 : List UInt8 := [42, 180, 0, 94, 42, 180, 0, 103, 27, 29, 133, 184, 1, 131, 42, 180, 0, 97, 42, 180, 0, 103, 27, 8]
abbrev dktX7_beside_0 : List UInt8 := dkwX7_beside_0 ++ dktX7_beside_1
theorem dksX7_beside_0 : cX7_beside.data.toList.drop 0 = dktX7_beside_0 := by decide +kernel
theorem dksX7_beside_1 : cX7_beside.data.toList.drop 24 = dktX7_beside_1 := dk_seg dksX7_beside_0 24 rfl rfl
theorem dksX7_beside_2 : cX7_beside.data.toList.drop 47 = dktX7_beside_2 := dk_seg dksX7_beside_1 23 rfl rfl
theorem dksX7_beside_3 : cX7_beside.data.toList.drop 71 = dktX7_beside_3 := dk_seg dksX7_beside_2 24 rfl rfl
theorem dX7_beside_0 : decode cX7_beside 0 = .ok (.aload_n 0, 1) := dk_42 (dk_at dksX7_beside_0 0 rfl rfl)
theorem dX7_beside_1 : decode cX7_beside 1 = .ok (.getfield 94, 3) := dk_180 0 94 (dk_at dksX7_beside_0 1 rfl rfl)
theorem dX7_beside_4 : decode cX7_beside 4 = .ok (.aload_n 0, 1) := dk_42 (dk_at dksX7_beside_0 4 rfl rfl)
theorem dX7_beside_5 : decode cX7_beside 5 = .ok (.getfield 103, 3) := dk_180 0 103 (dk_at dksX7_beside_0 5 rfl rfl)
theorem dX7_beside_8 : decode cX7_beside 8 = .ok (.iload_n 1, 1) := dk_27 (dk_at dksX7_beside_0 8 rfl rfl)
theorem dX7_beside_9 : decode cX7_beside 9 = .ok (.iload_n 3, 1) := dk_29 (dk_at dksX7_beside_0 9 rfl rfl)
theorem dX7_beside_10 : decode cX7_beside 10 = .ok (.i2l, 1) := dk_133 (dk_at dksX7_beside_0 10 rfl rfl)
theorem dX7_beside_11 : decode cX7_beside 11 = .ok (.invokestatic 387, 3) := dk_184 1 131 (dk_at dksX7_beside_0 11 rfl rfl)
theorem dX7_beside_14 : decode cX7_beside 14 = .ok (.aload_n 0, 1) := dk_42 (dk_at dksX7_beside_0 14 rfl rfl)
theorem dX7_beside_15 : decode cX7_beside 15 = .ok (.getfield 97, 3) := dk_180 0 97 (dk_at dksX7_beside_0 15 rfl rfl)
theorem dX7_beside_18 : decode cX7_beside 18 = .ok (.aload_n 0, 1) := dk_42 (dk_at dksX7_beside_0 18 rfl rfl)
theorem dX7_beside_19 : decode cX7_beside 19 = .ok (.getfield 103, 3) := dk_180 0 103 (dk_at dksX7_beside_0 19 rfl rfl)
theorem dX7_beside_22 : decode cX7_beside 22 = .ok (.iload_n 1, 1) := dk_27 (dk_at dksX7_beside_0 22 rfl rfl)
theorem dX7_beside_23 : decode cX7_beside 23 = .ok (.iconst 5, 1) := dk_8 (dk_at dksX7_beside_0 23 rfl rfl)
theorem dX7_beside_24 : decode cX7_beside 24 = .ok (.iadd, 1) := dk_96 (dk_at dksX7_beside_1 0 rfl rfl)
theorem dX7_beside_25 : decode cX7_beside 25 = .ok (.iload_n 2, 1) := dk_28 (dk_at dksX7_beside_1 1 rfl rfl)
theorem dX7_beside_26 : decode cX7_beside 26 = .ok (.i2l, 1) := dk_133 (dk_at dksX7_beside_1 2 rfl rfl)
theorem dX7_beside_27 : decode cX7_beside 27 = .ok (.invokestatic 387, 3) := dk_184 1 131 (dk_at dksX7_beside_1 3 rfl rfl)
theorem dX7_beside_30 : decode cX7_beside 30 = .ok (.bipush 9, 2) := dk_16 9 (dk_at dksX7_beside_1 6 rfl rfl)
theorem dX7_beside_32 : decode cX7_beside 32 = .ok (.istore 4, 2) := dk_54 4 (dk_at dksX7_beside_1 8 rfl rfl)
theorem dX7_beside_34 : decode cX7_beside 34 = .ok (.iload 4, 2) := dk_21 4 (dk_at dksX7_beside_1 10 rfl rfl)
theorem dX7_beside_36 : decode cX7_beside 36 = .ok (.ifCond .lt 51, 3) := dk_155 0 51 (dk_at dksX7_beside_1 12 rfl rfl)
theorem dX7_beside_39 : decode cX7_beside 39 = .ok (.aload_n 0, 1) := dk_42 (dk_at dksX7_beside_1 15 rfl rfl)
theorem dX7_beside_40 : decode cX7_beside 40 = .ok (.getfield 94, 3) := dk_180 0 94 (dk_at dksX7_beside_1 16 rfl rfl)
theorem dX7_beside_43 : decode cX7_beside 43 = .ok (.iload 4, 2) := dk_21 4 (dk_at dksX7_beside_1 19 rfl rfl)
theorem dX7_beside_45 : decode cX7_beside 45 = .ok (.laload, 1) := dk_47 (dk_at dksX7_beside_1 21 rfl rfl)
theorem dX7_beside_46 : decode cX7_beside 46 = .ok (.aload_n 0, 1) := dk_42 (dk_at dksX7_beside_1 22 rfl rfl)
theorem dX7_beside_47 : decode cX7_beside 47 = .ok (.getfield 97, 3) := dk_180 0 97 (dk_at dksX7_beside_2 0 rfl rfl)
theorem dX7_beside_50 : decode cX7_beside 50 = .ok (.iload 4, 2) := dk_21 4 (dk_at dksX7_beside_2 3 rfl rfl)
theorem dX7_beside_52 : decode cX7_beside 52 = .ok (.laload, 1) := dk_47 (dk_at dksX7_beside_2 5 rfl rfl)
theorem dX7_beside_53 : decode cX7_beside 53 = .ok (.lcmp, 1) := dk_148 (dk_at dksX7_beside_2 6 rfl rfl)
theorem dX7_beside_54 : decode cX7_beside 54 = .ok (.ifCond .eq 27, 3) := dk_153 0 27 (dk_at dksX7_beside_2 7 rfl rfl)
theorem dX7_beside_57 : decode cX7_beside 57 = .ok (.aload_n 0, 1) := dk_42 (dk_at dksX7_beside_2 10 rfl rfl)
theorem dX7_beside_58 : decode cX7_beside 58 = .ok (.getfield 94, 3) := dk_180 0 94 (dk_at dksX7_beside_2 11 rfl rfl)
theorem dX7_beside_61 : decode cX7_beside 61 = .ok (.iload 4, 2) := dk_21 4 (dk_at dksX7_beside_2 14 rfl rfl)
theorem dX7_beside_63 : decode cX7_beside 63 = .ok (.laload, 1) := dk_47 (dk_at dksX7_beside_2 16 rfl rfl)
theorem dX7_beside_64 : decode cX7_beside 64 = .ok (.aload_n 0, 1) := dk_42 (dk_at dksX7_beside_2 17 rfl rfl)
theorem dX7_beside_65 : decode cX7_beside 65 = .ok (.getfield 97, 3) := dk_180 0 97 (dk_at dksX7_beside_2 18 rfl rfl)
theorem dX7_beside_68 : decode cX7_beside 68 = .ok (.iload 4, 2) := dk_21 4 (dk_at dksX7_beside_2 21 rfl rfl)
theorem dX7_beside_70 : decode cX7_beside 70 = .ok (.laload, 1) := dk_47 (dk_at dksX7_beside_2 23 rfl rfl)
theorem dX7_beside_71 : decode cX7_beside 71 = .ok (.lcmp, 1) := dk_148 (dk_at dksX7_beside_3 0 rfl rfl)
theorem dX7_beside_72 : decode cX7_beside 72 = .ok (.ifCond .ge 7, 3) := dk_156 0 7 (dk_at dksX7_beside_3 1 rfl rfl)
theorem dX7_beside_75 : decode cX7_beside 75 = .ok (.iconst (-1), 1) := dk_2 (dk_at dksX7_beside_3 4 rfl rfl)
theorem dX7_beside_76 : decode cX7_beside 76 = .ok (.goto 4, 3) := dk_167 0 4 (dk_at dksX7_beside_3 5 rfl rfl)
theorem dX7_beside_79 : decode cX7_beside 79 = .ok (.iconst 1, 1) := dk_4 (dk_at dksX7_beside_3 8 rfl rfl)
theorem dX7_beside_80 : decode cX7_beside 80 = .ok (.ireturn, 1) := dk_172 (dk_at dksX7_beside_3 9 rfl rfl)
theorem dX7_beside_81 : decode cX7_beside 81 = .ok (.iinc 4 (-1), 3) := dk_132 4 255 (dk_at dksX7_beside_3 10 rfl rfl)
theorem dX7_beside_84 : decode cX7_beside 84 = .ok (.goto (-50), 3) := dk_167 255 206 (dk_at dksX7_beside_3 13 rfl rfl)
theorem dX7_beside_87 : decode cX7_beside 87 = .ok (.iconst 0, 1) := dk_3 (dk_at dksX7_beside_3 16 rfl rfl)
theorem dX7_beside_88 : decode cX7_beside 88 = .ok (.ireturn, 1) := dk_172 (dk_at dksX7_beside_3 17 rfl rfl)
abbrev cX7_numbers : ByteArray := prog_16_method_78_code
def yX7_numbers : MethodName := ⟨RX7, "numbers", "(IIII)I"⟩
def dkwX7_numbers_4 : List UInt8 := [182, 1, 175, 158, 0, 8, 21, 7, 167, 0, 5, 21, 5, 54, 5, 132, 6, 1, 167, 255, 209, 21, 5, 172]
abbrev dktX7_numbers_4 : List UInt8 := dkwX7_numbers_4 ++ []
def dkwX7_numbers_3 : List UInt8 := [21, 4, 4, 160, 0, 11, 16, 100, 21, 6, 100, 167, 0, 5, 21, 6, 54, 7, 42, 21, 7, 29]
abbrev dktX7_numbers_3 : List UInt8 := dkwX7_numbers_3 ++ dktX7_numbers_4
def dkwX7_numbers_2 : List UInt8 := [21, 4, 154, 0, 9, 42, 29, 182, 1, 178, 172, 2, 54, 5, 4, 54, 6, 21, 6, 16, 100, 162, 0, 46]
abbrev dktX7_numbers_2 : List UInt8 := dkwX7_numbers_2 ++ dktX7_numbers_3
def dkwX7_numbers_1 : List UInt8 := [184, 0, 143, 153, 0, 12, 42, 27, 28, 182, 1, 169, 154, 0, 6, 16, 254, 172, 42, 27, 28, 182, 1, 172]
abbrev dktX7_numbers_1 : List UInt8 := dkwX7_numbers_1 ++ dktX7_numbers_2
def dkwX7_numbers_0 : List UInt8 := [42, 3, 181, 0, 133, 29, 133, 9, 20, 0, 182, 184, 0, 143, 153, 0, 25, 21, 4, 133, 9, 20, 0, 182]
abbrev dktX7_numbers_0 : List UInt8 := dkwX7_numbers_0 ++ dktX7_numbers_1
theorem dksX7_numbers_0 : cX7_numbers.data.toList.drop 0 = dktX7_numbers_0 := by decide +kernel
theorem dksX7_numbers_1 : cX7_numbers.data.toList.drop 24 = dktX7_numbers_1 := dk_seg dksX7_numbers_0 24 rfl rfl
theorem dksX7_numbers_2 : cX7_numbers.data.toList.drop 48 = dktX7_numbers_2 := dk_seg dksX7_numbers_1 24 rfl rfl
theorem dksX7_numbers_3 : cX7_numbers.data.toList.drop 72 = dktX7_numbers_3 := dk_seg dksX7_numbers_2 24 rfl rfl
theorem dksX7_numbers_4 : cX7_numbers.data.toList.drop 94 = dktX7_numbers_4 := dk_seg dksX7_numbers_3 22 rfl rfl
theorem dX7_numbers_0 : decode cX7_numbers 0 = .ok (.aload_n 0, 1) := dk_42 (dk_at dksX7_numbers_0 0 rfl rfl)
theorem dX7_numbers_1 : decode cX7_numbers 1 = .ok (.iconst 0, 1) := dk_3 (dk_at dksX7_numbers_0 1 rfl rfl)
theorem dX7_numbers_2 : decode cX7_numbers 2 = .ok (.putfield 133, 3) := dk_181 0 133 (dk_at dksX7_numbers_0 2 rfl rfl)
theorem dX7_numbers_5 : decode cX7_numbers 5 = .ok (.iload_n 3, 1) := dk_29 (dk_at dksX7_numbers_0 5 rfl rfl)
theorem dX7_numbers_6 : decode cX7_numbers 6 = .ok (.i2l, 1) := dk_133 (dk_at dksX7_numbers_0 6 rfl rfl)
theorem dX7_numbers_7 : decode cX7_numbers 7 = .ok (.lconst 0, 1) := dk_9 (dk_at dksX7_numbers_0 7 rfl rfl)
theorem dX7_numbers_8 : decode cX7_numbers 8 = .ok (.ldc2_w 182, 3) := dk_20 0 182 (dk_at dksX7_numbers_0 8 rfl rfl)
theorem dX7_numbers_11 : decode cX7_numbers 11 = .ok (.invokestatic 143, 3) := dk_184 0 143 (dk_at dksX7_numbers_0 11 rfl rfl)
theorem dX7_numbers_14 : decode cX7_numbers 14 = .ok (.ifCond .eq 25, 3) := dk_153 0 25 (dk_at dksX7_numbers_0 14 rfl rfl)
theorem dX7_numbers_17 : decode cX7_numbers 17 = .ok (.iload 4, 2) := dk_21 4 (dk_at dksX7_numbers_0 17 rfl rfl)
theorem dX7_numbers_19 : decode cX7_numbers 19 = .ok (.i2l, 1) := dk_133 (dk_at dksX7_numbers_0 19 rfl rfl)
theorem dX7_numbers_20 : decode cX7_numbers 20 = .ok (.lconst 0, 1) := dk_9 (dk_at dksX7_numbers_0 20 rfl rfl)
theorem dX7_numbers_21 : decode cX7_numbers 21 = .ok (.ldc2_w 182, 3) := dk_20 0 182 (dk_at dksX7_numbers_0 21 rfl rfl)
theorem dX7_numbers_24 : decode cX7_numbers 24 = .ok (.invokestatic 143, 3) := dk_184 0 143 (dk_at dksX7_numbers_1 0 rfl rfl)
theorem dX7_numbers_27 : decode cX7_numbers 27 = .ok (.ifCond .eq 12, 3) := dk_153 0 12 (dk_at dksX7_numbers_1 3 rfl rfl)
theorem dX7_numbers_30 : decode cX7_numbers 30 = .ok (.aload_n 0, 1) := dk_42 (dk_at dksX7_numbers_1 6 rfl rfl)
theorem dX7_numbers_31 : decode cX7_numbers 31 = .ok (.iload_n 1, 1) := dk_27 (dk_at dksX7_numbers_1 7 rfl rfl)
theorem dX7_numbers_32 : decode cX7_numbers 32 = .ok (.iload_n 2, 1) := dk_28 (dk_at dksX7_numbers_1 8 rfl rfl)
theorem dX7_numbers_33 : decode cX7_numbers 33 = .ok (.invokevirtual 425, 3) := dk_182 1 169 (dk_at dksX7_numbers_1 9 rfl rfl)
theorem dX7_numbers_36 : decode cX7_numbers 36 = .ok (.ifCond .ne 6, 3) := dk_154 0 6 (dk_at dksX7_numbers_1 12 rfl rfl)
theorem dX7_numbers_39 : decode cX7_numbers 39 = .ok (.bipush (-2), 2) := dk_16 254 (dk_at dksX7_numbers_1 15 rfl rfl)
theorem dX7_numbers_41 : decode cX7_numbers 41 = .ok (.ireturn, 1) := dk_172 (dk_at dksX7_numbers_1 17 rfl rfl)
theorem dX7_numbers_42 : decode cX7_numbers 42 = .ok (.aload_n 0, 1) := dk_42 (dk_at dksX7_numbers_1 18 rfl rfl)
theorem dX7_numbers_43 : decode cX7_numbers 43 = .ok (.iload_n 1, 1) := dk_27 (dk_at dksX7_numbers_1 19 rfl rfl)
theorem dX7_numbers_44 : decode cX7_numbers 44 = .ok (.iload_n 2, 1) := dk_28 (dk_at dksX7_numbers_1 20 rfl rfl)
theorem dX7_numbers_45 : decode cX7_numbers 45 = .ok (.invokevirtual 428, 3) := dk_182 1 172 (dk_at dksX7_numbers_1 21 rfl rfl)
theorem dX7_numbers_48 : decode cX7_numbers 48 = .ok (.iload 4, 2) := dk_21 4 (dk_at dksX7_numbers_2 0 rfl rfl)
theorem dX7_numbers_50 : decode cX7_numbers 50 = .ok (.ifCond .ne 9, 3) := dk_154 0 9 (dk_at dksX7_numbers_2 2 rfl rfl)
theorem dX7_numbers_53 : decode cX7_numbers 53 = .ok (.aload_n 0, 1) := dk_42 (dk_at dksX7_numbers_2 5 rfl rfl)
theorem dX7_numbers_54 : decode cX7_numbers 54 = .ok (.iload_n 3, 1) := dk_29 (dk_at dksX7_numbers_2 6 rfl rfl)
theorem dX7_numbers_55 : decode cX7_numbers 55 = .ok (.invokevirtual 434, 3) := dk_182 1 178 (dk_at dksX7_numbers_2 7 rfl rfl)
theorem dX7_numbers_58 : decode cX7_numbers 58 = .ok (.ireturn, 1) := dk_172 (dk_at dksX7_numbers_2 10 rfl rfl)
theorem dX7_numbers_59 : decode cX7_numbers 59 = .ok (.iconst (-1), 1) := dk_2 (dk_at dksX7_numbers_2 11 rfl rfl)
theorem dX7_numbers_60 : decode cX7_numbers 60 = .ok (.istore 5, 2) := dk_54 5 (dk_at dksX7_numbers_2 12 rfl rfl)
theorem dX7_numbers_62 : decode cX7_numbers 62 = .ok (.iconst 1, 1) := dk_4 (dk_at dksX7_numbers_2 14 rfl rfl)
theorem dX7_numbers_63 : decode cX7_numbers 63 = .ok (.istore 6, 2) := dk_54 6 (dk_at dksX7_numbers_2 15 rfl rfl)
theorem dX7_numbers_65 : decode cX7_numbers 65 = .ok (.iload 6, 2) := dk_21 6 (dk_at dksX7_numbers_2 17 rfl rfl)
theorem dX7_numbers_67 : decode cX7_numbers 67 = .ok (.bipush 100, 2) := dk_16 100 (dk_at dksX7_numbers_2 19 rfl rfl)
theorem dX7_numbers_69 : decode cX7_numbers 69 = .ok (.if_icmp .ge 46, 3) := dk_162 0 46 (dk_at dksX7_numbers_2 21 rfl rfl)
theorem dX7_numbers_72 : decode cX7_numbers 72 = .ok (.iload 4, 2) := dk_21 4 (dk_at dksX7_numbers_3 0 rfl rfl)
theorem dX7_numbers_74 : decode cX7_numbers 74 = .ok (.iconst 1, 1) := dk_4 (dk_at dksX7_numbers_3 2 rfl rfl)
theorem dX7_numbers_75 : decode cX7_numbers 75 = .ok (.if_icmp .ne 11, 3) := dk_160 0 11 (dk_at dksX7_numbers_3 3 rfl rfl)
theorem dX7_numbers_78 : decode cX7_numbers 78 = .ok (.bipush 100, 2) := dk_16 100 (dk_at dksX7_numbers_3 6 rfl rfl)
theorem dX7_numbers_80 : decode cX7_numbers 80 = .ok (.iload 6, 2) := dk_21 6 (dk_at dksX7_numbers_3 8 rfl rfl)
theorem dX7_numbers_82 : decode cX7_numbers 82 = .ok (.isub, 1) := dk_100 (dk_at dksX7_numbers_3 10 rfl rfl)
theorem dX7_numbers_83 : decode cX7_numbers 83 = .ok (.goto 5, 3) := dk_167 0 5 (dk_at dksX7_numbers_3 11 rfl rfl)
theorem dX7_numbers_86 : decode cX7_numbers 86 = .ok (.iload 6, 2) := dk_21 6 (dk_at dksX7_numbers_3 14 rfl rfl)
theorem dX7_numbers_88 : decode cX7_numbers 88 = .ok (.istore 7, 2) := dk_54 7 (dk_at dksX7_numbers_3 16 rfl rfl)
theorem dX7_numbers_90 : decode cX7_numbers 90 = .ok (.aload_n 0, 1) := dk_42 (dk_at dksX7_numbers_3 18 rfl rfl)
theorem dX7_numbers_91 : decode cX7_numbers 91 = .ok (.iload 7, 2) := dk_21 7 (dk_at dksX7_numbers_3 19 rfl rfl)
theorem dX7_numbers_93 : decode cX7_numbers 93 = .ok (.iload_n 3, 1) := dk_29 (dk_at dksX7_numbers_3 21 rfl rfl)
theorem dX7_numbers_94 : decode cX7_numbers 94 = .ok (.invokevirtual 431, 3) := dk_182 1 175 (dk_at dksX7_numbers_4 0 rfl rfl)
theorem dX7_numbers_97 : decode cX7_numbers 97 = .ok (.ifCond .le 8, 3) := dk_158 0 8 (dk_at dksX7_numbers_4 3 rfl rfl)
theorem dX7_numbers_100 : decode cX7_numbers 100 = .ok (.iload 7, 2) := dk_21 7 (dk_at dksX7_numbers_4 6 rfl rfl)
theorem dX7_numbers_102 : decode cX7_numbers 102 = .ok (.goto 5, 3) := dk_167 0 5 (dk_at dksX7_numbers_4 8 rfl rfl)
theorem dX7_numbers_105 : decode cX7_numbers 105 = .ok (.iload 5, 2) := dk_21 5 (dk_at dksX7_numbers_4 11 rfl rfl)
theorem dX7_numbers_107 : decode cX7_numbers 107 = .ok (.istore 5, 2) := dk_54 5 (dk_at dksX7_numbers_4 13 rfl rfl)
theorem dX7_numbers_109 : decode cX7_numbers 109 = .ok (.iinc 6 1, 3) := dk_132 6 1 (dk_at dksX7_numbers_4 15 rfl rfl)
theorem dX7_numbers_112 : decode cX7_numbers 112 = .ok (.goto (-47), 3) := dk_167 255 209 (dk_at dksX7_numbers_4 18 rfl rfl)
theorem dX7_numbers_115 : decode cX7_numbers 115 = .ok (.iload 5, 2) := dk_21 5 (dk_at dksX7_numbers_4 21 rfl rfl)
theorem dX7_numbers_117 : decode cX7_numbers 117 = .ok (.ireturn, 1) := dk_172 (dk_at dksX7_numbers_4 23 rfl rfl)
abbrev cX7_numbersOf : ByteArray := prog_16_method_77_code
def yX7_numbersOf : MethodName := ⟨RX7, "numbersOf", "(I)I"⟩
def dkwX7_numbersOf_1 : List UInt8 := [3, 96, 61, 132, 3, 1, 167, 255, 230, 28, 172]
abbrev dktX7_numbersOf_1 : List UInt8 := dkwX7_numbersOf_1 ++ []
def dkwX7_numbersOf_0 : List UInt8 := [3, 61, 4, 62, 29, 16, 100, 162, 0, 26, 28, 42, 29, 27, 182, 1, 175, 158, 0, 7, 4, 167, 0, 4]
abbrev dktX7_numbersOf_0 : List UInt8 := dkwX7_numbersOf_0 ++ dktX7_numbersOf_1
theorem dksX7_numbersOf_0 : cX7_numbersOf.data.toList.drop 0 = dktX7_numbersOf_0 := by decide +kernel
theorem dksX7_numbersOf_1 : cX7_numbersOf.data.toList.drop 24 = dktX7_numbersOf_1 := dk_seg dksX7_numbersOf_0 24 rfl rfl
theorem dX7_numbersOf_0 : decode cX7_numbersOf 0 = .ok (.iconst 0, 1) := dk_3 (dk_at dksX7_numbersOf_0 0 rfl rfl)
theorem dX7_numbersOf_1 : decode cX7_numbersOf 1 = .ok (.istore_n 2, 1) := dk_61 (dk_at dksX7_numbersOf_0 1 rfl rfl)
theorem dX7_numbersOf_2 : decode cX7_numbersOf 2 = .ok (.iconst 1, 1) := dk_4 (dk_at dksX7_numbersOf_0 2 rfl rfl)
theorem dX7_numbersOf_3 : decode cX7_numbersOf 3 = .ok (.istore_n 3, 1) := dk_62 (dk_at dksX7_numbersOf_0 3 rfl rfl)
theorem dX7_numbersOf_4 : decode cX7_numbersOf 4 = .ok (.iload_n 3, 1) := dk_29 (dk_at dksX7_numbersOf_0 4 rfl rfl)
theorem dX7_numbersOf_5 : decode cX7_numbersOf 5 = .ok (.bipush 100, 2) := dk_16 100 (dk_at dksX7_numbersOf_0 5 rfl rfl)
theorem dX7_numbersOf_7 : decode cX7_numbersOf 7 = .ok (.if_icmp .ge 26, 3) := dk_162 0 26 (dk_at dksX7_numbersOf_0 7 rfl rfl)
theorem dX7_numbersOf_10 : decode cX7_numbersOf 10 = .ok (.iload_n 2, 1) := dk_28 (dk_at dksX7_numbersOf_0 10 rfl rfl)
theorem dX7_numbersOf_11 : decode cX7_numbersOf 11 = .ok (.aload_n 0, 1) := dk_42 (dk_at dksX7_numbersOf_0 11 rfl rfl)
theorem dX7_numbersOf_12 : decode cX7_numbersOf 12 = .ok (.iload_n 3, 1) := dk_29 (dk_at dksX7_numbersOf_0 12 rfl rfl)
theorem dX7_numbersOf_13 : decode cX7_numbersOf 13 = .ok (.iload_n 1, 1) := dk_27 (dk_at dksX7_numbersOf_0 13 rfl rfl)
theorem dX7_numbersOf_14 : decode cX7_numbersOf 14 = .ok (.invokevirtual 431, 3) := dk_182 1 175 (dk_at dksX7_numbersOf_0 14 rfl rfl)
theorem dX7_numbersOf_17 : decode cX7_numbersOf 17 = .ok (.ifCond .le 7, 3) := dk_158 0 7 (dk_at dksX7_numbersOf_0 17 rfl rfl)
theorem dX7_numbersOf_20 : decode cX7_numbersOf 20 = .ok (.iconst 1, 1) := dk_4 (dk_at dksX7_numbersOf_0 20 rfl rfl)
theorem dX7_numbersOf_21 : decode cX7_numbersOf 21 = .ok (.goto 4, 3) := dk_167 0 4 (dk_at dksX7_numbersOf_0 21 rfl rfl)
theorem dX7_numbersOf_24 : decode cX7_numbersOf 24 = .ok (.iconst 0, 1) := dk_3 (dk_at dksX7_numbersOf_1 0 rfl rfl)
theorem dX7_numbersOf_25 : decode cX7_numbersOf 25 = .ok (.iadd, 1) := dk_96 (dk_at dksX7_numbersOf_1 1 rfl rfl)
theorem dX7_numbersOf_26 : decode cX7_numbersOf 26 = .ok (.istore_n 2, 1) := dk_61 (dk_at dksX7_numbersOf_1 2 rfl rfl)
theorem dX7_numbersOf_27 : decode cX7_numbersOf 27 = .ok (.iinc 3 1, 3) := dk_132 3 1 (dk_at dksX7_numbersOf_1 3 rfl rfl)
theorem dX7_numbersOf_30 : decode cX7_numbersOf 30 = .ok (.goto (-26), 3) := dk_167 255 230 (dk_at dksX7_numbersOf_1 6 rfl rfl)
theorem dX7_numbersOf_33 : decode cX7_numbersOf 33 = .ok (.iload_n 2, 1) := dk_28 (dk_at dksX7_numbersOf_1 9 rfl rfl)
theorem dX7_numbersOf_34 : decode cX7_numbersOf 34 = .ok (.ireturn, 1) := dk_172 (dk_at dksX7_numbersOf_1 10 rfl rfl)
abbrev cX7_ask : ByteArray := prog_16_method_79_code
def yX7_ask : MethodName := ⟨RX7, "ask", "(I)I"⟩
def dkwX7_ask_6 : List UInt8 := [29, 172]
abbrev dktX7_ask_6 : List UInt8 := dkwX7_ask_6 ++ []
def dkwX7_ask_5 : List UInt8 := [167, 255, 176, 27, 154, 0, 9, 28, 7, 108, 167, 0, 15, 27, 4, 160, 0, 9, 28, 7, 112, 167, 0, 4]
abbrev dktX7_ask_5 : List UInt8 := dkwX7_ask_5 ++ dktX7_ask_6
def dkwX7_ask_4 : List UInt8 := [21, 6, 29, 164, 0, 8, 21, 6, 167, 0, 4, 29, 62, 132, 5, 1, 167, 255, 192, 132, 4, 1]
abbrev dktX7_ask_4 : List UInt8 := dkwX7_ask_4 ++ dktX7_ask_5
def dkwX7_ask_3 : List UInt8 := [182, 1, 178, 54, 6, 21, 6, 29, 164, 0, 13, 7, 21, 4, 104, 21, 5, 96, 167, 0, 4, 28, 61]
abbrev dktX7_ask_3 : List UInt8 := dkwX7_ask_3 ++ dktX7_ask_4
def dkwX7_ask_2 : List UInt8 := [162, 0, 64, 42, 21, 4, 182, 1, 135, 153, 0, 55, 42, 21, 4, 21, 5, 182, 1, 172, 42, 4]
abbrev dktX7_ask_2 : List UInt8 := dkwX7_ask_2 ++ dktX7_ask_3
def dkwX7_ask_1 : List UInt8 := [2, 172, 2, 61, 2, 62, 3, 54, 4, 21, 4, 16, 12, 162, 0, 79, 3, 54, 5, 21, 5, 7]
abbrev dktX7_ask_1 : List UInt8 := dkwX7_ask_1 ++ dktX7_ask_2
def dkwX7_ask_0 : List UInt8 := [42, 3, 181, 0, 133, 27, 133, 9, 20, 0, 182, 184, 0, 143, 153, 0, 10, 42, 182, 1, 121, 154, 0, 5]
abbrev dktX7_ask_0 : List UInt8 := dkwX7_ask_0 ++ dktX7_ask_1
theorem dksX7_ask_0 : cX7_ask.data.toList.drop 0 = dktX7_ask_0 := by decide +kernel
theorem dksX7_ask_1 : cX7_ask.data.toList.drop 24 = dktX7_ask_1 := dk_seg dksX7_ask_0 24 rfl rfl
theorem dksX7_ask_2 : cX7_ask.data.toList.drop 46 = dktX7_ask_2 := dk_seg dksX7_ask_1 22 rfl rfl
theorem dksX7_ask_3 : cX7_ask.data.toList.drop 68 = dktX7_ask_3 := dk_seg dksX7_ask_2 22 rfl rfl
theorem dksX7_ask_4 : cX7_ask.data.toList.drop 91 = dktX7_ask_4 := dk_seg dksX7_ask_3 23 rfl rfl
theorem dksX7_ask_5 : cX7_ask.data.toList.drop 113 = dktX7_ask_5 := dk_seg dksX7_ask_4 22 rfl rfl
theorem dksX7_ask_6 : cX7_ask.data.toList.drop 137 = dktX7_ask_6 := dk_seg dksX7_ask_5 24 rfl rfl
theorem dX7_ask_0 : decode cX7_ask 0 = .ok (.aload_n 0, 1) := dk_42 (dk_at dksX7_ask_0 0 rfl rfl)
theorem dX7_ask_1 : decode cX7_ask 1 = .ok (.iconst 0, 1) := dk_3 (dk_at dksX7_ask_0 1 rfl rfl)
theorem dX7_ask_2 : decode cX7_ask 2 = .ok (.putfield 133, 3) := dk_181 0 133 (dk_at dksX7_ask_0 2 rfl rfl)
theorem dX7_ask_5 : decode cX7_ask 5 = .ok (.iload_n 1, 1) := dk_27 (dk_at dksX7_ask_0 5 rfl rfl)
theorem dX7_ask_6 : decode cX7_ask 6 = .ok (.i2l, 1) := dk_133 (dk_at dksX7_ask_0 6 rfl rfl)
theorem dX7_ask_7 : decode cX7_ask 7 = .ok (.lconst 0, 1) := dk_9 (dk_at dksX7_ask_0 7 rfl rfl)
theorem dX7_ask_8 : decode cX7_ask 8 = .ok (.ldc2_w 182, 3) := dk_20 0 182 (dk_at dksX7_ask_0 8 rfl rfl)
theorem dX7_ask_11 : decode cX7_ask 11 = .ok (.invokestatic 143, 3) := dk_184 0 143 (dk_at dksX7_ask_0 11 rfl rfl)
theorem dX7_ask_14 : decode cX7_ask 14 = .ok (.ifCond .eq 10, 3) := dk_153 0 10 (dk_at dksX7_ask_0 14 rfl rfl)
theorem dX7_ask_17 : decode cX7_ask 17 = .ok (.aload_n 0, 1) := dk_42 (dk_at dksX7_ask_0 17 rfl rfl)
theorem dX7_ask_18 : decode cX7_ask 18 = .ok (.invokevirtual 377, 3) := dk_182 1 121 (dk_at dksX7_ask_0 18 rfl rfl)
theorem dX7_ask_21 : decode cX7_ask 21 = .ok (.ifCond .ne 5, 3) := dk_154 0 5 (dk_at dksX7_ask_0 21 rfl rfl)
theorem dX7_ask_24 : decode cX7_ask 24 = .ok (.iconst (-1), 1) := dk_2 (dk_at dksX7_ask_1 0 rfl rfl)
theorem dX7_ask_25 : decode cX7_ask 25 = .ok (.ireturn, 1) := dk_172 (dk_at dksX7_ask_1 1 rfl rfl)
theorem dX7_ask_26 : decode cX7_ask 26 = .ok (.iconst (-1), 1) := dk_2 (dk_at dksX7_ask_1 2 rfl rfl)
theorem dX7_ask_27 : decode cX7_ask 27 = .ok (.istore_n 2, 1) := dk_61 (dk_at dksX7_ask_1 3 rfl rfl)
theorem dX7_ask_28 : decode cX7_ask 28 = .ok (.iconst (-1), 1) := dk_2 (dk_at dksX7_ask_1 4 rfl rfl)
theorem dX7_ask_29 : decode cX7_ask 29 = .ok (.istore_n 3, 1) := dk_62 (dk_at dksX7_ask_1 5 rfl rfl)
theorem dX7_ask_30 : decode cX7_ask 30 = .ok (.iconst 0, 1) := dk_3 (dk_at dksX7_ask_1 6 rfl rfl)
theorem dX7_ask_31 : decode cX7_ask 31 = .ok (.istore 4, 2) := dk_54 4 (dk_at dksX7_ask_1 7 rfl rfl)
theorem dX7_ask_33 : decode cX7_ask 33 = .ok (.iload 4, 2) := dk_21 4 (dk_at dksX7_ask_1 9 rfl rfl)
theorem dX7_ask_35 : decode cX7_ask 35 = .ok (.bipush 12, 2) := dk_16 12 (dk_at dksX7_ask_1 11 rfl rfl)
theorem dX7_ask_37 : decode cX7_ask 37 = .ok (.if_icmp .ge 79, 3) := dk_162 0 79 (dk_at dksX7_ask_1 13 rfl rfl)
theorem dX7_ask_40 : decode cX7_ask 40 = .ok (.iconst 0, 1) := dk_3 (dk_at dksX7_ask_1 16 rfl rfl)
theorem dX7_ask_41 : decode cX7_ask 41 = .ok (.istore 5, 2) := dk_54 5 (dk_at dksX7_ask_1 17 rfl rfl)
theorem dX7_ask_43 : decode cX7_ask 43 = .ok (.iload 5, 2) := dk_21 5 (dk_at dksX7_ask_1 19 rfl rfl)
theorem dX7_ask_45 : decode cX7_ask 45 = .ok (.iconst 4, 1) := dk_7 (dk_at dksX7_ask_1 21 rfl rfl)
theorem dX7_ask_46 : decode cX7_ask 46 = .ok (.if_icmp .ge 64, 3) := dk_162 0 64 (dk_at dksX7_ask_2 0 rfl rfl)
theorem dX7_ask_49 : decode cX7_ask 49 = .ok (.aload_n 0, 1) := dk_42 (dk_at dksX7_ask_2 3 rfl rfl)
theorem dX7_ask_50 : decode cX7_ask 50 = .ok (.iload 4, 2) := dk_21 4 (dk_at dksX7_ask_2 4 rfl rfl)
theorem dX7_ask_52 : decode cX7_ask 52 = .ok (.invokevirtual 391, 3) := dk_182 1 135 (dk_at dksX7_ask_2 6 rfl rfl)
theorem dX7_ask_55 : decode cX7_ask 55 = .ok (.ifCond .eq 55, 3) := dk_153 0 55 (dk_at dksX7_ask_2 9 rfl rfl)
theorem dX7_ask_58 : decode cX7_ask 58 = .ok (.aload_n 0, 1) := dk_42 (dk_at dksX7_ask_2 12 rfl rfl)
theorem dX7_ask_59 : decode cX7_ask 59 = .ok (.iload 4, 2) := dk_21 4 (dk_at dksX7_ask_2 13 rfl rfl)
theorem dX7_ask_61 : decode cX7_ask 61 = .ok (.iload 5, 2) := dk_21 5 (dk_at dksX7_ask_2 15 rfl rfl)
theorem dX7_ask_63 : decode cX7_ask 63 = .ok (.invokevirtual 428, 3) := dk_182 1 172 (dk_at dksX7_ask_2 17 rfl rfl)
theorem dX7_ask_66 : decode cX7_ask 66 = .ok (.aload_n 0, 1) := dk_42 (dk_at dksX7_ask_2 20 rfl rfl)
theorem dX7_ask_67 : decode cX7_ask 67 = .ok (.iconst 1, 1) := dk_4 (dk_at dksX7_ask_2 21 rfl rfl)
theorem dX7_ask_68 : decode cX7_ask 68 = .ok (.invokevirtual 434, 3) := dk_182 1 178 (dk_at dksX7_ask_3 0 rfl rfl)
theorem dX7_ask_71 : decode cX7_ask 71 = .ok (.istore 6, 2) := dk_54 6 (dk_at dksX7_ask_3 3 rfl rfl)
theorem dX7_ask_73 : decode cX7_ask 73 = .ok (.iload 6, 2) := dk_21 6 (dk_at dksX7_ask_3 5 rfl rfl)
theorem dX7_ask_75 : decode cX7_ask 75 = .ok (.iload_n 3, 1) := dk_29 (dk_at dksX7_ask_3 7 rfl rfl)
theorem dX7_ask_76 : decode cX7_ask 76 = .ok (.if_icmp .le 13, 3) := dk_164 0 13 (dk_at dksX7_ask_3 8 rfl rfl)
theorem dX7_ask_79 : decode cX7_ask 79 = .ok (.iconst 4, 1) := dk_7 (dk_at dksX7_ask_3 11 rfl rfl)
theorem dX7_ask_80 : decode cX7_ask 80 = .ok (.iload 4, 2) := dk_21 4 (dk_at dksX7_ask_3 12 rfl rfl)
theorem dX7_ask_82 : decode cX7_ask 82 = .ok (.imul, 1) := dk_104 (dk_at dksX7_ask_3 14 rfl rfl)
theorem dX7_ask_83 : decode cX7_ask 83 = .ok (.iload 5, 2) := dk_21 5 (dk_at dksX7_ask_3 15 rfl rfl)
theorem dX7_ask_85 : decode cX7_ask 85 = .ok (.iadd, 1) := dk_96 (dk_at dksX7_ask_3 17 rfl rfl)
theorem dX7_ask_86 : decode cX7_ask 86 = .ok (.goto 4, 3) := dk_167 0 4 (dk_at dksX7_ask_3 18 rfl rfl)
theorem dX7_ask_89 : decode cX7_ask 89 = .ok (.iload_n 2, 1) := dk_28 (dk_at dksX7_ask_3 21 rfl rfl)
theorem dX7_ask_90 : decode cX7_ask 90 = .ok (.istore_n 2, 1) := dk_61 (dk_at dksX7_ask_3 22 rfl rfl)
theorem dX7_ask_91 : decode cX7_ask 91 = .ok (.iload 6, 2) := dk_21 6 (dk_at dksX7_ask_4 0 rfl rfl)
theorem dX7_ask_93 : decode cX7_ask 93 = .ok (.iload_n 3, 1) := dk_29 (dk_at dksX7_ask_4 2 rfl rfl)
theorem dX7_ask_94 : decode cX7_ask 94 = .ok (.if_icmp .le 8, 3) := dk_164 0 8 (dk_at dksX7_ask_4 3 rfl rfl)
theorem dX7_ask_97 : decode cX7_ask 97 = .ok (.iload 6, 2) := dk_21 6 (dk_at dksX7_ask_4 6 rfl rfl)
theorem dX7_ask_99 : decode cX7_ask 99 = .ok (.goto 4, 3) := dk_167 0 4 (dk_at dksX7_ask_4 8 rfl rfl)
theorem dX7_ask_102 : decode cX7_ask 102 = .ok (.iload_n 3, 1) := dk_29 (dk_at dksX7_ask_4 11 rfl rfl)
theorem dX7_ask_103 : decode cX7_ask 103 = .ok (.istore_n 3, 1) := dk_62 (dk_at dksX7_ask_4 12 rfl rfl)
theorem dX7_ask_104 : decode cX7_ask 104 = .ok (.iinc 5 1, 3) := dk_132 5 1 (dk_at dksX7_ask_4 13 rfl rfl)
theorem dX7_ask_107 : decode cX7_ask 107 = .ok (.goto (-64), 3) := dk_167 255 192 (dk_at dksX7_ask_4 16 rfl rfl)
theorem dX7_ask_110 : decode cX7_ask 110 = .ok (.iinc 4 1, 3) := dk_132 4 1 (dk_at dksX7_ask_4 19 rfl rfl)
theorem dX7_ask_113 : decode cX7_ask 113 = .ok (.goto (-80), 3) := dk_167 255 176 (dk_at dksX7_ask_5 0 rfl rfl)
theorem dX7_ask_116 : decode cX7_ask 116 = .ok (.iload_n 1, 1) := dk_27 (dk_at dksX7_ask_5 3 rfl rfl)
theorem dX7_ask_117 : decode cX7_ask 117 = .ok (.ifCond .ne 9, 3) := dk_154 0 9 (dk_at dksX7_ask_5 4 rfl rfl)
theorem dX7_ask_120 : decode cX7_ask 120 = .ok (.iload_n 2, 1) := dk_28 (dk_at dksX7_ask_5 7 rfl rfl)
theorem dX7_ask_121 : decode cX7_ask 121 = .ok (.iconst 4, 1) := dk_7 (dk_at dksX7_ask_5 8 rfl rfl)
theorem dX7_ask_122 : decode cX7_ask 122 = .ok (.idiv, 1) := dk_108 (dk_at dksX7_ask_5 9 rfl rfl)
theorem dX7_ask_123 : decode cX7_ask 123 = .ok (.goto 15, 3) := dk_167 0 15 (dk_at dksX7_ask_5 10 rfl rfl)
theorem dX7_ask_126 : decode cX7_ask 126 = .ok (.iload_n 1, 1) := dk_27 (dk_at dksX7_ask_5 13 rfl rfl)
theorem dX7_ask_127 : decode cX7_ask 127 = .ok (.iconst 1, 1) := dk_4 (dk_at dksX7_ask_5 14 rfl rfl)
theorem dX7_ask_128 : decode cX7_ask 128 = .ok (.if_icmp .ne 9, 3) := dk_160 0 9 (dk_at dksX7_ask_5 15 rfl rfl)
theorem dX7_ask_131 : decode cX7_ask 131 = .ok (.iload_n 2, 1) := dk_28 (dk_at dksX7_ask_5 18 rfl rfl)
theorem dX7_ask_132 : decode cX7_ask 132 = .ok (.iconst 4, 1) := dk_7 (dk_at dksX7_ask_5 19 rfl rfl)
theorem dX7_ask_133 : decode cX7_ask 133 = .ok (.irem, 1) := dk_112 (dk_at dksX7_ask_5 20 rfl rfl)
theorem dX7_ask_134 : decode cX7_ask 134 = .ok (.goto 4, 3) := dk_167 0 4 (dk_at dksX7_ask_5 21 rfl rfl)
theorem dX7_ask_137 : decode cX7_ask 137 = .ok (.iload_n 3, 1) := dk_29 (dk_at dksX7_ask_6 0 rfl rfl)
theorem dX7_ask_138 : decode cX7_ask 138 = .ok (.ireturn, 1) := dk_172 (dk_at dksX7_ask_6 1 rfl rfl)
abbrev cX7_dates : ByteArray := prog_16_method_80_code
def yX7_dates : MethodName := ⟨RX7, "dates", "(IIII)I"⟩
def dkwX7_dates_8 : List UInt8 := [21, 5, 167, 0, 16, 21, 4, 4, 160, 0, 8, 21, 6, 167, 0, 5, 21, 7, 172]
abbrev dktX7_dates_8 : List UInt8 := dkwX7_dates_8 ++ []
def dkwX7_dates_7 : List UInt8 := [21, 8, 167, 0, 5, 21, 6, 54, 6, 21, 8, 54, 7, 132, 8, 1, 167, 255, 148, 21, 4, 154, 0, 8]
abbrev dktX7_dates_7 : List UInt8 := dkwX7_dates_7 ++ dktX7_dates_8
def dkwX7_dates_6 : List UInt8 := [96, 46, 182, 1, 172, 42, 28, 29, 182, 1, 175, 158, 0, 25, 132, 5, 1, 21, 6, 2, 160, 0, 8]
abbrev dktX7_dates_6 : List UInt8 := dkwX7_dates_6 ++ dktX7_dates_7
def dkwX7_dates_5 : List UInt8 := [161, 0, 10, 16, 6, 27, 96, 167, 0, 4, 27, 54, 9, 42, 21, 9, 42, 180, 0, 13, 16, 10, 21, 8]
abbrev dktX7_dates_5 : List UInt8 := dkwX7_dates_5 ++ dktX7_dates_6
def dkwX7_dates_4 : List UInt8 := [180, 0, 13, 16, 42, 27, 96, 46, 2, 159, 0, 24, 21, 8, 42, 180, 0, 13, 16, 42, 27, 96, 46]
abbrev dktX7_dates_4 : List UInt8 := dkwX7_dates_4 ++ dktX7_dates_5
def dkwX7_dates_3 : List UInt8 := [54, 8, 21, 8, 16, 32, 162, 0, 107, 42, 180, 0, 13, 16, 10, 21, 8, 96, 46, 2, 159, 0, 87, 42]
abbrev dktX7_dates_3 : List UInt8 := dkwX7_dates_3 ++ dktX7_dates_4
def dkwX7_dates_2 : List UInt8 := [153, 0, 10, 42, 182, 1, 121, 154, 0, 6, 16, 254, 172, 3, 54, 5, 2, 54, 6, 2, 54, 7, 3]
abbrev dktX7_dates_2 : List UInt8 := dkwX7_dates_2 ++ dktX7_dates_3
def dkwX7_dates_1 : List UInt8 := [29, 133, 9, 20, 0, 182, 184, 0, 143, 153, 0, 23, 21, 4, 133, 9, 20, 0, 182, 184, 0, 143]
abbrev dktX7_dates_1 : List UInt8 := dkwX7_dates_1 ++ dktX7_dates_2
def dkwX7_dates_0 : List UInt8 := [42, 3, 181, 0, 133, 27, 184, 0, 166, 153, 0, 47, 28, 133, 10, 20, 0, 180, 184, 0, 143, 153, 0, 35]
abbrev dktX7_dates_0 : List UInt8 := dkwX7_dates_0 ++ dktX7_dates_1
theorem dksX7_dates_0 : cX7_dates.data.toList.drop 0 = dktX7_dates_0 := by decide +kernel
theorem dksX7_dates_1 : cX7_dates.data.toList.drop 24 = dktX7_dates_1 := dk_seg dksX7_dates_0 24 rfl rfl
theorem dksX7_dates_2 : cX7_dates.data.toList.drop 46 = dktX7_dates_2 := dk_seg dksX7_dates_1 22 rfl rfl
theorem dksX7_dates_3 : cX7_dates.data.toList.drop 69 = dktX7_dates_3 := dk_seg dksX7_dates_2 23 rfl rfl
theorem dksX7_dates_4 : cX7_dates.data.toList.drop 93 = dktX7_dates_4 := dk_seg dksX7_dates_3 24 rfl rfl
theorem dksX7_dates_5 : cX7_dates.data.toList.drop 116 = dktX7_dates_5 := dk_seg dksX7_dates_4 23 rfl rfl
theorem dksX7_dates_6 : cX7_dates.data.toList.drop 140 = dktX7_dates_6 := dk_seg dksX7_dates_5 24 rfl rfl
theorem dksX7_dates_7 : cX7_dates.data.toList.drop 163 = dktX7_dates_7 := dk_seg dksX7_dates_6 23 rfl rfl
theorem dksX7_dates_8 : cX7_dates.data.toList.drop 187 = dktX7_dates_8 := dk_seg dksX7_dates_7 24 rfl rfl
theorem dX7_dates_0 : decode cX7_dates 0 = .ok (.aload_n 0, 1) := dk_42 (dk_at dksX7_dates_0 0 rfl rfl)
theorem dX7_dates_1 : decode cX7_dates 1 = .ok (.iconst 0, 1) := dk_3 (dk_at dksX7_dates_0 1 rfl rfl)
theorem dX7_dates_2 : decode cX7_dates 2 = .ok (.putfield 133, 3) := dk_181 0 133 (dk_at dksX7_dates_0 2 rfl rfl)
theorem dX7_dates_5 : decode cX7_dates 5 = .ok (.iload_n 1, 1) := dk_27 (dk_at dksX7_dates_0 5 rfl rfl)
theorem dX7_dates_6 : decode cX7_dates 6 = .ok (.invokestatic 166, 3) := dk_184 0 166 (dk_at dksX7_dates_0 6 rfl rfl)
theorem dX7_dates_9 : decode cX7_dates 9 = .ok (.ifCond .eq 47, 3) := dk_153 0 47 (dk_at dksX7_dates_0 9 rfl rfl)
theorem dX7_dates_12 : decode cX7_dates 12 = .ok (.iload_n 2, 1) := dk_28 (dk_at dksX7_dates_0 12 rfl rfl)
theorem dX7_dates_13 : decode cX7_dates 13 = .ok (.i2l, 1) := dk_133 (dk_at dksX7_dates_0 13 rfl rfl)
theorem dX7_dates_14 : decode cX7_dates 14 = .ok (.lconst 1, 1) := dk_10 (dk_at dksX7_dates_0 14 rfl rfl)
theorem dX7_dates_15 : decode cX7_dates 15 = .ok (.ldc2_w 180, 3) := dk_20 0 180 (dk_at dksX7_dates_0 15 rfl rfl)
theorem dX7_dates_18 : decode cX7_dates 18 = .ok (.invokestatic 143, 3) := dk_184 0 143 (dk_at dksX7_dates_0 18 rfl rfl)
theorem dX7_dates_21 : decode cX7_dates 21 = .ok (.ifCond .eq 35, 3) := dk_153 0 35 (dk_at dksX7_dates_0 21 rfl rfl)
theorem dX7_dates_24 : decode cX7_dates 24 = .ok (.iload_n 3, 1) := dk_29 (dk_at dksX7_dates_1 0 rfl rfl)
theorem dX7_dates_25 : decode cX7_dates 25 = .ok (.i2l, 1) := dk_133 (dk_at dksX7_dates_1 1 rfl rfl)
theorem dX7_dates_26 : decode cX7_dates 26 = .ok (.lconst 0, 1) := dk_9 (dk_at dksX7_dates_1 2 rfl rfl)
theorem dX7_dates_27 : decode cX7_dates 27 = .ok (.ldc2_w 182, 3) := dk_20 0 182 (dk_at dksX7_dates_1 3 rfl rfl)
theorem dX7_dates_30 : decode cX7_dates 30 = .ok (.invokestatic 143, 3) := dk_184 0 143 (dk_at dksX7_dates_1 6 rfl rfl)
theorem dX7_dates_33 : decode cX7_dates 33 = .ok (.ifCond .eq 23, 3) := dk_153 0 23 (dk_at dksX7_dates_1 9 rfl rfl)
theorem dX7_dates_36 : decode cX7_dates 36 = .ok (.iload 4, 2) := dk_21 4 (dk_at dksX7_dates_1 12 rfl rfl)
theorem dX7_dates_38 : decode cX7_dates 38 = .ok (.i2l, 1) := dk_133 (dk_at dksX7_dates_1 14 rfl rfl)
theorem dX7_dates_39 : decode cX7_dates 39 = .ok (.lconst 0, 1) := dk_9 (dk_at dksX7_dates_1 15 rfl rfl)
theorem dX7_dates_40 : decode cX7_dates 40 = .ok (.ldc2_w 182, 3) := dk_20 0 182 (dk_at dksX7_dates_1 16 rfl rfl)
theorem dX7_dates_43 : decode cX7_dates 43 = .ok (.invokestatic 143, 3) := dk_184 0 143 (dk_at dksX7_dates_1 19 rfl rfl)
theorem dX7_dates_46 : decode cX7_dates 46 = .ok (.ifCond .eq 10, 3) := dk_153 0 10 (dk_at dksX7_dates_2 0 rfl rfl)
theorem dX7_dates_49 : decode cX7_dates 49 = .ok (.aload_n 0, 1) := dk_42 (dk_at dksX7_dates_2 3 rfl rfl)
theorem dX7_dates_50 : decode cX7_dates 50 = .ok (.invokevirtual 377, 3) := dk_182 1 121 (dk_at dksX7_dates_2 4 rfl rfl)
theorem dX7_dates_53 : decode cX7_dates 53 = .ok (.ifCond .ne 6, 3) := dk_154 0 6 (dk_at dksX7_dates_2 7 rfl rfl)
theorem dX7_dates_56 : decode cX7_dates 56 = .ok (.bipush (-2), 2) := dk_16 254 (dk_at dksX7_dates_2 10 rfl rfl)
theorem dX7_dates_58 : decode cX7_dates 58 = .ok (.ireturn, 1) := dk_172 (dk_at dksX7_dates_2 12 rfl rfl)
theorem dX7_dates_59 : decode cX7_dates 59 = .ok (.iconst 0, 1) := dk_3 (dk_at dksX7_dates_2 13 rfl rfl)
theorem dX7_dates_60 : decode cX7_dates 60 = .ok (.istore 5, 2) := dk_54 5 (dk_at dksX7_dates_2 14 rfl rfl)
theorem dX7_dates_62 : decode cX7_dates 62 = .ok (.iconst (-1), 1) := dk_2 (dk_at dksX7_dates_2 16 rfl rfl)
theorem dX7_dates_63 : decode cX7_dates 63 = .ok (.istore 6, 2) := dk_54 6 (dk_at dksX7_dates_2 17 rfl rfl)
theorem dX7_dates_65 : decode cX7_dates 65 = .ok (.iconst (-1), 1) := dk_2 (dk_at dksX7_dates_2 19 rfl rfl)
theorem dX7_dates_66 : decode cX7_dates 66 = .ok (.istore 7, 2) := dk_54 7 (dk_at dksX7_dates_2 20 rfl rfl)
theorem dX7_dates_68 : decode cX7_dates 68 = .ok (.iconst 0, 1) := dk_3 (dk_at dksX7_dates_2 22 rfl rfl)
theorem dX7_dates_69 : decode cX7_dates 69 = .ok (.istore 8, 2) := dk_54 8 (dk_at dksX7_dates_3 0 rfl rfl)
theorem dX7_dates_71 : decode cX7_dates 71 = .ok (.iload 8, 2) := dk_21 8 (dk_at dksX7_dates_3 2 rfl rfl)
theorem dX7_dates_73 : decode cX7_dates 73 = .ok (.bipush 32, 2) := dk_16 32 (dk_at dksX7_dates_3 4 rfl rfl)
theorem dX7_dates_75 : decode cX7_dates 75 = .ok (.if_icmp .ge 107, 3) := dk_162 0 107 (dk_at dksX7_dates_3 6 rfl rfl)
theorem dX7_dates_78 : decode cX7_dates 78 = .ok (.aload_n 0, 1) := dk_42 (dk_at dksX7_dates_3 9 rfl rfl)
theorem dX7_dates_79 : decode cX7_dates 79 = .ok (.getfield 13, 3) := dk_180 0 13 (dk_at dksX7_dates_3 10 rfl rfl)
theorem dX7_dates_82 : decode cX7_dates 82 = .ok (.bipush 10, 2) := dk_16 10 (dk_at dksX7_dates_3 13 rfl rfl)
theorem dX7_dates_84 : decode cX7_dates 84 = .ok (.iload 8, 2) := dk_21 8 (dk_at dksX7_dates_3 15 rfl rfl)
theorem dX7_dates_86 : decode cX7_dates 86 = .ok (.iadd, 1) := dk_96 (dk_at dksX7_dates_3 17 rfl rfl)
theorem dX7_dates_87 : decode cX7_dates 87 = .ok (.iaload, 1) := dk_46 (dk_at dksX7_dates_3 18 rfl rfl)
theorem dX7_dates_88 : decode cX7_dates 88 = .ok (.iconst (-1), 1) := dk_2 (dk_at dksX7_dates_3 19 rfl rfl)
theorem dX7_dates_89 : decode cX7_dates 89 = .ok (.if_icmp .eq 87, 3) := dk_159 0 87 (dk_at dksX7_dates_3 20 rfl rfl)
theorem dX7_dates_92 : decode cX7_dates 92 = .ok (.aload_n 0, 1) := dk_42 (dk_at dksX7_dates_3 23 rfl rfl)
theorem dX7_dates_93 : decode cX7_dates 93 = .ok (.getfield 13, 3) := dk_180 0 13 (dk_at dksX7_dates_4 0 rfl rfl)
theorem dX7_dates_96 : decode cX7_dates 96 = .ok (.bipush 42, 2) := dk_16 42 (dk_at dksX7_dates_4 3 rfl rfl)
theorem dX7_dates_98 : decode cX7_dates 98 = .ok (.iload_n 1, 1) := dk_27 (dk_at dksX7_dates_4 5 rfl rfl)
theorem dX7_dates_99 : decode cX7_dates 99 = .ok (.iadd, 1) := dk_96 (dk_at dksX7_dates_4 6 rfl rfl)
theorem dX7_dates_100 : decode cX7_dates 100 = .ok (.iaload, 1) := dk_46 (dk_at dksX7_dates_4 7 rfl rfl)
theorem dX7_dates_101 : decode cX7_dates 101 = .ok (.iconst (-1), 1) := dk_2 (dk_at dksX7_dates_4 8 rfl rfl)
theorem dX7_dates_102 : decode cX7_dates 102 = .ok (.if_icmp .eq 24, 3) := dk_159 0 24 (dk_at dksX7_dates_4 9 rfl rfl)
theorem dX7_dates_105 : decode cX7_dates 105 = .ok (.iload 8, 2) := dk_21 8 (dk_at dksX7_dates_4 12 rfl rfl)
theorem dX7_dates_107 : decode cX7_dates 107 = .ok (.aload_n 0, 1) := dk_42 (dk_at dksX7_dates_4 14 rfl rfl)
theorem dX7_dates_108 : decode cX7_dates 108 = .ok (.getfield 13, 3) := dk_180 0 13 (dk_at dksX7_dates_4 15 rfl rfl)
theorem dX7_dates_111 : decode cX7_dates 111 = .ok (.bipush 42, 2) := dk_16 42 (dk_at dksX7_dates_4 18 rfl rfl)
theorem dX7_dates_113 : decode cX7_dates 113 = .ok (.iload_n 1, 1) := dk_27 (dk_at dksX7_dates_4 20 rfl rfl)
theorem dX7_dates_114 : decode cX7_dates 114 = .ok (.iadd, 1) := dk_96 (dk_at dksX7_dates_4 21 rfl rfl)
theorem dX7_dates_115 : decode cX7_dates 115 = .ok (.iaload, 1) := dk_46 (dk_at dksX7_dates_4 22 rfl rfl)
theorem dX7_dates_116 : decode cX7_dates 116 = .ok (.if_icmp .lt 10, 3) := dk_161 0 10 (dk_at dksX7_dates_5 0 rfl rfl)
theorem dX7_dates_119 : decode cX7_dates 119 = .ok (.bipush 6, 2) := dk_16 6 (dk_at dksX7_dates_5 3 rfl rfl)
theorem dX7_dates_121 : decode cX7_dates 121 = .ok (.iload_n 1, 1) := dk_27 (dk_at dksX7_dates_5 5 rfl rfl)
theorem dX7_dates_122 : decode cX7_dates 122 = .ok (.iadd, 1) := dk_96 (dk_at dksX7_dates_5 6 rfl rfl)
theorem dX7_dates_123 : decode cX7_dates 123 = .ok (.goto 4, 3) := dk_167 0 4 (dk_at dksX7_dates_5 7 rfl rfl)
theorem dX7_dates_126 : decode cX7_dates 126 = .ok (.iload_n 1, 1) := dk_27 (dk_at dksX7_dates_5 10 rfl rfl)
theorem dX7_dates_127 : decode cX7_dates 127 = .ok (.istore 9, 2) := dk_54 9 (dk_at dksX7_dates_5 11 rfl rfl)
theorem dX7_dates_129 : decode cX7_dates 129 = .ok (.aload_n 0, 1) := dk_42 (dk_at dksX7_dates_5 13 rfl rfl)
theorem dX7_dates_130 : decode cX7_dates 130 = .ok (.iload 9, 2) := dk_21 9 (dk_at dksX7_dates_5 14 rfl rfl)
theorem dX7_dates_132 : decode cX7_dates 132 = .ok (.aload_n 0, 1) := dk_42 (dk_at dksX7_dates_5 16 rfl rfl)
theorem dX7_dates_133 : decode cX7_dates 133 = .ok (.getfield 13, 3) := dk_180 0 13 (dk_at dksX7_dates_5 17 rfl rfl)
theorem dX7_dates_136 : decode cX7_dates 136 = .ok (.bipush 10, 2) := dk_16 10 (dk_at dksX7_dates_5 20 rfl rfl)
theorem dX7_dates_138 : decode cX7_dates 138 = .ok (.iload 8, 2) := dk_21 8 (dk_at dksX7_dates_5 22 rfl rfl)
theorem dX7_dates_140 : decode cX7_dates 140 = .ok (.iadd, 1) := dk_96 (dk_at dksX7_dates_6 0 rfl rfl)
theorem dX7_dates_141 : decode cX7_dates 141 = .ok (.iaload, 1) := dk_46 (dk_at dksX7_dates_6 1 rfl rfl)
theorem dX7_dates_142 : decode cX7_dates 142 = .ok (.invokevirtual 428, 3) := dk_182 1 172 (dk_at dksX7_dates_6 2 rfl rfl)
theorem dX7_dates_145 : decode cX7_dates 145 = .ok (.aload_n 0, 1) := dk_42 (dk_at dksX7_dates_6 5 rfl rfl)
theorem dX7_dates_146 : decode cX7_dates 146 = .ok (.iload_n 2, 1) := dk_28 (dk_at dksX7_dates_6 6 rfl rfl)
theorem dX7_dates_147 : decode cX7_dates 147 = .ok (.iload_n 3, 1) := dk_29 (dk_at dksX7_dates_6 7 rfl rfl)
theorem dX7_dates_148 : decode cX7_dates 148 = .ok (.invokevirtual 431, 3) := dk_182 1 175 (dk_at dksX7_dates_6 8 rfl rfl)
theorem dX7_dates_151 : decode cX7_dates 151 = .ok (.ifCond .le 25, 3) := dk_158 0 25 (dk_at dksX7_dates_6 11 rfl rfl)
theorem dX7_dates_154 : decode cX7_dates 154 = .ok (.iinc 5 1, 3) := dk_132 5 1 (dk_at dksX7_dates_6 14 rfl rfl)
theorem dX7_dates_157 : decode cX7_dates 157 = .ok (.iload 6, 2) := dk_21 6 (dk_at dksX7_dates_6 17 rfl rfl)
theorem dX7_dates_159 : decode cX7_dates 159 = .ok (.iconst (-1), 1) := dk_2 (dk_at dksX7_dates_6 19 rfl rfl)
theorem dX7_dates_160 : decode cX7_dates 160 = .ok (.if_icmp .ne 8, 3) := dk_160 0 8 (dk_at dksX7_dates_6 20 rfl rfl)
theorem dX7_dates_163 : decode cX7_dates 163 = .ok (.iload 8, 2) := dk_21 8 (dk_at dksX7_dates_7 0 rfl rfl)
theorem dX7_dates_165 : decode cX7_dates 165 = .ok (.goto 5, 3) := dk_167 0 5 (dk_at dksX7_dates_7 2 rfl rfl)
theorem dX7_dates_168 : decode cX7_dates 168 = .ok (.iload 6, 2) := dk_21 6 (dk_at dksX7_dates_7 5 rfl rfl)
theorem dX7_dates_170 : decode cX7_dates 170 = .ok (.istore 6, 2) := dk_54 6 (dk_at dksX7_dates_7 7 rfl rfl)
theorem dX7_dates_172 : decode cX7_dates 172 = .ok (.iload 8, 2) := dk_21 8 (dk_at dksX7_dates_7 9 rfl rfl)
theorem dX7_dates_174 : decode cX7_dates 174 = .ok (.istore 7, 2) := dk_54 7 (dk_at dksX7_dates_7 11 rfl rfl)
theorem dX7_dates_176 : decode cX7_dates 176 = .ok (.iinc 8 1, 3) := dk_132 8 1 (dk_at dksX7_dates_7 13 rfl rfl)
theorem dX7_dates_179 : decode cX7_dates 179 = .ok (.goto (-108), 3) := dk_167 255 148 (dk_at dksX7_dates_7 16 rfl rfl)
theorem dX7_dates_182 : decode cX7_dates 182 = .ok (.iload 4, 2) := dk_21 4 (dk_at dksX7_dates_7 19 rfl rfl)
theorem dX7_dates_184 : decode cX7_dates 184 = .ok (.ifCond .ne 8, 3) := dk_154 0 8 (dk_at dksX7_dates_7 21 rfl rfl)
theorem dX7_dates_187 : decode cX7_dates 187 = .ok (.iload 5, 2) := dk_21 5 (dk_at dksX7_dates_8 0 rfl rfl)
theorem dX7_dates_189 : decode cX7_dates 189 = .ok (.goto 16, 3) := dk_167 0 16 (dk_at dksX7_dates_8 2 rfl rfl)
theorem dX7_dates_192 : decode cX7_dates 192 = .ok (.iload 4, 2) := dk_21 4 (dk_at dksX7_dates_8 5 rfl rfl)
theorem dX7_dates_194 : decode cX7_dates 194 = .ok (.iconst 1, 1) := dk_4 (dk_at dksX7_dates_8 7 rfl rfl)
theorem dX7_dates_195 : decode cX7_dates 195 = .ok (.if_icmp .ne 8, 3) := dk_160 0 8 (dk_at dksX7_dates_8 8 rfl rfl)
theorem dX7_dates_198 : decode cX7_dates 198 = .ok (.iload 6, 2) := dk_21 6 (dk_at dksX7_dates_8 11 rfl rfl)
theorem dX7_dates_200 : decode cX7_dates 200 = .ok (.goto 5, 3) := dk_167 0 5 (dk_at dksX7_dates_8 13 rfl rfl)
theorem dX7_dates_203 : decode cX7_dates 203 = .ok (.iload 7, 2) := dk_21 7 (dk_at dksX7_dates_8 16 rfl rfl)
theorem dX7_dates_205 : decode cX7_dates 205 = .ok (.ireturn, 1) := dk_172 (dk_at dksX7_dates_8 18 rfl rfl)
abbrev cX7_part : ByteArray := prog_16_method_83_code
def yX7_part : MethodName := ⟨RX7, "part", "(III)J"⟩
def dkwX7_part_7 : List UInt8 := [109, 167, 0, 8, 22, 6, 22, 8, 109, 173]
abbrev dktX7_part_7 : List UInt8 := dkwX7_part_7 ++ []
def dkwX7_part_6 : List UInt8 := [22, 6, 22, 8, 109, 22, 10, 22, 14, 109, 148, 153, 0, 5, 9, 173, 29, 154, 0, 11, 22, 4, 22, 8]
abbrev dktX7_part_6 : List UInt8 := dkwX7_part_6 ++ dktX7_part_7
def dkwX7_part_5 : List UInt8 := [22, 10, 22, 12, 184, 1, 187, 55, 14, 22, 4, 22, 8, 109, 22, 12, 22, 14, 109, 148, 154, 0, 17]
abbrev dktX7_part_5 : List UInt8 := dkwX7_part_5 ++ dktX7_part_6
def dkwX7_part_4 : List UInt8 := [180, 0, 61, 8, 28, 104, 184, 1, 183, 55, 10, 42, 180, 0, 64, 8, 28, 104, 184, 1, 183, 55, 12]
abbrev dktX7_part_4 : List UInt8 := dkwX7_part_4 ++ dktX7_part_5
def dkwX7_part_3 : List UInt8 := [184, 1, 187, 55, 8, 42, 27, 182, 1, 141, 42, 180, 0, 70, 28, 51, 154, 0, 5, 9, 173, 42]
abbrev dktX7_part_3 : List UInt8 := dkwX7_part_3 ++ dktX7_part_4
def dkwX7_part_2 : List UInt8 := [8, 27, 104, 184, 1, 183, 55, 4, 42, 180, 0, 64, 8, 27, 104, 184, 1, 183, 55, 6, 22, 4, 22, 6]
abbrev dktX7_part_2 : List UInt8 := dkwX7_part_2 ++ dktX7_part_3
def dkwX7_part_1 : List UInt8 := [20, 1, 181, 173, 42, 28, 182, 1, 141, 42, 180, 0, 70, 27, 51, 154, 0, 5, 9, 173, 42, 180, 0, 61]
abbrev dktX7_part_1 : List UInt8 := dkwX7_part_1 ++ dktX7_part_2
def dkwX7_part_0 : List UInt8 := [42, 3, 181, 0, 133, 29, 133, 9, 10, 184, 0, 143, 153, 0, 12, 42, 27, 28, 182, 1, 138, 154, 0, 7]
abbrev dktX7_part_0 : List UInt8 := dkwX7_part_0 ++ dktX7_part_1
theorem dksX7_part_0 : cX7_part.data.toList.drop 0 = dktX7_part_0 := by decide +kernel
theorem dksX7_part_1 : cX7_part.data.toList.drop 24 = dktX7_part_1 := dk_seg dksX7_part_0 24 rfl rfl
theorem dksX7_part_2 : cX7_part.data.toList.drop 48 = dktX7_part_2 := dk_seg dksX7_part_1 24 rfl rfl
theorem dksX7_part_3 : cX7_part.data.toList.drop 72 = dktX7_part_3 := dk_seg dksX7_part_2 24 rfl rfl
theorem dksX7_part_4 : cX7_part.data.toList.drop 94 = dktX7_part_4 := dk_seg dksX7_part_3 22 rfl rfl
theorem dksX7_part_5 : cX7_part.data.toList.drop 117 = dktX7_part_5 := dk_seg dksX7_part_4 23 rfl rfl
theorem dksX7_part_6 : cX7_part.data.toList.drop 140 = dktX7_part_6 := dk_seg dksX7_part_5 23 rfl rfl
theorem dksX7_part_7 : cX7_part.data.toList.drop 164 = dktX7_part_7 := dk_seg dksX7_part_6 24 rfl rfl
theorem dX7_part_0 : decode cX7_part 0 = .ok (.aload_n 0, 1) := dk_42 (dk_at dksX7_part_0 0 rfl rfl)
theorem dX7_part_1 : decode cX7_part 1 = .ok (.iconst 0, 1) := dk_3 (dk_at dksX7_part_0 1 rfl rfl)
theorem dX7_part_2 : decode cX7_part 2 = .ok (.putfield 133, 3) := dk_181 0 133 (dk_at dksX7_part_0 2 rfl rfl)
theorem dX7_part_5 : decode cX7_part 5 = .ok (.iload_n 3, 1) := dk_29 (dk_at dksX7_part_0 5 rfl rfl)
theorem dX7_part_6 : decode cX7_part 6 = .ok (.i2l, 1) := dk_133 (dk_at dksX7_part_0 6 rfl rfl)
theorem dX7_part_7 : decode cX7_part 7 = .ok (.lconst 0, 1) := dk_9 (dk_at dksX7_part_0 7 rfl rfl)
theorem dX7_part_8 : decode cX7_part 8 = .ok (.lconst 1, 1) := dk_10 (dk_at dksX7_part_0 8 rfl rfl)
theorem dX7_part_9 : decode cX7_part 9 = .ok (.invokestatic 143, 3) := dk_184 0 143 (dk_at dksX7_part_0 9 rfl rfl)
theorem dX7_part_12 : decode cX7_part 12 = .ok (.ifCond .eq 12, 3) := dk_153 0 12 (dk_at dksX7_part_0 12 rfl rfl)
theorem dX7_part_15 : decode cX7_part 15 = .ok (.aload_n 0, 1) := dk_42 (dk_at dksX7_part_0 15 rfl rfl)
theorem dX7_part_16 : decode cX7_part 16 = .ok (.iload_n 1, 1) := dk_27 (dk_at dksX7_part_0 16 rfl rfl)
theorem dX7_part_17 : decode cX7_part 17 = .ok (.iload_n 2, 1) := dk_28 (dk_at dksX7_part_0 17 rfl rfl)
theorem dX7_part_18 : decode cX7_part 18 = .ok (.invokevirtual 394, 3) := dk_182 1 138 (dk_at dksX7_part_0 18 rfl rfl)
theorem dX7_part_21 : decode cX7_part 21 = .ok (.ifCond .ne 7, 3) := dk_154 0 7 (dk_at dksX7_part_0 21 rfl rfl)
theorem dX7_part_24 : decode cX7_part 24 = .ok (.ldc2_w 437, 3) := dk_20 1 181 (dk_at dksX7_part_1 0 rfl rfl)
theorem dX7_part_27 : decode cX7_part 27 = .ok (.lreturn, 1) := dk_173 (dk_at dksX7_part_1 3 rfl rfl)
theorem dX7_part_28 : decode cX7_part 28 = .ok (.aload_n 0, 1) := dk_42 (dk_at dksX7_part_1 4 rfl rfl)
theorem dX7_part_29 : decode cX7_part 29 = .ok (.iload_n 2, 1) := dk_28 (dk_at dksX7_part_1 5 rfl rfl)
theorem dX7_part_30 : decode cX7_part 30 = .ok (.invokevirtual 397, 3) := dk_182 1 141 (dk_at dksX7_part_1 6 rfl rfl)
theorem dX7_part_33 : decode cX7_part 33 = .ok (.aload_n 0, 1) := dk_42 (dk_at dksX7_part_1 9 rfl rfl)
theorem dX7_part_34 : decode cX7_part 34 = .ok (.getfield 70, 3) := dk_180 0 70 (dk_at dksX7_part_1 10 rfl rfl)
theorem dX7_part_37 : decode cX7_part 37 = .ok (.iload_n 1, 1) := dk_27 (dk_at dksX7_part_1 13 rfl rfl)
theorem dX7_part_38 : decode cX7_part 38 = .ok (.baload, 1) := dk_51 (dk_at dksX7_part_1 14 rfl rfl)
theorem dX7_part_39 : decode cX7_part 39 = .ok (.ifCond .ne 5, 3) := dk_154 0 5 (dk_at dksX7_part_1 15 rfl rfl)
theorem dX7_part_42 : decode cX7_part 42 = .ok (.lconst 0, 1) := dk_9 (dk_at dksX7_part_1 18 rfl rfl)
theorem dX7_part_43 : decode cX7_part 43 = .ok (.lreturn, 1) := dk_173 (dk_at dksX7_part_1 19 rfl rfl)
theorem dX7_part_44 : decode cX7_part 44 = .ok (.aload_n 0, 1) := dk_42 (dk_at dksX7_part_1 20 rfl rfl)
theorem dX7_part_45 : decode cX7_part 45 = .ok (.getfield 61, 3) := dk_180 0 61 (dk_at dksX7_part_1 21 rfl rfl)
theorem dX7_part_48 : decode cX7_part 48 = .ok (.iconst 5, 1) := dk_8 (dk_at dksX7_part_2 0 rfl rfl)
theorem dX7_part_49 : decode cX7_part 49 = .ok (.iload_n 1, 1) := dk_27 (dk_at dksX7_part_2 1 rfl rfl)
theorem dX7_part_50 : decode cX7_part 50 = .ok (.imul, 1) := dk_104 (dk_at dksX7_part_2 2 rfl rfl)
theorem dX7_part_51 : decode cX7_part 51 = .ok (.invokestatic 439, 3) := dk_184 1 183 (dk_at dksX7_part_2 3 rfl rfl)
theorem dX7_part_54 : decode cX7_part 54 = .ok (.lstore 4, 2) := dk_55 4 (dk_at dksX7_part_2 6 rfl rfl)
theorem dX7_part_56 : decode cX7_part 56 = .ok (.aload_n 0, 1) := dk_42 (dk_at dksX7_part_2 8 rfl rfl)
theorem dX7_part_57 : decode cX7_part 57 = .ok (.getfield 64, 3) := dk_180 0 64 (dk_at dksX7_part_2 9 rfl rfl)
theorem dX7_part_60 : decode cX7_part 60 = .ok (.iconst 5, 1) := dk_8 (dk_at dksX7_part_2 12 rfl rfl)
theorem dX7_part_61 : decode cX7_part 61 = .ok (.iload_n 1, 1) := dk_27 (dk_at dksX7_part_2 13 rfl rfl)
theorem dX7_part_62 : decode cX7_part 62 = .ok (.imul, 1) := dk_104 (dk_at dksX7_part_2 14 rfl rfl)
theorem dX7_part_63 : decode cX7_part 63 = .ok (.invokestatic 439, 3) := dk_184 1 183 (dk_at dksX7_part_2 15 rfl rfl)
theorem dX7_part_66 : decode cX7_part 66 = .ok (.lstore 6, 2) := dk_55 6 (dk_at dksX7_part_2 18 rfl rfl)
theorem dX7_part_68 : decode cX7_part 68 = .ok (.lload 4, 2) := dk_22 4 (dk_at dksX7_part_2 20 rfl rfl)
theorem dX7_part_70 : decode cX7_part 70 = .ok (.lload 6, 2) := dk_22 6 (dk_at dksX7_part_2 22 rfl rfl)
theorem dX7_part_72 : decode cX7_part 72 = .ok (.invokestatic 443, 3) := dk_184 1 187 (dk_at dksX7_part_3 0 rfl rfl)
theorem dX7_part_75 : decode cX7_part 75 = .ok (.lstore 8, 2) := dk_55 8 (dk_at dksX7_part_3 3 rfl rfl)
theorem dX7_part_77 : decode cX7_part 77 = .ok (.aload_n 0, 1) := dk_42 (dk_at dksX7_part_3 5 rfl rfl)
theorem dX7_part_78 : decode cX7_part 78 = .ok (.iload_n 1, 1) := dk_27 (dk_at dksX7_part_3 6 rfl rfl)
theorem dX7_part_79 : decode cX7_part 79 = .ok (.invokevirtual 397, 3) := dk_182 1 141 (dk_at dksX7_part_3 7 rfl rfl)
theorem dX7_part_82 : decode cX7_part 82 = .ok (.aload_n 0, 1) := dk_42 (dk_at dksX7_part_3 10 rfl rfl)
theorem dX7_part_83 : decode cX7_part 83 = .ok (.getfield 70, 3) := dk_180 0 70 (dk_at dksX7_part_3 11 rfl rfl)
theorem dX7_part_86 : decode cX7_part 86 = .ok (.iload_n 2, 1) := dk_28 (dk_at dksX7_part_3 14 rfl rfl)
theorem dX7_part_87 : decode cX7_part 87 = .ok (.baload, 1) := dk_51 (dk_at dksX7_part_3 15 rfl rfl)
theorem dX7_part_88 : decode cX7_part 88 = .ok (.ifCond .ne 5, 3) := dk_154 0 5 (dk_at dksX7_part_3 16 rfl rfl)
theorem dX7_part_91 : decode cX7_part 91 = .ok (.lconst 0, 1) := dk_9 (dk_at dksX7_part_3 19 rfl rfl)
theorem dX7_part_92 : decode cX7_part 92 = .ok (.lreturn, 1) := dk_173 (dk_at dksX7_part_3 20 rfl rfl)
theorem dX7_part_93 : decode cX7_part 93 = .ok (.aload_n 0, 1) := dk_42 (dk_at dksX7_part_3 21 rfl rfl)
theorem dX7_part_94 : decode cX7_part 94 = .ok (.getfield 61, 3) := dk_180 0 61 (dk_at dksX7_part_4 0 rfl rfl)
theorem dX7_part_97 : decode cX7_part 97 = .ok (.iconst 5, 1) := dk_8 (dk_at dksX7_part_4 3 rfl rfl)
theorem dX7_part_98 : decode cX7_part 98 = .ok (.iload_n 2, 1) := dk_28 (dk_at dksX7_part_4 4 rfl rfl)
theorem dX7_part_99 : decode cX7_part 99 = .ok (.imul, 1) := dk_104 (dk_at dksX7_part_4 5 rfl rfl)
theorem dX7_part_100 : decode cX7_part 100 = .ok (.invokestatic 439, 3) := dk_184 1 183 (dk_at dksX7_part_4 6 rfl rfl)
theorem dX7_part_103 : decode cX7_part 103 = .ok (.lstore 10, 2) := dk_55 10 (dk_at dksX7_part_4 9 rfl rfl)
theorem dX7_part_105 : decode cX7_part 105 = .ok (.aload_n 0, 1) := dk_42 (dk_at dksX7_part_4 11 rfl rfl)
theorem dX7_part_106 : decode cX7_part 106 = .ok (.getfield 64, 3) := dk_180 0 64 (dk_at dksX7_part_4 12 rfl rfl)
theorem dX7_part_109 : decode cX7_part 109 = .ok (.iconst 5, 1) := dk_8 (dk_at dksX7_part_4 15 rfl rfl)
theorem dX7_part_110 : decode cX7_part 110 = .ok (.iload_n 2, 1) := dk_28 (dk_at dksX7_part_4 16 rfl rfl)
theorem dX7_part_111 : decode cX7_part 111 = .ok (.imul, 1) := dk_104 (dk_at dksX7_part_4 17 rfl rfl)
theorem dX7_part_112 : decode cX7_part 112 = .ok (.invokestatic 439, 3) := dk_184 1 183 (dk_at dksX7_part_4 18 rfl rfl)
theorem dX7_part_115 : decode cX7_part 115 = .ok (.lstore 12, 2) := dk_55 12 (dk_at dksX7_part_4 21 rfl rfl)
theorem dX7_part_117 : decode cX7_part 117 = .ok (.lload 10, 2) := dk_22 10 (dk_at dksX7_part_5 0 rfl rfl)
theorem dX7_part_119 : decode cX7_part 119 = .ok (.lload 12, 2) := dk_22 12 (dk_at dksX7_part_5 2 rfl rfl)
theorem dX7_part_121 : decode cX7_part 121 = .ok (.invokestatic 443, 3) := dk_184 1 187 (dk_at dksX7_part_5 4 rfl rfl)
theorem dX7_part_124 : decode cX7_part 124 = .ok (.lstore 14, 2) := dk_55 14 (dk_at dksX7_part_5 7 rfl rfl)
theorem dX7_part_126 : decode cX7_part 126 = .ok (.lload 4, 2) := dk_22 4 (dk_at dksX7_part_5 9 rfl rfl)
theorem dX7_part_128 : decode cX7_part 128 = .ok (.lload 8, 2) := dk_22 8 (dk_at dksX7_part_5 11 rfl rfl)
theorem dX7_part_130 : decode cX7_part 130 = .ok (.ldiv, 1) := dk_109 (dk_at dksX7_part_5 13 rfl rfl)
theorem dX7_part_131 : decode cX7_part 131 = .ok (.lload 12, 2) := dk_22 12 (dk_at dksX7_part_5 14 rfl rfl)
theorem dX7_part_133 : decode cX7_part 133 = .ok (.lload 14, 2) := dk_22 14 (dk_at dksX7_part_5 16 rfl rfl)
theorem dX7_part_135 : decode cX7_part 135 = .ok (.ldiv, 1) := dk_109 (dk_at dksX7_part_5 18 rfl rfl)
theorem dX7_part_136 : decode cX7_part 136 = .ok (.lcmp, 1) := dk_148 (dk_at dksX7_part_5 19 rfl rfl)
theorem dX7_part_137 : decode cX7_part 137 = .ok (.ifCond .ne 17, 3) := dk_154 0 17 (dk_at dksX7_part_5 20 rfl rfl)
theorem dX7_part_140 : decode cX7_part 140 = .ok (.lload 6, 2) := dk_22 6 (dk_at dksX7_part_6 0 rfl rfl)
theorem dX7_part_142 : decode cX7_part 142 = .ok (.lload 8, 2) := dk_22 8 (dk_at dksX7_part_6 2 rfl rfl)
theorem dX7_part_144 : decode cX7_part 144 = .ok (.ldiv, 1) := dk_109 (dk_at dksX7_part_6 4 rfl rfl)
theorem dX7_part_145 : decode cX7_part 145 = .ok (.lload 10, 2) := dk_22 10 (dk_at dksX7_part_6 5 rfl rfl)
theorem dX7_part_147 : decode cX7_part 147 = .ok (.lload 14, 2) := dk_22 14 (dk_at dksX7_part_6 7 rfl rfl)
theorem dX7_part_149 : decode cX7_part 149 = .ok (.ldiv, 1) := dk_109 (dk_at dksX7_part_6 9 rfl rfl)
theorem dX7_part_150 : decode cX7_part 150 = .ok (.lcmp, 1) := dk_148 (dk_at dksX7_part_6 10 rfl rfl)
theorem dX7_part_151 : decode cX7_part 151 = .ok (.ifCond .eq 5, 3) := dk_153 0 5 (dk_at dksX7_part_6 11 rfl rfl)
theorem dX7_part_154 : decode cX7_part 154 = .ok (.lconst 0, 1) := dk_9 (dk_at dksX7_part_6 14 rfl rfl)
theorem dX7_part_155 : decode cX7_part 155 = .ok (.lreturn, 1) := dk_173 (dk_at dksX7_part_6 15 rfl rfl)
theorem dX7_part_156 : decode cX7_part 156 = .ok (.iload_n 3, 1) := dk_29 (dk_at dksX7_part_6 16 rfl rfl)
theorem dX7_part_157 : decode cX7_part 157 = .ok (.ifCond .ne 11, 3) := dk_154 0 11 (dk_at dksX7_part_6 17 rfl rfl)
theorem dX7_part_160 : decode cX7_part 160 = .ok (.lload 4, 2) := dk_22 4 (dk_at dksX7_part_6 20 rfl rfl)
theorem dX7_part_162 : decode cX7_part 162 = .ok (.lload 8, 2) := dk_22 8 (dk_at dksX7_part_6 22 rfl rfl)
theorem dX7_part_164 : decode cX7_part 164 = .ok (.ldiv, 1) := dk_109 (dk_at dksX7_part_7 0 rfl rfl)
theorem dX7_part_165 : decode cX7_part 165 = .ok (.goto 8, 3) := dk_167 0 8 (dk_at dksX7_part_7 1 rfl rfl)
theorem dX7_part_168 : decode cX7_part 168 = .ok (.lload 6, 2) := dk_22 6 (dk_at dksX7_part_7 4 rfl rfl)
theorem dX7_part_170 : decode cX7_part 170 = .ok (.lload 8, 2) := dk_22 8 (dk_at dksX7_part_7 6 rfl rfl)
theorem dX7_part_172 : decode cX7_part 172 = .ok (.ldiv, 1) := dk_109 (dk_at dksX7_part_7 8 rfl rfl)
theorem dX7_part_173 : decode cX7_part 173 = .ok (.lreturn, 1) := dk_173 (dk_at dksX7_part_7 9 rfl rfl)
abbrev cX7_whole : ByteArray := prog_16_method_81_code
def yX7_whole : MethodName := ⟨RX7, "whole", "([JI)J"⟩
def dkwX7_whole_0 : List UInt8 := [42, 27, 47, 20, 1, 71, 42, 27, 4, 96, 47, 20, 1, 71, 42, 27, 5, 96, 47, 105, 97, 105, 97, 173]
abbrev dktX7_whole_0 : List UInt8 := dkwX7_whole_0 ++ []
theorem dksX7_whole_0 : cX7_whole.data.toList.drop 0 = dktX7_whole_0 := by decide +kernel
theorem dX7_whole_0 : decode cX7_whole 0 = .ok (.aload_n 0, 1) := dk_42 (dk_at dksX7_whole_0 0 rfl rfl)
theorem dX7_whole_1 : decode cX7_whole 1 = .ok (.iload_n 1, 1) := dk_27 (dk_at dksX7_whole_0 1 rfl rfl)
theorem dX7_whole_2 : decode cX7_whole 2 = .ok (.laload, 1) := dk_47 (dk_at dksX7_whole_0 2 rfl rfl)
theorem dX7_whole_3 : decode cX7_whole 3 = .ok (.ldc2_w 327, 3) := dk_20 1 71 (dk_at dksX7_whole_0 3 rfl rfl)
theorem dX7_whole_6 : decode cX7_whole 6 = .ok (.aload_n 0, 1) := dk_42 (dk_at dksX7_whole_0 6 rfl rfl)
theorem dX7_whole_7 : decode cX7_whole 7 = .ok (.iload_n 1, 1) := dk_27 (dk_at dksX7_whole_0 7 rfl rfl)
theorem dX7_whole_8 : decode cX7_whole 8 = .ok (.iconst 1, 1) := dk_4 (dk_at dksX7_whole_0 8 rfl rfl)
theorem dX7_whole_9 : decode cX7_whole 9 = .ok (.iadd, 1) := dk_96 (dk_at dksX7_whole_0 9 rfl rfl)
theorem dX7_whole_10 : decode cX7_whole 10 = .ok (.laload, 1) := dk_47 (dk_at dksX7_whole_0 10 rfl rfl)
theorem dX7_whole_11 : decode cX7_whole 11 = .ok (.ldc2_w 327, 3) := dk_20 1 71 (dk_at dksX7_whole_0 11 rfl rfl)
theorem dX7_whole_14 : decode cX7_whole 14 = .ok (.aload_n 0, 1) := dk_42 (dk_at dksX7_whole_0 14 rfl rfl)
theorem dX7_whole_15 : decode cX7_whole 15 = .ok (.iload_n 1, 1) := dk_27 (dk_at dksX7_whole_0 15 rfl rfl)
theorem dX7_whole_16 : decode cX7_whole 16 = .ok (.iconst 2, 1) := dk_5 (dk_at dksX7_whole_0 16 rfl rfl)
theorem dX7_whole_17 : decode cX7_whole 17 = .ok (.iadd, 1) := dk_96 (dk_at dksX7_whole_0 17 rfl rfl)
theorem dX7_whole_18 : decode cX7_whole 18 = .ok (.laload, 1) := dk_47 (dk_at dksX7_whole_0 18 rfl rfl)
theorem dX7_whole_19 : decode cX7_whole 19 = .ok (.lmul, 1) := dk_105 (dk_at dksX7_whole_0 19 rfl rfl)
theorem dX7_whole_20 : decode cX7_whole 20 = .ok (.ladd, 1) := dk_97 (dk_at dksX7_whole_0 20 rfl rfl)
theorem dX7_whole_21 : decode cX7_whole 21 = .ok (.lmul, 1) := dk_105 (dk_at dksX7_whole_0 21 rfl rfl)
theorem dX7_whole_22 : decode cX7_whole 22 = .ok (.ladd, 1) := dk_97 (dk_at dksX7_whole_0 22 rfl rfl)
theorem dX7_whole_23 : decode cX7_whole 23 = .ok (.lreturn, 1) := dk_173 (dk_at dksX7_whole_0 23 rfl rfl)
abbrev cX7_common : ByteArray := prog_16_method_82_code
def yX7_common : MethodName := ⟨RX7, "common", "(JJ)J"⟩
def dkwX7_common_1 : List UInt8 := [22, 8, 55, 6, 167, 255, 234, 22, 4, 173]
abbrev dktX7_common_1 : List UInt8 := dkwX7_common_1 ++ []
def dkwX7_common_0 : List UInt8 := [30, 55, 4, 32, 55, 6, 22, 6, 9, 148, 153, 0, 21, 22, 4, 22, 6, 113, 55, 8, 22, 6, 55, 4]
abbrev dktX7_common_0 : List UInt8 := dkwX7_common_0 ++ dktX7_common_1
theorem dksX7_common_0 : cX7_common.data.toList.drop 0 = dktX7_common_0 := by decide +kernel
theorem dksX7_common_1 : cX7_common.data.toList.drop 24 = dktX7_common_1 := dk_seg dksX7_common_0 24 rfl rfl
theorem dX7_common_0 : decode cX7_common 0 = .ok (.lload_n 0, 1) := dk_30 (dk_at dksX7_common_0 0 rfl rfl)
theorem dX7_common_1 : decode cX7_common 1 = .ok (.lstore 4, 2) := dk_55 4 (dk_at dksX7_common_0 1 rfl rfl)
theorem dX7_common_3 : decode cX7_common 3 = .ok (.lload_n 2, 1) := dk_32 (dk_at dksX7_common_0 3 rfl rfl)
theorem dX7_common_4 : decode cX7_common 4 = .ok (.lstore 6, 2) := dk_55 6 (dk_at dksX7_common_0 4 rfl rfl)
theorem dX7_common_6 : decode cX7_common 6 = .ok (.lload 6, 2) := dk_22 6 (dk_at dksX7_common_0 6 rfl rfl)
theorem dX7_common_8 : decode cX7_common 8 = .ok (.lconst 0, 1) := dk_9 (dk_at dksX7_common_0 8 rfl rfl)
theorem dX7_common_9 : decode cX7_common 9 = .ok (.lcmp, 1) := dk_148 (dk_at dksX7_common_0 9 rfl rfl)
theorem dX7_common_10 : decode cX7_common 10 = .ok (.ifCond .eq 21, 3) := dk_153 0 21 (dk_at dksX7_common_0 10 rfl rfl)
theorem dX7_common_13 : decode cX7_common 13 = .ok (.lload 4, 2) := dk_22 4 (dk_at dksX7_common_0 13 rfl rfl)
theorem dX7_common_15 : decode cX7_common 15 = .ok (.lload 6, 2) := dk_22 6 (dk_at dksX7_common_0 15 rfl rfl)
theorem dX7_common_17 : decode cX7_common 17 = .ok (.lrem, 1) := dk_113 (dk_at dksX7_common_0 17 rfl rfl)
theorem dX7_common_18 : decode cX7_common 18 = .ok (.lstore 8, 2) := dk_55 8 (dk_at dksX7_common_0 18 rfl rfl)
theorem dX7_common_20 : decode cX7_common 20 = .ok (.lload 6, 2) := dk_22 6 (dk_at dksX7_common_0 20 rfl rfl)
theorem dX7_common_22 : decode cX7_common 22 = .ok (.lstore 4, 2) := dk_55 4 (dk_at dksX7_common_0 22 rfl rfl)
theorem dX7_common_24 : decode cX7_common 24 = .ok (.lload 8, 2) := dk_22 8 (dk_at dksX7_common_1 0 rfl rfl)
theorem dX7_common_26 : decode cX7_common 26 = .ok (.lstore 6, 2) := dk_55 6 (dk_at dksX7_common_1 2 rfl rfl)
theorem dX7_common_28 : decode cX7_common 28 = .ok (.goto (-22), 3) := dk_167 255 234 (dk_at dksX7_common_1 4 rfl rfl)
theorem dX7_common_31 : decode cX7_common 31 = .ok (.lload 4, 2) := dk_22 4 (dk_at dksX7_common_1 7 rfl rfl)
theorem dX7_common_33 : decode cX7_common 33 = .ok (.lreturn, 1) := dk_173 (dk_at dksX7_common_1 9 rfl rfl)
abbrev cX7_lay : ByteArray := prog_16_method_91_code
def yX7_lay : MethodName := ⟨RX7, "lay", "(IIIII)I"⟩
def dkwX7_lay_13 : List UInt8 := [180, 1, 206, 153, 0, 7, 4, 167, 0, 4, 3, 182, 1, 223, 172]
abbrev dktX7_lay_13 : List UInt8 := dkwX7_lay_13 ++ []
def dkwX7_lay_12 : List UInt8 := [42, 180, 0, 118, 5, 47, 182, 1, 216, 42, 182, 1, 220, 42, 17, 23, 112, 21, 5, 153, 0, 10, 42]
abbrev dktX7_lay_12 : List UInt8 := dkwX7_lay_12 ++ dktX7_lay_13
def dkwX7_lay_11 : List UInt8 := [182, 1, 216, 42, 182, 1, 220, 42, 42, 180, 0, 112, 42, 180, 0, 121, 3, 47, 42, 180, 0, 121, 4, 47]
abbrev dktX7_lay_11 : List UInt8 := dkwX7_lay_11 ++ dktX7_lay_12
def dkwX7_lay_10 : List UInt8 := [42, 42, 180, 0, 112, 42, 180, 0, 121, 3, 47, 42, 180, 0, 118, 4, 47, 42, 180, 0, 121, 5, 47]
abbrev dktX7_lay_10 : List UInt8 := dkwX7_lay_10 ++ dktX7_lay_11
def dkwX7_lay_9 : List UInt8 := [180, 0, 106, 42, 180, 0, 118, 3, 47, 42, 180, 0, 121, 4, 47, 42, 180, 0, 121, 5, 47, 182, 1, 216]
abbrev dktX7_lay_9 : List UInt8 := dkwX7_lay_9 ++ dktX7_lay_10
def dkwX7_lay_8 : List UInt8 := [180, 0, 121, 3, 47, 42, 180, 0, 121, 4, 47, 42, 180, 0, 121, 5, 47, 182, 1, 216, 42, 42]
abbrev dktX7_lay_8 : List UInt8 := dkwX7_lay_8 ++ dktX7_lay_9
def dkwX7_lay_7 : List UInt8 := [182, 1, 212, 21, 5, 4, 160, 0, 12, 42, 180, 1, 203, 154, 0, 5, 2, 172, 42, 42, 180, 0, 109, 42]
abbrev dktX7_lay_7 : List UInt8 := dkwX7_lay_7 ++ dktX7_lay_8
def dkwX7_lay_6 : List UInt8 := [167, 0, 4, 3, 182, 1, 212, 42, 5, 29, 21, 4, 21, 5, 154, 0, 7, 4, 167, 0, 4, 3]
abbrev dktX7_lay_6 : List UInt8 := dkwX7_lay_6 ++ dktX7_lay_7
def dkwX7_lay_5 : List UInt8 := [154, 0, 7, 4, 167, 0, 4, 3, 182, 1, 212, 42, 4, 28, 21, 4, 21, 5, 154, 0, 7, 4]
abbrev dktX7_lay_5 : List UInt8 := dkwX7_lay_5 ++ dktX7_lay_6
def dkwX7_lay_4 : List UInt8 := [154, 0, 6, 16, 254, 172, 42, 4, 181, 1, 203, 42, 4, 181, 1, 206, 42, 3, 27, 21, 4, 21, 5]
abbrev dktX7_lay_4 : List UInt8 := dkwX7_lay_4 ++ dktX7_lay_5
def dkwX7_lay_3 : List UInt8 := [2, 159, 0, 11, 42, 29, 182, 1, 135, 153, 0, 16, 42, 27, 16, 12, 21, 4, 96, 182, 1, 138]
abbrev dktX7_lay_3 : List UInt8 := dkwX7_lay_3 ++ dktX7_lay_4
def dkwX7_lay_2 : List UInt8 := [153, 0, 7, 4, 167, 0, 4, 3, 54, 6, 21, 6, 153, 0, 37, 42, 28, 182, 1, 135, 153, 0, 29, 29]
abbrev dktX7_lay_2 : List UInt8 := dkwX7_lay_2 ++ dktX7_lay_3
def dkwX7_lay_1 : List UInt8 := [29, 184, 1, 209, 153, 0, 26, 21, 4, 184, 0, 169, 153, 0, 18, 21, 5, 133, 9, 10, 184, 0, 143]
abbrev dktX7_lay_1 : List UInt8 := dkwX7_lay_1 ++ dktX7_lay_2
def dkwX7_lay_0 : List UInt8 := [42, 3, 181, 0, 133, 27, 184, 1, 209, 153, 0, 45, 28, 184, 1, 209, 153, 0, 38, 29, 2, 159, 0, 10]
abbrev dktX7_lay_0 : List UInt8 := dkwX7_lay_0 ++ dktX7_lay_1
theorem dksX7_lay_0 : cX7_lay.data.toList.drop 0 = dktX7_lay_0 := by decide +kernel
theorem dksX7_lay_1 : cX7_lay.data.toList.drop 24 = dktX7_lay_1 := dk_seg dksX7_lay_0 24 rfl rfl
theorem dksX7_lay_2 : cX7_lay.data.toList.drop 47 = dktX7_lay_2 := dk_seg dksX7_lay_1 23 rfl rfl
theorem dksX7_lay_3 : cX7_lay.data.toList.drop 71 = dktX7_lay_3 := dk_seg dksX7_lay_2 24 rfl rfl
theorem dksX7_lay_4 : cX7_lay.data.toList.drop 93 = dktX7_lay_4 := dk_seg dksX7_lay_3 22 rfl rfl
theorem dksX7_lay_5 : cX7_lay.data.toList.drop 116 = dktX7_lay_5 := dk_seg dksX7_lay_4 23 rfl rfl
theorem dksX7_lay_6 : cX7_lay.data.toList.drop 138 = dktX7_lay_6 := dk_seg dksX7_lay_5 22 rfl rfl
theorem dksX7_lay_7 : cX7_lay.data.toList.drop 160 = dktX7_lay_7 := dk_seg dksX7_lay_6 22 rfl rfl
theorem dksX7_lay_8 : cX7_lay.data.toList.drop 184 = dktX7_lay_8 := dk_seg dksX7_lay_7 24 rfl rfl
theorem dksX7_lay_9 : cX7_lay.data.toList.drop 206 = dktX7_lay_9 := dk_seg dksX7_lay_8 22 rfl rfl
theorem dksX7_lay_10 : cX7_lay.data.toList.drop 230 = dktX7_lay_10 := dk_seg dksX7_lay_9 24 rfl rfl
theorem dksX7_lay_11 : cX7_lay.data.toList.drop 253 = dktX7_lay_11 := dk_seg dksX7_lay_10 23 rfl rfl
theorem dksX7_lay_12 : cX7_lay.data.toList.drop 277 = dktX7_lay_12 := dk_seg dksX7_lay_11 24 rfl rfl
theorem dksX7_lay_13 : cX7_lay.data.toList.drop 300 = dktX7_lay_13 := dk_seg dksX7_lay_12 23 rfl rfl
theorem dX7_lay_0 : decode cX7_lay 0 = .ok (.aload_n 0, 1) := dk_42 (dk_at dksX7_lay_0 0 rfl rfl)
theorem dX7_lay_1 : decode cX7_lay 1 = .ok (.iconst 0, 1) := dk_3 (dk_at dksX7_lay_0 1 rfl rfl)
theorem dX7_lay_2 : decode cX7_lay 2 = .ok (.putfield 133, 3) := dk_181 0 133 (dk_at dksX7_lay_0 2 rfl rfl)
theorem dX7_lay_5 : decode cX7_lay 5 = .ok (.iload_n 1, 1) := dk_27 (dk_at dksX7_lay_0 5 rfl rfl)
theorem dX7_lay_6 : decode cX7_lay 6 = .ok (.invokestatic 465, 3) := dk_184 1 209 (dk_at dksX7_lay_0 6 rfl rfl)
theorem dX7_lay_9 : decode cX7_lay 9 = .ok (.ifCond .eq 45, 3) := dk_153 0 45 (dk_at dksX7_lay_0 9 rfl rfl)
theorem dX7_lay_12 : decode cX7_lay 12 = .ok (.iload_n 2, 1) := dk_28 (dk_at dksX7_lay_0 12 rfl rfl)
theorem dX7_lay_13 : decode cX7_lay 13 = .ok (.invokestatic 465, 3) := dk_184 1 209 (dk_at dksX7_lay_0 13 rfl rfl)
theorem dX7_lay_16 : decode cX7_lay 16 = .ok (.ifCond .eq 38, 3) := dk_153 0 38 (dk_at dksX7_lay_0 16 rfl rfl)
theorem dX7_lay_19 : decode cX7_lay 19 = .ok (.iload_n 3, 1) := dk_29 (dk_at dksX7_lay_0 19 rfl rfl)
theorem dX7_lay_20 : decode cX7_lay 20 = .ok (.iconst (-1), 1) := dk_2 (dk_at dksX7_lay_0 20 rfl rfl)
theorem dX7_lay_21 : decode cX7_lay 21 = .ok (.if_icmp .eq 10, 3) := dk_159 0 10 (dk_at dksX7_lay_0 21 rfl rfl)
theorem dX7_lay_24 : decode cX7_lay 24 = .ok (.iload_n 3, 1) := dk_29 (dk_at dksX7_lay_1 0 rfl rfl)
theorem dX7_lay_25 : decode cX7_lay 25 = .ok (.invokestatic 465, 3) := dk_184 1 209 (dk_at dksX7_lay_1 1 rfl rfl)
theorem dX7_lay_28 : decode cX7_lay 28 = .ok (.ifCond .eq 26, 3) := dk_153 0 26 (dk_at dksX7_lay_1 4 rfl rfl)
theorem dX7_lay_31 : decode cX7_lay 31 = .ok (.iload 4, 2) := dk_21 4 (dk_at dksX7_lay_1 7 rfl rfl)
theorem dX7_lay_33 : decode cX7_lay 33 = .ok (.invokestatic 169, 3) := dk_184 0 169 (dk_at dksX7_lay_1 9 rfl rfl)
theorem dX7_lay_36 : decode cX7_lay 36 = .ok (.ifCond .eq 18, 3) := dk_153 0 18 (dk_at dksX7_lay_1 12 rfl rfl)
theorem dX7_lay_39 : decode cX7_lay 39 = .ok (.iload 5, 2) := dk_21 5 (dk_at dksX7_lay_1 15 rfl rfl)
theorem dX7_lay_41 : decode cX7_lay 41 = .ok (.i2l, 1) := dk_133 (dk_at dksX7_lay_1 17 rfl rfl)
theorem dX7_lay_42 : decode cX7_lay 42 = .ok (.lconst 0, 1) := dk_9 (dk_at dksX7_lay_1 18 rfl rfl)
theorem dX7_lay_43 : decode cX7_lay 43 = .ok (.lconst 1, 1) := dk_10 (dk_at dksX7_lay_1 19 rfl rfl)
theorem dX7_lay_44 : decode cX7_lay 44 = .ok (.invokestatic 143, 3) := dk_184 0 143 (dk_at dksX7_lay_1 20 rfl rfl)
theorem dX7_lay_47 : decode cX7_lay 47 = .ok (.ifCond .eq 7, 3) := dk_153 0 7 (dk_at dksX7_lay_2 0 rfl rfl)
theorem dX7_lay_50 : decode cX7_lay 50 = .ok (.iconst 1, 1) := dk_4 (dk_at dksX7_lay_2 3 rfl rfl)
theorem dX7_lay_51 : decode cX7_lay 51 = .ok (.goto 4, 3) := dk_167 0 4 (dk_at dksX7_lay_2 4 rfl rfl)
theorem dX7_lay_54 : decode cX7_lay 54 = .ok (.iconst 0, 1) := dk_3 (dk_at dksX7_lay_2 7 rfl rfl)
theorem dX7_lay_55 : decode cX7_lay 55 = .ok (.istore 6, 2) := dk_54 6 (dk_at dksX7_lay_2 8 rfl rfl)
theorem dX7_lay_57 : decode cX7_lay 57 = .ok (.iload 6, 2) := dk_21 6 (dk_at dksX7_lay_2 10 rfl rfl)
theorem dX7_lay_59 : decode cX7_lay 59 = .ok (.ifCond .eq 37, 3) := dk_153 0 37 (dk_at dksX7_lay_2 12 rfl rfl)
theorem dX7_lay_62 : decode cX7_lay 62 = .ok (.aload_n 0, 1) := dk_42 (dk_at dksX7_lay_2 15 rfl rfl)
theorem dX7_lay_63 : decode cX7_lay 63 = .ok (.iload_n 2, 1) := dk_28 (dk_at dksX7_lay_2 16 rfl rfl)
theorem dX7_lay_64 : decode cX7_lay 64 = .ok (.invokevirtual 391, 3) := dk_182 1 135 (dk_at dksX7_lay_2 17 rfl rfl)
theorem dX7_lay_67 : decode cX7_lay 67 = .ok (.ifCond .eq 29, 3) := dk_153 0 29 (dk_at dksX7_lay_2 20 rfl rfl)
theorem dX7_lay_70 : decode cX7_lay 70 = .ok (.iload_n 3, 1) := dk_29 (dk_at dksX7_lay_2 23 rfl rfl)
theorem dX7_lay_71 : decode cX7_lay 71 = .ok (.iconst (-1), 1) := dk_2 (dk_at dksX7_lay_3 0 rfl rfl)
theorem dX7_lay_72 : decode cX7_lay 72 = .ok (.if_icmp .eq 11, 3) := dk_159 0 11 (dk_at dksX7_lay_3 1 rfl rfl)
theorem dX7_lay_75 : decode cX7_lay 75 = .ok (.aload_n 0, 1) := dk_42 (dk_at dksX7_lay_3 4 rfl rfl)
theorem dX7_lay_76 : decode cX7_lay 76 = .ok (.iload_n 3, 1) := dk_29 (dk_at dksX7_lay_3 5 rfl rfl)
theorem dX7_lay_77 : decode cX7_lay 77 = .ok (.invokevirtual 391, 3) := dk_182 1 135 (dk_at dksX7_lay_3 6 rfl rfl)
theorem dX7_lay_80 : decode cX7_lay 80 = .ok (.ifCond .eq 16, 3) := dk_153 0 16 (dk_at dksX7_lay_3 9 rfl rfl)
theorem dX7_lay_83 : decode cX7_lay 83 = .ok (.aload_n 0, 1) := dk_42 (dk_at dksX7_lay_3 12 rfl rfl)
theorem dX7_lay_84 : decode cX7_lay 84 = .ok (.iload_n 1, 1) := dk_27 (dk_at dksX7_lay_3 13 rfl rfl)
theorem dX7_lay_85 : decode cX7_lay 85 = .ok (.bipush 12, 2) := dk_16 12 (dk_at dksX7_lay_3 14 rfl rfl)
theorem dX7_lay_87 : decode cX7_lay 87 = .ok (.iload 4, 2) := dk_21 4 (dk_at dksX7_lay_3 16 rfl rfl)
theorem dX7_lay_89 : decode cX7_lay 89 = .ok (.iadd, 1) := dk_96 (dk_at dksX7_lay_3 18 rfl rfl)
theorem dX7_lay_90 : decode cX7_lay 90 = .ok (.invokevirtual 394, 3) := dk_182 1 138 (dk_at dksX7_lay_3 19 rfl rfl)
theorem dX7_lay_93 : decode cX7_lay 93 = .ok (.ifCond .ne 6, 3) := dk_154 0 6 (dk_at dksX7_lay_4 0 rfl rfl)
theorem dX7_lay_96 : decode cX7_lay 96 = .ok (.bipush (-2), 2) := dk_16 254 (dk_at dksX7_lay_4 3 rfl rfl)
theorem dX7_lay_98 : decode cX7_lay 98 = .ok (.ireturn, 1) := dk_172 (dk_at dksX7_lay_4 5 rfl rfl)
theorem dX7_lay_99 : decode cX7_lay 99 = .ok (.aload_n 0, 1) := dk_42 (dk_at dksX7_lay_4 6 rfl rfl)
theorem dX7_lay_100 : decode cX7_lay 100 = .ok (.iconst 1, 1) := dk_4 (dk_at dksX7_lay_4 7 rfl rfl)
theorem dX7_lay_101 : decode cX7_lay 101 = .ok (.putfield 459, 3) := dk_181 1 203 (dk_at dksX7_lay_4 8 rfl rfl)
theorem dX7_lay_104 : decode cX7_lay 104 = .ok (.aload_n 0, 1) := dk_42 (dk_at dksX7_lay_4 11 rfl rfl)
theorem dX7_lay_105 : decode cX7_lay 105 = .ok (.iconst 1, 1) := dk_4 (dk_at dksX7_lay_4 12 rfl rfl)
theorem dX7_lay_106 : decode cX7_lay 106 = .ok (.putfield 462, 3) := dk_181 1 206 (dk_at dksX7_lay_4 13 rfl rfl)
theorem dX7_lay_109 : decode cX7_lay 109 = .ok (.aload_n 0, 1) := dk_42 (dk_at dksX7_lay_4 16 rfl rfl)
theorem dX7_lay_110 : decode cX7_lay 110 = .ok (.iconst 0, 1) := dk_3 (dk_at dksX7_lay_4 17 rfl rfl)
theorem dX7_lay_111 : decode cX7_lay 111 = .ok (.iload_n 1, 1) := dk_27 (dk_at dksX7_lay_4 18 rfl rfl)
theorem dX7_lay_112 : decode cX7_lay 112 = .ok (.iload 4, 2) := dk_21 4 (dk_at dksX7_lay_4 19 rfl rfl)
theorem dX7_lay_114 : decode cX7_lay 114 = .ok (.iload 5, 2) := dk_21 5 (dk_at dksX7_lay_4 21 rfl rfl)
theorem dX7_lay_116 : decode cX7_lay 116 = .ok (.ifCond .ne 7, 3) := dk_154 0 7 (dk_at dksX7_lay_5 0 rfl rfl)
theorem dX7_lay_119 : decode cX7_lay 119 = .ok (.iconst 1, 1) := dk_4 (dk_at dksX7_lay_5 3 rfl rfl)
theorem dX7_lay_120 : decode cX7_lay 120 = .ok (.goto 4, 3) := dk_167 0 4 (dk_at dksX7_lay_5 4 rfl rfl)
theorem dX7_lay_123 : decode cX7_lay 123 = .ok (.iconst 0, 1) := dk_3 (dk_at dksX7_lay_5 7 rfl rfl)
theorem dX7_lay_124 : decode cX7_lay 124 = .ok (.invokevirtual 468, 3) := dk_182 1 212 (dk_at dksX7_lay_5 8 rfl rfl)
theorem dX7_lay_127 : decode cX7_lay 127 = .ok (.aload_n 0, 1) := dk_42 (dk_at dksX7_lay_5 11 rfl rfl)
theorem dX7_lay_128 : decode cX7_lay 128 = .ok (.iconst 1, 1) := dk_4 (dk_at dksX7_lay_5 12 rfl rfl)
theorem dX7_lay_129 : decode cX7_lay 129 = .ok (.iload_n 2, 1) := dk_28 (dk_at dksX7_lay_5 13 rfl rfl)
theorem dX7_lay_130 : decode cX7_lay 130 = .ok (.iload 4, 2) := dk_21 4 (dk_at dksX7_lay_5 14 rfl rfl)
theorem dX7_lay_132 : decode cX7_lay 132 = .ok (.iload 5, 2) := dk_21 5 (dk_at dksX7_lay_5 16 rfl rfl)
theorem dX7_lay_134 : decode cX7_lay 134 = .ok (.ifCond .ne 7, 3) := dk_154 0 7 (dk_at dksX7_lay_5 18 rfl rfl)
theorem dX7_lay_137 : decode cX7_lay 137 = .ok (.iconst 1, 1) := dk_4 (dk_at dksX7_lay_5 21 rfl rfl)
theorem dX7_lay_138 : decode cX7_lay 138 = .ok (.goto 4, 3) := dk_167 0 4 (dk_at dksX7_lay_6 0 rfl rfl)
theorem dX7_lay_141 : decode cX7_lay 141 = .ok (.iconst 0, 1) := dk_3 (dk_at dksX7_lay_6 3 rfl rfl)
theorem dX7_lay_142 : decode cX7_lay 142 = .ok (.invokevirtual 468, 3) := dk_182 1 212 (dk_at dksX7_lay_6 4 rfl rfl)
theorem dX7_lay_145 : decode cX7_lay 145 = .ok (.aload_n 0, 1) := dk_42 (dk_at dksX7_lay_6 7 rfl rfl)
theorem dX7_lay_146 : decode cX7_lay 146 = .ok (.iconst 2, 1) := dk_5 (dk_at dksX7_lay_6 8 rfl rfl)
theorem dX7_lay_147 : decode cX7_lay 147 = .ok (.iload_n 3, 1) := dk_29 (dk_at dksX7_lay_6 9 rfl rfl)
theorem dX7_lay_148 : decode cX7_lay 148 = .ok (.iload 4, 2) := dk_21 4 (dk_at dksX7_lay_6 10 rfl rfl)
theorem dX7_lay_150 : decode cX7_lay 150 = .ok (.iload 5, 2) := dk_21 5 (dk_at dksX7_lay_6 12 rfl rfl)
theorem dX7_lay_152 : decode cX7_lay 152 = .ok (.ifCond .ne 7, 3) := dk_154 0 7 (dk_at dksX7_lay_6 14 rfl rfl)
theorem dX7_lay_155 : decode cX7_lay 155 = .ok (.iconst 1, 1) := dk_4 (dk_at dksX7_lay_6 17 rfl rfl)
theorem dX7_lay_156 : decode cX7_lay 156 = .ok (.goto 4, 3) := dk_167 0 4 (dk_at dksX7_lay_6 18 rfl rfl)
theorem dX7_lay_159 : decode cX7_lay 159 = .ok (.iconst 0, 1) := dk_3 (dk_at dksX7_lay_6 21 rfl rfl)
theorem dX7_lay_160 : decode cX7_lay 160 = .ok (.invokevirtual 468, 3) := dk_182 1 212 (dk_at dksX7_lay_7 0 rfl rfl)
theorem dX7_lay_163 : decode cX7_lay 163 = .ok (.iload 5, 2) := dk_21 5 (dk_at dksX7_lay_7 3 rfl rfl)
theorem dX7_lay_165 : decode cX7_lay 165 = .ok (.iconst 1, 1) := dk_4 (dk_at dksX7_lay_7 5 rfl rfl)
theorem dX7_lay_166 : decode cX7_lay 166 = .ok (.if_icmp .ne 12, 3) := dk_160 0 12 (dk_at dksX7_lay_7 6 rfl rfl)
theorem dX7_lay_169 : decode cX7_lay 169 = .ok (.aload_n 0, 1) := dk_42 (dk_at dksX7_lay_7 9 rfl rfl)
theorem dX7_lay_170 : decode cX7_lay 170 = .ok (.getfield 459, 3) := dk_180 1 203 (dk_at dksX7_lay_7 10 rfl rfl)
theorem dX7_lay_173 : decode cX7_lay 173 = .ok (.ifCond .ne 5, 3) := dk_154 0 5 (dk_at dksX7_lay_7 13 rfl rfl)
theorem dX7_lay_176 : decode cX7_lay 176 = .ok (.iconst (-1), 1) := dk_2 (dk_at dksX7_lay_7 16 rfl rfl)
theorem dX7_lay_177 : decode cX7_lay 177 = .ok (.ireturn, 1) := dk_172 (dk_at dksX7_lay_7 17 rfl rfl)
theorem dX7_lay_178 : decode cX7_lay 178 = .ok (.aload_n 0, 1) := dk_42 (dk_at dksX7_lay_7 18 rfl rfl)
theorem dX7_lay_179 : decode cX7_lay 179 = .ok (.aload_n 0, 1) := dk_42 (dk_at dksX7_lay_7 19 rfl rfl)
theorem dX7_lay_180 : decode cX7_lay 180 = .ok (.getfield 109, 3) := dk_180 0 109 (dk_at dksX7_lay_7 20 rfl rfl)
theorem dX7_lay_183 : decode cX7_lay 183 = .ok (.aload_n 0, 1) := dk_42 (dk_at dksX7_lay_7 23 rfl rfl)
theorem dX7_lay_184 : decode cX7_lay 184 = .ok (.getfield 121, 3) := dk_180 0 121 (dk_at dksX7_lay_8 0 rfl rfl)
theorem dX7_lay_187 : decode cX7_lay 187 = .ok (.iconst 0, 1) := dk_3 (dk_at dksX7_lay_8 3 rfl rfl)
theorem dX7_lay_188 : decode cX7_lay 188 = .ok (.laload, 1) := dk_47 (dk_at dksX7_lay_8 4 rfl rfl)
theorem dX7_lay_189 : decode cX7_lay 189 = .ok (.aload_n 0, 1) := dk_42 (dk_at dksX7_lay_8 5 rfl rfl)
theorem dX7_lay_190 : decode cX7_lay 190 = .ok (.getfield 121, 3) := dk_180 0 121 (dk_at dksX7_lay_8 6 rfl rfl)
theorem dX7_lay_193 : decode cX7_lay 193 = .ok (.iconst 1, 1) := dk_4 (dk_at dksX7_lay_8 9 rfl rfl)
theorem dX7_lay_194 : decode cX7_lay 194 = .ok (.laload, 1) := dk_47 (dk_at dksX7_lay_8 10 rfl rfl)
theorem dX7_lay_195 : decode cX7_lay 195 = .ok (.aload_n 0, 1) := dk_42 (dk_at dksX7_lay_8 11 rfl rfl)
theorem dX7_lay_196 : decode cX7_lay 196 = .ok (.getfield 121, 3) := dk_180 0 121 (dk_at dksX7_lay_8 12 rfl rfl)
theorem dX7_lay_199 : decode cX7_lay 199 = .ok (.iconst 2, 1) := dk_5 (dk_at dksX7_lay_8 15 rfl rfl)
theorem dX7_lay_200 : decode cX7_lay 200 = .ok (.laload, 1) := dk_47 (dk_at dksX7_lay_8 16 rfl rfl)
theorem dX7_lay_201 : decode cX7_lay 201 = .ok (.invokevirtual 472, 3) := dk_182 1 216 (dk_at dksX7_lay_8 17 rfl rfl)
theorem dX7_lay_204 : decode cX7_lay 204 = .ok (.aload_n 0, 1) := dk_42 (dk_at dksX7_lay_8 20 rfl rfl)
theorem dX7_lay_205 : decode cX7_lay 205 = .ok (.aload_n 0, 1) := dk_42 (dk_at dksX7_lay_8 21 rfl rfl)
theorem dX7_lay_206 : decode cX7_lay 206 = .ok (.getfield 106, 3) := dk_180 0 106 (dk_at dksX7_lay_9 0 rfl rfl)
theorem dX7_lay_209 : decode cX7_lay 209 = .ok (.aload_n 0, 1) := dk_42 (dk_at dksX7_lay_9 3 rfl rfl)
theorem dX7_lay_210 : decode cX7_lay 210 = .ok (.getfield 118, 3) := dk_180 0 118 (dk_at dksX7_lay_9 4 rfl rfl)
theorem dX7_lay_213 : decode cX7_lay 213 = .ok (.iconst 0, 1) := dk_3 (dk_at dksX7_lay_9 7 rfl rfl)
theorem dX7_lay_214 : decode cX7_lay 214 = .ok (.laload, 1) := dk_47 (dk_at dksX7_lay_9 8 rfl rfl)
theorem dX7_lay_215 : decode cX7_lay 215 = .ok (.aload_n 0, 1) := dk_42 (dk_at dksX7_lay_9 9 rfl rfl)
theorem dX7_lay_216 : decode cX7_lay 216 = .ok (.getfield 121, 3) := dk_180 0 121 (dk_at dksX7_lay_9 10 rfl rfl)
theorem dX7_lay_219 : decode cX7_lay 219 = .ok (.iconst 1, 1) := dk_4 (dk_at dksX7_lay_9 13 rfl rfl)
theorem dX7_lay_220 : decode cX7_lay 220 = .ok (.laload, 1) := dk_47 (dk_at dksX7_lay_9 14 rfl rfl)
theorem dX7_lay_221 : decode cX7_lay 221 = .ok (.aload_n 0, 1) := dk_42 (dk_at dksX7_lay_9 15 rfl rfl)
theorem dX7_lay_222 : decode cX7_lay 222 = .ok (.getfield 121, 3) := dk_180 0 121 (dk_at dksX7_lay_9 16 rfl rfl)
theorem dX7_lay_225 : decode cX7_lay 225 = .ok (.iconst 2, 1) := dk_5 (dk_at dksX7_lay_9 19 rfl rfl)
theorem dX7_lay_226 : decode cX7_lay 226 = .ok (.laload, 1) := dk_47 (dk_at dksX7_lay_9 20 rfl rfl)
theorem dX7_lay_227 : decode cX7_lay 227 = .ok (.invokevirtual 472, 3) := dk_182 1 216 (dk_at dksX7_lay_9 21 rfl rfl)
theorem dX7_lay_230 : decode cX7_lay 230 = .ok (.aload_n 0, 1) := dk_42 (dk_at dksX7_lay_10 0 rfl rfl)
theorem dX7_lay_231 : decode cX7_lay 231 = .ok (.aload_n 0, 1) := dk_42 (dk_at dksX7_lay_10 1 rfl rfl)
theorem dX7_lay_232 : decode cX7_lay 232 = .ok (.getfield 112, 3) := dk_180 0 112 (dk_at dksX7_lay_10 2 rfl rfl)
theorem dX7_lay_235 : decode cX7_lay 235 = .ok (.aload_n 0, 1) := dk_42 (dk_at dksX7_lay_10 5 rfl rfl)
theorem dX7_lay_236 : decode cX7_lay 236 = .ok (.getfield 121, 3) := dk_180 0 121 (dk_at dksX7_lay_10 6 rfl rfl)
theorem dX7_lay_239 : decode cX7_lay 239 = .ok (.iconst 0, 1) := dk_3 (dk_at dksX7_lay_10 9 rfl rfl)
theorem dX7_lay_240 : decode cX7_lay 240 = .ok (.laload, 1) := dk_47 (dk_at dksX7_lay_10 10 rfl rfl)
theorem dX7_lay_241 : decode cX7_lay 241 = .ok (.aload_n 0, 1) := dk_42 (dk_at dksX7_lay_10 11 rfl rfl)
theorem dX7_lay_242 : decode cX7_lay 242 = .ok (.getfield 118, 3) := dk_180 0 118 (dk_at dksX7_lay_10 12 rfl rfl)
theorem dX7_lay_245 : decode cX7_lay 245 = .ok (.iconst 1, 1) := dk_4 (dk_at dksX7_lay_10 15 rfl rfl)
theorem dX7_lay_246 : decode cX7_lay 246 = .ok (.laload, 1) := dk_47 (dk_at dksX7_lay_10 16 rfl rfl)
theorem dX7_lay_247 : decode cX7_lay 247 = .ok (.aload_n 0, 1) := dk_42 (dk_at dksX7_lay_10 17 rfl rfl)
theorem dX7_lay_248 : decode cX7_lay 248 = .ok (.getfield 121, 3) := dk_180 0 121 (dk_at dksX7_lay_10 18 rfl rfl)
theorem dX7_lay_251 : decode cX7_lay 251 = .ok (.iconst 2, 1) := dk_5 (dk_at dksX7_lay_10 21 rfl rfl)
theorem dX7_lay_252 : decode cX7_lay 252 = .ok (.laload, 1) := dk_47 (dk_at dksX7_lay_10 22 rfl rfl)
theorem dX7_lay_253 : decode cX7_lay 253 = .ok (.invokevirtual 472, 3) := dk_182 1 216 (dk_at dksX7_lay_11 0 rfl rfl)
theorem dX7_lay_256 : decode cX7_lay 256 = .ok (.aload_n 0, 1) := dk_42 (dk_at dksX7_lay_11 3 rfl rfl)
theorem dX7_lay_257 : decode cX7_lay 257 = .ok (.invokevirtual 476, 3) := dk_182 1 220 (dk_at dksX7_lay_11 4 rfl rfl)
theorem dX7_lay_260 : decode cX7_lay 260 = .ok (.aload_n 0, 1) := dk_42 (dk_at dksX7_lay_11 7 rfl rfl)
theorem dX7_lay_261 : decode cX7_lay 261 = .ok (.aload_n 0, 1) := dk_42 (dk_at dksX7_lay_11 8 rfl rfl)
theorem dX7_lay_262 : decode cX7_lay 262 = .ok (.getfield 112, 3) := dk_180 0 112 (dk_at dksX7_lay_11 9 rfl rfl)
theorem dX7_lay_265 : decode cX7_lay 265 = .ok (.aload_n 0, 1) := dk_42 (dk_at dksX7_lay_11 12 rfl rfl)
theorem dX7_lay_266 : decode cX7_lay 266 = .ok (.getfield 121, 3) := dk_180 0 121 (dk_at dksX7_lay_11 13 rfl rfl)
theorem dX7_lay_269 : decode cX7_lay 269 = .ok (.iconst 0, 1) := dk_3 (dk_at dksX7_lay_11 16 rfl rfl)
theorem dX7_lay_270 : decode cX7_lay 270 = .ok (.laload, 1) := dk_47 (dk_at dksX7_lay_11 17 rfl rfl)
theorem dX7_lay_271 : decode cX7_lay 271 = .ok (.aload_n 0, 1) := dk_42 (dk_at dksX7_lay_11 18 rfl rfl)
theorem dX7_lay_272 : decode cX7_lay 272 = .ok (.getfield 121, 3) := dk_180 0 121 (dk_at dksX7_lay_11 19 rfl rfl)
theorem dX7_lay_275 : decode cX7_lay 275 = .ok (.iconst 1, 1) := dk_4 (dk_at dksX7_lay_11 22 rfl rfl)
theorem dX7_lay_276 : decode cX7_lay 276 = .ok (.laload, 1) := dk_47 (dk_at dksX7_lay_11 23 rfl rfl)
theorem dX7_lay_277 : decode cX7_lay 277 = .ok (.aload_n 0, 1) := dk_42 (dk_at dksX7_lay_12 0 rfl rfl)
theorem dX7_lay_278 : decode cX7_lay 278 = .ok (.getfield 118, 3) := dk_180 0 118 (dk_at dksX7_lay_12 1 rfl rfl)
theorem dX7_lay_281 : decode cX7_lay 281 = .ok (.iconst 2, 1) := dk_5 (dk_at dksX7_lay_12 4 rfl rfl)
theorem dX7_lay_282 : decode cX7_lay 282 = .ok (.laload, 1) := dk_47 (dk_at dksX7_lay_12 5 rfl rfl)
theorem dX7_lay_283 : decode cX7_lay 283 = .ok (.invokevirtual 472, 3) := dk_182 1 216 (dk_at dksX7_lay_12 6 rfl rfl)
theorem dX7_lay_286 : decode cX7_lay 286 = .ok (.aload_n 0, 1) := dk_42 (dk_at dksX7_lay_12 9 rfl rfl)
theorem dX7_lay_287 : decode cX7_lay 287 = .ok (.invokevirtual 476, 3) := dk_182 1 220 (dk_at dksX7_lay_12 10 rfl rfl)
theorem dX7_lay_290 : decode cX7_lay 290 = .ok (.aload_n 0, 1) := dk_42 (dk_at dksX7_lay_12 13 rfl rfl)
theorem dX7_lay_291 : decode cX7_lay 291 = .ok (.sipush 6000, 3) := dk_17 23 112 (dk_at dksX7_lay_12 14 rfl rfl)
theorem dX7_lay_294 : decode cX7_lay 294 = .ok (.iload 5, 2) := dk_21 5 (dk_at dksX7_lay_12 17 rfl rfl)
theorem dX7_lay_296 : decode cX7_lay 296 = .ok (.ifCond .eq 10, 3) := dk_153 0 10 (dk_at dksX7_lay_12 19 rfl rfl)
theorem dX7_lay_299 : decode cX7_lay 299 = .ok (.aload_n 0, 1) := dk_42 (dk_at dksX7_lay_12 22 rfl rfl)
theorem dX7_lay_300 : decode cX7_lay 300 = .ok (.getfield 462, 3) := dk_180 1 206 (dk_at dksX7_lay_13 0 rfl rfl)
theorem dX7_lay_303 : decode cX7_lay 303 = .ok (.ifCond .eq 7, 3) := dk_153 0 7 (dk_at dksX7_lay_13 3 rfl rfl)
theorem dX7_lay_306 : decode cX7_lay 306 = .ok (.iconst 1, 1) := dk_4 (dk_at dksX7_lay_13 6 rfl rfl)
theorem dX7_lay_307 : decode cX7_lay 307 = .ok (.goto 4, 3) := dk_167 0 4 (dk_at dksX7_lay_13 7 rfl rfl)
theorem dX7_lay_310 : decode cX7_lay 310 = .ok (.iconst 0, 1) := dk_3 (dk_at dksX7_lay_13 10 rfl rfl)
theorem dX7_lay_311 : decode cX7_lay 311 = .ok (.invokevirtual 479, 3) := dk_182 1 223 (dk_at dksX7_lay_13 11 rfl rfl)
theorem dX7_lay_314 : decode cX7_lay 314 = .ok (.ireturn, 1) := dk_172 (dk_at dksX7_lay_13 14 rfl rfl)
abbrev cX7_isGround : ByteArray := prog_16_method_90_code
def yX7_isGround : MethodName := ⟨RX7, "isGround", "(I)Z"⟩
def dkwX7_isGround_0 : List UInt8 := [26, 133, 9, 20, 1, 129, 184, 0, 143, 172]
abbrev dktX7_isGround_0 : List UInt8 := dkwX7_isGround_0 ++ []
theorem dksX7_isGround_0 : cX7_isGround.data.toList.drop 0 = dktX7_isGround_0 := by decide +kernel
theorem dX7_isGround_0 : decode cX7_isGround 0 = .ok (.iload_n 0, 1) := dk_26 (dk_at dksX7_isGround_0 0 rfl rfl)
theorem dX7_isGround_1 : decode cX7_isGround 1 = .ok (.i2l, 1) := dk_133 (dk_at dksX7_isGround_0 1 rfl rfl)
theorem dX7_isGround_2 : decode cX7_isGround 2 = .ok (.lconst 0, 1) := dk_9 (dk_at dksX7_isGround_0 2 rfl rfl)
theorem dX7_isGround_3 : decode cX7_isGround 3 = .ok (.ldc2_w 385, 3) := dk_20 1 129 (dk_at dksX7_isGround_0 3 rfl rfl)
theorem dX7_isGround_6 : decode cX7_isGround 6 = .ok (.invokestatic 143, 3) := dk_184 0 143 (dk_at dksX7_isGround_0 6 rfl rfl)
theorem dX7_isGround_9 : decode cX7_isGround 9 = .ok (.ireturn, 1) := dk_172 (dk_at dksX7_isGround_0 9 rfl rfl)
abbrev cX7_takeEnd : ByteArray := prog_16_method_89_code
def yX7_takeEnd : MethodName := ⟨RX7, "takeEnd", "(IIIZ)V"⟩
def dkwX7_takeEnd_7 : List UInt8 := [22, 6, 22, 10, 109, 80, 42, 180, 0, 121, 27, 22, 8, 22, 10, 109, 80, 177]
abbrev dktX7_takeEnd_7 : List UInt8 := dkwX7_takeEnd_7 ++ []
def dkwX7_takeEnd_6 : List UInt8 := [167, 0, 5, 16, 15, 184, 1, 183, 55, 8, 22, 6, 22, 8, 184, 1, 187, 55, 10, 42, 180, 0, 118, 27]
abbrev dktX7_takeEnd_6 : List UInt8 := dkwX7_takeEnd_6 ++ dktX7_takeEnd_7
def dkwX7_takeEnd_5 : List UInt8 := [153, 0, 7, 3, 167, 0, 5, 16, 10, 184, 1, 183, 55, 6, 42, 180, 0, 103, 21, 4, 153, 0, 7, 8]
abbrev dktX7_takeEnd_5 : List UInt8 := dkwX7_takeEnd_5 ++ dktX7_takeEnd_6
def dkwX7_takeEnd_4 : List UInt8 := [153, 0, 7, 4, 167, 0, 4, 3, 181, 1, 206, 21, 5, 153, 0, 74, 42, 180, 0, 103, 21, 4]
abbrev dktX7_takeEnd_4 : List UInt8 := dkwX7_takeEnd_4 ++ dktX7_takeEnd_5
def dkwX7_takeEnd_3 : List UInt8 := [153, 0, 29, 21, 4, 153, 0, 13, 42, 180, 1, 156, 153, 0, 17, 167, 0, 10, 42, 180, 1, 162]
abbrev dktX7_takeEnd_3 : List UInt8 := dkwX7_takeEnd_3 ++ dktX7_takeEnd_4
def dkwX7_takeEnd_2 : List UInt8 := [180, 1, 203, 153, 0, 12, 21, 5, 153, 0, 7, 4, 167, 0, 4, 3, 181, 1, 203, 42, 42, 180, 1, 206]
abbrev dktX7_takeEnd_2 : List UInt8 := dkwX7_takeEnd_2 ++ dktX7_takeEnd_3
def dkwX7_takeEnd_1 : List UInt8 := [182, 1, 172, 21, 4, 153, 0, 10, 42, 180, 1, 153, 167, 0, 7, 42, 180, 1, 159, 54, 5, 42, 42]
abbrev dktX7_takeEnd_1 : List UInt8 := dkwX7_takeEnd_1 ++ dktX7_takeEnd_2
def dkwX7_takeEnd_0 : List UInt8 := [42, 180, 0, 118, 27, 9, 80, 42, 180, 0, 121, 27, 10, 80, 28, 2, 160, 0, 4, 177, 42, 28, 29]
abbrev dktX7_takeEnd_0 : List UInt8 := dkwX7_takeEnd_0 ++ dktX7_takeEnd_1
theorem dksX7_takeEnd_0 : cX7_takeEnd.data.toList.drop 0 = dktX7_takeEnd_0 := by decide +kernel
theorem dksX7_takeEnd_1 : cX7_takeEnd.data.toList.drop 23 = dktX7_takeEnd_1 := dk_seg dksX7_takeEnd_0 23 rfl rfl
theorem dksX7_takeEnd_2 : cX7_takeEnd.data.toList.drop 46 = dktX7_takeEnd_2 := dk_seg dksX7_takeEnd_1 23 rfl rfl
theorem dksX7_takeEnd_3 : cX7_takeEnd.data.toList.drop 70 = dktX7_takeEnd_3 := dk_seg dksX7_takeEnd_2 24 rfl rfl
theorem dksX7_takeEnd_4 : cX7_takeEnd.data.toList.drop 92 = dktX7_takeEnd_4 := dk_seg dksX7_takeEnd_3 22 rfl rfl
theorem dksX7_takeEnd_5 : cX7_takeEnd.data.toList.drop 114 = dktX7_takeEnd_5 := dk_seg dksX7_takeEnd_4 22 rfl rfl
theorem dksX7_takeEnd_6 : cX7_takeEnd.data.toList.drop 138 = dktX7_takeEnd_6 := dk_seg dksX7_takeEnd_5 24 rfl rfl
theorem dksX7_takeEnd_7 : cX7_takeEnd.data.toList.drop 162 = dktX7_takeEnd_7 := dk_seg dksX7_takeEnd_6 24 rfl rfl
theorem dX7_takeEnd_0 : decode cX7_takeEnd 0 = .ok (.aload_n 0, 1) := dk_42 (dk_at dksX7_takeEnd_0 0 rfl rfl)
theorem dX7_takeEnd_1 : decode cX7_takeEnd 1 = .ok (.getfield 118, 3) := dk_180 0 118 (dk_at dksX7_takeEnd_0 1 rfl rfl)
theorem dX7_takeEnd_4 : decode cX7_takeEnd 4 = .ok (.iload_n 1, 1) := dk_27 (dk_at dksX7_takeEnd_0 4 rfl rfl)
theorem dX7_takeEnd_5 : decode cX7_takeEnd 5 = .ok (.lconst 0, 1) := dk_9 (dk_at dksX7_takeEnd_0 5 rfl rfl)
theorem dX7_takeEnd_6 : decode cX7_takeEnd 6 = .ok (.lastore, 1) := dk_80 (dk_at dksX7_takeEnd_0 6 rfl rfl)
theorem dX7_takeEnd_7 : decode cX7_takeEnd 7 = .ok (.aload_n 0, 1) := dk_42 (dk_at dksX7_takeEnd_0 7 rfl rfl)
theorem dX7_takeEnd_8 : decode cX7_takeEnd 8 = .ok (.getfield 121, 3) := dk_180 0 121 (dk_at dksX7_takeEnd_0 8 rfl rfl)
theorem dX7_takeEnd_11 : decode cX7_takeEnd 11 = .ok (.iload_n 1, 1) := dk_27 (dk_at dksX7_takeEnd_0 11 rfl rfl)
theorem dX7_takeEnd_12 : decode cX7_takeEnd 12 = .ok (.lconst 1, 1) := dk_10 (dk_at dksX7_takeEnd_0 12 rfl rfl)
theorem dX7_takeEnd_13 : decode cX7_takeEnd 13 = .ok (.lastore, 1) := dk_80 (dk_at dksX7_takeEnd_0 13 rfl rfl)
theorem dX7_takeEnd_14 : decode cX7_takeEnd 14 = .ok (.iload_n 2, 1) := dk_28 (dk_at dksX7_takeEnd_0 14 rfl rfl)
theorem dX7_takeEnd_15 : decode cX7_takeEnd 15 = .ok (.iconst (-1), 1) := dk_2 (dk_at dksX7_takeEnd_0 15 rfl rfl)
theorem dX7_takeEnd_16 : decode cX7_takeEnd 16 = .ok (.if_icmp .ne 4, 3) := dk_160 0 4 (dk_at dksX7_takeEnd_0 16 rfl rfl)
theorem dX7_takeEnd_19 : decode cX7_takeEnd 19 = .ok (.return_, 1) := dk_177 (dk_at dksX7_takeEnd_0 19 rfl rfl)
theorem dX7_takeEnd_20 : decode cX7_takeEnd 20 = .ok (.aload_n 0, 1) := dk_42 (dk_at dksX7_takeEnd_0 20 rfl rfl)
theorem dX7_takeEnd_21 : decode cX7_takeEnd 21 = .ok (.iload_n 2, 1) := dk_28 (dk_at dksX7_takeEnd_0 21 rfl rfl)
theorem dX7_takeEnd_22 : decode cX7_takeEnd 22 = .ok (.iload_n 3, 1) := dk_29 (dk_at dksX7_takeEnd_0 22 rfl rfl)
theorem dX7_takeEnd_23 : decode cX7_takeEnd 23 = .ok (.invokevirtual 428, 3) := dk_182 1 172 (dk_at dksX7_takeEnd_1 0 rfl rfl)
theorem dX7_takeEnd_26 : decode cX7_takeEnd 26 = .ok (.iload 4, 2) := dk_21 4 (dk_at dksX7_takeEnd_1 3 rfl rfl)
theorem dX7_takeEnd_28 : decode cX7_takeEnd 28 = .ok (.ifCond .eq 10, 3) := dk_153 0 10 (dk_at dksX7_takeEnd_1 5 rfl rfl)
theorem dX7_takeEnd_31 : decode cX7_takeEnd 31 = .ok (.aload_n 0, 1) := dk_42 (dk_at dksX7_takeEnd_1 8 rfl rfl)
theorem dX7_takeEnd_32 : decode cX7_takeEnd 32 = .ok (.getfield 409, 3) := dk_180 1 153 (dk_at dksX7_takeEnd_1 9 rfl rfl)
theorem dX7_takeEnd_35 : decode cX7_takeEnd 35 = .ok (.goto 7, 3) := dk_167 0 7 (dk_at dksX7_takeEnd_1 12 rfl rfl)
theorem dX7_takeEnd_38 : decode cX7_takeEnd 38 = .ok (.aload_n 0, 1) := dk_42 (dk_at dksX7_takeEnd_1 15 rfl rfl)
theorem dX7_takeEnd_39 : decode cX7_takeEnd 39 = .ok (.getfield 415, 3) := dk_180 1 159 (dk_at dksX7_takeEnd_1 16 rfl rfl)
theorem dX7_takeEnd_42 : decode cX7_takeEnd 42 = .ok (.istore 5, 2) := dk_54 5 (dk_at dksX7_takeEnd_1 19 rfl rfl)
theorem dX7_takeEnd_44 : decode cX7_takeEnd 44 = .ok (.aload_n 0, 1) := dk_42 (dk_at dksX7_takeEnd_1 21 rfl rfl)
theorem dX7_takeEnd_45 : decode cX7_takeEnd 45 = .ok (.aload_n 0, 1) := dk_42 (dk_at dksX7_takeEnd_1 22 rfl rfl)
theorem dX7_takeEnd_46 : decode cX7_takeEnd 46 = .ok (.getfield 459, 3) := dk_180 1 203 (dk_at dksX7_takeEnd_2 0 rfl rfl)
theorem dX7_takeEnd_49 : decode cX7_takeEnd 49 = .ok (.ifCond .eq 12, 3) := dk_153 0 12 (dk_at dksX7_takeEnd_2 3 rfl rfl)
theorem dX7_takeEnd_52 : decode cX7_takeEnd 52 = .ok (.iload 5, 2) := dk_21 5 (dk_at dksX7_takeEnd_2 6 rfl rfl)
theorem dX7_takeEnd_54 : decode cX7_takeEnd 54 = .ok (.ifCond .eq 7, 3) := dk_153 0 7 (dk_at dksX7_takeEnd_2 8 rfl rfl)
theorem dX7_takeEnd_57 : decode cX7_takeEnd 57 = .ok (.iconst 1, 1) := dk_4 (dk_at dksX7_takeEnd_2 11 rfl rfl)
theorem dX7_takeEnd_58 : decode cX7_takeEnd 58 = .ok (.goto 4, 3) := dk_167 0 4 (dk_at dksX7_takeEnd_2 12 rfl rfl)
theorem dX7_takeEnd_61 : decode cX7_takeEnd 61 = .ok (.iconst 0, 1) := dk_3 (dk_at dksX7_takeEnd_2 15 rfl rfl)
theorem dX7_takeEnd_62 : decode cX7_takeEnd 62 = .ok (.putfield 459, 3) := dk_181 1 203 (dk_at dksX7_takeEnd_2 16 rfl rfl)
theorem dX7_takeEnd_65 : decode cX7_takeEnd 65 = .ok (.aload_n 0, 1) := dk_42 (dk_at dksX7_takeEnd_2 19 rfl rfl)
theorem dX7_takeEnd_66 : decode cX7_takeEnd 66 = .ok (.aload_n 0, 1) := dk_42 (dk_at dksX7_takeEnd_2 20 rfl rfl)
theorem dX7_takeEnd_67 : decode cX7_takeEnd 67 = .ok (.getfield 462, 3) := dk_180 1 206 (dk_at dksX7_takeEnd_2 21 rfl rfl)
theorem dX7_takeEnd_70 : decode cX7_takeEnd 70 = .ok (.ifCond .eq 29, 3) := dk_153 0 29 (dk_at dksX7_takeEnd_3 0 rfl rfl)
theorem dX7_takeEnd_73 : decode cX7_takeEnd 73 = .ok (.iload 4, 2) := dk_21 4 (dk_at dksX7_takeEnd_3 3 rfl rfl)
theorem dX7_takeEnd_75 : decode cX7_takeEnd 75 = .ok (.ifCond .eq 13, 3) := dk_153 0 13 (dk_at dksX7_takeEnd_3 5 rfl rfl)
theorem dX7_takeEnd_78 : decode cX7_takeEnd 78 = .ok (.aload_n 0, 1) := dk_42 (dk_at dksX7_takeEnd_3 8 rfl rfl)
theorem dX7_takeEnd_79 : decode cX7_takeEnd 79 = .ok (.getfield 412, 3) := dk_180 1 156 (dk_at dksX7_takeEnd_3 9 rfl rfl)
theorem dX7_takeEnd_82 : decode cX7_takeEnd 82 = .ok (.ifCond .eq 17, 3) := dk_153 0 17 (dk_at dksX7_takeEnd_3 12 rfl rfl)
theorem dX7_takeEnd_85 : decode cX7_takeEnd 85 = .ok (.goto 10, 3) := dk_167 0 10 (dk_at dksX7_takeEnd_3 15 rfl rfl)
theorem dX7_takeEnd_88 : decode cX7_takeEnd 88 = .ok (.aload_n 0, 1) := dk_42 (dk_at dksX7_takeEnd_3 18 rfl rfl)
theorem dX7_takeEnd_89 : decode cX7_takeEnd 89 = .ok (.getfield 418, 3) := dk_180 1 162 (dk_at dksX7_takeEnd_3 19 rfl rfl)
theorem dX7_takeEnd_92 : decode cX7_takeEnd 92 = .ok (.ifCond .eq 7, 3) := dk_153 0 7 (dk_at dksX7_takeEnd_4 0 rfl rfl)
theorem dX7_takeEnd_95 : decode cX7_takeEnd 95 = .ok (.iconst 1, 1) := dk_4 (dk_at dksX7_takeEnd_4 3 rfl rfl)
theorem dX7_takeEnd_96 : decode cX7_takeEnd 96 = .ok (.goto 4, 3) := dk_167 0 4 (dk_at dksX7_takeEnd_4 4 rfl rfl)
theorem dX7_takeEnd_99 : decode cX7_takeEnd 99 = .ok (.iconst 0, 1) := dk_3 (dk_at dksX7_takeEnd_4 7 rfl rfl)
theorem dX7_takeEnd_100 : decode cX7_takeEnd 100 = .ok (.putfield 462, 3) := dk_181 1 206 (dk_at dksX7_takeEnd_4 8 rfl rfl)
theorem dX7_takeEnd_103 : decode cX7_takeEnd 103 = .ok (.iload 5, 2) := dk_21 5 (dk_at dksX7_takeEnd_4 11 rfl rfl)
theorem dX7_takeEnd_105 : decode cX7_takeEnd 105 = .ok (.ifCond .eq 74, 3) := dk_153 0 74 (dk_at dksX7_takeEnd_4 13 rfl rfl)
theorem dX7_takeEnd_108 : decode cX7_takeEnd 108 = .ok (.aload_n 0, 1) := dk_42 (dk_at dksX7_takeEnd_4 16 rfl rfl)
theorem dX7_takeEnd_109 : decode cX7_takeEnd 109 = .ok (.getfield 103, 3) := dk_180 0 103 (dk_at dksX7_takeEnd_4 17 rfl rfl)
theorem dX7_takeEnd_112 : decode cX7_takeEnd 112 = .ok (.iload 4, 2) := dk_21 4 (dk_at dksX7_takeEnd_4 20 rfl rfl)
theorem dX7_takeEnd_114 : decode cX7_takeEnd 114 = .ok (.ifCond .eq 7, 3) := dk_153 0 7 (dk_at dksX7_takeEnd_5 0 rfl rfl)
theorem dX7_takeEnd_117 : decode cX7_takeEnd 117 = .ok (.iconst 0, 1) := dk_3 (dk_at dksX7_takeEnd_5 3 rfl rfl)
theorem dX7_takeEnd_118 : decode cX7_takeEnd 118 = .ok (.goto 5, 3) := dk_167 0 5 (dk_at dksX7_takeEnd_5 4 rfl rfl)
theorem dX7_takeEnd_121 : decode cX7_takeEnd 121 = .ok (.bipush 10, 2) := dk_16 10 (dk_at dksX7_takeEnd_5 7 rfl rfl)
theorem dX7_takeEnd_123 : decode cX7_takeEnd 123 = .ok (.invokestatic 439, 3) := dk_184 1 183 (dk_at dksX7_takeEnd_5 9 rfl rfl)
theorem dX7_takeEnd_126 : decode cX7_takeEnd 126 = .ok (.lstore 6, 2) := dk_55 6 (dk_at dksX7_takeEnd_5 12 rfl rfl)
theorem dX7_takeEnd_128 : decode cX7_takeEnd 128 = .ok (.aload_n 0, 1) := dk_42 (dk_at dksX7_takeEnd_5 14 rfl rfl)
theorem dX7_takeEnd_129 : decode cX7_takeEnd 129 = .ok (.getfield 103, 3) := dk_180 0 103 (dk_at dksX7_takeEnd_5 15 rfl rfl)
theorem dX7_takeEnd_132 : decode cX7_takeEnd 132 = .ok (.iload 4, 2) := dk_21 4 (dk_at dksX7_takeEnd_5 18 rfl rfl)
theorem dX7_takeEnd_134 : decode cX7_takeEnd 134 = .ok (.ifCond .eq 7, 3) := dk_153 0 7 (dk_at dksX7_takeEnd_5 20 rfl rfl)
theorem dX7_takeEnd_137 : decode cX7_takeEnd 137 = .ok (.iconst 5, 1) := dk_8 (dk_at dksX7_takeEnd_5 23 rfl rfl)
theorem dX7_takeEnd_138 : decode cX7_takeEnd 138 = .ok (.goto 5, 3) := dk_167 0 5 (dk_at dksX7_takeEnd_6 0 rfl rfl)
theorem dX7_takeEnd_141 : decode cX7_takeEnd 141 = .ok (.bipush 15, 2) := dk_16 15 (dk_at dksX7_takeEnd_6 3 rfl rfl)
theorem dX7_takeEnd_143 : decode cX7_takeEnd 143 = .ok (.invokestatic 439, 3) := dk_184 1 183 (dk_at dksX7_takeEnd_6 5 rfl rfl)
theorem dX7_takeEnd_146 : decode cX7_takeEnd 146 = .ok (.lstore 8, 2) := dk_55 8 (dk_at dksX7_takeEnd_6 8 rfl rfl)
theorem dX7_takeEnd_148 : decode cX7_takeEnd 148 = .ok (.lload 6, 2) := dk_22 6 (dk_at dksX7_takeEnd_6 10 rfl rfl)
theorem dX7_takeEnd_150 : decode cX7_takeEnd 150 = .ok (.lload 8, 2) := dk_22 8 (dk_at dksX7_takeEnd_6 12 rfl rfl)
theorem dX7_takeEnd_152 : decode cX7_takeEnd 152 = .ok (.invokestatic 443, 3) := dk_184 1 187 (dk_at dksX7_takeEnd_6 14 rfl rfl)
theorem dX7_takeEnd_155 : decode cX7_takeEnd 155 = .ok (.lstore 10, 2) := dk_55 10 (dk_at dksX7_takeEnd_6 17 rfl rfl)
theorem dX7_takeEnd_157 : decode cX7_takeEnd 157 = .ok (.aload_n 0, 1) := dk_42 (dk_at dksX7_takeEnd_6 19 rfl rfl)
theorem dX7_takeEnd_158 : decode cX7_takeEnd 158 = .ok (.getfield 118, 3) := dk_180 0 118 (dk_at dksX7_takeEnd_6 20 rfl rfl)
theorem dX7_takeEnd_161 : decode cX7_takeEnd 161 = .ok (.iload_n 1, 1) := dk_27 (dk_at dksX7_takeEnd_6 23 rfl rfl)
theorem dX7_takeEnd_162 : decode cX7_takeEnd 162 = .ok (.lload 6, 2) := dk_22 6 (dk_at dksX7_takeEnd_7 0 rfl rfl)
theorem dX7_takeEnd_164 : decode cX7_takeEnd 164 = .ok (.lload 10, 2) := dk_22 10 (dk_at dksX7_takeEnd_7 2 rfl rfl)
theorem dX7_takeEnd_166 : decode cX7_takeEnd 166 = .ok (.ldiv, 1) := dk_109 (dk_at dksX7_takeEnd_7 4 rfl rfl)
theorem dX7_takeEnd_167 : decode cX7_takeEnd 167 = .ok (.lastore, 1) := dk_80 (dk_at dksX7_takeEnd_7 5 rfl rfl)
theorem dX7_takeEnd_168 : decode cX7_takeEnd 168 = .ok (.aload_n 0, 1) := dk_42 (dk_at dksX7_takeEnd_7 6 rfl rfl)
theorem dX7_takeEnd_169 : decode cX7_takeEnd 169 = .ok (.getfield 121, 3) := dk_180 0 121 (dk_at dksX7_takeEnd_7 7 rfl rfl)
theorem dX7_takeEnd_172 : decode cX7_takeEnd 172 = .ok (.iload_n 1, 1) := dk_27 (dk_at dksX7_takeEnd_7 10 rfl rfl)
theorem dX7_takeEnd_173 : decode cX7_takeEnd 173 = .ok (.lload 8, 2) := dk_22 8 (dk_at dksX7_takeEnd_7 11 rfl rfl)
theorem dX7_takeEnd_175 : decode cX7_takeEnd 175 = .ok (.lload 10, 2) := dk_22 10 (dk_at dksX7_takeEnd_7 13 rfl rfl)
theorem dX7_takeEnd_177 : decode cX7_takeEnd 177 = .ok (.ldiv, 1) := dk_109 (dk_at dksX7_takeEnd_7 15 rfl rfl)
theorem dX7_takeEnd_178 : decode cX7_takeEnd 178 = .ok (.lastore, 1) := dk_80 (dk_at dksX7_takeEnd_7 16 rfl rfl)
theorem dX7_takeEnd_179 : decode cX7_takeEnd 179 = .ok (.return_, 1) := dk_177 (dk_at dksX7_takeEnd_7 17 rfl rfl)
abbrev cX7_triple : ByteArray := prog_16_method_85_code
def yX7_triple : MethodName := ⟨RX7, "triple", "([JJJJ)V"⟩
def dkwX7_triple_2 : List UInt8 := [182, 1, 191, 177]
abbrev dktX7_triple_2 : List UInt8 := dkwX7_triple_2 ++ []
def dkwX7_triple_1 : List UInt8 := [132, 8, 1, 167, 255, 232, 42, 43, 32, 182, 1, 191, 42, 43, 22, 4, 182, 1, 191, 42, 43, 22, 6]
abbrev dktX7_triple_1 : List UInt8 := dkwX7_triple_1 ++ dktX7_triple_2
def dkwX7_triple_0 : List UInt8 := [3, 54, 8, 21, 8, 16, 10, 162, 0, 23, 43, 21, 8, 21, 8, 154, 0, 7, 10, 167, 0, 4, 9, 80]
abbrev dktX7_triple_0 : List UInt8 := dkwX7_triple_0 ++ dktX7_triple_1
theorem dksX7_triple_0 : cX7_triple.data.toList.drop 0 = dktX7_triple_0 := by decide +kernel
theorem dksX7_triple_1 : cX7_triple.data.toList.drop 24 = dktX7_triple_1 := dk_seg dksX7_triple_0 24 rfl rfl
theorem dksX7_triple_2 : cX7_triple.data.toList.drop 47 = dktX7_triple_2 := dk_seg dksX7_triple_1 23 rfl rfl
theorem dX7_triple_0 : decode cX7_triple 0 = .ok (.iconst 0, 1) := dk_3 (dk_at dksX7_triple_0 0 rfl rfl)
theorem dX7_triple_1 : decode cX7_triple 1 = .ok (.istore 8, 2) := dk_54 8 (dk_at dksX7_triple_0 1 rfl rfl)
theorem dX7_triple_3 : decode cX7_triple 3 = .ok (.iload 8, 2) := dk_21 8 (dk_at dksX7_triple_0 3 rfl rfl)
theorem dX7_triple_5 : decode cX7_triple 5 = .ok (.bipush 10, 2) := dk_16 10 (dk_at dksX7_triple_0 5 rfl rfl)
theorem dX7_triple_7 : decode cX7_triple 7 = .ok (.if_icmp .ge 23, 3) := dk_162 0 23 (dk_at dksX7_triple_0 7 rfl rfl)
theorem dX7_triple_10 : decode cX7_triple 10 = .ok (.aload_n 1, 1) := dk_43 (dk_at dksX7_triple_0 10 rfl rfl)
theorem dX7_triple_11 : decode cX7_triple 11 = .ok (.iload 8, 2) := dk_21 8 (dk_at dksX7_triple_0 11 rfl rfl)
theorem dX7_triple_13 : decode cX7_triple 13 = .ok (.iload 8, 2) := dk_21 8 (dk_at dksX7_triple_0 13 rfl rfl)
theorem dX7_triple_15 : decode cX7_triple 15 = .ok (.ifCond .ne 7, 3) := dk_154 0 7 (dk_at dksX7_triple_0 15 rfl rfl)
theorem dX7_triple_18 : decode cX7_triple 18 = .ok (.lconst 1, 1) := dk_10 (dk_at dksX7_triple_0 18 rfl rfl)
theorem dX7_triple_19 : decode cX7_triple 19 = .ok (.goto 4, 3) := dk_167 0 4 (dk_at dksX7_triple_0 19 rfl rfl)
theorem dX7_triple_22 : decode cX7_triple 22 = .ok (.lconst 0, 1) := dk_9 (dk_at dksX7_triple_0 22 rfl rfl)
theorem dX7_triple_23 : decode cX7_triple 23 = .ok (.lastore, 1) := dk_80 (dk_at dksX7_triple_0 23 rfl rfl)
theorem dX7_triple_24 : decode cX7_triple 24 = .ok (.iinc 8 1, 3) := dk_132 8 1 (dk_at dksX7_triple_1 0 rfl rfl)
theorem dX7_triple_27 : decode cX7_triple 27 = .ok (.goto (-24), 3) := dk_167 255 232 (dk_at dksX7_triple_1 3 rfl rfl)
theorem dX7_triple_30 : decode cX7_triple 30 = .ok (.aload_n 0, 1) := dk_42 (dk_at dksX7_triple_1 6 rfl rfl)
theorem dX7_triple_31 : decode cX7_triple 31 = .ok (.aload_n 1, 1) := dk_43 (dk_at dksX7_triple_1 7 rfl rfl)
theorem dX7_triple_32 : decode cX7_triple 32 = .ok (.lload_n 2, 1) := dk_32 (dk_at dksX7_triple_1 8 rfl rfl)
theorem dX7_triple_33 : decode cX7_triple 33 = .ok (.invokevirtual 447, 3) := dk_182 1 191 (dk_at dksX7_triple_1 9 rfl rfl)
theorem dX7_triple_36 : decode cX7_triple 36 = .ok (.aload_n 0, 1) := dk_42 (dk_at dksX7_triple_1 12 rfl rfl)
theorem dX7_triple_37 : decode cX7_triple 37 = .ok (.aload_n 1, 1) := dk_43 (dk_at dksX7_triple_1 13 rfl rfl)
theorem dX7_triple_38 : decode cX7_triple 38 = .ok (.lload 4, 2) := dk_22 4 (dk_at dksX7_triple_1 14 rfl rfl)
theorem dX7_triple_40 : decode cX7_triple 40 = .ok (.invokevirtual 447, 3) := dk_182 1 191 (dk_at dksX7_triple_1 16 rfl rfl)
theorem dX7_triple_43 : decode cX7_triple 43 = .ok (.aload_n 0, 1) := dk_42 (dk_at dksX7_triple_1 19 rfl rfl)
theorem dX7_triple_44 : decode cX7_triple 44 = .ok (.aload_n 1, 1) := dk_43 (dk_at dksX7_triple_1 20 rfl rfl)
theorem dX7_triple_45 : decode cX7_triple 45 = .ok (.lload 6, 2) := dk_22 6 (dk_at dksX7_triple_1 21 rfl rfl)
theorem dX7_triple_47 : decode cX7_triple 47 = .ok (.invokevirtual 447, 3) := dk_182 1 191 (dk_at dksX7_triple_2 0 rfl rfl)
theorem dX7_triple_50 : decode cX7_triple 50 = .ok (.return_, 1) := dk_177 (dk_at dksX7_triple_2 3 rfl rfl)
abbrev cX7_multiply : ByteArray := prog_16_method_84_code
def yX7_multiply : MethodName := ⟨RX7, "multiply", "([JJ)V"⟩
def dkwX7_multiply_6 : List UInt8 := [180, 0, 115, 21, 6, 47, 80, 132, 6, 1, 167, 255, 235, 177]
abbrev dktX7_multiply_6 : List UInt8 := dkwX7_multiply_6 ++ []
def dkwX7_multiply_5 : List UInt8 := [109, 55, 4, 132, 6, 1, 167, 255, 162, 3, 54, 6, 21, 6, 16, 10, 162, 0, 20, 43, 21, 6, 42]
abbrev dktX7_multiply_5 : List UInt8 := dkwX7_multiply_5 ++ dktX7_multiply_6
def dkwX7_multiply_4 : List UInt8 := [20, 1, 71, 113, 80, 22, 12, 20, 1, 71, 109, 55, 9, 132, 11, 1, 167, 255, 196, 22, 4, 20, 1, 71]
abbrev dktX7_multiply_4 : List UInt8 := dkwX7_multiply_4 ++ dktX7_multiply_5
def dkwX7_multiply_3 : List UInt8 := [21, 11, 47, 22, 7, 105, 97, 22, 9, 97, 55, 12, 42, 180, 0, 115, 21, 11, 21, 6, 96, 22, 12]
abbrev dktX7_multiply_3 : List UInt8 := dkwX7_multiply_3 ++ dktX7_multiply_4
def dkwX7_multiply_2 : List UInt8 := [54, 11, 21, 11, 21, 6, 96, 16, 10, 162, 0, 56, 42, 180, 0, 115, 21, 11, 21, 6, 96, 47, 43]
abbrev dktX7_multiply_2 : List UInt8 := dkwX7_multiply_2 ++ dktX7_multiply_3
def dkwX7_multiply_1 : List UInt8 := [32, 55, 4, 3, 54, 6, 21, 6, 6, 162, 0, 94, 22, 4, 20, 1, 71, 113, 55, 7, 9, 55, 9, 3]
abbrev dktX7_multiply_1 : List UInt8 := dkwX7_multiply_1 ++ dktX7_multiply_2
def dkwX7_multiply_0 : List UInt8 := [3, 54, 4, 21, 4, 16, 10, 162, 0, 17, 42, 180, 0, 115, 21, 4, 9, 80, 132, 4, 1, 167, 255, 238]
abbrev dktX7_multiply_0 : List UInt8 := dkwX7_multiply_0 ++ dktX7_multiply_1
theorem dksX7_multiply_0 : cX7_multiply.data.toList.drop 0 = dktX7_multiply_0 := by decide +kernel
theorem dksX7_multiply_1 : cX7_multiply.data.toList.drop 24 = dktX7_multiply_1 := dk_seg dksX7_multiply_0 24 rfl rfl
theorem dksX7_multiply_2 : cX7_multiply.data.toList.drop 48 = dktX7_multiply_2 := dk_seg dksX7_multiply_1 24 rfl rfl
theorem dksX7_multiply_3 : cX7_multiply.data.toList.drop 71 = dktX7_multiply_3 := dk_seg dksX7_multiply_2 23 rfl rfl
theorem dksX7_multiply_4 : cX7_multiply.data.toList.drop 94 = dktX7_multiply_4 := dk_seg dksX7_multiply_3 23 rfl rfl
theorem dksX7_multiply_5 : cX7_multiply.data.toList.drop 118 = dktX7_multiply_5 := dk_seg dksX7_multiply_4 24 rfl rfl
theorem dksX7_multiply_6 : cX7_multiply.data.toList.drop 141 = dktX7_multiply_6 := dk_seg dksX7_multiply_5 23 rfl rfl
theorem dX7_multiply_0 : decode cX7_multiply 0 = .ok (.iconst 0, 1) := dk_3 (dk_at dksX7_multiply_0 0 rfl rfl)
theorem dX7_multiply_1 : decode cX7_multiply 1 = .ok (.istore 4, 2) := dk_54 4 (dk_at dksX7_multiply_0 1 rfl rfl)
theorem dX7_multiply_3 : decode cX7_multiply 3 = .ok (.iload 4, 2) := dk_21 4 (dk_at dksX7_multiply_0 3 rfl rfl)
theorem dX7_multiply_5 : decode cX7_multiply 5 = .ok (.bipush 10, 2) := dk_16 10 (dk_at dksX7_multiply_0 5 rfl rfl)
theorem dX7_multiply_7 : decode cX7_multiply 7 = .ok (.if_icmp .ge 17, 3) := dk_162 0 17 (dk_at dksX7_multiply_0 7 rfl rfl)
theorem dX7_multiply_10 : decode cX7_multiply 10 = .ok (.aload_n 0, 1) := dk_42 (dk_at dksX7_multiply_0 10 rfl rfl)
theorem dX7_multiply_11 : decode cX7_multiply 11 = .ok (.getfield 115, 3) := dk_180 0 115 (dk_at dksX7_multiply_0 11 rfl rfl)
theorem dX7_multiply_14 : decode cX7_multiply 14 = .ok (.iload 4, 2) := dk_21 4 (dk_at dksX7_multiply_0 14 rfl rfl)
theorem dX7_multiply_16 : decode cX7_multiply 16 = .ok (.lconst 0, 1) := dk_9 (dk_at dksX7_multiply_0 16 rfl rfl)
theorem dX7_multiply_17 : decode cX7_multiply 17 = .ok (.lastore, 1) := dk_80 (dk_at dksX7_multiply_0 17 rfl rfl)
theorem dX7_multiply_18 : decode cX7_multiply 18 = .ok (.iinc 4 1, 3) := dk_132 4 1 (dk_at dksX7_multiply_0 18 rfl rfl)
theorem dX7_multiply_21 : decode cX7_multiply 21 = .ok (.goto (-18), 3) := dk_167 255 238 (dk_at dksX7_multiply_0 21 rfl rfl)
theorem dX7_multiply_24 : decode cX7_multiply 24 = .ok (.lload_n 2, 1) := dk_32 (dk_at dksX7_multiply_1 0 rfl rfl)
theorem dX7_multiply_25 : decode cX7_multiply 25 = .ok (.lstore 4, 2) := dk_55 4 (dk_at dksX7_multiply_1 1 rfl rfl)
theorem dX7_multiply_27 : decode cX7_multiply 27 = .ok (.iconst 0, 1) := dk_3 (dk_at dksX7_multiply_1 3 rfl rfl)
theorem dX7_multiply_28 : decode cX7_multiply 28 = .ok (.istore 6, 2) := dk_54 6 (dk_at dksX7_multiply_1 4 rfl rfl)
theorem dX7_multiply_30 : decode cX7_multiply 30 = .ok (.iload 6, 2) := dk_21 6 (dk_at dksX7_multiply_1 6 rfl rfl)
theorem dX7_multiply_32 : decode cX7_multiply 32 = .ok (.iconst 3, 1) := dk_6 (dk_at dksX7_multiply_1 8 rfl rfl)
theorem dX7_multiply_33 : decode cX7_multiply 33 = .ok (.if_icmp .ge 94, 3) := dk_162 0 94 (dk_at dksX7_multiply_1 9 rfl rfl)
theorem dX7_multiply_36 : decode cX7_multiply 36 = .ok (.lload 4, 2) := dk_22 4 (dk_at dksX7_multiply_1 12 rfl rfl)
theorem dX7_multiply_38 : decode cX7_multiply 38 = .ok (.ldc2_w 327, 3) := dk_20 1 71 (dk_at dksX7_multiply_1 14 rfl rfl)
theorem dX7_multiply_41 : decode cX7_multiply 41 = .ok (.lrem, 1) := dk_113 (dk_at dksX7_multiply_1 17 rfl rfl)
theorem dX7_multiply_42 : decode cX7_multiply 42 = .ok (.lstore 7, 2) := dk_55 7 (dk_at dksX7_multiply_1 18 rfl rfl)
theorem dX7_multiply_44 : decode cX7_multiply 44 = .ok (.lconst 0, 1) := dk_9 (dk_at dksX7_multiply_1 20 rfl rfl)
theorem dX7_multiply_45 : decode cX7_multiply 45 = .ok (.lstore 9, 2) := dk_55 9 (dk_at dksX7_multiply_1 21 rfl rfl)
theorem dX7_multiply_47 : decode cX7_multiply 47 = .ok (.iconst 0, 1) := dk_3 (dk_at dksX7_multiply_1 23 rfl rfl)
theorem dX7_multiply_48 : decode cX7_multiply 48 = .ok (.istore 11, 2) := dk_54 11 (dk_at dksX7_multiply_2 0 rfl rfl)
theorem dX7_multiply_50 : decode cX7_multiply 50 = .ok (.iload 11, 2) := dk_21 11 (dk_at dksX7_multiply_2 2 rfl rfl)
theorem dX7_multiply_52 : decode cX7_multiply 52 = .ok (.iload 6, 2) := dk_21 6 (dk_at dksX7_multiply_2 4 rfl rfl)
theorem dX7_multiply_54 : decode cX7_multiply 54 = .ok (.iadd, 1) := dk_96 (dk_at dksX7_multiply_2 6 rfl rfl)
theorem dX7_multiply_55 : decode cX7_multiply 55 = .ok (.bipush 10, 2) := dk_16 10 (dk_at dksX7_multiply_2 7 rfl rfl)
theorem dX7_multiply_57 : decode cX7_multiply 57 = .ok (.if_icmp .ge 56, 3) := dk_162 0 56 (dk_at dksX7_multiply_2 9 rfl rfl)
theorem dX7_multiply_60 : decode cX7_multiply 60 = .ok (.aload_n 0, 1) := dk_42 (dk_at dksX7_multiply_2 12 rfl rfl)
theorem dX7_multiply_61 : decode cX7_multiply 61 = .ok (.getfield 115, 3) := dk_180 0 115 (dk_at dksX7_multiply_2 13 rfl rfl)
theorem dX7_multiply_64 : decode cX7_multiply 64 = .ok (.iload 11, 2) := dk_21 11 (dk_at dksX7_multiply_2 16 rfl rfl)
theorem dX7_multiply_66 : decode cX7_multiply 66 = .ok (.iload 6, 2) := dk_21 6 (dk_at dksX7_multiply_2 18 rfl rfl)
theorem dX7_multiply_68 : decode cX7_multiply 68 = .ok (.iadd, 1) := dk_96 (dk_at dksX7_multiply_2 20 rfl rfl)
theorem dX7_multiply_69 : decode cX7_multiply 69 = .ok (.laload, 1) := dk_47 (dk_at dksX7_multiply_2 21 rfl rfl)
theorem dX7_multiply_70 : decode cX7_multiply 70 = .ok (.aload_n 1, 1) := dk_43 (dk_at dksX7_multiply_2 22 rfl rfl)
theorem dX7_multiply_71 : decode cX7_multiply 71 = .ok (.iload 11, 2) := dk_21 11 (dk_at dksX7_multiply_3 0 rfl rfl)
theorem dX7_multiply_73 : decode cX7_multiply 73 = .ok (.laload, 1) := dk_47 (dk_at dksX7_multiply_3 2 rfl rfl)
theorem dX7_multiply_74 : decode cX7_multiply 74 = .ok (.lload 7, 2) := dk_22 7 (dk_at dksX7_multiply_3 3 rfl rfl)
theorem dX7_multiply_76 : decode cX7_multiply 76 = .ok (.lmul, 1) := dk_105 (dk_at dksX7_multiply_3 5 rfl rfl)
theorem dX7_multiply_77 : decode cX7_multiply 77 = .ok (.ladd, 1) := dk_97 (dk_at dksX7_multiply_3 6 rfl rfl)
theorem dX7_multiply_78 : decode cX7_multiply 78 = .ok (.lload 9, 2) := dk_22 9 (dk_at dksX7_multiply_3 7 rfl rfl)
theorem dX7_multiply_80 : decode cX7_multiply 80 = .ok (.ladd, 1) := dk_97 (dk_at dksX7_multiply_3 9 rfl rfl)
theorem dX7_multiply_81 : decode cX7_multiply 81 = .ok (.lstore 12, 2) := dk_55 12 (dk_at dksX7_multiply_3 10 rfl rfl)
theorem dX7_multiply_83 : decode cX7_multiply 83 = .ok (.aload_n 0, 1) := dk_42 (dk_at dksX7_multiply_3 12 rfl rfl)
theorem dX7_multiply_84 : decode cX7_multiply 84 = .ok (.getfield 115, 3) := dk_180 0 115 (dk_at dksX7_multiply_3 13 rfl rfl)
theorem dX7_multiply_87 : decode cX7_multiply 87 = .ok (.iload 11, 2) := dk_21 11 (dk_at dksX7_multiply_3 16 rfl rfl)
theorem dX7_multiply_89 : decode cX7_multiply 89 = .ok (.iload 6, 2) := dk_21 6 (dk_at dksX7_multiply_3 18 rfl rfl)
theorem dX7_multiply_91 : decode cX7_multiply 91 = .ok (.iadd, 1) := dk_96 (dk_at dksX7_multiply_3 20 rfl rfl)
theorem dX7_multiply_92 : decode cX7_multiply 92 = .ok (.lload 12, 2) := dk_22 12 (dk_at dksX7_multiply_3 21 rfl rfl)
theorem dX7_multiply_94 : decode cX7_multiply 94 = .ok (.ldc2_w 327, 3) := dk_20 1 71 (dk_at dksX7_multiply_4 0 rfl rfl)
theorem dX7_multiply_97 : decode cX7_multiply 97 = .ok (.lrem, 1) := dk_113 (dk_at dksX7_multiply_4 3 rfl rfl)
theorem dX7_multiply_98 : decode cX7_multiply 98 = .ok (.lastore, 1) := dk_80 (dk_at dksX7_multiply_4 4 rfl rfl)
theorem dX7_multiply_99 : decode cX7_multiply 99 = .ok (.lload 12, 2) := dk_22 12 (dk_at dksX7_multiply_4 5 rfl rfl)
theorem dX7_multiply_101 : decode cX7_multiply 101 = .ok (.ldc2_w 327, 3) := dk_20 1 71 (dk_at dksX7_multiply_4 7 rfl rfl)
theorem dX7_multiply_104 : decode cX7_multiply 104 = .ok (.ldiv, 1) := dk_109 (dk_at dksX7_multiply_4 10 rfl rfl)
theorem dX7_multiply_105 : decode cX7_multiply 105 = .ok (.lstore 9, 2) := dk_55 9 (dk_at dksX7_multiply_4 11 rfl rfl)
theorem dX7_multiply_107 : decode cX7_multiply 107 = .ok (.iinc 11 1, 3) := dk_132 11 1 (dk_at dksX7_multiply_4 13 rfl rfl)
theorem dX7_multiply_110 : decode cX7_multiply 110 = .ok (.goto (-60), 3) := dk_167 255 196 (dk_at dksX7_multiply_4 16 rfl rfl)
theorem dX7_multiply_113 : decode cX7_multiply 113 = .ok (.lload 4, 2) := dk_22 4 (dk_at dksX7_multiply_4 19 rfl rfl)
theorem dX7_multiply_115 : decode cX7_multiply 115 = .ok (.ldc2_w 327, 3) := dk_20 1 71 (dk_at dksX7_multiply_4 21 rfl rfl)
theorem dX7_multiply_118 : decode cX7_multiply 118 = .ok (.ldiv, 1) := dk_109 (dk_at dksX7_multiply_5 0 rfl rfl)
theorem dX7_multiply_119 : decode cX7_multiply 119 = .ok (.lstore 4, 2) := dk_55 4 (dk_at dksX7_multiply_5 1 rfl rfl)
theorem dX7_multiply_121 : decode cX7_multiply 121 = .ok (.iinc 6 1, 3) := dk_132 6 1 (dk_at dksX7_multiply_5 3 rfl rfl)
theorem dX7_multiply_124 : decode cX7_multiply 124 = .ok (.goto (-94), 3) := dk_167 255 162 (dk_at dksX7_multiply_5 6 rfl rfl)
theorem dX7_multiply_127 : decode cX7_multiply 127 = .ok (.iconst 0, 1) := dk_3 (dk_at dksX7_multiply_5 9 rfl rfl)
theorem dX7_multiply_128 : decode cX7_multiply 128 = .ok (.istore 6, 2) := dk_54 6 (dk_at dksX7_multiply_5 10 rfl rfl)
theorem dX7_multiply_130 : decode cX7_multiply 130 = .ok (.iload 6, 2) := dk_21 6 (dk_at dksX7_multiply_5 12 rfl rfl)
theorem dX7_multiply_132 : decode cX7_multiply 132 = .ok (.bipush 10, 2) := dk_16 10 (dk_at dksX7_multiply_5 14 rfl rfl)
theorem dX7_multiply_134 : decode cX7_multiply 134 = .ok (.if_icmp .ge 20, 3) := dk_162 0 20 (dk_at dksX7_multiply_5 16 rfl rfl)
theorem dX7_multiply_137 : decode cX7_multiply 137 = .ok (.aload_n 1, 1) := dk_43 (dk_at dksX7_multiply_5 19 rfl rfl)
theorem dX7_multiply_138 : decode cX7_multiply 138 = .ok (.iload 6, 2) := dk_21 6 (dk_at dksX7_multiply_5 20 rfl rfl)
theorem dX7_multiply_140 : decode cX7_multiply 140 = .ok (.aload_n 0, 1) := dk_42 (dk_at dksX7_multiply_5 22 rfl rfl)
theorem dX7_multiply_141 : decode cX7_multiply 141 = .ok (.getfield 115, 3) := dk_180 0 115 (dk_at dksX7_multiply_6 0 rfl rfl)
theorem dX7_multiply_144 : decode cX7_multiply 144 = .ok (.iload 6, 2) := dk_21 6 (dk_at dksX7_multiply_6 3 rfl rfl)
theorem dX7_multiply_146 : decode cX7_multiply 146 = .ok (.laload, 1) := dk_47 (dk_at dksX7_multiply_6 5 rfl rfl)
theorem dX7_multiply_147 : decode cX7_multiply 147 = .ok (.lastore, 1) := dk_80 (dk_at dksX7_multiply_6 6 rfl rfl)
theorem dX7_multiply_148 : decode cX7_multiply 148 = .ok (.iinc 6 1, 3) := dk_132 6 1 (dk_at dksX7_multiply_6 7 rfl rfl)
theorem dX7_multiply_151 : decode cX7_multiply 151 = .ok (.goto (-21), 3) := dk_167 255 235 (dk_at dksX7_multiply_6 10 rfl rfl)
theorem dX7_multiply_154 : decode cX7_multiply 154 = .ok (.return_, 1) := dk_177 (dk_at dksX7_multiply_6 13 rfl rfl)
abbrev cX7_addFactor : ByteArray := prog_16_method_92_code
def yX7_addFactor : MethodName := ⟨RX7, "addFactor", "()V"⟩
def dkwX7_addFactor_2 : List UInt8 := [132, 3, 1, 167, 255, 211, 177]
abbrev dktX7_addFactor_2 : List UInt8 := dkwX7_addFactor_2 ++ []
def dkwX7_addFactor_1 : List UInt8 := [97, 55, 4, 42, 180, 0, 106, 29, 22, 4, 20, 1, 71, 113, 80, 22, 4, 20, 1, 71, 109, 64]
abbrev dktX7_addFactor_1 : List UInt8 := dkwX7_addFactor_1 ++ dktX7_addFactor_2
def dkwX7_addFactor_0 : List UInt8 := [9, 64, 3, 62, 29, 16, 10, 162, 0, 45, 42, 180, 0, 106, 29, 47, 42, 180, 0, 112, 29, 47, 97, 31]
abbrev dktX7_addFactor_0 : List UInt8 := dkwX7_addFactor_0 ++ dktX7_addFactor_1
theorem dksX7_addFactor_0 : cX7_addFactor.data.toList.drop 0 = dktX7_addFactor_0 := by decide +kernel
theorem dksX7_addFactor_1 : cX7_addFactor.data.toList.drop 24 = dktX7_addFactor_1 := dk_seg dksX7_addFactor_0 24 rfl rfl
theorem dksX7_addFactor_2 : cX7_addFactor.data.toList.drop 46 = dktX7_addFactor_2 := dk_seg dksX7_addFactor_1 22 rfl rfl
theorem dX7_addFactor_0 : decode cX7_addFactor 0 = .ok (.lconst 0, 1) := dk_9 (dk_at dksX7_addFactor_0 0 rfl rfl)
theorem dX7_addFactor_1 : decode cX7_addFactor 1 = .ok (.lstore_n 1, 1) := dk_64 (dk_at dksX7_addFactor_0 1 rfl rfl)
theorem dX7_addFactor_2 : decode cX7_addFactor 2 = .ok (.iconst 0, 1) := dk_3 (dk_at dksX7_addFactor_0 2 rfl rfl)
theorem dX7_addFactor_3 : decode cX7_addFactor 3 = .ok (.istore_n 3, 1) := dk_62 (dk_at dksX7_addFactor_0 3 rfl rfl)
theorem dX7_addFactor_4 : decode cX7_addFactor 4 = .ok (.iload_n 3, 1) := dk_29 (dk_at dksX7_addFactor_0 4 rfl rfl)
theorem dX7_addFactor_5 : decode cX7_addFactor 5 = .ok (.bipush 10, 2) := dk_16 10 (dk_at dksX7_addFactor_0 5 rfl rfl)
theorem dX7_addFactor_7 : decode cX7_addFactor 7 = .ok (.if_icmp .ge 45, 3) := dk_162 0 45 (dk_at dksX7_addFactor_0 7 rfl rfl)
theorem dX7_addFactor_10 : decode cX7_addFactor 10 = .ok (.aload_n 0, 1) := dk_42 (dk_at dksX7_addFactor_0 10 rfl rfl)
theorem dX7_addFactor_11 : decode cX7_addFactor 11 = .ok (.getfield 106, 3) := dk_180 0 106 (dk_at dksX7_addFactor_0 11 rfl rfl)
theorem dX7_addFactor_14 : decode cX7_addFactor 14 = .ok (.iload_n 3, 1) := dk_29 (dk_at dksX7_addFactor_0 14 rfl rfl)
theorem dX7_addFactor_15 : decode cX7_addFactor 15 = .ok (.laload, 1) := dk_47 (dk_at dksX7_addFactor_0 15 rfl rfl)
theorem dX7_addFactor_16 : decode cX7_addFactor 16 = .ok (.aload_n 0, 1) := dk_42 (dk_at dksX7_addFactor_0 16 rfl rfl)
theorem dX7_addFactor_17 : decode cX7_addFactor 17 = .ok (.getfield 112, 3) := dk_180 0 112 (dk_at dksX7_addFactor_0 17 rfl rfl)
theorem dX7_addFactor_20 : decode cX7_addFactor 20 = .ok (.iload_n 3, 1) := dk_29 (dk_at dksX7_addFactor_0 20 rfl rfl)
theorem dX7_addFactor_21 : decode cX7_addFactor 21 = .ok (.laload, 1) := dk_47 (dk_at dksX7_addFactor_0 21 rfl rfl)
theorem dX7_addFactor_22 : decode cX7_addFactor 22 = .ok (.ladd, 1) := dk_97 (dk_at dksX7_addFactor_0 22 rfl rfl)
theorem dX7_addFactor_23 : decode cX7_addFactor 23 = .ok (.lload_n 1, 1) := dk_31 (dk_at dksX7_addFactor_0 23 rfl rfl)
theorem dX7_addFactor_24 : decode cX7_addFactor 24 = .ok (.ladd, 1) := dk_97 (dk_at dksX7_addFactor_1 0 rfl rfl)
theorem dX7_addFactor_25 : decode cX7_addFactor 25 = .ok (.lstore 4, 2) := dk_55 4 (dk_at dksX7_addFactor_1 1 rfl rfl)
theorem dX7_addFactor_27 : decode cX7_addFactor 27 = .ok (.aload_n 0, 1) := dk_42 (dk_at dksX7_addFactor_1 3 rfl rfl)
theorem dX7_addFactor_28 : decode cX7_addFactor 28 = .ok (.getfield 106, 3) := dk_180 0 106 (dk_at dksX7_addFactor_1 4 rfl rfl)
theorem dX7_addFactor_31 : decode cX7_addFactor 31 = .ok (.iload_n 3, 1) := dk_29 (dk_at dksX7_addFactor_1 7 rfl rfl)
theorem dX7_addFactor_32 : decode cX7_addFactor 32 = .ok (.lload 4, 2) := dk_22 4 (dk_at dksX7_addFactor_1 8 rfl rfl)
theorem dX7_addFactor_34 : decode cX7_addFactor 34 = .ok (.ldc2_w 327, 3) := dk_20 1 71 (dk_at dksX7_addFactor_1 10 rfl rfl)
theorem dX7_addFactor_37 : decode cX7_addFactor 37 = .ok (.lrem, 1) := dk_113 (dk_at dksX7_addFactor_1 13 rfl rfl)
theorem dX7_addFactor_38 : decode cX7_addFactor 38 = .ok (.lastore, 1) := dk_80 (dk_at dksX7_addFactor_1 14 rfl rfl)
theorem dX7_addFactor_39 : decode cX7_addFactor 39 = .ok (.lload 4, 2) := dk_22 4 (dk_at dksX7_addFactor_1 15 rfl rfl)
theorem dX7_addFactor_41 : decode cX7_addFactor 41 = .ok (.ldc2_w 327, 3) := dk_20 1 71 (dk_at dksX7_addFactor_1 17 rfl rfl)
theorem dX7_addFactor_44 : decode cX7_addFactor 44 = .ok (.ldiv, 1) := dk_109 (dk_at dksX7_addFactor_1 20 rfl rfl)
theorem dX7_addFactor_45 : decode cX7_addFactor 45 = .ok (.lstore_n 1, 1) := dk_64 (dk_at dksX7_addFactor_1 21 rfl rfl)
theorem dX7_addFactor_46 : decode cX7_addFactor 46 = .ok (.iinc 3 1, 3) := dk_132 3 1 (dk_at dksX7_addFactor_2 0 rfl rfl)
theorem dX7_addFactor_49 : decode cX7_addFactor 49 = .ok (.goto (-45), 3) := dk_167 255 211 (dk_at dksX7_addFactor_2 3 rfl rfl)
theorem dX7_addFactor_52 : decode cX7_addFactor 52 = .ok (.return_, 1) := dk_177 (dk_at dksX7_addFactor_2 6 rfl rfl)
abbrev cX7_often : ByteArray := prog_16_method_87_code
def yX7_often : MethodName := ⟨RX7, "often", "(IZ)I"⟩
def dkwX7_often_5 : List UInt8 := [164, 0, 7, 27, 167, 0, 4, 29, 172]
abbrev dktX7_often_5 : List UInt8 := dkwX7_often_5 ++ []
def dkwX7_often_4 : List UInt8 := [180, 0, 112, 42, 180, 0, 106, 184, 1, 199, 154, 0, 7, 4, 167, 0, 4, 3, 100, 62, 29, 27]
abbrev dktX7_often_4 : List UInt8 := dkwX7_often_4 ++ dktX7_often_5
def dkwX7_often_3 : List UInt8 := [42, 42, 180, 0, 109, 182, 1, 195, 42, 42, 180, 0, 112, 29, 133, 182, 1, 191, 29, 28, 154, 0, 21, 42]
abbrev dktX7_often_3 : List UInt8 := dkwX7_often_3 ++ dktX7_often_4
def dkwX7_often_2 : List UInt8 := [180, 0, 106, 184, 1, 199, 157, 0, 9, 21, 5, 62, 167, 0, 9, 21, 5, 4, 100, 54, 4, 167, 255, 195]
abbrev dktX7_often_2 : List UInt8 := dkwX7_often_2 ++ dktX7_often_3
def dkwX7_often_1 : List UInt8 := [42, 180, 0, 109, 182, 1, 195, 42, 42, 180, 0, 112, 21, 5, 133, 182, 1, 191, 42, 180, 0, 112, 42]
abbrev dktX7_often_1 : List UInt8 := dkwX7_often_1 ++ dktX7_often_2
def dkwX7_often_0 : List UInt8 := [3, 62, 27, 4, 96, 54, 4, 29, 21, 4, 162, 0, 61, 29, 21, 4, 96, 4, 96, 5, 108, 54, 5, 42]
abbrev dktX7_often_0 : List UInt8 := dkwX7_often_0 ++ dktX7_often_1
theorem dksX7_often_0 : cX7_often.data.toList.drop 0 = dktX7_often_0 := by decide +kernel
theorem dksX7_often_1 : cX7_often.data.toList.drop 24 = dktX7_often_1 := dk_seg dksX7_often_0 24 rfl rfl
theorem dksX7_often_2 : cX7_often.data.toList.drop 47 = dktX7_often_2 := dk_seg dksX7_often_1 23 rfl rfl
theorem dksX7_often_3 : cX7_often.data.toList.drop 71 = dktX7_often_3 := dk_seg dksX7_often_2 24 rfl rfl
theorem dksX7_often_4 : cX7_often.data.toList.drop 95 = dktX7_often_4 := dk_seg dksX7_often_3 24 rfl rfl
theorem dksX7_often_5 : cX7_often.data.toList.drop 117 = dktX7_often_5 := dk_seg dksX7_often_4 22 rfl rfl
theorem dX7_often_0 : decode cX7_often 0 = .ok (.iconst 0, 1) := dk_3 (dk_at dksX7_often_0 0 rfl rfl)
theorem dX7_often_1 : decode cX7_often 1 = .ok (.istore_n 3, 1) := dk_62 (dk_at dksX7_often_0 1 rfl rfl)
theorem dX7_often_2 : decode cX7_often 2 = .ok (.iload_n 1, 1) := dk_27 (dk_at dksX7_often_0 2 rfl rfl)
theorem dX7_often_3 : decode cX7_often 3 = .ok (.iconst 1, 1) := dk_4 (dk_at dksX7_often_0 3 rfl rfl)
theorem dX7_often_4 : decode cX7_often 4 = .ok (.iadd, 1) := dk_96 (dk_at dksX7_often_0 4 rfl rfl)
theorem dX7_often_5 : decode cX7_often 5 = .ok (.istore 4, 2) := dk_54 4 (dk_at dksX7_often_0 5 rfl rfl)
theorem dX7_often_7 : decode cX7_often 7 = .ok (.iload_n 3, 1) := dk_29 (dk_at dksX7_often_0 7 rfl rfl)
theorem dX7_often_8 : decode cX7_often 8 = .ok (.iload 4, 2) := dk_21 4 (dk_at dksX7_often_0 8 rfl rfl)
theorem dX7_often_10 : decode cX7_often 10 = .ok (.if_icmp .ge 61, 3) := dk_162 0 61 (dk_at dksX7_often_0 10 rfl rfl)
theorem dX7_often_13 : decode cX7_often 13 = .ok (.iload_n 3, 1) := dk_29 (dk_at dksX7_often_0 13 rfl rfl)
theorem dX7_often_14 : decode cX7_often 14 = .ok (.iload 4, 2) := dk_21 4 (dk_at dksX7_often_0 14 rfl rfl)
theorem dX7_often_16 : decode cX7_often 16 = .ok (.iadd, 1) := dk_96 (dk_at dksX7_often_0 16 rfl rfl)
theorem dX7_often_17 : decode cX7_often 17 = .ok (.iconst 1, 1) := dk_4 (dk_at dksX7_often_0 17 rfl rfl)
theorem dX7_often_18 : decode cX7_often 18 = .ok (.iadd, 1) := dk_96 (dk_at dksX7_often_0 18 rfl rfl)
theorem dX7_often_19 : decode cX7_often 19 = .ok (.iconst 2, 1) := dk_5 (dk_at dksX7_often_0 19 rfl rfl)
theorem dX7_often_20 : decode cX7_often 20 = .ok (.idiv, 1) := dk_108 (dk_at dksX7_often_0 20 rfl rfl)
theorem dX7_often_21 : decode cX7_often 21 = .ok (.istore 5, 2) := dk_54 5 (dk_at dksX7_often_0 21 rfl rfl)
theorem dX7_often_23 : decode cX7_often 23 = .ok (.aload_n 0, 1) := dk_42 (dk_at dksX7_often_0 23 rfl rfl)
theorem dX7_often_24 : decode cX7_often 24 = .ok (.aload_n 0, 1) := dk_42 (dk_at dksX7_often_1 0 rfl rfl)
theorem dX7_often_25 : decode cX7_often 25 = .ok (.getfield 109, 3) := dk_180 0 109 (dk_at dksX7_often_1 1 rfl rfl)
theorem dX7_often_28 : decode cX7_often 28 = .ok (.invokevirtual 451, 3) := dk_182 1 195 (dk_at dksX7_often_1 4 rfl rfl)
theorem dX7_often_31 : decode cX7_often 31 = .ok (.aload_n 0, 1) := dk_42 (dk_at dksX7_often_1 7 rfl rfl)
theorem dX7_often_32 : decode cX7_often 32 = .ok (.aload_n 0, 1) := dk_42 (dk_at dksX7_often_1 8 rfl rfl)
theorem dX7_often_33 : decode cX7_often 33 = .ok (.getfield 112, 3) := dk_180 0 112 (dk_at dksX7_often_1 9 rfl rfl)
theorem dX7_often_36 : decode cX7_often 36 = .ok (.iload 5, 2) := dk_21 5 (dk_at dksX7_often_1 12 rfl rfl)
theorem dX7_often_38 : decode cX7_often 38 = .ok (.i2l, 1) := dk_133 (dk_at dksX7_often_1 14 rfl rfl)
theorem dX7_often_39 : decode cX7_often 39 = .ok (.invokevirtual 447, 3) := dk_182 1 191 (dk_at dksX7_often_1 15 rfl rfl)
theorem dX7_often_42 : decode cX7_often 42 = .ok (.aload_n 0, 1) := dk_42 (dk_at dksX7_often_1 18 rfl rfl)
theorem dX7_often_43 : decode cX7_often 43 = .ok (.getfield 112, 3) := dk_180 0 112 (dk_at dksX7_often_1 19 rfl rfl)
theorem dX7_often_46 : decode cX7_often 46 = .ok (.aload_n 0, 1) := dk_42 (dk_at dksX7_often_1 22 rfl rfl)
theorem dX7_often_47 : decode cX7_often 47 = .ok (.getfield 106, 3) := dk_180 0 106 (dk_at dksX7_often_2 0 rfl rfl)
theorem dX7_often_50 : decode cX7_often 50 = .ok (.invokestatic 455, 3) := dk_184 1 199 (dk_at dksX7_often_2 3 rfl rfl)
theorem dX7_often_53 : decode cX7_often 53 = .ok (.ifCond .gt 9, 3) := dk_157 0 9 (dk_at dksX7_often_2 6 rfl rfl)
theorem dX7_often_56 : decode cX7_often 56 = .ok (.iload 5, 2) := dk_21 5 (dk_at dksX7_often_2 9 rfl rfl)
theorem dX7_often_58 : decode cX7_often 58 = .ok (.istore_n 3, 1) := dk_62 (dk_at dksX7_often_2 11 rfl rfl)
theorem dX7_often_59 : decode cX7_often 59 = .ok (.goto 9, 3) := dk_167 0 9 (dk_at dksX7_often_2 12 rfl rfl)
theorem dX7_often_62 : decode cX7_often 62 = .ok (.iload 5, 2) := dk_21 5 (dk_at dksX7_often_2 15 rfl rfl)
theorem dX7_often_64 : decode cX7_often 64 = .ok (.iconst 1, 1) := dk_4 (dk_at dksX7_often_2 17 rfl rfl)
theorem dX7_often_65 : decode cX7_often 65 = .ok (.isub, 1) := dk_100 (dk_at dksX7_often_2 18 rfl rfl)
theorem dX7_often_66 : decode cX7_often 66 = .ok (.istore 4, 2) := dk_54 4 (dk_at dksX7_often_2 19 rfl rfl)
theorem dX7_often_68 : decode cX7_often 68 = .ok (.goto (-61), 3) := dk_167 255 195 (dk_at dksX7_often_2 21 rfl rfl)
theorem dX7_often_71 : decode cX7_often 71 = .ok (.aload_n 0, 1) := dk_42 (dk_at dksX7_often_3 0 rfl rfl)
theorem dX7_often_72 : decode cX7_often 72 = .ok (.aload_n 0, 1) := dk_42 (dk_at dksX7_often_3 1 rfl rfl)
theorem dX7_often_73 : decode cX7_often 73 = .ok (.getfield 109, 3) := dk_180 0 109 (dk_at dksX7_often_3 2 rfl rfl)
theorem dX7_often_76 : decode cX7_often 76 = .ok (.invokevirtual 451, 3) := dk_182 1 195 (dk_at dksX7_often_3 5 rfl rfl)
theorem dX7_often_79 : decode cX7_often 79 = .ok (.aload_n 0, 1) := dk_42 (dk_at dksX7_often_3 8 rfl rfl)
theorem dX7_often_80 : decode cX7_often 80 = .ok (.aload_n 0, 1) := dk_42 (dk_at dksX7_often_3 9 rfl rfl)
theorem dX7_often_81 : decode cX7_often 81 = .ok (.getfield 112, 3) := dk_180 0 112 (dk_at dksX7_often_3 10 rfl rfl)
theorem dX7_often_84 : decode cX7_often 84 = .ok (.iload_n 3, 1) := dk_29 (dk_at dksX7_often_3 13 rfl rfl)
theorem dX7_often_85 : decode cX7_often 85 = .ok (.i2l, 1) := dk_133 (dk_at dksX7_often_3 14 rfl rfl)
theorem dX7_often_86 : decode cX7_often 86 = .ok (.invokevirtual 447, 3) := dk_182 1 191 (dk_at dksX7_often_3 15 rfl rfl)
theorem dX7_often_89 : decode cX7_often 89 = .ok (.iload_n 3, 1) := dk_29 (dk_at dksX7_often_3 18 rfl rfl)
theorem dX7_often_90 : decode cX7_often 90 = .ok (.iload_n 2, 1) := dk_28 (dk_at dksX7_often_3 19 rfl rfl)
theorem dX7_often_91 : decode cX7_often 91 = .ok (.ifCond .ne 21, 3) := dk_154 0 21 (dk_at dksX7_often_3 20 rfl rfl)
theorem dX7_often_94 : decode cX7_often 94 = .ok (.aload_n 0, 1) := dk_42 (dk_at dksX7_often_3 23 rfl rfl)
theorem dX7_often_95 : decode cX7_often 95 = .ok (.getfield 112, 3) := dk_180 0 112 (dk_at dksX7_often_4 0 rfl rfl)
theorem dX7_often_98 : decode cX7_often 98 = .ok (.aload_n 0, 1) := dk_42 (dk_at dksX7_often_4 3 rfl rfl)
theorem dX7_often_99 : decode cX7_often 99 = .ok (.getfield 106, 3) := dk_180 0 106 (dk_at dksX7_often_4 4 rfl rfl)
theorem dX7_often_102 : decode cX7_often 102 = .ok (.invokestatic 455, 3) := dk_184 1 199 (dk_at dksX7_often_4 7 rfl rfl)
theorem dX7_often_105 : decode cX7_often 105 = .ok (.ifCond .ne 7, 3) := dk_154 0 7 (dk_at dksX7_often_4 10 rfl rfl)
theorem dX7_often_108 : decode cX7_often 108 = .ok (.iconst 1, 1) := dk_4 (dk_at dksX7_often_4 13 rfl rfl)
theorem dX7_often_109 : decode cX7_often 109 = .ok (.goto 4, 3) := dk_167 0 4 (dk_at dksX7_often_4 14 rfl rfl)
theorem dX7_often_112 : decode cX7_often 112 = .ok (.iconst 0, 1) := dk_3 (dk_at dksX7_often_4 17 rfl rfl)
theorem dX7_often_113 : decode cX7_often 113 = .ok (.isub, 1) := dk_100 (dk_at dksX7_often_4 18 rfl rfl)
theorem dX7_often_114 : decode cX7_often 114 = .ok (.istore_n 3, 1) := dk_62 (dk_at dksX7_often_4 19 rfl rfl)
theorem dX7_often_115 : decode cX7_often 115 = .ok (.iload_n 3, 1) := dk_29 (dk_at dksX7_often_4 20 rfl rfl)
theorem dX7_often_116 : decode cX7_often 116 = .ok (.iload_n 1, 1) := dk_27 (dk_at dksX7_often_4 21 rfl rfl)
theorem dX7_often_117 : decode cX7_often 117 = .ok (.if_icmp .le 7, 3) := dk_164 0 7 (dk_at dksX7_often_5 0 rfl rfl)
theorem dX7_often_120 : decode cX7_often 120 = .ok (.iload_n 1, 1) := dk_27 (dk_at dksX7_often_5 3 rfl rfl)
theorem dX7_often_121 : decode cX7_often 121 = .ok (.goto 4, 3) := dk_167 0 4 (dk_at dksX7_often_5 4 rfl rfl)
theorem dX7_often_124 : decode cX7_often 124 = .ok (.iload_n 3, 1) := dk_29 (dk_at dksX7_often_5 7 rfl rfl)
theorem dX7_often_125 : decode cX7_often 125 = .ok (.ireturn, 1) := dk_172 (dk_at dksX7_often_5 8 rfl rfl)
abbrev cX7_copyTen : ByteArray := prog_16_method_88_code
def yX7_copyTen : MethodName := ⟨RX7, "copyTen", "([J)V"⟩
def dkwX7_copyTen_0 : List UInt8 := [3, 61, 28, 16, 10, 162, 0, 18, 42, 180, 0, 112, 28, 43, 28, 47, 80, 132, 2, 1, 167, 255, 238, 177]
abbrev dktX7_copyTen_0 : List UInt8 := dkwX7_copyTen_0 ++ []
theorem dksX7_copyTen_0 : cX7_copyTen.data.toList.drop 0 = dktX7_copyTen_0 := by decide +kernel
theorem dX7_copyTen_0 : decode cX7_copyTen 0 = .ok (.iconst 0, 1) := dk_3 (dk_at dksX7_copyTen_0 0 rfl rfl)
theorem dX7_copyTen_1 : decode cX7_copyTen 1 = .ok (.istore_n 2, 1) := dk_61 (dk_at dksX7_copyTen_0 1 rfl rfl)
theorem dX7_copyTen_2 : decode cX7_copyTen 2 = .ok (.iload_n 2, 1) := dk_28 (dk_at dksX7_copyTen_0 2 rfl rfl)
theorem dX7_copyTen_3 : decode cX7_copyTen 3 = .ok (.bipush 10, 2) := dk_16 10 (dk_at dksX7_copyTen_0 3 rfl rfl)
theorem dX7_copyTen_5 : decode cX7_copyTen 5 = .ok (.if_icmp .ge 18, 3) := dk_162 0 18 (dk_at dksX7_copyTen_0 5 rfl rfl)
theorem dX7_copyTen_8 : decode cX7_copyTen 8 = .ok (.aload_n 0, 1) := dk_42 (dk_at dksX7_copyTen_0 8 rfl rfl)
theorem dX7_copyTen_9 : decode cX7_copyTen 9 = .ok (.getfield 112, 3) := dk_180 0 112 (dk_at dksX7_copyTen_0 9 rfl rfl)
theorem dX7_copyTen_12 : decode cX7_copyTen 12 = .ok (.iload_n 2, 1) := dk_28 (dk_at dksX7_copyTen_0 12 rfl rfl)
theorem dX7_copyTen_13 : decode cX7_copyTen 13 = .ok (.aload_n 1, 1) := dk_43 (dk_at dksX7_copyTen_0 13 rfl rfl)
theorem dX7_copyTen_14 : decode cX7_copyTen 14 = .ok (.iload_n 2, 1) := dk_28 (dk_at dksX7_copyTen_0 14 rfl rfl)
theorem dX7_copyTen_15 : decode cX7_copyTen 15 = .ok (.laload, 1) := dk_47 (dk_at dksX7_copyTen_0 15 rfl rfl)
theorem dX7_copyTen_16 : decode cX7_copyTen 16 = .ok (.lastore, 1) := dk_80 (dk_at dksX7_copyTen_0 16 rfl rfl)
theorem dX7_copyTen_17 : decode cX7_copyTen 17 = .ok (.iinc 2 1, 3) := dk_132 2 1 (dk_at dksX7_copyTen_0 17 rfl rfl)
theorem dX7_copyTen_20 : decode cX7_copyTen 20 = .ok (.goto (-18), 3) := dk_167 255 238 (dk_at dksX7_copyTen_0 20 rfl rfl)
theorem dX7_copyTen_23 : decode cX7_copyTen 23 = .ok (.return_, 1) := dk_177 (dk_at dksX7_copyTen_0 23 rfl rfl)
abbrev cX7_besideTen : ByteArray := prog_16_method_86_code
def yX7_besideTen : MethodName := ⟨RX7, "besideTen", "([J[J)I"⟩
def dkwX7_besideTen_1 : List UInt8 := [156, 0, 7, 2, 167, 0, 4, 4, 172, 132, 2, 255, 167, 255, 223, 3, 172]
abbrev dktX7_besideTen_1 : List UInt8 := dkwX7_besideTen_1 ++ []
def dkwX7_besideTen_0 : List UInt8 := [16, 9, 61, 28, 155, 0, 35, 42, 28, 47, 43, 28, 47, 148, 153, 0, 19, 42, 28, 47, 43, 28, 47, 148]
abbrev dktX7_besideTen_0 : List UInt8 := dkwX7_besideTen_0 ++ dktX7_besideTen_1
theorem dksX7_besideTen_0 : cX7_besideTen.data.toList.drop 0 = dktX7_besideTen_0 := by decide +kernel
theorem dksX7_besideTen_1 : cX7_besideTen.data.toList.drop 24 = dktX7_besideTen_1 := dk_seg dksX7_besideTen_0 24 rfl rfl
theorem dX7_besideTen_0 : decode cX7_besideTen 0 = .ok (.bipush 9, 2) := dk_16 9 (dk_at dksX7_besideTen_0 0 rfl rfl)
theorem dX7_besideTen_2 : decode cX7_besideTen 2 = .ok (.istore_n 2, 1) := dk_61 (dk_at dksX7_besideTen_0 2 rfl rfl)
theorem dX7_besideTen_3 : decode cX7_besideTen 3 = .ok (.iload_n 2, 1) := dk_28 (dk_at dksX7_besideTen_0 3 rfl rfl)
theorem dX7_besideTen_4 : decode cX7_besideTen 4 = .ok (.ifCond .lt 35, 3) := dk_155 0 35 (dk_at dksX7_besideTen_0 4 rfl rfl)
theorem dX7_besideTen_7 : decode cX7_besideTen 7 = .ok (.aload_n 0, 1) := dk_42 (dk_at dksX7_besideTen_0 7 rfl rfl)
theorem dX7_besideTen_8 : decode cX7_besideTen 8 = .ok (.iload_n 2, 1) := dk_28 (dk_at dksX7_besideTen_0 8 rfl rfl)
theorem dX7_besideTen_9 : decode cX7_besideTen 9 = .ok (.laload, 1) := dk_47 (dk_at dksX7_besideTen_0 9 rfl rfl)
theorem dX7_besideTen_10 : decode cX7_besideTen 10 = .ok (.aload_n 1, 1) := dk_43 (dk_at dksX7_besideTen_0 10 rfl rfl)
theorem dX7_besideTen_11 : decode cX7_besideTen 11 = .ok (.iload_n 2, 1) := dk_28 (dk_at dksX7_besideTen_0 11 rfl rfl)
theorem dX7_besideTen_12 : decode cX7_besideTen 12 = .ok (.laload, 1) := dk_47 (dk_at dksX7_besideTen_0 12 rfl rfl)
theorem dX7_besideTen_13 : decode cX7_besideTen 13 = .ok (.lcmp, 1) := dk_148 (dk_at dksX7_besideTen_0 13 rfl rfl)
theorem dX7_besideTen_14 : decode cX7_besideTen 14 = .ok (.ifCond .eq 19, 3) := dk_153 0 19 (dk_at dksX7_besideTen_0 14 rfl rfl)
theorem dX7_besideTen_17 : decode cX7_besideTen 17 = .ok (.aload_n 0, 1) := dk_42 (dk_at dksX7_besideTen_0 17 rfl rfl)
theorem dX7_besideTen_18 : decode cX7_besideTen 18 = .ok (.iload_n 2, 1) := dk_28 (dk_at dksX7_besideTen_0 18 rfl rfl)
theorem dX7_besideTen_19 : decode cX7_besideTen 19 = .ok (.laload, 1) := dk_47 (dk_at dksX7_besideTen_0 19 rfl rfl)
theorem dX7_besideTen_20 : decode cX7_besideTen 20 = .ok (.aload_n 1, 1) := dk_43 (dk_at dksX7_besideTen_0 20 rfl rfl)
theorem dX7_besideTen_21 : decode cX7_besideTen 21 = .ok (.iload_n 2, 1) := dk_28 (dk_at dksX7_besideTen_0 21 rfl rfl)
theorem dX7_besideTen_22 : decode cX7_besideTen 22 = .ok (.laload, 1) := dk_47 (dk_at dksX7_besideTen_0 22 rfl rfl)
theorem dX7_besideTen_23 : decode cX7_besideTen 23 = .ok (.lcmp, 1) := dk_148 (dk_at dksX7_besideTen_0 23 rfl rfl)
theorem dX7_besideTen_24 : decode cX7_besideTen 24 = .ok (.ifCond .ge 7, 3) := dk_156 0 7 (dk_at dksX7_besideTen_1 0 rfl rfl)
theorem dX7_besideTen_27 : decode cX7_besideTen 27 = .ok (.iconst (-1), 1) := dk_2 (dk_at dksX7_besideTen_1 3 rfl rfl)
theorem dX7_besideTen_28 : decode cX7_besideTen 28 = .ok (.goto 4, 3) := dk_167 0 4 (dk_at dksX7_besideTen_1 4 rfl rfl)
theorem dX7_besideTen_31 : decode cX7_besideTen 31 = .ok (.iconst 1, 1) := dk_4 (dk_at dksX7_besideTen_1 7 rfl rfl)
theorem dX7_besideTen_32 : decode cX7_besideTen 32 = .ok (.ireturn, 1) := dk_172 (dk_at dksX7_besideTen_1 8 rfl rfl)
theorem dX7_besideTen_33 : decode cX7_besideTen 33 = .ok (.iinc 2 (-1), 3) := dk_132 2 255 (dk_at dksX7_besideTen_1 9 rfl rfl)
theorem dX7_besideTen_36 : decode cX7_besideTen 36 = .ok (.goto (-33), 3) := dk_167 255 223 (dk_at dksX7_besideTen_1 12 rfl rfl)
theorem dX7_besideTen_39 : decode cX7_besideTen 39 = .ok (.iconst 0, 1) := dk_3 (dk_at dksX7_besideTen_1 15 rfl rfl)
theorem dX7_besideTen_40 : decode cX7_besideTen 40 = .ok (.ireturn, 1) := dk_172 (dk_at dksX7_besideTen_1 16 rfl rfl)
abbrev cX7_area : ByteArray := prog_16_method_93_code
def yX7_area : MethodName := ⟨RX7, "area", "(IIII)I"⟩
def dkwX7_area_8 : List UInt8 := [153, 0, 7, 4, 167, 0, 4, 3, 182, 1, 223, 172]
abbrev dktX7_area_8 : List UInt8 := dkwX7_area_8 ++ []
def dkwX7_area_7 : List UInt8 := [180, 0, 121, 4, 47, 10, 182, 1, 216, 42, 19, 1, 227, 21, 4, 153, 0, 10, 42, 180, 1, 206]
abbrev dktX7_area_7 : List UInt8 := dkwX7_area_7 ++ dktX7_area_8
def dkwX7_area_6 : List UInt8 := [3, 47, 42, 180, 0, 118, 4, 47, 10, 182, 1, 216, 42, 42, 180, 0, 109, 42, 180, 0, 121, 3, 47, 42]
abbrev dktX7_area_6 : List UInt8 := dkwX7_area_6 ++ dktX7_area_7
def dkwX7_area_5 : List UInt8 := [21, 4, 4, 160, 0, 12, 42, 180, 1, 203, 154, 0, 5, 2, 172, 42, 42, 180, 0, 106, 42, 180, 0, 118]
abbrev dktX7_area_5 : List UInt8 := dkwX7_area_5 ++ dktX7_area_6
def dkwX7_area_4 : List UInt8 := [167, 0, 4, 3, 182, 1, 212, 42, 4, 28, 29, 21, 4, 154, 0, 7, 4, 167, 0, 4, 3, 182, 1, 212]
abbrev dktX7_area_4 : List UInt8 := dkwX7_area_4 ++ dktX7_area_5
def dkwX7_area_3 : List UInt8 := [16, 254, 172, 42, 4, 181, 1, 203, 42, 4, 181, 1, 206, 42, 3, 27, 29, 21, 4, 154, 0, 7, 4]
abbrev dktX7_area_3 : List UInt8 := dkwX7_area_3 ++ dktX7_area_4
def dkwX7_area_2 : List UInt8 := [153, 0, 23, 42, 28, 182, 1, 135, 153, 0, 15, 42, 27, 16, 12, 29, 96, 182, 1, 138, 154, 0, 6]
abbrev dktX7_area_2 : List UInt8 := dkwX7_area_2 ++ dktX7_area_3
def dkwX7_area_1 : List UInt8 := [153, 0, 18, 21, 4, 133, 9, 10, 184, 0, 143, 153, 0, 7, 4, 167, 0, 4, 3, 54, 5, 21, 5]
abbrev dktX7_area_1 : List UInt8 := dkwX7_area_1 ++ dktX7_area_2
def dkwX7_area_0 : List UInt8 := [42, 3, 181, 0, 133, 27, 184, 1, 209, 153, 0, 32, 28, 184, 1, 209, 153, 0, 25, 29, 184, 0, 169]
abbrev dktX7_area_0 : List UInt8 := dkwX7_area_0 ++ dktX7_area_1
theorem dksX7_area_0 : cX7_area.data.toList.drop 0 = dktX7_area_0 := by decide +kernel
theorem dksX7_area_1 : cX7_area.data.toList.drop 23 = dktX7_area_1 := dk_seg dksX7_area_0 23 rfl rfl
theorem dksX7_area_2 : cX7_area.data.toList.drop 46 = dktX7_area_2 := dk_seg dksX7_area_1 23 rfl rfl
theorem dksX7_area_3 : cX7_area.data.toList.drop 69 = dktX7_area_3 := dk_seg dksX7_area_2 23 rfl rfl
theorem dksX7_area_4 : cX7_area.data.toList.drop 92 = dktX7_area_4 := dk_seg dksX7_area_3 23 rfl rfl
theorem dksX7_area_5 : cX7_area.data.toList.drop 116 = dktX7_area_5 := dk_seg dksX7_area_4 24 rfl rfl
theorem dksX7_area_6 : cX7_area.data.toList.drop 140 = dktX7_area_6 := dk_seg dksX7_area_5 24 rfl rfl
theorem dksX7_area_7 : cX7_area.data.toList.drop 164 = dktX7_area_7 := dk_seg dksX7_area_6 24 rfl rfl
theorem dksX7_area_8 : cX7_area.data.toList.drop 186 = dktX7_area_8 := dk_seg dksX7_area_7 22 rfl rfl
theorem dX7_area_0 : decode cX7_area 0 = .ok (.aload_n 0, 1) := dk_42 (dk_at dksX7_area_0 0 rfl rfl)
theorem dX7_area_1 : decode cX7_area 1 = .ok (.iconst 0, 1) := dk_3 (dk_at dksX7_area_0 1 rfl rfl)
theorem dX7_area_2 : decode cX7_area 2 = .ok (.putfield 133, 3) := dk_181 0 133 (dk_at dksX7_area_0 2 rfl rfl)
theorem dX7_area_5 : decode cX7_area 5 = .ok (.iload_n 1, 1) := dk_27 (dk_at dksX7_area_0 5 rfl rfl)
theorem dX7_area_6 : decode cX7_area 6 = .ok (.invokestatic 465, 3) := dk_184 1 209 (dk_at dksX7_area_0 6 rfl rfl)
theorem dX7_area_9 : decode cX7_area 9 = .ok (.ifCond .eq 32, 3) := dk_153 0 32 (dk_at dksX7_area_0 9 rfl rfl)
theorem dX7_area_12 : decode cX7_area 12 = .ok (.iload_n 2, 1) := dk_28 (dk_at dksX7_area_0 12 rfl rfl)
theorem dX7_area_13 : decode cX7_area 13 = .ok (.invokestatic 465, 3) := dk_184 1 209 (dk_at dksX7_area_0 13 rfl rfl)
theorem dX7_area_16 : decode cX7_area 16 = .ok (.ifCond .eq 25, 3) := dk_153 0 25 (dk_at dksX7_area_0 16 rfl rfl)
theorem dX7_area_19 : decode cX7_area 19 = .ok (.iload_n 3, 1) := dk_29 (dk_at dksX7_area_0 19 rfl rfl)
theorem dX7_area_20 : decode cX7_area 20 = .ok (.invokestatic 169, 3) := dk_184 0 169 (dk_at dksX7_area_0 20 rfl rfl)
theorem dX7_area_23 : decode cX7_area 23 = .ok (.ifCond .eq 18, 3) := dk_153 0 18 (dk_at dksX7_area_1 0 rfl rfl)
theorem dX7_area_26 : decode cX7_area 26 = .ok (.iload 4, 2) := dk_21 4 (dk_at dksX7_area_1 3 rfl rfl)
theorem dX7_area_28 : decode cX7_area 28 = .ok (.i2l, 1) := dk_133 (dk_at dksX7_area_1 5 rfl rfl)
theorem dX7_area_29 : decode cX7_area 29 = .ok (.lconst 0, 1) := dk_9 (dk_at dksX7_area_1 6 rfl rfl)
theorem dX7_area_30 : decode cX7_area 30 = .ok (.lconst 1, 1) := dk_10 (dk_at dksX7_area_1 7 rfl rfl)
theorem dX7_area_31 : decode cX7_area 31 = .ok (.invokestatic 143, 3) := dk_184 0 143 (dk_at dksX7_area_1 8 rfl rfl)
theorem dX7_area_34 : decode cX7_area 34 = .ok (.ifCond .eq 7, 3) := dk_153 0 7 (dk_at dksX7_area_1 11 rfl rfl)
theorem dX7_area_37 : decode cX7_area 37 = .ok (.iconst 1, 1) := dk_4 (dk_at dksX7_area_1 14 rfl rfl)
theorem dX7_area_38 : decode cX7_area 38 = .ok (.goto 4, 3) := dk_167 0 4 (dk_at dksX7_area_1 15 rfl rfl)
theorem dX7_area_41 : decode cX7_area 41 = .ok (.iconst 0, 1) := dk_3 (dk_at dksX7_area_1 18 rfl rfl)
theorem dX7_area_42 : decode cX7_area 42 = .ok (.istore 5, 2) := dk_54 5 (dk_at dksX7_area_1 19 rfl rfl)
theorem dX7_area_44 : decode cX7_area 44 = .ok (.iload 5, 2) := dk_21 5 (dk_at dksX7_area_1 21 rfl rfl)
theorem dX7_area_46 : decode cX7_area 46 = .ok (.ifCond .eq 23, 3) := dk_153 0 23 (dk_at dksX7_area_2 0 rfl rfl)
theorem dX7_area_49 : decode cX7_area 49 = .ok (.aload_n 0, 1) := dk_42 (dk_at dksX7_area_2 3 rfl rfl)
theorem dX7_area_50 : decode cX7_area 50 = .ok (.iload_n 2, 1) := dk_28 (dk_at dksX7_area_2 4 rfl rfl)
theorem dX7_area_51 : decode cX7_area 51 = .ok (.invokevirtual 391, 3) := dk_182 1 135 (dk_at dksX7_area_2 5 rfl rfl)
theorem dX7_area_54 : decode cX7_area 54 = .ok (.ifCond .eq 15, 3) := dk_153 0 15 (dk_at dksX7_area_2 8 rfl rfl)
theorem dX7_area_57 : decode cX7_area 57 = .ok (.aload_n 0, 1) := dk_42 (dk_at dksX7_area_2 11 rfl rfl)
theorem dX7_area_58 : decode cX7_area 58 = .ok (.iload_n 1, 1) := dk_27 (dk_at dksX7_area_2 12 rfl rfl)
theorem dX7_area_59 : decode cX7_area 59 = .ok (.bipush 12, 2) := dk_16 12 (dk_at dksX7_area_2 13 rfl rfl)
theorem dX7_area_61 : decode cX7_area 61 = .ok (.iload_n 3, 1) := dk_29 (dk_at dksX7_area_2 15 rfl rfl)
theorem dX7_area_62 : decode cX7_area 62 = .ok (.iadd, 1) := dk_96 (dk_at dksX7_area_2 16 rfl rfl)
theorem dX7_area_63 : decode cX7_area 63 = .ok (.invokevirtual 394, 3) := dk_182 1 138 (dk_at dksX7_area_2 17 rfl rfl)
theorem dX7_area_66 : decode cX7_area 66 = .ok (.ifCond .ne 6, 3) := dk_154 0 6 (dk_at dksX7_area_2 20 rfl rfl)
theorem dX7_area_69 : decode cX7_area 69 = .ok (.bipush (-2), 2) := dk_16 254 (dk_at dksX7_area_3 0 rfl rfl)
theorem dX7_area_71 : decode cX7_area 71 = .ok (.ireturn, 1) := dk_172 (dk_at dksX7_area_3 2 rfl rfl)
theorem dX7_area_72 : decode cX7_area 72 = .ok (.aload_n 0, 1) := dk_42 (dk_at dksX7_area_3 3 rfl rfl)
theorem dX7_area_73 : decode cX7_area 73 = .ok (.iconst 1, 1) := dk_4 (dk_at dksX7_area_3 4 rfl rfl)
theorem dX7_area_74 : decode cX7_area 74 = .ok (.putfield 459, 3) := dk_181 1 203 (dk_at dksX7_area_3 5 rfl rfl)
theorem dX7_area_77 : decode cX7_area 77 = .ok (.aload_n 0, 1) := dk_42 (dk_at dksX7_area_3 8 rfl rfl)
theorem dX7_area_78 : decode cX7_area 78 = .ok (.iconst 1, 1) := dk_4 (dk_at dksX7_area_3 9 rfl rfl)
theorem dX7_area_79 : decode cX7_area 79 = .ok (.putfield 462, 3) := dk_181 1 206 (dk_at dksX7_area_3 10 rfl rfl)
theorem dX7_area_82 : decode cX7_area 82 = .ok (.aload_n 0, 1) := dk_42 (dk_at dksX7_area_3 13 rfl rfl)
theorem dX7_area_83 : decode cX7_area 83 = .ok (.iconst 0, 1) := dk_3 (dk_at dksX7_area_3 14 rfl rfl)
theorem dX7_area_84 : decode cX7_area 84 = .ok (.iload_n 1, 1) := dk_27 (dk_at dksX7_area_3 15 rfl rfl)
theorem dX7_area_85 : decode cX7_area 85 = .ok (.iload_n 3, 1) := dk_29 (dk_at dksX7_area_3 16 rfl rfl)
theorem dX7_area_86 : decode cX7_area 86 = .ok (.iload 4, 2) := dk_21 4 (dk_at dksX7_area_3 17 rfl rfl)
theorem dX7_area_88 : decode cX7_area 88 = .ok (.ifCond .ne 7, 3) := dk_154 0 7 (dk_at dksX7_area_3 19 rfl rfl)
theorem dX7_area_91 : decode cX7_area 91 = .ok (.iconst 1, 1) := dk_4 (dk_at dksX7_area_3 22 rfl rfl)
theorem dX7_area_92 : decode cX7_area 92 = .ok (.goto 4, 3) := dk_167 0 4 (dk_at dksX7_area_4 0 rfl rfl)
theorem dX7_area_95 : decode cX7_area 95 = .ok (.iconst 0, 1) := dk_3 (dk_at dksX7_area_4 3 rfl rfl)
theorem dX7_area_96 : decode cX7_area 96 = .ok (.invokevirtual 468, 3) := dk_182 1 212 (dk_at dksX7_area_4 4 rfl rfl)
theorem dX7_area_99 : decode cX7_area 99 = .ok (.aload_n 0, 1) := dk_42 (dk_at dksX7_area_4 7 rfl rfl)
theorem dX7_area_100 : decode cX7_area 100 = .ok (.iconst 1, 1) := dk_4 (dk_at dksX7_area_4 8 rfl rfl)
theorem dX7_area_101 : decode cX7_area 101 = .ok (.iload_n 2, 1) := dk_28 (dk_at dksX7_area_4 9 rfl rfl)
theorem dX7_area_102 : decode cX7_area 102 = .ok (.iload_n 3, 1) := dk_29 (dk_at dksX7_area_4 10 rfl rfl)
theorem dX7_area_103 : decode cX7_area 103 = .ok (.iload 4, 2) := dk_21 4 (dk_at dksX7_area_4 11 rfl rfl)
theorem dX7_area_105 : decode cX7_area 105 = .ok (.ifCond .ne 7, 3) := dk_154 0 7 (dk_at dksX7_area_4 13 rfl rfl)
theorem dX7_area_108 : decode cX7_area 108 = .ok (.iconst 1, 1) := dk_4 (dk_at dksX7_area_4 16 rfl rfl)
theorem dX7_area_109 : decode cX7_area 109 = .ok (.goto 4, 3) := dk_167 0 4 (dk_at dksX7_area_4 17 rfl rfl)
theorem dX7_area_112 : decode cX7_area 112 = .ok (.iconst 0, 1) := dk_3 (dk_at dksX7_area_4 20 rfl rfl)
theorem dX7_area_113 : decode cX7_area 113 = .ok (.invokevirtual 468, 3) := dk_182 1 212 (dk_at dksX7_area_4 21 rfl rfl)
theorem dX7_area_116 : decode cX7_area 116 = .ok (.iload 4, 2) := dk_21 4 (dk_at dksX7_area_5 0 rfl rfl)
theorem dX7_area_118 : decode cX7_area 118 = .ok (.iconst 1, 1) := dk_4 (dk_at dksX7_area_5 2 rfl rfl)
theorem dX7_area_119 : decode cX7_area 119 = .ok (.if_icmp .ne 12, 3) := dk_160 0 12 (dk_at dksX7_area_5 3 rfl rfl)
theorem dX7_area_122 : decode cX7_area 122 = .ok (.aload_n 0, 1) := dk_42 (dk_at dksX7_area_5 6 rfl rfl)
theorem dX7_area_123 : decode cX7_area 123 = .ok (.getfield 459, 3) := dk_180 1 203 (dk_at dksX7_area_5 7 rfl rfl)
theorem dX7_area_126 : decode cX7_area 126 = .ok (.ifCond .ne 5, 3) := dk_154 0 5 (dk_at dksX7_area_5 10 rfl rfl)
theorem dX7_area_129 : decode cX7_area 129 = .ok (.iconst (-1), 1) := dk_2 (dk_at dksX7_area_5 13 rfl rfl)
theorem dX7_area_130 : decode cX7_area 130 = .ok (.ireturn, 1) := dk_172 (dk_at dksX7_area_5 14 rfl rfl)
theorem dX7_area_131 : decode cX7_area 131 = .ok (.aload_n 0, 1) := dk_42 (dk_at dksX7_area_5 15 rfl rfl)
theorem dX7_area_132 : decode cX7_area 132 = .ok (.aload_n 0, 1) := dk_42 (dk_at dksX7_area_5 16 rfl rfl)
theorem dX7_area_133 : decode cX7_area 133 = .ok (.getfield 106, 3) := dk_180 0 106 (dk_at dksX7_area_5 17 rfl rfl)
theorem dX7_area_136 : decode cX7_area 136 = .ok (.aload_n 0, 1) := dk_42 (dk_at dksX7_area_5 20 rfl rfl)
theorem dX7_area_137 : decode cX7_area 137 = .ok (.getfield 118, 3) := dk_180 0 118 (dk_at dksX7_area_5 21 rfl rfl)
theorem dX7_area_140 : decode cX7_area 140 = .ok (.iconst 0, 1) := dk_3 (dk_at dksX7_area_6 0 rfl rfl)
theorem dX7_area_141 : decode cX7_area 141 = .ok (.laload, 1) := dk_47 (dk_at dksX7_area_6 1 rfl rfl)
theorem dX7_area_142 : decode cX7_area 142 = .ok (.aload_n 0, 1) := dk_42 (dk_at dksX7_area_6 2 rfl rfl)
theorem dX7_area_143 : decode cX7_area 143 = .ok (.getfield 118, 3) := dk_180 0 118 (dk_at dksX7_area_6 3 rfl rfl)
theorem dX7_area_146 : decode cX7_area 146 = .ok (.iconst 1, 1) := dk_4 (dk_at dksX7_area_6 6 rfl rfl)
theorem dX7_area_147 : decode cX7_area 147 = .ok (.laload, 1) := dk_47 (dk_at dksX7_area_6 7 rfl rfl)
theorem dX7_area_148 : decode cX7_area 148 = .ok (.lconst 1, 1) := dk_10 (dk_at dksX7_area_6 8 rfl rfl)
theorem dX7_area_149 : decode cX7_area 149 = .ok (.invokevirtual 472, 3) := dk_182 1 216 (dk_at dksX7_area_6 9 rfl rfl)
theorem dX7_area_152 : decode cX7_area 152 = .ok (.aload_n 0, 1) := dk_42 (dk_at dksX7_area_6 12 rfl rfl)
theorem dX7_area_153 : decode cX7_area 153 = .ok (.aload_n 0, 1) := dk_42 (dk_at dksX7_area_6 13 rfl rfl)
theorem dX7_area_154 : decode cX7_area 154 = .ok (.getfield 109, 3) := dk_180 0 109 (dk_at dksX7_area_6 14 rfl rfl)
theorem dX7_area_157 : decode cX7_area 157 = .ok (.aload_n 0, 1) := dk_42 (dk_at dksX7_area_6 17 rfl rfl)
theorem dX7_area_158 : decode cX7_area 158 = .ok (.getfield 121, 3) := dk_180 0 121 (dk_at dksX7_area_6 18 rfl rfl)
theorem dX7_area_161 : decode cX7_area 161 = .ok (.iconst 0, 1) := dk_3 (dk_at dksX7_area_6 21 rfl rfl)
theorem dX7_area_162 : decode cX7_area 162 = .ok (.laload, 1) := dk_47 (dk_at dksX7_area_6 22 rfl rfl)
theorem dX7_area_163 : decode cX7_area 163 = .ok (.aload_n 0, 1) := dk_42 (dk_at dksX7_area_6 23 rfl rfl)
theorem dX7_area_164 : decode cX7_area 164 = .ok (.getfield 121, 3) := dk_180 0 121 (dk_at dksX7_area_7 0 rfl rfl)
theorem dX7_area_167 : decode cX7_area 167 = .ok (.iconst 1, 1) := dk_4 (dk_at dksX7_area_7 3 rfl rfl)
theorem dX7_area_168 : decode cX7_area 168 = .ok (.laload, 1) := dk_47 (dk_at dksX7_area_7 4 rfl rfl)
theorem dX7_area_169 : decode cX7_area 169 = .ok (.lconst 1, 1) := dk_10 (dk_at dksX7_area_7 5 rfl rfl)
theorem dX7_area_170 : decode cX7_area 170 = .ok (.invokevirtual 472, 3) := dk_182 1 216 (dk_at dksX7_area_7 6 rfl rfl)
theorem dX7_area_173 : decode cX7_area 173 = .ok (.aload_n 0, 1) := dk_42 (dk_at dksX7_area_7 9 rfl rfl)
theorem dX7_area_174 : decode cX7_area 174 = .ok (.ldc_w 483, 3) := dk_19 1 227 (dk_at dksX7_area_7 10 rfl rfl)
theorem dX7_area_177 : decode cX7_area 177 = .ok (.iload 4, 2) := dk_21 4 (dk_at dksX7_area_7 13 rfl rfl)
theorem dX7_area_179 : decode cX7_area 179 = .ok (.ifCond .eq 10, 3) := dk_153 0 10 (dk_at dksX7_area_7 15 rfl rfl)
theorem dX7_area_182 : decode cX7_area 182 = .ok (.aload_n 0, 1) := dk_42 (dk_at dksX7_area_7 18 rfl rfl)
theorem dX7_area_183 : decode cX7_area 183 = .ok (.getfield 462, 3) := dk_180 1 206 (dk_at dksX7_area_7 19 rfl rfl)
theorem dX7_area_186 : decode cX7_area 186 = .ok (.ifCond .eq 7, 3) := dk_153 0 7 (dk_at dksX7_area_8 0 rfl rfl)
theorem dX7_area_189 : decode cX7_area 189 = .ok (.iconst 1, 1) := dk_4 (dk_at dksX7_area_8 3 rfl rfl)
theorem dX7_area_190 : decode cX7_area 190 = .ok (.goto 4, 3) := dk_167 0 4 (dk_at dksX7_area_8 4 rfl rfl)
theorem dX7_area_193 : decode cX7_area 193 = .ok (.iconst 0, 1) := dk_3 (dk_at dksX7_area_8 7 rfl rfl)
theorem dX7_area_194 : decode cX7_area 194 = .ok (.invokevirtual 479, 3) := dk_182 1 223 (dk_at dksX7_area_8 8 rfl rfl)
theorem dX7_area_197 : decode cX7_area 197 = .ok (.ireturn, 1) := dk_172 (dk_at dksX7_area_8 11 rfl rfl)
abbrev cX7_joined : ByteArray := prog_16_method_95_code
def yX7_joined : MethodName := ⟨RX7, "joined", "(II)I"⟩
def dkwX7_joined_2 : List UInt8 := [172]
abbrev dktX7_joined_2 : List UInt8 := dkwX7_joined_2 ++ []
def dkwX7_joined_1 : List UInt8 := [42, 182, 1, 228, 42, 180, 0, 124, 27, 46, 42, 180, 0, 124, 28, 46, 160, 0, 7, 4, 167, 0, 4, 3]
abbrev dktX7_joined_1 : List UInt8 := dkwX7_joined_1 ++ dktX7_joined_2
def dkwX7_joined_0 : List UInt8 := [42, 3, 181, 0, 133, 42, 27, 182, 1, 135, 153, 0, 11, 42, 28, 182, 1, 135, 154, 0, 6, 16, 254, 172]
abbrev dktX7_joined_0 : List UInt8 := dkwX7_joined_0 ++ dktX7_joined_1
theorem dksX7_joined_0 : cX7_joined.data.toList.drop 0 = dktX7_joined_0 := by decide +kernel
theorem dksX7_joined_1 : cX7_joined.data.toList.drop 24 = dktX7_joined_1 := dk_seg dksX7_joined_0 24 rfl rfl
theorem dksX7_joined_2 : cX7_joined.data.toList.drop 48 = dktX7_joined_2 := dk_seg dksX7_joined_1 24 rfl rfl
theorem dX7_joined_0 : decode cX7_joined 0 = .ok (.aload_n 0, 1) := dk_42 (dk_at dksX7_joined_0 0 rfl rfl)
theorem dX7_joined_1 : decode cX7_joined 1 = .ok (.iconst 0, 1) := dk_3 (dk_at dksX7_joined_0 1 rfl rfl)
theorem dX7_joined_2 : decode cX7_joined 2 = .ok (.putfield 133, 3) := dk_181 0 133 (dk_at dksX7_joined_0 2 rfl rfl)
theorem dX7_joined_5 : decode cX7_joined 5 = .ok (.aload_n 0, 1) := dk_42 (dk_at dksX7_joined_0 5 rfl rfl)
theorem dX7_joined_6 : decode cX7_joined 6 = .ok (.iload_n 1, 1) := dk_27 (dk_at dksX7_joined_0 6 rfl rfl)
theorem dX7_joined_7 : decode cX7_joined 7 = .ok (.invokevirtual 391, 3) := dk_182 1 135 (dk_at dksX7_joined_0 7 rfl rfl)
theorem dX7_joined_10 : decode cX7_joined 10 = .ok (.ifCond .eq 11, 3) := dk_153 0 11 (dk_at dksX7_joined_0 10 rfl rfl)
theorem dX7_joined_13 : decode cX7_joined 13 = .ok (.aload_n 0, 1) := dk_42 (dk_at dksX7_joined_0 13 rfl rfl)
theorem dX7_joined_14 : decode cX7_joined 14 = .ok (.iload_n 2, 1) := dk_28 (dk_at dksX7_joined_0 14 rfl rfl)
theorem dX7_joined_15 : decode cX7_joined 15 = .ok (.invokevirtual 391, 3) := dk_182 1 135 (dk_at dksX7_joined_0 15 rfl rfl)
theorem dX7_joined_18 : decode cX7_joined 18 = .ok (.ifCond .ne 6, 3) := dk_154 0 6 (dk_at dksX7_joined_0 18 rfl rfl)
theorem dX7_joined_21 : decode cX7_joined 21 = .ok (.bipush (-2), 2) := dk_16 254 (dk_at dksX7_joined_0 21 rfl rfl)
theorem dX7_joined_23 : decode cX7_joined 23 = .ok (.ireturn, 1) := dk_172 (dk_at dksX7_joined_0 23 rfl rfl)
theorem dX7_joined_24 : decode cX7_joined 24 = .ok (.aload_n 0, 1) := dk_42 (dk_at dksX7_joined_1 0 rfl rfl)
theorem dX7_joined_25 : decode cX7_joined 25 = .ok (.invokevirtual 484, 3) := dk_182 1 228 (dk_at dksX7_joined_1 1 rfl rfl)
theorem dX7_joined_28 : decode cX7_joined 28 = .ok (.aload_n 0, 1) := dk_42 (dk_at dksX7_joined_1 4 rfl rfl)
theorem dX7_joined_29 : decode cX7_joined 29 = .ok (.getfield 124, 3) := dk_180 0 124 (dk_at dksX7_joined_1 5 rfl rfl)
theorem dX7_joined_32 : decode cX7_joined 32 = .ok (.iload_n 1, 1) := dk_27 (dk_at dksX7_joined_1 8 rfl rfl)
theorem dX7_joined_33 : decode cX7_joined 33 = .ok (.iaload, 1) := dk_46 (dk_at dksX7_joined_1 9 rfl rfl)
theorem dX7_joined_34 : decode cX7_joined 34 = .ok (.aload_n 0, 1) := dk_42 (dk_at dksX7_joined_1 10 rfl rfl)
theorem dX7_joined_35 : decode cX7_joined 35 = .ok (.getfield 124, 3) := dk_180 0 124 (dk_at dksX7_joined_1 11 rfl rfl)
theorem dX7_joined_38 : decode cX7_joined 38 = .ok (.iload_n 2, 1) := dk_28 (dk_at dksX7_joined_1 14 rfl rfl)
theorem dX7_joined_39 : decode cX7_joined 39 = .ok (.iaload, 1) := dk_46 (dk_at dksX7_joined_1 15 rfl rfl)
theorem dX7_joined_40 : decode cX7_joined 40 = .ok (.if_icmp .ne 7, 3) := dk_160 0 7 (dk_at dksX7_joined_1 16 rfl rfl)
theorem dX7_joined_43 : decode cX7_joined 43 = .ok (.iconst 1, 1) := dk_4 (dk_at dksX7_joined_1 19 rfl rfl)
theorem dX7_joined_44 : decode cX7_joined 44 = .ok (.goto 4, 3) := dk_167 0 4 (dk_at dksX7_joined_1 20 rfl rfl)
theorem dX7_joined_47 : decode cX7_joined 47 = .ok (.iconst 0, 1) := dk_3 (dk_at dksX7_joined_1 23 rfl rfl)
theorem dX7_joined_48 : decode cX7_joined 48 = .ok (.ireturn, 1) := dk_172 (dk_at dksX7_joined_2 0 rfl rfl)
abbrev cX7_findGroups : ByteArray := prog_16_method_94_code
def yX7_findGroups : MethodName := ⟨RX7, "findGroups", "()V"⟩
def dkwX7_findGroups_5 : List UInt8 := [167, 255, 180, 132, 1, 1, 167, 255, 166, 177]
abbrev dktX7_findGroups_5 : List UInt8 := dkwX7_findGroups_5 ++ []
def dkwX7_findGroups_4 : List UInt8 := [180, 0, 40, 28, 46, 21, 5, 79, 42, 180, 0, 124, 42, 180, 0, 43, 28, 46, 21, 5, 79, 132, 2, 1]
abbrev dktX7_findGroups_4 : List UInt8 := dkwX7_findGroups_4 ++ dktX7_findGroups_5
def dkwX7_findGroups_3 : List UInt8 := [46, 46, 54, 4, 29, 21, 4, 162, 0, 7, 29, 167, 0, 5, 21, 4, 54, 5, 42, 180, 0, 124, 42]
abbrev dktX7_findGroups_3 : List UInt8 := dkwX7_findGroups_3 ++ dktX7_findGroups_4
def dkwX7_findGroups_2 : List UInt8 := [162, 0, 74, 42, 180, 0, 124, 42, 180, 0, 40, 28, 46, 46, 62, 42, 180, 0, 124, 42, 180, 0, 43, 28]
abbrev dktX7_findGroups_2 : List UInt8 := dkwX7_findGroups_2 ++ dktX7_findGroups_3
def dkwX7_findGroups_1 : List UInt8 := [27, 27, 79, 132, 1, 1, 167, 255, 240, 3, 60, 27, 16, 16, 162, 0, 90, 3, 61, 28, 42, 180, 1, 77]
abbrev dktX7_findGroups_1 : List UInt8 := dkwX7_findGroups_1 ++ dktX7_findGroups_2
def dkwX7_findGroups_0 : List UInt8 := [42, 182, 1, 111, 42, 42, 182, 1, 114, 182, 1, 98, 3, 60, 27, 16, 16, 162, 0, 16, 42, 180, 0, 124]
abbrev dktX7_findGroups_0 : List UInt8 := dkwX7_findGroups_0 ++ dktX7_findGroups_1
theorem dksX7_findGroups_0 : cX7_findGroups.data.toList.drop 0 = dktX7_findGroups_0 := by decide +kernel
theorem dksX7_findGroups_1 : cX7_findGroups.data.toList.drop 24 = dktX7_findGroups_1 := dk_seg dksX7_findGroups_0 24 rfl rfl
theorem dksX7_findGroups_2 : cX7_findGroups.data.toList.drop 48 = dktX7_findGroups_2 := dk_seg dksX7_findGroups_1 24 rfl rfl
theorem dksX7_findGroups_3 : cX7_findGroups.data.toList.drop 72 = dktX7_findGroups_3 := dk_seg dksX7_findGroups_2 24 rfl rfl
theorem dksX7_findGroups_4 : cX7_findGroups.data.toList.drop 95 = dktX7_findGroups_4 := dk_seg dksX7_findGroups_3 23 rfl rfl
theorem dksX7_findGroups_5 : cX7_findGroups.data.toList.drop 119 = dktX7_findGroups_5 := dk_seg dksX7_findGroups_4 24 rfl rfl
theorem dX7_findGroups_0 : decode cX7_findGroups 0 = .ok (.aload_n 0, 1) := dk_42 (dk_at dksX7_findGroups_0 0 rfl rfl)
theorem dX7_findGroups_1 : decode cX7_findGroups 1 = .ok (.invokevirtual 367, 3) := dk_182 1 111 (dk_at dksX7_findGroups_0 1 rfl rfl)
theorem dX7_findGroups_4 : decode cX7_findGroups 4 = .ok (.aload_n 0, 1) := dk_42 (dk_at dksX7_findGroups_0 4 rfl rfl)
theorem dX7_findGroups_5 : decode cX7_findGroups 5 = .ok (.aload_n 0, 1) := dk_42 (dk_at dksX7_findGroups_0 5 rfl rfl)
theorem dX7_findGroups_6 : decode cX7_findGroups 6 = .ok (.invokevirtual 370, 3) := dk_182 1 114 (dk_at dksX7_findGroups_0 6 rfl rfl)
theorem dX7_findGroups_9 : decode cX7_findGroups 9 = .ok (.invokevirtual 354, 3) := dk_182 1 98 (dk_at dksX7_findGroups_0 9 rfl rfl)
theorem dX7_findGroups_12 : decode cX7_findGroups 12 = .ok (.iconst 0, 1) := dk_3 (dk_at dksX7_findGroups_0 12 rfl rfl)
theorem dX7_findGroups_13 : decode cX7_findGroups 13 = .ok (.istore_n 1, 1) := dk_60 (dk_at dksX7_findGroups_0 13 rfl rfl)
theorem dX7_findGroups_14 : decode cX7_findGroups 14 = .ok (.iload_n 1, 1) := dk_27 (dk_at dksX7_findGroups_0 14 rfl rfl)
theorem dX7_findGroups_15 : decode cX7_findGroups 15 = .ok (.bipush 16, 2) := dk_16 16 (dk_at dksX7_findGroups_0 15 rfl rfl)
theorem dX7_findGroups_17 : decode cX7_findGroups 17 = .ok (.if_icmp .ge 16, 3) := dk_162 0 16 (dk_at dksX7_findGroups_0 17 rfl rfl)
theorem dX7_findGroups_20 : decode cX7_findGroups 20 = .ok (.aload_n 0, 1) := dk_42 (dk_at dksX7_findGroups_0 20 rfl rfl)
theorem dX7_findGroups_21 : decode cX7_findGroups 21 = .ok (.getfield 124, 3) := dk_180 0 124 (dk_at dksX7_findGroups_0 21 rfl rfl)
theorem dX7_findGroups_24 : decode cX7_findGroups 24 = .ok (.iload_n 1, 1) := dk_27 (dk_at dksX7_findGroups_1 0 rfl rfl)
theorem dX7_findGroups_25 : decode cX7_findGroups 25 = .ok (.iload_n 1, 1) := dk_27 (dk_at dksX7_findGroups_1 1 rfl rfl)
theorem dX7_findGroups_26 : decode cX7_findGroups 26 = .ok (.iastore, 1) := dk_79 (dk_at dksX7_findGroups_1 2 rfl rfl)
theorem dX7_findGroups_27 : decode cX7_findGroups 27 = .ok (.iinc 1 1, 3) := dk_132 1 1 (dk_at dksX7_findGroups_1 3 rfl rfl)
theorem dX7_findGroups_30 : decode cX7_findGroups 30 = .ok (.goto (-16), 3) := dk_167 255 240 (dk_at dksX7_findGroups_1 6 rfl rfl)
theorem dX7_findGroups_33 : decode cX7_findGroups 33 = .ok (.iconst 0, 1) := dk_3 (dk_at dksX7_findGroups_1 9 rfl rfl)
theorem dX7_findGroups_34 : decode cX7_findGroups 34 = .ok (.istore_n 1, 1) := dk_60 (dk_at dksX7_findGroups_1 10 rfl rfl)
theorem dX7_findGroups_35 : decode cX7_findGroups 35 = .ok (.iload_n 1, 1) := dk_27 (dk_at dksX7_findGroups_1 11 rfl rfl)
theorem dX7_findGroups_36 : decode cX7_findGroups 36 = .ok (.bipush 16, 2) := dk_16 16 (dk_at dksX7_findGroups_1 12 rfl rfl)
theorem dX7_findGroups_38 : decode cX7_findGroups 38 = .ok (.if_icmp .ge 90, 3) := dk_162 0 90 (dk_at dksX7_findGroups_1 14 rfl rfl)
theorem dX7_findGroups_41 : decode cX7_findGroups 41 = .ok (.iconst 0, 1) := dk_3 (dk_at dksX7_findGroups_1 17 rfl rfl)
theorem dX7_findGroups_42 : decode cX7_findGroups 42 = .ok (.istore_n 2, 1) := dk_61 (dk_at dksX7_findGroups_1 18 rfl rfl)
theorem dX7_findGroups_43 : decode cX7_findGroups 43 = .ok (.iload_n 2, 1) := dk_28 (dk_at dksX7_findGroups_1 19 rfl rfl)
theorem dX7_findGroups_44 : decode cX7_findGroups 44 = .ok (.aload_n 0, 1) := dk_42 (dk_at dksX7_findGroups_1 20 rfl rfl)
theorem dX7_findGroups_45 : decode cX7_findGroups 45 = .ok (.getfield 333, 3) := dk_180 1 77 (dk_at dksX7_findGroups_1 21 rfl rfl)
theorem dX7_findGroups_48 : decode cX7_findGroups 48 = .ok (.if_icmp .ge 74, 3) := dk_162 0 74 (dk_at dksX7_findGroups_2 0 rfl rfl)
theorem dX7_findGroups_51 : decode cX7_findGroups 51 = .ok (.aload_n 0, 1) := dk_42 (dk_at dksX7_findGroups_2 3 rfl rfl)
theorem dX7_findGroups_52 : decode cX7_findGroups 52 = .ok (.getfield 124, 3) := dk_180 0 124 (dk_at dksX7_findGroups_2 4 rfl rfl)
theorem dX7_findGroups_55 : decode cX7_findGroups 55 = .ok (.aload_n 0, 1) := dk_42 (dk_at dksX7_findGroups_2 7 rfl rfl)
theorem dX7_findGroups_56 : decode cX7_findGroups 56 = .ok (.getfield 40, 3) := dk_180 0 40 (dk_at dksX7_findGroups_2 8 rfl rfl)
theorem dX7_findGroups_59 : decode cX7_findGroups 59 = .ok (.iload_n 2, 1) := dk_28 (dk_at dksX7_findGroups_2 11 rfl rfl)
theorem dX7_findGroups_60 : decode cX7_findGroups 60 = .ok (.iaload, 1) := dk_46 (dk_at dksX7_findGroups_2 12 rfl rfl)
theorem dX7_findGroups_61 : decode cX7_findGroups 61 = .ok (.iaload, 1) := dk_46 (dk_at dksX7_findGroups_2 13 rfl rfl)
theorem dX7_findGroups_62 : decode cX7_findGroups 62 = .ok (.istore_n 3, 1) := dk_62 (dk_at dksX7_findGroups_2 14 rfl rfl)
theorem dX7_findGroups_63 : decode cX7_findGroups 63 = .ok (.aload_n 0, 1) := dk_42 (dk_at dksX7_findGroups_2 15 rfl rfl)
theorem dX7_findGroups_64 : decode cX7_findGroups 64 = .ok (.getfield 124, 3) := dk_180 0 124 (dk_at dksX7_findGroups_2 16 rfl rfl)
theorem dX7_findGroups_67 : decode cX7_findGroups 67 = .ok (.aload_n 0, 1) := dk_42 (dk_at dksX7_findGroups_2 19 rfl rfl)
theorem dX7_findGroups_68 : decode cX7_findGroups 68 = .ok (.getfield 43, 3) := dk_180 0 43 (dk_at dksX7_findGroups_2 20 rfl rfl)
theorem dX7_findGroups_71 : decode cX7_findGroups 71 = .ok (.iload_n 2, 1) := dk_28 (dk_at dksX7_findGroups_2 23 rfl rfl)
theorem dX7_findGroups_72 : decode cX7_findGroups 72 = .ok (.iaload, 1) := dk_46 (dk_at dksX7_findGroups_3 0 rfl rfl)
theorem dX7_findGroups_73 : decode cX7_findGroups 73 = .ok (.iaload, 1) := dk_46 (dk_at dksX7_findGroups_3 1 rfl rfl)
theorem dX7_findGroups_74 : decode cX7_findGroups 74 = .ok (.istore 4, 2) := dk_54 4 (dk_at dksX7_findGroups_3 2 rfl rfl)
theorem dX7_findGroups_76 : decode cX7_findGroups 76 = .ok (.iload_n 3, 1) := dk_29 (dk_at dksX7_findGroups_3 4 rfl rfl)
theorem dX7_findGroups_77 : decode cX7_findGroups 77 = .ok (.iload 4, 2) := dk_21 4 (dk_at dksX7_findGroups_3 5 rfl rfl)
theorem dX7_findGroups_79 : decode cX7_findGroups 79 = .ok (.if_icmp .ge 7, 3) := dk_162 0 7 (dk_at dksX7_findGroups_3 7 rfl rfl)
theorem dX7_findGroups_82 : decode cX7_findGroups 82 = .ok (.iload_n 3, 1) := dk_29 (dk_at dksX7_findGroups_3 10 rfl rfl)
theorem dX7_findGroups_83 : decode cX7_findGroups 83 = .ok (.goto 5, 3) := dk_167 0 5 (dk_at dksX7_findGroups_3 11 rfl rfl)
theorem dX7_findGroups_86 : decode cX7_findGroups 86 = .ok (.iload 4, 2) := dk_21 4 (dk_at dksX7_findGroups_3 14 rfl rfl)
theorem dX7_findGroups_88 : decode cX7_findGroups 88 = .ok (.istore 5, 2) := dk_54 5 (dk_at dksX7_findGroups_3 16 rfl rfl)
theorem dX7_findGroups_90 : decode cX7_findGroups 90 = .ok (.aload_n 0, 1) := dk_42 (dk_at dksX7_findGroups_3 18 rfl rfl)
theorem dX7_findGroups_91 : decode cX7_findGroups 91 = .ok (.getfield 124, 3) := dk_180 0 124 (dk_at dksX7_findGroups_3 19 rfl rfl)
theorem dX7_findGroups_94 : decode cX7_findGroups 94 = .ok (.aload_n 0, 1) := dk_42 (dk_at dksX7_findGroups_3 22 rfl rfl)
theorem dX7_findGroups_95 : decode cX7_findGroups 95 = .ok (.getfield 40, 3) := dk_180 0 40 (dk_at dksX7_findGroups_4 0 rfl rfl)
theorem dX7_findGroups_98 : decode cX7_findGroups 98 = .ok (.iload_n 2, 1) := dk_28 (dk_at dksX7_findGroups_4 3 rfl rfl)
theorem dX7_findGroups_99 : decode cX7_findGroups 99 = .ok (.iaload, 1) := dk_46 (dk_at dksX7_findGroups_4 4 rfl rfl)
theorem dX7_findGroups_100 : decode cX7_findGroups 100 = .ok (.iload 5, 2) := dk_21 5 (dk_at dksX7_findGroups_4 5 rfl rfl)
theorem dX7_findGroups_102 : decode cX7_findGroups 102 = .ok (.iastore, 1) := dk_79 (dk_at dksX7_findGroups_4 7 rfl rfl)
theorem dX7_findGroups_103 : decode cX7_findGroups 103 = .ok (.aload_n 0, 1) := dk_42 (dk_at dksX7_findGroups_4 8 rfl rfl)
theorem dX7_findGroups_104 : decode cX7_findGroups 104 = .ok (.getfield 124, 3) := dk_180 0 124 (dk_at dksX7_findGroups_4 9 rfl rfl)
theorem dX7_findGroups_107 : decode cX7_findGroups 107 = .ok (.aload_n 0, 1) := dk_42 (dk_at dksX7_findGroups_4 12 rfl rfl)
theorem dX7_findGroups_108 : decode cX7_findGroups 108 = .ok (.getfield 43, 3) := dk_180 0 43 (dk_at dksX7_findGroups_4 13 rfl rfl)
theorem dX7_findGroups_111 : decode cX7_findGroups 111 = .ok (.iload_n 2, 1) := dk_28 (dk_at dksX7_findGroups_4 16 rfl rfl)
theorem dX7_findGroups_112 : decode cX7_findGroups 112 = .ok (.iaload, 1) := dk_46 (dk_at dksX7_findGroups_4 17 rfl rfl)
theorem dX7_findGroups_113 : decode cX7_findGroups 113 = .ok (.iload 5, 2) := dk_21 5 (dk_at dksX7_findGroups_4 18 rfl rfl)
theorem dX7_findGroups_115 : decode cX7_findGroups 115 = .ok (.iastore, 1) := dk_79 (dk_at dksX7_findGroups_4 20 rfl rfl)
theorem dX7_findGroups_116 : decode cX7_findGroups 116 = .ok (.iinc 2 1, 3) := dk_132 2 1 (dk_at dksX7_findGroups_4 21 rfl rfl)
theorem dX7_findGroups_119 : decode cX7_findGroups 119 = .ok (.goto (-76), 3) := dk_167 255 180 (dk_at dksX7_findGroups_5 0 rfl rfl)
theorem dX7_findGroups_122 : decode cX7_findGroups 122 = .ok (.iinc 1 1, 3) := dk_132 1 1 (dk_at dksX7_findGroups_5 3 rfl rfl)
theorem dX7_findGroups_125 : decode cX7_findGroups 125 = .ok (.goto (-90), 3) := dk_167 255 166 (dk_at dksX7_findGroups_5 6 rfl rfl)
theorem dX7_findGroups_128 : decode cX7_findGroups 128 = .ok (.return_, 1) := dk_177 (dk_at dksX7_findGroups_5 9 rfl rfl)
abbrev cX7_groups : ByteArray := prog_16_method_96_code
def yX7_groups : MethodName := ⟨RX7, "groups", "(I)I"⟩
def dkwX7_groups_5 : List UInt8 := [167, 255, 170, 27, 154, 0, 7, 28, 167, 0, 15, 27, 4, 160, 0, 9, 28, 4, 100, 167, 0, 4, 29, 172]
abbrev dktX7_groups_5 : List UInt8 := dkwX7_groups_5 ++ []
def dkwX7_groups_4 : List UInt8 := [167, 0, 4, 3, 96, 61, 21, 5, 29, 164, 0, 8, 21, 5, 167, 0, 4, 29, 62, 132, 4, 1]
abbrev dktX7_groups_4 : List UInt8 := dkwX7_groups_4 ++ dktX7_groups_5
def dkwX7_groups_3 : List UInt8 := [160, 0, 7, 4, 167, 0, 4, 3, 96, 54, 5, 132, 6, 1, 167, 255, 215, 28, 21, 5, 158, 0, 7, 4]
abbrev dktX7_groups_3 : List UInt8 := dkwX7_groups_3 ++ dktX7_groups_4
def dkwX7_groups_2 : List UInt8 := [162, 0, 40, 21, 5, 42, 21, 6, 182, 1, 135, 153, 0, 19, 42, 180, 0, 124, 21, 6, 46, 21, 4]
abbrev dktX7_groups_2 : List UInt8 := dkwX7_groups_2 ++ dktX7_groups_3
def dkwX7_groups_1 : List UInt8 := [61, 3, 62, 3, 54, 4, 21, 4, 16, 16, 162, 0, 85, 3, 54, 5, 3, 54, 6, 21, 6, 16, 16]
abbrev dktX7_groups_1 : List UInt8 := dkwX7_groups_1 ++ dktX7_groups_2
def dkwX7_groups_0 : List UInt8 := [42, 3, 181, 0, 133, 27, 133, 9, 20, 0, 182, 184, 0, 143, 154, 0, 5, 2, 172, 42, 182, 1, 228, 3]
abbrev dktX7_groups_0 : List UInt8 := dkwX7_groups_0 ++ dktX7_groups_1
theorem dksX7_groups_0 : cX7_groups.data.toList.drop 0 = dktX7_groups_0 := by decide +kernel
theorem dksX7_groups_1 : cX7_groups.data.toList.drop 24 = dktX7_groups_1 := dk_seg dksX7_groups_0 24 rfl rfl
theorem dksX7_groups_2 : cX7_groups.data.toList.drop 47 = dktX7_groups_2 := dk_seg dksX7_groups_1 23 rfl rfl
theorem dksX7_groups_3 : cX7_groups.data.toList.drop 70 = dktX7_groups_3 := dk_seg dksX7_groups_2 23 rfl rfl
theorem dksX7_groups_4 : cX7_groups.data.toList.drop 94 = dktX7_groups_4 := dk_seg dksX7_groups_3 24 rfl rfl
theorem dksX7_groups_5 : cX7_groups.data.toList.drop 116 = dktX7_groups_5 := dk_seg dksX7_groups_4 22 rfl rfl
theorem dX7_groups_0 : decode cX7_groups 0 = .ok (.aload_n 0, 1) := dk_42 (dk_at dksX7_groups_0 0 rfl rfl)
theorem dX7_groups_1 : decode cX7_groups 1 = .ok (.iconst 0, 1) := dk_3 (dk_at dksX7_groups_0 1 rfl rfl)
theorem dX7_groups_2 : decode cX7_groups 2 = .ok (.putfield 133, 3) := dk_181 0 133 (dk_at dksX7_groups_0 2 rfl rfl)
theorem dX7_groups_5 : decode cX7_groups 5 = .ok (.iload_n 1, 1) := dk_27 (dk_at dksX7_groups_0 5 rfl rfl)
theorem dX7_groups_6 : decode cX7_groups 6 = .ok (.i2l, 1) := dk_133 (dk_at dksX7_groups_0 6 rfl rfl)
theorem dX7_groups_7 : decode cX7_groups 7 = .ok (.lconst 0, 1) := dk_9 (dk_at dksX7_groups_0 7 rfl rfl)
theorem dX7_groups_8 : decode cX7_groups 8 = .ok (.ldc2_w 182, 3) := dk_20 0 182 (dk_at dksX7_groups_0 8 rfl rfl)
theorem dX7_groups_11 : decode cX7_groups 11 = .ok (.invokestatic 143, 3) := dk_184 0 143 (dk_at dksX7_groups_0 11 rfl rfl)
theorem dX7_groups_14 : decode cX7_groups 14 = .ok (.ifCond .ne 5, 3) := dk_154 0 5 (dk_at dksX7_groups_0 14 rfl rfl)
theorem dX7_groups_17 : decode cX7_groups 17 = .ok (.iconst (-1), 1) := dk_2 (dk_at dksX7_groups_0 17 rfl rfl)
theorem dX7_groups_18 : decode cX7_groups 18 = .ok (.ireturn, 1) := dk_172 (dk_at dksX7_groups_0 18 rfl rfl)
theorem dX7_groups_19 : decode cX7_groups 19 = .ok (.aload_n 0, 1) := dk_42 (dk_at dksX7_groups_0 19 rfl rfl)
theorem dX7_groups_20 : decode cX7_groups 20 = .ok (.invokevirtual 484, 3) := dk_182 1 228 (dk_at dksX7_groups_0 20 rfl rfl)
theorem dX7_groups_23 : decode cX7_groups 23 = .ok (.iconst 0, 1) := dk_3 (dk_at dksX7_groups_0 23 rfl rfl)
theorem dX7_groups_24 : decode cX7_groups 24 = .ok (.istore_n 2, 1) := dk_61 (dk_at dksX7_groups_1 0 rfl rfl)
theorem dX7_groups_25 : decode cX7_groups 25 = .ok (.iconst 0, 1) := dk_3 (dk_at dksX7_groups_1 1 rfl rfl)
theorem dX7_groups_26 : decode cX7_groups 26 = .ok (.istore_n 3, 1) := dk_62 (dk_at dksX7_groups_1 2 rfl rfl)
theorem dX7_groups_27 : decode cX7_groups 27 = .ok (.iconst 0, 1) := dk_3 (dk_at dksX7_groups_1 3 rfl rfl)
theorem dX7_groups_28 : decode cX7_groups 28 = .ok (.istore 4, 2) := dk_54 4 (dk_at dksX7_groups_1 4 rfl rfl)
theorem dX7_groups_30 : decode cX7_groups 30 = .ok (.iload 4, 2) := dk_21 4 (dk_at dksX7_groups_1 6 rfl rfl)
theorem dX7_groups_32 : decode cX7_groups 32 = .ok (.bipush 16, 2) := dk_16 16 (dk_at dksX7_groups_1 8 rfl rfl)
theorem dX7_groups_34 : decode cX7_groups 34 = .ok (.if_icmp .ge 85, 3) := dk_162 0 85 (dk_at dksX7_groups_1 10 rfl rfl)
theorem dX7_groups_37 : decode cX7_groups 37 = .ok (.iconst 0, 1) := dk_3 (dk_at dksX7_groups_1 13 rfl rfl)
theorem dX7_groups_38 : decode cX7_groups 38 = .ok (.istore 5, 2) := dk_54 5 (dk_at dksX7_groups_1 14 rfl rfl)
theorem dX7_groups_40 : decode cX7_groups 40 = .ok (.iconst 0, 1) := dk_3 (dk_at dksX7_groups_1 16 rfl rfl)
theorem dX7_groups_41 : decode cX7_groups 41 = .ok (.istore 6, 2) := dk_54 6 (dk_at dksX7_groups_1 17 rfl rfl)
theorem dX7_groups_43 : decode cX7_groups 43 = .ok (.iload 6, 2) := dk_21 6 (dk_at dksX7_groups_1 19 rfl rfl)
theorem dX7_groups_45 : decode cX7_groups 45 = .ok (.bipush 16, 2) := dk_16 16 (dk_at dksX7_groups_1 21 rfl rfl)
theorem dX7_groups_47 : decode cX7_groups 47 = .ok (.if_icmp .ge 40, 3) := dk_162 0 40 (dk_at dksX7_groups_2 0 rfl rfl)
theorem dX7_groups_50 : decode cX7_groups 50 = .ok (.iload 5, 2) := dk_21 5 (dk_at dksX7_groups_2 3 rfl rfl)
theorem dX7_groups_52 : decode cX7_groups 52 = .ok (.aload_n 0, 1) := dk_42 (dk_at dksX7_groups_2 5 rfl rfl)
theorem dX7_groups_53 : decode cX7_groups 53 = .ok (.iload 6, 2) := dk_21 6 (dk_at dksX7_groups_2 6 rfl rfl)
theorem dX7_groups_55 : decode cX7_groups 55 = .ok (.invokevirtual 391, 3) := dk_182 1 135 (dk_at dksX7_groups_2 8 rfl rfl)
theorem dX7_groups_58 : decode cX7_groups 58 = .ok (.ifCond .eq 19, 3) := dk_153 0 19 (dk_at dksX7_groups_2 11 rfl rfl)
theorem dX7_groups_61 : decode cX7_groups 61 = .ok (.aload_n 0, 1) := dk_42 (dk_at dksX7_groups_2 14 rfl rfl)
theorem dX7_groups_62 : decode cX7_groups 62 = .ok (.getfield 124, 3) := dk_180 0 124 (dk_at dksX7_groups_2 15 rfl rfl)
theorem dX7_groups_65 : decode cX7_groups 65 = .ok (.iload 6, 2) := dk_21 6 (dk_at dksX7_groups_2 18 rfl rfl)
theorem dX7_groups_67 : decode cX7_groups 67 = .ok (.iaload, 1) := dk_46 (dk_at dksX7_groups_2 20 rfl rfl)
theorem dX7_groups_68 : decode cX7_groups 68 = .ok (.iload 4, 2) := dk_21 4 (dk_at dksX7_groups_2 21 rfl rfl)
theorem dX7_groups_70 : decode cX7_groups 70 = .ok (.if_icmp .ne 7, 3) := dk_160 0 7 (dk_at dksX7_groups_3 0 rfl rfl)
theorem dX7_groups_73 : decode cX7_groups 73 = .ok (.iconst 1, 1) := dk_4 (dk_at dksX7_groups_3 3 rfl rfl)
theorem dX7_groups_74 : decode cX7_groups 74 = .ok (.goto 4, 3) := dk_167 0 4 (dk_at dksX7_groups_3 4 rfl rfl)
theorem dX7_groups_77 : decode cX7_groups 77 = .ok (.iconst 0, 1) := dk_3 (dk_at dksX7_groups_3 7 rfl rfl)
theorem dX7_groups_78 : decode cX7_groups 78 = .ok (.iadd, 1) := dk_96 (dk_at dksX7_groups_3 8 rfl rfl)
theorem dX7_groups_79 : decode cX7_groups 79 = .ok (.istore 5, 2) := dk_54 5 (dk_at dksX7_groups_3 9 rfl rfl)
theorem dX7_groups_81 : decode cX7_groups 81 = .ok (.iinc 6 1, 3) := dk_132 6 1 (dk_at dksX7_groups_3 11 rfl rfl)
theorem dX7_groups_84 : decode cX7_groups 84 = .ok (.goto (-41), 3) := dk_167 255 215 (dk_at dksX7_groups_3 14 rfl rfl)
theorem dX7_groups_87 : decode cX7_groups 87 = .ok (.iload_n 2, 1) := dk_28 (dk_at dksX7_groups_3 17 rfl rfl)
theorem dX7_groups_88 : decode cX7_groups 88 = .ok (.iload 5, 2) := dk_21 5 (dk_at dksX7_groups_3 18 rfl rfl)
theorem dX7_groups_90 : decode cX7_groups 90 = .ok (.ifCond .le 7, 3) := dk_158 0 7 (dk_at dksX7_groups_3 20 rfl rfl)
theorem dX7_groups_93 : decode cX7_groups 93 = .ok (.iconst 1, 1) := dk_4 (dk_at dksX7_groups_3 23 rfl rfl)
theorem dX7_groups_94 : decode cX7_groups 94 = .ok (.goto 4, 3) := dk_167 0 4 (dk_at dksX7_groups_4 0 rfl rfl)
theorem dX7_groups_97 : decode cX7_groups 97 = .ok (.iconst 0, 1) := dk_3 (dk_at dksX7_groups_4 3 rfl rfl)
theorem dX7_groups_98 : decode cX7_groups 98 = .ok (.iadd, 1) := dk_96 (dk_at dksX7_groups_4 4 rfl rfl)
theorem dX7_groups_99 : decode cX7_groups 99 = .ok (.istore_n 2, 1) := dk_61 (dk_at dksX7_groups_4 5 rfl rfl)
theorem dX7_groups_100 : decode cX7_groups 100 = .ok (.iload 5, 2) := dk_21 5 (dk_at dksX7_groups_4 6 rfl rfl)
theorem dX7_groups_102 : decode cX7_groups 102 = .ok (.iload_n 3, 1) := dk_29 (dk_at dksX7_groups_4 8 rfl rfl)
theorem dX7_groups_103 : decode cX7_groups 103 = .ok (.if_icmp .le 8, 3) := dk_164 0 8 (dk_at dksX7_groups_4 9 rfl rfl)
theorem dX7_groups_106 : decode cX7_groups 106 = .ok (.iload 5, 2) := dk_21 5 (dk_at dksX7_groups_4 12 rfl rfl)
theorem dX7_groups_108 : decode cX7_groups 108 = .ok (.goto 4, 3) := dk_167 0 4 (dk_at dksX7_groups_4 14 rfl rfl)
theorem dX7_groups_111 : decode cX7_groups 111 = .ok (.iload_n 3, 1) := dk_29 (dk_at dksX7_groups_4 17 rfl rfl)
theorem dX7_groups_112 : decode cX7_groups 112 = .ok (.istore_n 3, 1) := dk_62 (dk_at dksX7_groups_4 18 rfl rfl)
theorem dX7_groups_113 : decode cX7_groups 113 = .ok (.iinc 4 1, 3) := dk_132 4 1 (dk_at dksX7_groups_4 19 rfl rfl)
theorem dX7_groups_116 : decode cX7_groups 116 = .ok (.goto (-86), 3) := dk_167 255 170 (dk_at dksX7_groups_5 0 rfl rfl)
theorem dX7_groups_119 : decode cX7_groups 119 = .ok (.iload_n 1, 1) := dk_27 (dk_at dksX7_groups_5 3 rfl rfl)
theorem dX7_groups_120 : decode cX7_groups 120 = .ok (.ifCond .ne 7, 3) := dk_154 0 7 (dk_at dksX7_groups_5 4 rfl rfl)
theorem dX7_groups_123 : decode cX7_groups 123 = .ok (.iload_n 2, 1) := dk_28 (dk_at dksX7_groups_5 7 rfl rfl)
theorem dX7_groups_124 : decode cX7_groups 124 = .ok (.goto 15, 3) := dk_167 0 15 (dk_at dksX7_groups_5 8 rfl rfl)
theorem dX7_groups_127 : decode cX7_groups 127 = .ok (.iload_n 1, 1) := dk_27 (dk_at dksX7_groups_5 11 rfl rfl)
theorem dX7_groups_128 : decode cX7_groups 128 = .ok (.iconst 1, 1) := dk_4 (dk_at dksX7_groups_5 12 rfl rfl)
theorem dX7_groups_129 : decode cX7_groups 129 = .ok (.if_icmp .ne 9, 3) := dk_160 0 9 (dk_at dksX7_groups_5 13 rfl rfl)
theorem dX7_groups_132 : decode cX7_groups 132 = .ok (.iload_n 2, 1) := dk_28 (dk_at dksX7_groups_5 16 rfl rfl)
theorem dX7_groups_133 : decode cX7_groups 133 = .ok (.iconst 1, 1) := dk_4 (dk_at dksX7_groups_5 17 rfl rfl)
theorem dX7_groups_134 : decode cX7_groups 134 = .ok (.isub, 1) := dk_100 (dk_at dksX7_groups_5 18 rfl rfl)
theorem dX7_groups_135 : decode cX7_groups 135 = .ok (.goto 4, 3) := dk_167 0 4 (dk_at dksX7_groups_5 19 rfl rfl)
theorem dX7_groups_138 : decode cX7_groups 138 = .ok (.iload_n 3, 1) := dk_29 (dk_at dksX7_groups_5 22 rfl rfl)
theorem dX7_groups_139 : decode cX7_groups 139 = .ok (.ireturn, 1) := dk_172 (dk_at dksX7_groups_5 23 rfl rfl)
abbrev cX7_core : ByteArray := prog_16_method_97_code
def yX7_core : MethodName := ⟨RX7, "core", "()I"⟩
def dkwX7_core_3 : List UInt8 := [2, 130, 126, 60, 132, 2, 1, 167, 255, 213, 27, 172]
abbrev dktX7_core_3 : List UInt8 := dkwX7_core_3 ++ []
def dkwX7_core_2 : List UInt8 := [184, 1, 80, 153, 0, 25, 42, 27, 4, 28, 120, 2, 130, 126, 182, 1, 118, 154, 0, 11, 27, 4, 28, 120]
abbrev dktX7_core_2 : List UInt8 := dkwX7_core_2 ++ dktX7_core_3
def dkwX7_core_1 : List UInt8 := [42, 3, 182, 1, 118, 154, 0, 5, 2, 172, 3, 61, 28, 42, 180, 0, 13, 3, 46, 162, 0, 39, 27, 28]
abbrev dktX7_core_1 : List UInt8 := dkwX7_core_1 ++ dktX7_core_2
def dkwX7_core_0 : List UInt8 := [42, 3, 181, 0, 133, 42, 182, 1, 111, 42, 182, 1, 114, 60, 42, 27, 182, 1, 118, 153, 0, 5, 3, 172]
abbrev dktX7_core_0 : List UInt8 := dkwX7_core_0 ++ dktX7_core_1
theorem dksX7_core_0 : cX7_core.data.toList.drop 0 = dktX7_core_0 := by decide +kernel
theorem dksX7_core_1 : cX7_core.data.toList.drop 24 = dktX7_core_1 := dk_seg dksX7_core_0 24 rfl rfl
theorem dksX7_core_2 : cX7_core.data.toList.drop 48 = dktX7_core_2 := dk_seg dksX7_core_1 24 rfl rfl
theorem dksX7_core_3 : cX7_core.data.toList.drop 72 = dktX7_core_3 := dk_seg dksX7_core_2 24 rfl rfl
theorem dX7_core_0 : decode cX7_core 0 = .ok (.aload_n 0, 1) := dk_42 (dk_at dksX7_core_0 0 rfl rfl)
theorem dX7_core_1 : decode cX7_core 1 = .ok (.iconst 0, 1) := dk_3 (dk_at dksX7_core_0 1 rfl rfl)
theorem dX7_core_2 : decode cX7_core 2 = .ok (.putfield 133, 3) := dk_181 0 133 (dk_at dksX7_core_0 2 rfl rfl)
theorem dX7_core_5 : decode cX7_core 5 = .ok (.aload_n 0, 1) := dk_42 (dk_at dksX7_core_0 5 rfl rfl)
theorem dX7_core_6 : decode cX7_core 6 = .ok (.invokevirtual 367, 3) := dk_182 1 111 (dk_at dksX7_core_0 6 rfl rfl)
theorem dX7_core_9 : decode cX7_core 9 = .ok (.aload_n 0, 1) := dk_42 (dk_at dksX7_core_0 9 rfl rfl)
theorem dX7_core_10 : decode cX7_core 10 = .ok (.invokevirtual 370, 3) := dk_182 1 114 (dk_at dksX7_core_0 10 rfl rfl)
theorem dX7_core_13 : decode cX7_core 13 = .ok (.istore_n 1, 1) := dk_60 (dk_at dksX7_core_0 13 rfl rfl)
theorem dX7_core_14 : decode cX7_core 14 = .ok (.aload_n 0, 1) := dk_42 (dk_at dksX7_core_0 14 rfl rfl)
theorem dX7_core_15 : decode cX7_core 15 = .ok (.iload_n 1, 1) := dk_27 (dk_at dksX7_core_0 15 rfl rfl)
theorem dX7_core_16 : decode cX7_core 16 = .ok (.invokevirtual 374, 3) := dk_182 1 118 (dk_at dksX7_core_0 16 rfl rfl)
theorem dX7_core_19 : decode cX7_core 19 = .ok (.ifCond .eq 5, 3) := dk_153 0 5 (dk_at dksX7_core_0 19 rfl rfl)
theorem dX7_core_22 : decode cX7_core 22 = .ok (.iconst 0, 1) := dk_3 (dk_at dksX7_core_0 22 rfl rfl)
theorem dX7_core_23 : decode cX7_core 23 = .ok (.ireturn, 1) := dk_172 (dk_at dksX7_core_0 23 rfl rfl)
theorem dX7_core_24 : decode cX7_core 24 = .ok (.aload_n 0, 1) := dk_42 (dk_at dksX7_core_1 0 rfl rfl)
theorem dX7_core_25 : decode cX7_core 25 = .ok (.iconst 0, 1) := dk_3 (dk_at dksX7_core_1 1 rfl rfl)
theorem dX7_core_26 : decode cX7_core 26 = .ok (.invokevirtual 374, 3) := dk_182 1 118 (dk_at dksX7_core_1 2 rfl rfl)
theorem dX7_core_29 : decode cX7_core 29 = .ok (.ifCond .ne 5, 3) := dk_154 0 5 (dk_at dksX7_core_1 5 rfl rfl)
theorem dX7_core_32 : decode cX7_core 32 = .ok (.iconst (-1), 1) := dk_2 (dk_at dksX7_core_1 8 rfl rfl)
theorem dX7_core_33 : decode cX7_core 33 = .ok (.ireturn, 1) := dk_172 (dk_at dksX7_core_1 9 rfl rfl)
theorem dX7_core_34 : decode cX7_core 34 = .ok (.iconst 0, 1) := dk_3 (dk_at dksX7_core_1 10 rfl rfl)
theorem dX7_core_35 : decode cX7_core 35 = .ok (.istore_n 2, 1) := dk_61 (dk_at dksX7_core_1 11 rfl rfl)
theorem dX7_core_36 : decode cX7_core 36 = .ok (.iload_n 2, 1) := dk_28 (dk_at dksX7_core_1 12 rfl rfl)
theorem dX7_core_37 : decode cX7_core 37 = .ok (.aload_n 0, 1) := dk_42 (dk_at dksX7_core_1 13 rfl rfl)
theorem dX7_core_38 : decode cX7_core 38 = .ok (.getfield 13, 3) := dk_180 0 13 (dk_at dksX7_core_1 14 rfl rfl)
theorem dX7_core_41 : decode cX7_core 41 = .ok (.iconst 0, 1) := dk_3 (dk_at dksX7_core_1 17 rfl rfl)
theorem dX7_core_42 : decode cX7_core 42 = .ok (.iaload, 1) := dk_46 (dk_at dksX7_core_1 18 rfl rfl)
theorem dX7_core_43 : decode cX7_core 43 = .ok (.if_icmp .ge 39, 3) := dk_162 0 39 (dk_at dksX7_core_1 19 rfl rfl)
theorem dX7_core_46 : decode cX7_core 46 = .ok (.iload_n 1, 1) := dk_27 (dk_at dksX7_core_1 22 rfl rfl)
theorem dX7_core_47 : decode cX7_core 47 = .ok (.iload_n 2, 1) := dk_28 (dk_at dksX7_core_1 23 rfl rfl)
theorem dX7_core_48 : decode cX7_core 48 = .ok (.invokestatic 336, 3) := dk_184 1 80 (dk_at dksX7_core_2 0 rfl rfl)
theorem dX7_core_51 : decode cX7_core 51 = .ok (.ifCond .eq 25, 3) := dk_153 0 25 (dk_at dksX7_core_2 3 rfl rfl)
theorem dX7_core_54 : decode cX7_core 54 = .ok (.aload_n 0, 1) := dk_42 (dk_at dksX7_core_2 6 rfl rfl)
theorem dX7_core_55 : decode cX7_core 55 = .ok (.iload_n 1, 1) := dk_27 (dk_at dksX7_core_2 7 rfl rfl)
theorem dX7_core_56 : decode cX7_core 56 = .ok (.iconst 1, 1) := dk_4 (dk_at dksX7_core_2 8 rfl rfl)
theorem dX7_core_57 : decode cX7_core 57 = .ok (.iload_n 2, 1) := dk_28 (dk_at dksX7_core_2 9 rfl rfl)
theorem dX7_core_58 : decode cX7_core 58 = .ok (.ishl, 1) := dk_120 (dk_at dksX7_core_2 10 rfl rfl)
theorem dX7_core_59 : decode cX7_core 59 = .ok (.iconst (-1), 1) := dk_2 (dk_at dksX7_core_2 11 rfl rfl)
theorem dX7_core_60 : decode cX7_core 60 = .ok (.ixor, 1) := dk_130 (dk_at dksX7_core_2 12 rfl rfl)
theorem dX7_core_61 : decode cX7_core 61 = .ok (.iand, 1) := dk_126 (dk_at dksX7_core_2 13 rfl rfl)
theorem dX7_core_62 : decode cX7_core 62 = .ok (.invokevirtual 374, 3) := dk_182 1 118 (dk_at dksX7_core_2 14 rfl rfl)
theorem dX7_core_65 : decode cX7_core 65 = .ok (.ifCond .ne 11, 3) := dk_154 0 11 (dk_at dksX7_core_2 17 rfl rfl)
theorem dX7_core_68 : decode cX7_core 68 = .ok (.iload_n 1, 1) := dk_27 (dk_at dksX7_core_2 20 rfl rfl)
theorem dX7_core_69 : decode cX7_core 69 = .ok (.iconst 1, 1) := dk_4 (dk_at dksX7_core_2 21 rfl rfl)
theorem dX7_core_70 : decode cX7_core 70 = .ok (.iload_n 2, 1) := dk_28 (dk_at dksX7_core_2 22 rfl rfl)
theorem dX7_core_71 : decode cX7_core 71 = .ok (.ishl, 1) := dk_120 (dk_at dksX7_core_2 23 rfl rfl)
theorem dX7_core_72 : decode cX7_core 72 = .ok (.iconst (-1), 1) := dk_2 (dk_at dksX7_core_3 0 rfl rfl)
theorem dX7_core_73 : decode cX7_core 73 = .ok (.ixor, 1) := dk_130 (dk_at dksX7_core_3 1 rfl rfl)
theorem dX7_core_74 : decode cX7_core 74 = .ok (.iand, 1) := dk_126 (dk_at dksX7_core_3 2 rfl rfl)
theorem dX7_core_75 : decode cX7_core 75 = .ok (.istore_n 1, 1) := dk_60 (dk_at dksX7_core_3 3 rfl rfl)
theorem dX7_core_76 : decode cX7_core 76 = .ok (.iinc 2 1, 3) := dk_132 2 1 (dk_at dksX7_core_3 4 rfl rfl)
theorem dX7_core_79 : decode cX7_core 79 = .ok (.goto (-43), 3) := dk_167 255 213 (dk_at dksX7_core_3 7 rfl rfl)
theorem dX7_core_82 : decode cX7_core 82 = .ok (.iload_n 1, 1) := dk_27 (dk_at dksX7_core_3 10 rfl rfl)
theorem dX7_core_83 : decode cX7_core 83 = .ok (.ireturn, 1) := dk_172 (dk_at dksX7_core_3 11 rfl rfl)
abbrev cX7_wrong : ByteArray := prog_16_method_98_code
def yX7_wrong : MethodName := ⟨RX7, "wrong", "(I)I"⟩
def dkwX7_wrong_9 : List UInt8 := [167, 0, 15, 27, 4, 160, 0, 8, 21, 5, 167, 0, 5, 21, 6, 172, 132, 4, 1, 167, 255, 68, 2, 172]
abbrev dktX7_wrong_9 : List UInt8 := dkwX7_wrong_9 ++ []
def dkwX7_wrong_8 : List UInt8 := [132, 8, 1, 167, 255, 140, 132, 7, 1, 167, 255, 116, 21, 5, 158, 0, 25, 27, 154, 0, 8, 21, 4]
abbrev dktX7_wrong_8 : List UInt8 := dkwX7_wrong_8 ++ dktX7_wrong_9
def dkwX7_wrong_7 : List UInt8 := [167, 0, 5, 21, 6, 54, 6, 21, 5, 21, 10, 153, 0, 7, 4, 167, 0, 4, 3, 96, 54, 5]
abbrev dktX7_wrong_7 : List UInt8 := dkwX7_wrong_7 ++ dktX7_wrong_8
def dkwX7_wrong_6 : List UInt8 := [153, 0, 7, 4, 167, 0, 4, 3, 54, 10, 21, 10, 153, 0, 13, 21, 5, 154, 0, 8, 21, 9]
abbrev dktX7_wrong_6 : List UInt8 := dkwX7_wrong_6 ++ dktX7_wrong_7
def dkwX7_wrong_5 : List UInt8 := [128, 54, 9, 21, 9, 28, 2, 130, 126, 154, 0, 20, 42, 28, 21, 9, 2, 130, 126, 182, 1, 118]
abbrev dktX7_wrong_5 : List UInt8 := dkwX7_wrong_5 ++ dktX7_wrong_6
def dkwX7_wrong_4 : List UInt8 := [167, 0, 25, 21, 4, 4, 160, 0, 10, 4, 21, 7, 120, 167, 0, 12, 4, 21, 8, 120, 4, 21, 7, 120]
abbrev dktX7_wrong_4 : List UInt8 := dkwX7_wrong_4 ++ dktX7_wrong_5
def dkwX7_wrong_3 : List UInt8 := [21, 8, 21, 4, 5, 162, 0, 7, 4, 167, 0, 5, 21, 7, 162, 0, 105, 21, 4, 154, 0, 7, 3]
abbrev dktX7_wrong_3 : List UInt8 := dkwX7_wrong_3 ++ dktX7_wrong_4
def dkwX7_wrong_2 : List UInt8 := [54, 6, 3, 54, 7, 21, 7, 21, 4, 154, 0, 7, 4, 167, 0, 4, 29, 162, 0, 131, 3, 54, 8]
abbrev dktX7_wrong_2 : List UInt8 := dkwX7_wrong_2 ++ dktX7_wrong_3
def dkwX7_wrong_1 : List UInt8 := [182, 1, 114, 61, 42, 180, 0, 13, 3, 46, 62, 3, 54, 4, 21, 4, 5, 163, 0, 188, 3, 54, 5, 3]
abbrev dktX7_wrong_1 : List UInt8 := dkwX7_wrong_1 ++ dktX7_wrong_2
def dkwX7_wrong_0 : List UInt8 := [42, 3, 181, 0, 133, 27, 133, 9, 20, 0, 182, 184, 0, 143, 154, 0, 5, 2, 172, 42, 182, 1, 111, 42]
abbrev dktX7_wrong_0 : List UInt8 := dkwX7_wrong_0 ++ dktX7_wrong_1
theorem dksX7_wrong_0 : cX7_wrong.data.toList.drop 0 = dktX7_wrong_0 := by decide +kernel
theorem dksX7_wrong_1 : cX7_wrong.data.toList.drop 24 = dktX7_wrong_1 := dk_seg dksX7_wrong_0 24 rfl rfl
theorem dksX7_wrong_2 : cX7_wrong.data.toList.drop 48 = dktX7_wrong_2 := dk_seg dksX7_wrong_1 24 rfl rfl
theorem dksX7_wrong_3 : cX7_wrong.data.toList.drop 71 = dktX7_wrong_3 := dk_seg dksX7_wrong_2 23 rfl rfl
theorem dksX7_wrong_4 : cX7_wrong.data.toList.drop 94 = dktX7_wrong_4 := dk_seg dksX7_wrong_3 23 rfl rfl
theorem dksX7_wrong_5 : cX7_wrong.data.toList.drop 118 = dktX7_wrong_5 := dk_seg dksX7_wrong_4 24 rfl rfl
theorem dksX7_wrong_6 : cX7_wrong.data.toList.drop 140 = dktX7_wrong_6 := dk_seg dksX7_wrong_5 22 rfl rfl
theorem dksX7_wrong_7 : cX7_wrong.data.toList.drop 162 = dktX7_wrong_7 := dk_seg dksX7_wrong_6 22 rfl rfl
theorem dksX7_wrong_8 : cX7_wrong.data.toList.drop 184 = dktX7_wrong_8 := dk_seg dksX7_wrong_7 22 rfl rfl
theorem dksX7_wrong_9 : cX7_wrong.data.toList.drop 207 = dktX7_wrong_9 := dk_seg dksX7_wrong_8 23 rfl rfl
theorem dX7_wrong_0 : decode cX7_wrong 0 = .ok (.aload_n 0, 1) := dk_42 (dk_at dksX7_wrong_0 0 rfl rfl)
theorem dX7_wrong_1 : decode cX7_wrong 1 = .ok (.iconst 0, 1) := dk_3 (dk_at dksX7_wrong_0 1 rfl rfl)
theorem dX7_wrong_2 : decode cX7_wrong 2 = .ok (.putfield 133, 3) := dk_181 0 133 (dk_at dksX7_wrong_0 2 rfl rfl)
theorem dX7_wrong_5 : decode cX7_wrong 5 = .ok (.iload_n 1, 1) := dk_27 (dk_at dksX7_wrong_0 5 rfl rfl)
theorem dX7_wrong_6 : decode cX7_wrong 6 = .ok (.i2l, 1) := dk_133 (dk_at dksX7_wrong_0 6 rfl rfl)
theorem dX7_wrong_7 : decode cX7_wrong 7 = .ok (.lconst 0, 1) := dk_9 (dk_at dksX7_wrong_0 7 rfl rfl)
theorem dX7_wrong_8 : decode cX7_wrong 8 = .ok (.ldc2_w 182, 3) := dk_20 0 182 (dk_at dksX7_wrong_0 8 rfl rfl)
theorem dX7_wrong_11 : decode cX7_wrong 11 = .ok (.invokestatic 143, 3) := dk_184 0 143 (dk_at dksX7_wrong_0 11 rfl rfl)
theorem dX7_wrong_14 : decode cX7_wrong 14 = .ok (.ifCond .ne 5, 3) := dk_154 0 5 (dk_at dksX7_wrong_0 14 rfl rfl)
theorem dX7_wrong_17 : decode cX7_wrong 17 = .ok (.iconst (-1), 1) := dk_2 (dk_at dksX7_wrong_0 17 rfl rfl)
theorem dX7_wrong_18 : decode cX7_wrong 18 = .ok (.ireturn, 1) := dk_172 (dk_at dksX7_wrong_0 18 rfl rfl)
theorem dX7_wrong_19 : decode cX7_wrong 19 = .ok (.aload_n 0, 1) := dk_42 (dk_at dksX7_wrong_0 19 rfl rfl)
theorem dX7_wrong_20 : decode cX7_wrong 20 = .ok (.invokevirtual 367, 3) := dk_182 1 111 (dk_at dksX7_wrong_0 20 rfl rfl)
theorem dX7_wrong_23 : decode cX7_wrong 23 = .ok (.aload_n 0, 1) := dk_42 (dk_at dksX7_wrong_0 23 rfl rfl)
theorem dX7_wrong_24 : decode cX7_wrong 24 = .ok (.invokevirtual 370, 3) := dk_182 1 114 (dk_at dksX7_wrong_1 0 rfl rfl)
theorem dX7_wrong_27 : decode cX7_wrong 27 = .ok (.istore_n 2, 1) := dk_61 (dk_at dksX7_wrong_1 3 rfl rfl)
theorem dX7_wrong_28 : decode cX7_wrong 28 = .ok (.aload_n 0, 1) := dk_42 (dk_at dksX7_wrong_1 4 rfl rfl)
theorem dX7_wrong_29 : decode cX7_wrong 29 = .ok (.getfield 13, 3) := dk_180 0 13 (dk_at dksX7_wrong_1 5 rfl rfl)
theorem dX7_wrong_32 : decode cX7_wrong 32 = .ok (.iconst 0, 1) := dk_3 (dk_at dksX7_wrong_1 8 rfl rfl)
theorem dX7_wrong_33 : decode cX7_wrong 33 = .ok (.iaload, 1) := dk_46 (dk_at dksX7_wrong_1 9 rfl rfl)
theorem dX7_wrong_34 : decode cX7_wrong 34 = .ok (.istore_n 3, 1) := dk_62 (dk_at dksX7_wrong_1 10 rfl rfl)
theorem dX7_wrong_35 : decode cX7_wrong 35 = .ok (.iconst 0, 1) := dk_3 (dk_at dksX7_wrong_1 11 rfl rfl)
theorem dX7_wrong_36 : decode cX7_wrong 36 = .ok (.istore 4, 2) := dk_54 4 (dk_at dksX7_wrong_1 12 rfl rfl)
theorem dX7_wrong_38 : decode cX7_wrong 38 = .ok (.iload 4, 2) := dk_21 4 (dk_at dksX7_wrong_1 14 rfl rfl)
theorem dX7_wrong_40 : decode cX7_wrong 40 = .ok (.iconst 2, 1) := dk_5 (dk_at dksX7_wrong_1 16 rfl rfl)
theorem dX7_wrong_41 : decode cX7_wrong 41 = .ok (.if_icmp .gt 188, 3) := dk_163 0 188 (dk_at dksX7_wrong_1 17 rfl rfl)
theorem dX7_wrong_44 : decode cX7_wrong 44 = .ok (.iconst 0, 1) := dk_3 (dk_at dksX7_wrong_1 20 rfl rfl)
theorem dX7_wrong_45 : decode cX7_wrong 45 = .ok (.istore 5, 2) := dk_54 5 (dk_at dksX7_wrong_1 21 rfl rfl)
theorem dX7_wrong_47 : decode cX7_wrong 47 = .ok (.iconst 0, 1) := dk_3 (dk_at dksX7_wrong_1 23 rfl rfl)
theorem dX7_wrong_48 : decode cX7_wrong 48 = .ok (.istore 6, 2) := dk_54 6 (dk_at dksX7_wrong_2 0 rfl rfl)
theorem dX7_wrong_50 : decode cX7_wrong 50 = .ok (.iconst 0, 1) := dk_3 (dk_at dksX7_wrong_2 2 rfl rfl)
theorem dX7_wrong_51 : decode cX7_wrong 51 = .ok (.istore 7, 2) := dk_54 7 (dk_at dksX7_wrong_2 3 rfl rfl)
theorem dX7_wrong_53 : decode cX7_wrong 53 = .ok (.iload 7, 2) := dk_21 7 (dk_at dksX7_wrong_2 5 rfl rfl)
theorem dX7_wrong_55 : decode cX7_wrong 55 = .ok (.iload 4, 2) := dk_21 4 (dk_at dksX7_wrong_2 7 rfl rfl)
theorem dX7_wrong_57 : decode cX7_wrong 57 = .ok (.ifCond .ne 7, 3) := dk_154 0 7 (dk_at dksX7_wrong_2 9 rfl rfl)
theorem dX7_wrong_60 : decode cX7_wrong 60 = .ok (.iconst 1, 1) := dk_4 (dk_at dksX7_wrong_2 12 rfl rfl)
theorem dX7_wrong_61 : decode cX7_wrong 61 = .ok (.goto 4, 3) := dk_167 0 4 (dk_at dksX7_wrong_2 13 rfl rfl)
theorem dX7_wrong_64 : decode cX7_wrong 64 = .ok (.iload_n 3, 1) := dk_29 (dk_at dksX7_wrong_2 16 rfl rfl)
theorem dX7_wrong_65 : decode cX7_wrong 65 = .ok (.if_icmp .ge 131, 3) := dk_162 0 131 (dk_at dksX7_wrong_2 17 rfl rfl)
theorem dX7_wrong_68 : decode cX7_wrong 68 = .ok (.iconst 0, 1) := dk_3 (dk_at dksX7_wrong_2 20 rfl rfl)
theorem dX7_wrong_69 : decode cX7_wrong 69 = .ok (.istore 8, 2) := dk_54 8 (dk_at dksX7_wrong_2 21 rfl rfl)
theorem dX7_wrong_71 : decode cX7_wrong 71 = .ok (.iload 8, 2) := dk_21 8 (dk_at dksX7_wrong_3 0 rfl rfl)
theorem dX7_wrong_73 : decode cX7_wrong 73 = .ok (.iload 4, 2) := dk_21 4 (dk_at dksX7_wrong_3 2 rfl rfl)
theorem dX7_wrong_75 : decode cX7_wrong 75 = .ok (.iconst 2, 1) := dk_5 (dk_at dksX7_wrong_3 4 rfl rfl)
theorem dX7_wrong_76 : decode cX7_wrong 76 = .ok (.if_icmp .ge 7, 3) := dk_162 0 7 (dk_at dksX7_wrong_3 5 rfl rfl)
theorem dX7_wrong_79 : decode cX7_wrong 79 = .ok (.iconst 1, 1) := dk_4 (dk_at dksX7_wrong_3 8 rfl rfl)
theorem dX7_wrong_80 : decode cX7_wrong 80 = .ok (.goto 5, 3) := dk_167 0 5 (dk_at dksX7_wrong_3 9 rfl rfl)
theorem dX7_wrong_83 : decode cX7_wrong 83 = .ok (.iload 7, 2) := dk_21 7 (dk_at dksX7_wrong_3 12 rfl rfl)
theorem dX7_wrong_85 : decode cX7_wrong 85 = .ok (.if_icmp .ge 105, 3) := dk_162 0 105 (dk_at dksX7_wrong_3 14 rfl rfl)
theorem dX7_wrong_88 : decode cX7_wrong 88 = .ok (.iload 4, 2) := dk_21 4 (dk_at dksX7_wrong_3 17 rfl rfl)
theorem dX7_wrong_90 : decode cX7_wrong 90 = .ok (.ifCond .ne 7, 3) := dk_154 0 7 (dk_at dksX7_wrong_3 19 rfl rfl)
theorem dX7_wrong_93 : decode cX7_wrong 93 = .ok (.iconst 0, 1) := dk_3 (dk_at dksX7_wrong_3 22 rfl rfl)
theorem dX7_wrong_94 : decode cX7_wrong 94 = .ok (.goto 25, 3) := dk_167 0 25 (dk_at dksX7_wrong_4 0 rfl rfl)
theorem dX7_wrong_97 : decode cX7_wrong 97 = .ok (.iload 4, 2) := dk_21 4 (dk_at dksX7_wrong_4 3 rfl rfl)
theorem dX7_wrong_99 : decode cX7_wrong 99 = .ok (.iconst 1, 1) := dk_4 (dk_at dksX7_wrong_4 5 rfl rfl)
theorem dX7_wrong_100 : decode cX7_wrong 100 = .ok (.if_icmp .ne 10, 3) := dk_160 0 10 (dk_at dksX7_wrong_4 6 rfl rfl)
theorem dX7_wrong_103 : decode cX7_wrong 103 = .ok (.iconst 1, 1) := dk_4 (dk_at dksX7_wrong_4 9 rfl rfl)
theorem dX7_wrong_104 : decode cX7_wrong 104 = .ok (.iload 7, 2) := dk_21 7 (dk_at dksX7_wrong_4 10 rfl rfl)
theorem dX7_wrong_106 : decode cX7_wrong 106 = .ok (.ishl, 1) := dk_120 (dk_at dksX7_wrong_4 12 rfl rfl)
theorem dX7_wrong_107 : decode cX7_wrong 107 = .ok (.goto 12, 3) := dk_167 0 12 (dk_at dksX7_wrong_4 13 rfl rfl)
theorem dX7_wrong_110 : decode cX7_wrong 110 = .ok (.iconst 1, 1) := dk_4 (dk_at dksX7_wrong_4 16 rfl rfl)
theorem dX7_wrong_111 : decode cX7_wrong 111 = .ok (.iload 8, 2) := dk_21 8 (dk_at dksX7_wrong_4 17 rfl rfl)
theorem dX7_wrong_113 : decode cX7_wrong 113 = .ok (.ishl, 1) := dk_120 (dk_at dksX7_wrong_4 19 rfl rfl)
theorem dX7_wrong_114 : decode cX7_wrong 114 = .ok (.iconst 1, 1) := dk_4 (dk_at dksX7_wrong_4 20 rfl rfl)
theorem dX7_wrong_115 : decode cX7_wrong 115 = .ok (.iload 7, 2) := dk_21 7 (dk_at dksX7_wrong_4 21 rfl rfl)
theorem dX7_wrong_117 : decode cX7_wrong 117 = .ok (.ishl, 1) := dk_120 (dk_at dksX7_wrong_4 23 rfl rfl)
theorem dX7_wrong_118 : decode cX7_wrong 118 = .ok (.ior, 1) := dk_128 (dk_at dksX7_wrong_5 0 rfl rfl)
theorem dX7_wrong_119 : decode cX7_wrong 119 = .ok (.istore 9, 2) := dk_54 9 (dk_at dksX7_wrong_5 1 rfl rfl)
theorem dX7_wrong_121 : decode cX7_wrong 121 = .ok (.iload 9, 2) := dk_21 9 (dk_at dksX7_wrong_5 3 rfl rfl)
theorem dX7_wrong_123 : decode cX7_wrong 123 = .ok (.iload_n 2, 1) := dk_28 (dk_at dksX7_wrong_5 5 rfl rfl)
theorem dX7_wrong_124 : decode cX7_wrong 124 = .ok (.iconst (-1), 1) := dk_2 (dk_at dksX7_wrong_5 6 rfl rfl)
theorem dX7_wrong_125 : decode cX7_wrong 125 = .ok (.ixor, 1) := dk_130 (dk_at dksX7_wrong_5 7 rfl rfl)
theorem dX7_wrong_126 : decode cX7_wrong 126 = .ok (.iand, 1) := dk_126 (dk_at dksX7_wrong_5 8 rfl rfl)
theorem dX7_wrong_127 : decode cX7_wrong 127 = .ok (.ifCond .ne 20, 3) := dk_154 0 20 (dk_at dksX7_wrong_5 9 rfl rfl)
theorem dX7_wrong_130 : decode cX7_wrong 130 = .ok (.aload_n 0, 1) := dk_42 (dk_at dksX7_wrong_5 12 rfl rfl)
theorem dX7_wrong_131 : decode cX7_wrong 131 = .ok (.iload_n 2, 1) := dk_28 (dk_at dksX7_wrong_5 13 rfl rfl)
theorem dX7_wrong_132 : decode cX7_wrong 132 = .ok (.iload 9, 2) := dk_21 9 (dk_at dksX7_wrong_5 14 rfl rfl)
theorem dX7_wrong_134 : decode cX7_wrong 134 = .ok (.iconst (-1), 1) := dk_2 (dk_at dksX7_wrong_5 16 rfl rfl)
theorem dX7_wrong_135 : decode cX7_wrong 135 = .ok (.ixor, 1) := dk_130 (dk_at dksX7_wrong_5 17 rfl rfl)
theorem dX7_wrong_136 : decode cX7_wrong 136 = .ok (.iand, 1) := dk_126 (dk_at dksX7_wrong_5 18 rfl rfl)
theorem dX7_wrong_137 : decode cX7_wrong 137 = .ok (.invokevirtual 374, 3) := dk_182 1 118 (dk_at dksX7_wrong_5 19 rfl rfl)
theorem dX7_wrong_140 : decode cX7_wrong 140 = .ok (.ifCond .eq 7, 3) := dk_153 0 7 (dk_at dksX7_wrong_6 0 rfl rfl)
theorem dX7_wrong_143 : decode cX7_wrong 143 = .ok (.iconst 1, 1) := dk_4 (dk_at dksX7_wrong_6 3 rfl rfl)
theorem dX7_wrong_144 : decode cX7_wrong 144 = .ok (.goto 4, 3) := dk_167 0 4 (dk_at dksX7_wrong_6 4 rfl rfl)
theorem dX7_wrong_147 : decode cX7_wrong 147 = .ok (.iconst 0, 1) := dk_3 (dk_at dksX7_wrong_6 7 rfl rfl)
theorem dX7_wrong_148 : decode cX7_wrong 148 = .ok (.istore 10, 2) := dk_54 10 (dk_at dksX7_wrong_6 8 rfl rfl)
theorem dX7_wrong_150 : decode cX7_wrong 150 = .ok (.iload 10, 2) := dk_21 10 (dk_at dksX7_wrong_6 10 rfl rfl)
theorem dX7_wrong_152 : decode cX7_wrong 152 = .ok (.ifCond .eq 13, 3) := dk_153 0 13 (dk_at dksX7_wrong_6 12 rfl rfl)
theorem dX7_wrong_155 : decode cX7_wrong 155 = .ok (.iload 5, 2) := dk_21 5 (dk_at dksX7_wrong_6 15 rfl rfl)
theorem dX7_wrong_157 : decode cX7_wrong 157 = .ok (.ifCond .ne 8, 3) := dk_154 0 8 (dk_at dksX7_wrong_6 17 rfl rfl)
theorem dX7_wrong_160 : decode cX7_wrong 160 = .ok (.iload 9, 2) := dk_21 9 (dk_at dksX7_wrong_6 20 rfl rfl)
theorem dX7_wrong_162 : decode cX7_wrong 162 = .ok (.goto 5, 3) := dk_167 0 5 (dk_at dksX7_wrong_7 0 rfl rfl)
theorem dX7_wrong_165 : decode cX7_wrong 165 = .ok (.iload 6, 2) := dk_21 6 (dk_at dksX7_wrong_7 3 rfl rfl)
theorem dX7_wrong_167 : decode cX7_wrong 167 = .ok (.istore 6, 2) := dk_54 6 (dk_at dksX7_wrong_7 5 rfl rfl)
theorem dX7_wrong_169 : decode cX7_wrong 169 = .ok (.iload 5, 2) := dk_21 5 (dk_at dksX7_wrong_7 7 rfl rfl)
theorem dX7_wrong_171 : decode cX7_wrong 171 = .ok (.iload 10, 2) := dk_21 10 (dk_at dksX7_wrong_7 9 rfl rfl)
theorem dX7_wrong_173 : decode cX7_wrong 173 = .ok (.ifCond .eq 7, 3) := dk_153 0 7 (dk_at dksX7_wrong_7 11 rfl rfl)
theorem dX7_wrong_176 : decode cX7_wrong 176 = .ok (.iconst 1, 1) := dk_4 (dk_at dksX7_wrong_7 14 rfl rfl)
theorem dX7_wrong_177 : decode cX7_wrong 177 = .ok (.goto 4, 3) := dk_167 0 4 (dk_at dksX7_wrong_7 15 rfl rfl)
theorem dX7_wrong_180 : decode cX7_wrong 180 = .ok (.iconst 0, 1) := dk_3 (dk_at dksX7_wrong_7 18 rfl rfl)
theorem dX7_wrong_181 : decode cX7_wrong 181 = .ok (.iadd, 1) := dk_96 (dk_at dksX7_wrong_7 19 rfl rfl)
theorem dX7_wrong_182 : decode cX7_wrong 182 = .ok (.istore 5, 2) := dk_54 5 (dk_at dksX7_wrong_7 20 rfl rfl)
theorem dX7_wrong_184 : decode cX7_wrong 184 = .ok (.iinc 8 1, 3) := dk_132 8 1 (dk_at dksX7_wrong_8 0 rfl rfl)
theorem dX7_wrong_187 : decode cX7_wrong 187 = .ok (.goto (-116), 3) := dk_167 255 140 (dk_at dksX7_wrong_8 3 rfl rfl)
theorem dX7_wrong_190 : decode cX7_wrong 190 = .ok (.iinc 7 1, 3) := dk_132 7 1 (dk_at dksX7_wrong_8 6 rfl rfl)
theorem dX7_wrong_193 : decode cX7_wrong 193 = .ok (.goto (-140), 3) := dk_167 255 116 (dk_at dksX7_wrong_8 9 rfl rfl)
theorem dX7_wrong_196 : decode cX7_wrong 196 = .ok (.iload 5, 2) := dk_21 5 (dk_at dksX7_wrong_8 12 rfl rfl)
theorem dX7_wrong_198 : decode cX7_wrong 198 = .ok (.ifCond .le 25, 3) := dk_158 0 25 (dk_at dksX7_wrong_8 14 rfl rfl)
theorem dX7_wrong_201 : decode cX7_wrong 201 = .ok (.iload_n 1, 1) := dk_27 (dk_at dksX7_wrong_8 17 rfl rfl)
theorem dX7_wrong_202 : decode cX7_wrong 202 = .ok (.ifCond .ne 8, 3) := dk_154 0 8 (dk_at dksX7_wrong_8 18 rfl rfl)
theorem dX7_wrong_205 : decode cX7_wrong 205 = .ok (.iload 4, 2) := dk_21 4 (dk_at dksX7_wrong_8 21 rfl rfl)
theorem dX7_wrong_207 : decode cX7_wrong 207 = .ok (.goto 15, 3) := dk_167 0 15 (dk_at dksX7_wrong_9 0 rfl rfl)
theorem dX7_wrong_210 : decode cX7_wrong 210 = .ok (.iload_n 1, 1) := dk_27 (dk_at dksX7_wrong_9 3 rfl rfl)
theorem dX7_wrong_211 : decode cX7_wrong 211 = .ok (.iconst 1, 1) := dk_4 (dk_at dksX7_wrong_9 4 rfl rfl)
theorem dX7_wrong_212 : decode cX7_wrong 212 = .ok (.if_icmp .ne 8, 3) := dk_160 0 8 (dk_at dksX7_wrong_9 5 rfl rfl)
theorem dX7_wrong_215 : decode cX7_wrong 215 = .ok (.iload 5, 2) := dk_21 5 (dk_at dksX7_wrong_9 8 rfl rfl)
theorem dX7_wrong_217 : decode cX7_wrong 217 = .ok (.goto 5, 3) := dk_167 0 5 (dk_at dksX7_wrong_9 10 rfl rfl)
theorem dX7_wrong_220 : decode cX7_wrong 220 = .ok (.iload 6, 2) := dk_21 6 (dk_at dksX7_wrong_9 13 rfl rfl)
theorem dX7_wrong_222 : decode cX7_wrong 222 = .ok (.ireturn, 1) := dk_172 (dk_at dksX7_wrong_9 15 rfl rfl)
theorem dX7_wrong_223 : decode cX7_wrong 223 = .ok (.iinc 4 1, 3) := dk_132 4 1 (dk_at dksX7_wrong_9 16 rfl rfl)
theorem dX7_wrong_226 : decode cX7_wrong 226 = .ok (.goto (-188), 3) := dk_167 255 68 (dk_at dksX7_wrong_9 19 rfl rfl)
theorem dX7_wrong_229 : decode cX7_wrong 229 = .ok (.iconst (-1), 1) := dk_2 (dk_at dksX7_wrong_9 22 rfl rfl)
theorem dX7_wrong_230 : decode cX7_wrong 230 = .ok (.ireturn, 1) := dk_172 (dk_at dksX7_wrong_9 23 rfl rfl)
abbrev cX7_whose : ByteArray := prog_16_method_102_code
def yX7_whose : MethodName := ⟨RX7, "whose", "(I)I"⟩
def dkwX7_whose_3 : List UInt8 := [8, 62, 132, 4, 1, 167, 255, 225, 29, 172]
abbrev dktX7_whose_3 : List UInt8 := dkwX7_whose_3 ++ []
def dkwX7_whose_2 : List UInt8 := [7, 162, 0, 31, 42, 28, 21, 4, 182, 1, 237, 158, 0, 15, 29, 2, 160, 0, 8, 21, 4, 167, 0, 4]
abbrev dktX7_whose_2 : List UInt8 := dkwX7_whose_2 ++ dktX7_whose_3
def dkwX7_whose_1 : List UInt8 := [182, 1, 237, 172, 42, 27, 182, 1, 240, 61, 28, 2, 160, 0, 5, 2, 172, 2, 62, 3, 54, 4, 21, 4]
abbrev dktX7_whose_1 : List UInt8 := dkwX7_whose_1 ++ dktX7_whose_2
def dkwX7_whose_0 : List UInt8 := [42, 3, 181, 0, 133, 42, 182, 1, 234, 154, 0, 5, 2, 172, 27, 2, 160, 0, 10, 42, 3, 2]
abbrev dktX7_whose_0 : List UInt8 := dkwX7_whose_0 ++ dktX7_whose_1
theorem dksX7_whose_0 : cX7_whose.data.toList.drop 0 = dktX7_whose_0 := by decide +kernel
theorem dksX7_whose_1 : cX7_whose.data.toList.drop 22 = dktX7_whose_1 := dk_seg dksX7_whose_0 22 rfl rfl
theorem dksX7_whose_2 : cX7_whose.data.toList.drop 46 = dktX7_whose_2 := dk_seg dksX7_whose_1 24 rfl rfl
theorem dksX7_whose_3 : cX7_whose.data.toList.drop 70 = dktX7_whose_3 := dk_seg dksX7_whose_2 24 rfl rfl
theorem dX7_whose_0 : decode cX7_whose 0 = .ok (.aload_n 0, 1) := dk_42 (dk_at dksX7_whose_0 0 rfl rfl)
theorem dX7_whose_1 : decode cX7_whose 1 = .ok (.iconst 0, 1) := dk_3 (dk_at dksX7_whose_0 1 rfl rfl)
theorem dX7_whose_2 : decode cX7_whose 2 = .ok (.putfield 133, 3) := dk_181 0 133 (dk_at dksX7_whose_0 2 rfl rfl)
theorem dX7_whose_5 : decode cX7_whose 5 = .ok (.aload_n 0, 1) := dk_42 (dk_at dksX7_whose_0 5 rfl rfl)
theorem dX7_whose_6 : decode cX7_whose 6 = .ok (.invokevirtual 490, 3) := dk_182 1 234 (dk_at dksX7_whose_0 6 rfl rfl)
theorem dX7_whose_9 : decode cX7_whose 9 = .ok (.ifCond .ne 5, 3) := dk_154 0 5 (dk_at dksX7_whose_0 9 rfl rfl)
theorem dX7_whose_12 : decode cX7_whose 12 = .ok (.iconst (-1), 1) := dk_2 (dk_at dksX7_whose_0 12 rfl rfl)
theorem dX7_whose_13 : decode cX7_whose 13 = .ok (.ireturn, 1) := dk_172 (dk_at dksX7_whose_0 13 rfl rfl)
theorem dX7_whose_14 : decode cX7_whose 14 = .ok (.iload_n 1, 1) := dk_27 (dk_at dksX7_whose_0 14 rfl rfl)
theorem dX7_whose_15 : decode cX7_whose 15 = .ok (.iconst (-1), 1) := dk_2 (dk_at dksX7_whose_0 15 rfl rfl)
theorem dX7_whose_16 : decode cX7_whose 16 = .ok (.if_icmp .ne 10, 3) := dk_160 0 10 (dk_at dksX7_whose_0 16 rfl rfl)
theorem dX7_whose_19 : decode cX7_whose 19 = .ok (.aload_n 0, 1) := dk_42 (dk_at dksX7_whose_0 19 rfl rfl)
theorem dX7_whose_20 : decode cX7_whose 20 = .ok (.iconst 0, 1) := dk_3 (dk_at dksX7_whose_0 20 rfl rfl)
theorem dX7_whose_21 : decode cX7_whose 21 = .ok (.iconst (-1), 1) := dk_2 (dk_at dksX7_whose_0 21 rfl rfl)
theorem dX7_whose_22 : decode cX7_whose 22 = .ok (.invokevirtual 493, 3) := dk_182 1 237 (dk_at dksX7_whose_1 0 rfl rfl)
theorem dX7_whose_25 : decode cX7_whose 25 = .ok (.ireturn, 1) := dk_172 (dk_at dksX7_whose_1 3 rfl rfl)
theorem dX7_whose_26 : decode cX7_whose 26 = .ok (.aload_n 0, 1) := dk_42 (dk_at dksX7_whose_1 4 rfl rfl)
theorem dX7_whose_27 : decode cX7_whose 27 = .ok (.iload_n 1, 1) := dk_27 (dk_at dksX7_whose_1 5 rfl rfl)
theorem dX7_whose_28 : decode cX7_whose 28 = .ok (.invokevirtual 496, 3) := dk_182 1 240 (dk_at dksX7_whose_1 6 rfl rfl)
theorem dX7_whose_31 : decode cX7_whose 31 = .ok (.istore_n 2, 1) := dk_61 (dk_at dksX7_whose_1 9 rfl rfl)
theorem dX7_whose_32 : decode cX7_whose 32 = .ok (.iload_n 2, 1) := dk_28 (dk_at dksX7_whose_1 10 rfl rfl)
theorem dX7_whose_33 : decode cX7_whose 33 = .ok (.iconst (-1), 1) := dk_2 (dk_at dksX7_whose_1 11 rfl rfl)
theorem dX7_whose_34 : decode cX7_whose 34 = .ok (.if_icmp .ne 5, 3) := dk_160 0 5 (dk_at dksX7_whose_1 12 rfl rfl)
theorem dX7_whose_37 : decode cX7_whose 37 = .ok (.iconst (-1), 1) := dk_2 (dk_at dksX7_whose_1 15 rfl rfl)
theorem dX7_whose_38 : decode cX7_whose 38 = .ok (.ireturn, 1) := dk_172 (dk_at dksX7_whose_1 16 rfl rfl)
theorem dX7_whose_39 : decode cX7_whose 39 = .ok (.iconst (-1), 1) := dk_2 (dk_at dksX7_whose_1 17 rfl rfl)
theorem dX7_whose_40 : decode cX7_whose 40 = .ok (.istore_n 3, 1) := dk_62 (dk_at dksX7_whose_1 18 rfl rfl)
theorem dX7_whose_41 : decode cX7_whose 41 = .ok (.iconst 0, 1) := dk_3 (dk_at dksX7_whose_1 19 rfl rfl)
theorem dX7_whose_42 : decode cX7_whose 42 = .ok (.istore 4, 2) := dk_54 4 (dk_at dksX7_whose_1 20 rfl rfl)
theorem dX7_whose_44 : decode cX7_whose 44 = .ok (.iload 4, 2) := dk_21 4 (dk_at dksX7_whose_1 22 rfl rfl)
theorem dX7_whose_46 : decode cX7_whose 46 = .ok (.iconst 4, 1) := dk_7 (dk_at dksX7_whose_2 0 rfl rfl)
theorem dX7_whose_47 : decode cX7_whose 47 = .ok (.if_icmp .ge 31, 3) := dk_162 0 31 (dk_at dksX7_whose_2 1 rfl rfl)
theorem dX7_whose_50 : decode cX7_whose 50 = .ok (.aload_n 0, 1) := dk_42 (dk_at dksX7_whose_2 4 rfl rfl)
theorem dX7_whose_51 : decode cX7_whose 51 = .ok (.iload_n 2, 1) := dk_28 (dk_at dksX7_whose_2 5 rfl rfl)
theorem dX7_whose_52 : decode cX7_whose 52 = .ok (.iload 4, 2) := dk_21 4 (dk_at dksX7_whose_2 6 rfl rfl)
theorem dX7_whose_54 : decode cX7_whose 54 = .ok (.invokevirtual 493, 3) := dk_182 1 237 (dk_at dksX7_whose_2 8 rfl rfl)
theorem dX7_whose_57 : decode cX7_whose 57 = .ok (.ifCond .le 15, 3) := dk_158 0 15 (dk_at dksX7_whose_2 11 rfl rfl)
theorem dX7_whose_60 : decode cX7_whose 60 = .ok (.iload_n 3, 1) := dk_29 (dk_at dksX7_whose_2 14 rfl rfl)
theorem dX7_whose_61 : decode cX7_whose 61 = .ok (.iconst (-1), 1) := dk_2 (dk_at dksX7_whose_2 15 rfl rfl)
theorem dX7_whose_62 : decode cX7_whose 62 = .ok (.if_icmp .ne 8, 3) := dk_160 0 8 (dk_at dksX7_whose_2 16 rfl rfl)
theorem dX7_whose_65 : decode cX7_whose 65 = .ok (.iload 4, 2) := dk_21 4 (dk_at dksX7_whose_2 19 rfl rfl)
theorem dX7_whose_67 : decode cX7_whose 67 = .ok (.goto 4, 3) := dk_167 0 4 (dk_at dksX7_whose_2 21 rfl rfl)
theorem dX7_whose_70 : decode cX7_whose 70 = .ok (.iconst 5, 1) := dk_8 (dk_at dksX7_whose_3 0 rfl rfl)
theorem dX7_whose_71 : decode cX7_whose 71 = .ok (.istore_n 3, 1) := dk_62 (dk_at dksX7_whose_3 1 rfl rfl)
theorem dX7_whose_72 : decode cX7_whose 72 = .ok (.iinc 4 1, 3) := dk_132 4 1 (dk_at dksX7_whose_3 2 rfl rfl)
theorem dX7_whose_75 : decode cX7_whose 75 = .ok (.goto (-31), 3) := dk_167 255 225 (dk_at dksX7_whose_3 5 rfl rfl)
theorem dX7_whose_78 : decode cX7_whose 78 = .ok (.iload_n 3, 1) := dk_29 (dk_at dksX7_whose_3 8 rfl rfl)
theorem dX7_whose_79 : decode cX7_whose 79 = .ok (.ireturn, 1) := dk_172 (dk_at dksX7_whose_3 9 rfl rfl)
abbrev cX7_findAsked : ByteArray := prog_16_method_99_code
def yX7_findAsked : MethodName := ⟨RX7, "findAsked", "()Z"⟩
def dkwX7_findAsked_5 : List UInt8 := [167, 255, 150, 4, 172]
abbrev dktX7_findAsked_5 : List UInt8 := dkwX7_findAsked_5 ++ []
def dkwX7_findAsked_4 : List UInt8 := [180, 0, 127, 42, 180, 1, 231, 27, 79, 42, 89, 180, 1, 231, 4, 96, 181, 1, 231, 132, 1, 1]
abbrev dktX7_findAsked_4 : List UInt8 := dkwX7_findAsked_4 ++ dktX7_findAsked_5
def dkwX7_findAsked_3 : List UInt8 := [42, 180, 0, 13, 16, 10, 27, 96, 46, 2, 160, 0, 33, 42, 180, 1, 231, 6, 160, 0, 5, 3, 172, 42]
abbrev dktX7_findAsked_3 : List UInt8 := dkwX7_findAsked_3 ++ dktX7_findAsked_4
def dkwX7_findAsked_2 : List UInt8 := [4, 182, 0, 195, 27, 160, 0, 7, 4, 167, 0, 4, 3, 61, 132, 3, 1, 167, 255, 213, 28, 153, 0, 46]
abbrev dktX7_findAsked_2 : List UInt8 := dkwX7_findAsked_2 ++ dktX7_findAsked_3
def dkwX7_findAsked_1 : List UInt8 := [180, 0, 13, 3, 46, 162, 0, 39, 28, 154, 0, 23, 42, 29, 7, 182, 0, 195, 4, 160, 0, 17, 42, 29]
abbrev dktX7_findAsked_1 : List UInt8 := dkwX7_findAsked_1 ++ dktX7_findAsked_2
def dkwX7_findAsked_0 : List UInt8 := [42, 182, 1, 111, 42, 3, 181, 1, 231, 3, 60, 27, 16, 32, 162, 0, 106, 3, 61, 3, 62, 29, 42]
abbrev dktX7_findAsked_0 : List UInt8 := dkwX7_findAsked_0 ++ dktX7_findAsked_1
theorem dksX7_findAsked_0 : cX7_findAsked.data.toList.drop 0 = dktX7_findAsked_0 := by decide +kernel
theorem dksX7_findAsked_1 : cX7_findAsked.data.toList.drop 23 = dktX7_findAsked_1 := dk_seg dksX7_findAsked_0 23 rfl rfl
theorem dksX7_findAsked_2 : cX7_findAsked.data.toList.drop 47 = dktX7_findAsked_2 := dk_seg dksX7_findAsked_1 24 rfl rfl
theorem dksX7_findAsked_3 : cX7_findAsked.data.toList.drop 71 = dktX7_findAsked_3 := dk_seg dksX7_findAsked_2 24 rfl rfl
theorem dksX7_findAsked_4 : cX7_findAsked.data.toList.drop 95 = dktX7_findAsked_4 := dk_seg dksX7_findAsked_3 24 rfl rfl
theorem dksX7_findAsked_5 : cX7_findAsked.data.toList.drop 117 = dktX7_findAsked_5 := dk_seg dksX7_findAsked_4 22 rfl rfl
theorem dX7_findAsked_0 : decode cX7_findAsked 0 = .ok (.aload_n 0, 1) := dk_42 (dk_at dksX7_findAsked_0 0 rfl rfl)
theorem dX7_findAsked_1 : decode cX7_findAsked 1 = .ok (.invokevirtual 367, 3) := dk_182 1 111 (dk_at dksX7_findAsked_0 1 rfl rfl)
theorem dX7_findAsked_4 : decode cX7_findAsked 4 = .ok (.aload_n 0, 1) := dk_42 (dk_at dksX7_findAsked_0 4 rfl rfl)
theorem dX7_findAsked_5 : decode cX7_findAsked 5 = .ok (.iconst 0, 1) := dk_3 (dk_at dksX7_findAsked_0 5 rfl rfl)
theorem dX7_findAsked_6 : decode cX7_findAsked 6 = .ok (.putfield 487, 3) := dk_181 1 231 (dk_at dksX7_findAsked_0 6 rfl rfl)
theorem dX7_findAsked_9 : decode cX7_findAsked 9 = .ok (.iconst 0, 1) := dk_3 (dk_at dksX7_findAsked_0 9 rfl rfl)
theorem dX7_findAsked_10 : decode cX7_findAsked 10 = .ok (.istore_n 1, 1) := dk_60 (dk_at dksX7_findAsked_0 10 rfl rfl)
theorem dX7_findAsked_11 : decode cX7_findAsked 11 = .ok (.iload_n 1, 1) := dk_27 (dk_at dksX7_findAsked_0 11 rfl rfl)
theorem dX7_findAsked_12 : decode cX7_findAsked 12 = .ok (.bipush 32, 2) := dk_16 32 (dk_at dksX7_findAsked_0 12 rfl rfl)
theorem dX7_findAsked_14 : decode cX7_findAsked 14 = .ok (.if_icmp .ge 106, 3) := dk_162 0 106 (dk_at dksX7_findAsked_0 14 rfl rfl)
theorem dX7_findAsked_17 : decode cX7_findAsked 17 = .ok (.iconst 0, 1) := dk_3 (dk_at dksX7_findAsked_0 17 rfl rfl)
theorem dX7_findAsked_18 : decode cX7_findAsked 18 = .ok (.istore_n 2, 1) := dk_61 (dk_at dksX7_findAsked_0 18 rfl rfl)
theorem dX7_findAsked_19 : decode cX7_findAsked 19 = .ok (.iconst 0, 1) := dk_3 (dk_at dksX7_findAsked_0 19 rfl rfl)
theorem dX7_findAsked_20 : decode cX7_findAsked 20 = .ok (.istore_n 3, 1) := dk_62 (dk_at dksX7_findAsked_0 20 rfl rfl)
theorem dX7_findAsked_21 : decode cX7_findAsked 21 = .ok (.iload_n 3, 1) := dk_29 (dk_at dksX7_findAsked_0 21 rfl rfl)
theorem dX7_findAsked_22 : decode cX7_findAsked 22 = .ok (.aload_n 0, 1) := dk_42 (dk_at dksX7_findAsked_0 22 rfl rfl)
theorem dX7_findAsked_23 : decode cX7_findAsked 23 = .ok (.getfield 13, 3) := dk_180 0 13 (dk_at dksX7_findAsked_1 0 rfl rfl)
theorem dX7_findAsked_26 : decode cX7_findAsked 26 = .ok (.iconst 0, 1) := dk_3 (dk_at dksX7_findAsked_1 3 rfl rfl)
theorem dX7_findAsked_27 : decode cX7_findAsked 27 = .ok (.iaload, 1) := dk_46 (dk_at dksX7_findAsked_1 4 rfl rfl)
theorem dX7_findAsked_28 : decode cX7_findAsked 28 = .ok (.if_icmp .ge 39, 3) := dk_162 0 39 (dk_at dksX7_findAsked_1 5 rfl rfl)
theorem dX7_findAsked_31 : decode cX7_findAsked 31 = .ok (.iload_n 2, 1) := dk_28 (dk_at dksX7_findAsked_1 8 rfl rfl)
theorem dX7_findAsked_32 : decode cX7_findAsked 32 = .ok (.ifCond .ne 23, 3) := dk_154 0 23 (dk_at dksX7_findAsked_1 9 rfl rfl)
theorem dX7_findAsked_35 : decode cX7_findAsked 35 = .ok (.aload_n 0, 1) := dk_42 (dk_at dksX7_findAsked_1 12 rfl rfl)
theorem dX7_findAsked_36 : decode cX7_findAsked 36 = .ok (.iload_n 3, 1) := dk_29 (dk_at dksX7_findAsked_1 13 rfl rfl)
theorem dX7_findAsked_37 : decode cX7_findAsked 37 = .ok (.iconst 4, 1) := dk_7 (dk_at dksX7_findAsked_1 14 rfl rfl)
theorem dX7_findAsked_38 : decode cX7_findAsked 38 = .ok (.invokevirtual 195, 3) := dk_182 0 195 (dk_at dksX7_findAsked_1 15 rfl rfl)
theorem dX7_findAsked_41 : decode cX7_findAsked 41 = .ok (.iconst 1, 1) := dk_4 (dk_at dksX7_findAsked_1 18 rfl rfl)
theorem dX7_findAsked_42 : decode cX7_findAsked 42 = .ok (.if_icmp .ne 17, 3) := dk_160 0 17 (dk_at dksX7_findAsked_1 19 rfl rfl)
theorem dX7_findAsked_45 : decode cX7_findAsked 45 = .ok (.aload_n 0, 1) := dk_42 (dk_at dksX7_findAsked_1 22 rfl rfl)
theorem dX7_findAsked_46 : decode cX7_findAsked 46 = .ok (.iload_n 3, 1) := dk_29 (dk_at dksX7_findAsked_1 23 rfl rfl)
theorem dX7_findAsked_47 : decode cX7_findAsked 47 = .ok (.iconst 1, 1) := dk_4 (dk_at dksX7_findAsked_2 0 rfl rfl)
theorem dX7_findAsked_48 : decode cX7_findAsked 48 = .ok (.invokevirtual 195, 3) := dk_182 0 195 (dk_at dksX7_findAsked_2 1 rfl rfl)
theorem dX7_findAsked_51 : decode cX7_findAsked 51 = .ok (.iload_n 1, 1) := dk_27 (dk_at dksX7_findAsked_2 4 rfl rfl)
theorem dX7_findAsked_52 : decode cX7_findAsked 52 = .ok (.if_icmp .ne 7, 3) := dk_160 0 7 (dk_at dksX7_findAsked_2 5 rfl rfl)
theorem dX7_findAsked_55 : decode cX7_findAsked 55 = .ok (.iconst 1, 1) := dk_4 (dk_at dksX7_findAsked_2 8 rfl rfl)
theorem dX7_findAsked_56 : decode cX7_findAsked 56 = .ok (.goto 4, 3) := dk_167 0 4 (dk_at dksX7_findAsked_2 9 rfl rfl)
theorem dX7_findAsked_59 : decode cX7_findAsked 59 = .ok (.iconst 0, 1) := dk_3 (dk_at dksX7_findAsked_2 12 rfl rfl)
theorem dX7_findAsked_60 : decode cX7_findAsked 60 = .ok (.istore_n 2, 1) := dk_61 (dk_at dksX7_findAsked_2 13 rfl rfl)
theorem dX7_findAsked_61 : decode cX7_findAsked 61 = .ok (.iinc 3 1, 3) := dk_132 3 1 (dk_at dksX7_findAsked_2 14 rfl rfl)
theorem dX7_findAsked_64 : decode cX7_findAsked 64 = .ok (.goto (-43), 3) := dk_167 255 213 (dk_at dksX7_findAsked_2 17 rfl rfl)
theorem dX7_findAsked_67 : decode cX7_findAsked 67 = .ok (.iload_n 2, 1) := dk_28 (dk_at dksX7_findAsked_2 20 rfl rfl)
theorem dX7_findAsked_68 : decode cX7_findAsked 68 = .ok (.ifCond .eq 46, 3) := dk_153 0 46 (dk_at dksX7_findAsked_2 21 rfl rfl)
theorem dX7_findAsked_71 : decode cX7_findAsked 71 = .ok (.aload_n 0, 1) := dk_42 (dk_at dksX7_findAsked_3 0 rfl rfl)
theorem dX7_findAsked_72 : decode cX7_findAsked 72 = .ok (.getfield 13, 3) := dk_180 0 13 (dk_at dksX7_findAsked_3 1 rfl rfl)
theorem dX7_findAsked_75 : decode cX7_findAsked 75 = .ok (.bipush 10, 2) := dk_16 10 (dk_at dksX7_findAsked_3 4 rfl rfl)
theorem dX7_findAsked_77 : decode cX7_findAsked 77 = .ok (.iload_n 1, 1) := dk_27 (dk_at dksX7_findAsked_3 6 rfl rfl)
theorem dX7_findAsked_78 : decode cX7_findAsked 78 = .ok (.iadd, 1) := dk_96 (dk_at dksX7_findAsked_3 7 rfl rfl)
theorem dX7_findAsked_79 : decode cX7_findAsked 79 = .ok (.iaload, 1) := dk_46 (dk_at dksX7_findAsked_3 8 rfl rfl)
theorem dX7_findAsked_80 : decode cX7_findAsked 80 = .ok (.iconst (-1), 1) := dk_2 (dk_at dksX7_findAsked_3 9 rfl rfl)
theorem dX7_findAsked_81 : decode cX7_findAsked 81 = .ok (.if_icmp .ne 33, 3) := dk_160 0 33 (dk_at dksX7_findAsked_3 10 rfl rfl)
theorem dX7_findAsked_84 : decode cX7_findAsked 84 = .ok (.aload_n 0, 1) := dk_42 (dk_at dksX7_findAsked_3 13 rfl rfl)
theorem dX7_findAsked_85 : decode cX7_findAsked 85 = .ok (.getfield 487, 3) := dk_180 1 231 (dk_at dksX7_findAsked_3 14 rfl rfl)
theorem dX7_findAsked_88 : decode cX7_findAsked 88 = .ok (.iconst 3, 1) := dk_6 (dk_at dksX7_findAsked_3 17 rfl rfl)
theorem dX7_findAsked_89 : decode cX7_findAsked 89 = .ok (.if_icmp .ne 5, 3) := dk_160 0 5 (dk_at dksX7_findAsked_3 18 rfl rfl)
theorem dX7_findAsked_92 : decode cX7_findAsked 92 = .ok (.iconst 0, 1) := dk_3 (dk_at dksX7_findAsked_3 21 rfl rfl)
theorem dX7_findAsked_93 : decode cX7_findAsked 93 = .ok (.ireturn, 1) := dk_172 (dk_at dksX7_findAsked_3 22 rfl rfl)
theorem dX7_findAsked_94 : decode cX7_findAsked 94 = .ok (.aload_n 0, 1) := dk_42 (dk_at dksX7_findAsked_3 23 rfl rfl)
theorem dX7_findAsked_95 : decode cX7_findAsked 95 = .ok (.getfield 127, 3) := dk_180 0 127 (dk_at dksX7_findAsked_4 0 rfl rfl)
theorem dX7_findAsked_98 : decode cX7_findAsked 98 = .ok (.aload_n 0, 1) := dk_42 (dk_at dksX7_findAsked_4 3 rfl rfl)
theorem dX7_findAsked_99 : decode cX7_findAsked 99 = .ok (.getfield 487, 3) := dk_180 1 231 (dk_at dksX7_findAsked_4 4 rfl rfl)
theorem dX7_findAsked_102 : decode cX7_findAsked 102 = .ok (.iload_n 1, 1) := dk_27 (dk_at dksX7_findAsked_4 7 rfl rfl)
theorem dX7_findAsked_103 : decode cX7_findAsked 103 = .ok (.iastore, 1) := dk_79 (dk_at dksX7_findAsked_4 8 rfl rfl)
theorem dX7_findAsked_104 : decode cX7_findAsked 104 = .ok (.aload_n 0, 1) := dk_42 (dk_at dksX7_findAsked_4 9 rfl rfl)
theorem dX7_findAsked_105 : decode cX7_findAsked 105 = .ok (.dup, 1) := dk_89 (dk_at dksX7_findAsked_4 10 rfl rfl)
theorem dX7_findAsked_106 : decode cX7_findAsked 106 = .ok (.getfield 487, 3) := dk_180 1 231 (dk_at dksX7_findAsked_4 11 rfl rfl)
theorem dX7_findAsked_109 : decode cX7_findAsked 109 = .ok (.iconst 1, 1) := dk_4 (dk_at dksX7_findAsked_4 14 rfl rfl)
theorem dX7_findAsked_110 : decode cX7_findAsked 110 = .ok (.iadd, 1) := dk_96 (dk_at dksX7_findAsked_4 15 rfl rfl)
theorem dX7_findAsked_111 : decode cX7_findAsked 111 = .ok (.putfield 487, 3) := dk_181 1 231 (dk_at dksX7_findAsked_4 16 rfl rfl)
theorem dX7_findAsked_114 : decode cX7_findAsked 114 = .ok (.iinc 1 1, 3) := dk_132 1 1 (dk_at dksX7_findAsked_4 19 rfl rfl)
theorem dX7_findAsked_117 : decode cX7_findAsked 117 = .ok (.goto (-106), 3) := dk_167 255 150 (dk_at dksX7_findAsked_5 0 rfl rfl)
theorem dX7_findAsked_120 : decode cX7_findAsked 120 = .ok (.iconst 1, 1) := dk_4 (dk_at dksX7_findAsked_5 3 rfl rfl)
theorem dX7_findAsked_121 : decode cX7_findAsked 121 = .ok (.ireturn, 1) := dk_172 (dk_at dksX7_findAsked_5 4 rfl rfl)
abbrev cX7_waysWith : ByteArray := prog_16_method_100_code
def yX7_waysWith : MethodName := ⟨RX7, "waysWith", "(II)I"⟩
def dkwX7_waysWith_4 : List UInt8 := [132, 4, 1, 167, 255, 165, 29, 172]
abbrev dktX7_waysWith_4 : List UInt8 := dkwX7_waysWith_4 ++ []
def dkwX7_waysWith_3 : List UInt8 := [167, 255, 223, 29, 42, 42, 182, 1, 114, 182, 1, 118, 153, 0, 7, 4, 167, 0, 4, 3, 96, 62]
abbrev dktX7_waysWith_3 : List UInt8 := dkwX7_waysWith_3 ++ dktX7_waysWith_4
def dkwX7_waysWith_2 : List UInt8 := [42, 180, 0, 55, 42, 180, 0, 127, 21, 5, 46, 21, 4, 5, 21, 5, 104, 122, 6, 126, 79, 132, 5, 1]
abbrev dktX7_waysWith_2 : List UInt8 := dkwX7_waysWith_2 ++ dktX7_waysWith_3
def dkwX7_waysWith_1 : List UInt8 := [21, 4, 5, 27, 104, 122, 6, 126, 28, 160, 0, 61, 3, 54, 5, 21, 5, 42, 180, 1, 231, 162, 0, 30]
abbrev dktX7_waysWith_1 : List UInt8 := dkwX7_waysWith_1 ++ dktX7_waysWith_2
def dkwX7_waysWith_0 : List UInt8 := [3, 62, 3, 54, 4, 21, 4, 4, 5, 42, 180, 1, 231, 104, 120, 162, 0, 84, 28, 2, 159, 0, 15]
abbrev dktX7_waysWith_0 : List UInt8 := dkwX7_waysWith_0 ++ dktX7_waysWith_1
theorem dksX7_waysWith_0 : cX7_waysWith.data.toList.drop 0 = dktX7_waysWith_0 := by decide +kernel
theorem dksX7_waysWith_1 : cX7_waysWith.data.toList.drop 23 = dktX7_waysWith_1 := dk_seg dksX7_waysWith_0 23 rfl rfl
theorem dksX7_waysWith_2 : cX7_waysWith.data.toList.drop 47 = dktX7_waysWith_2 := dk_seg dksX7_waysWith_1 24 rfl rfl
theorem dksX7_waysWith_3 : cX7_waysWith.data.toList.drop 71 = dktX7_waysWith_3 := dk_seg dksX7_waysWith_2 24 rfl rfl
theorem dksX7_waysWith_4 : cX7_waysWith.data.toList.drop 93 = dktX7_waysWith_4 := dk_seg dksX7_waysWith_3 22 rfl rfl
theorem dX7_waysWith_0 : decode cX7_waysWith 0 = .ok (.iconst 0, 1) := dk_3 (dk_at dksX7_waysWith_0 0 rfl rfl)
theorem dX7_waysWith_1 : decode cX7_waysWith 1 = .ok (.istore_n 3, 1) := dk_62 (dk_at dksX7_waysWith_0 1 rfl rfl)
theorem dX7_waysWith_2 : decode cX7_waysWith 2 = .ok (.iconst 0, 1) := dk_3 (dk_at dksX7_waysWith_0 2 rfl rfl)
theorem dX7_waysWith_3 : decode cX7_waysWith 3 = .ok (.istore 4, 2) := dk_54 4 (dk_at dksX7_waysWith_0 3 rfl rfl)
theorem dX7_waysWith_5 : decode cX7_waysWith 5 = .ok (.iload 4, 2) := dk_21 4 (dk_at dksX7_waysWith_0 5 rfl rfl)
theorem dX7_waysWith_7 : decode cX7_waysWith 7 = .ok (.iconst 1, 1) := dk_4 (dk_at dksX7_waysWith_0 7 rfl rfl)
theorem dX7_waysWith_8 : decode cX7_waysWith 8 = .ok (.iconst 2, 1) := dk_5 (dk_at dksX7_waysWith_0 8 rfl rfl)
theorem dX7_waysWith_9 : decode cX7_waysWith 9 = .ok (.aload_n 0, 1) := dk_42 (dk_at dksX7_waysWith_0 9 rfl rfl)
theorem dX7_waysWith_10 : decode cX7_waysWith 10 = .ok (.getfield 487, 3) := dk_180 1 231 (dk_at dksX7_waysWith_0 10 rfl rfl)
theorem dX7_waysWith_13 : decode cX7_waysWith 13 = .ok (.imul, 1) := dk_104 (dk_at dksX7_waysWith_0 13 rfl rfl)
theorem dX7_waysWith_14 : decode cX7_waysWith 14 = .ok (.ishl, 1) := dk_120 (dk_at dksX7_waysWith_0 14 rfl rfl)
theorem dX7_waysWith_15 : decode cX7_waysWith 15 = .ok (.if_icmp .ge 84, 3) := dk_162 0 84 (dk_at dksX7_waysWith_0 15 rfl rfl)
theorem dX7_waysWith_18 : decode cX7_waysWith 18 = .ok (.iload_n 2, 1) := dk_28 (dk_at dksX7_waysWith_0 18 rfl rfl)
theorem dX7_waysWith_19 : decode cX7_waysWith 19 = .ok (.iconst (-1), 1) := dk_2 (dk_at dksX7_waysWith_0 19 rfl rfl)
theorem dX7_waysWith_20 : decode cX7_waysWith 20 = .ok (.if_icmp .eq 15, 3) := dk_159 0 15 (dk_at dksX7_waysWith_0 20 rfl rfl)
theorem dX7_waysWith_23 : decode cX7_waysWith 23 = .ok (.iload 4, 2) := dk_21 4 (dk_at dksX7_waysWith_1 0 rfl rfl)
theorem dX7_waysWith_25 : decode cX7_waysWith 25 = .ok (.iconst 2, 1) := dk_5 (dk_at dksX7_waysWith_1 2 rfl rfl)
theorem dX7_waysWith_26 : decode cX7_waysWith 26 = .ok (.iload_n 1, 1) := dk_27 (dk_at dksX7_waysWith_1 3 rfl rfl)
theorem dX7_waysWith_27 : decode cX7_waysWith 27 = .ok (.imul, 1) := dk_104 (dk_at dksX7_waysWith_1 4 rfl rfl)
theorem dX7_waysWith_28 : decode cX7_waysWith 28 = .ok (.ishr, 1) := dk_122 (dk_at dksX7_waysWith_1 5 rfl rfl)
theorem dX7_waysWith_29 : decode cX7_waysWith 29 = .ok (.iconst 3, 1) := dk_6 (dk_at dksX7_waysWith_1 6 rfl rfl)
theorem dX7_waysWith_30 : decode cX7_waysWith 30 = .ok (.iand, 1) := dk_126 (dk_at dksX7_waysWith_1 7 rfl rfl)
theorem dX7_waysWith_31 : decode cX7_waysWith 31 = .ok (.iload_n 2, 1) := dk_28 (dk_at dksX7_waysWith_1 8 rfl rfl)
theorem dX7_waysWith_32 : decode cX7_waysWith 32 = .ok (.if_icmp .ne 61, 3) := dk_160 0 61 (dk_at dksX7_waysWith_1 9 rfl rfl)
theorem dX7_waysWith_35 : decode cX7_waysWith 35 = .ok (.iconst 0, 1) := dk_3 (dk_at dksX7_waysWith_1 12 rfl rfl)
theorem dX7_waysWith_36 : decode cX7_waysWith 36 = .ok (.istore 5, 2) := dk_54 5 (dk_at dksX7_waysWith_1 13 rfl rfl)
theorem dX7_waysWith_38 : decode cX7_waysWith 38 = .ok (.iload 5, 2) := dk_21 5 (dk_at dksX7_waysWith_1 15 rfl rfl)
theorem dX7_waysWith_40 : decode cX7_waysWith 40 = .ok (.aload_n 0, 1) := dk_42 (dk_at dksX7_waysWith_1 17 rfl rfl)
theorem dX7_waysWith_41 : decode cX7_waysWith 41 = .ok (.getfield 487, 3) := dk_180 1 231 (dk_at dksX7_waysWith_1 18 rfl rfl)
theorem dX7_waysWith_44 : decode cX7_waysWith 44 = .ok (.if_icmp .ge 30, 3) := dk_162 0 30 (dk_at dksX7_waysWith_1 21 rfl rfl)
theorem dX7_waysWith_47 : decode cX7_waysWith 47 = .ok (.aload_n 0, 1) := dk_42 (dk_at dksX7_waysWith_2 0 rfl rfl)
theorem dX7_waysWith_48 : decode cX7_waysWith 48 = .ok (.getfield 55, 3) := dk_180 0 55 (dk_at dksX7_waysWith_2 1 rfl rfl)
theorem dX7_waysWith_51 : decode cX7_waysWith 51 = .ok (.aload_n 0, 1) := dk_42 (dk_at dksX7_waysWith_2 4 rfl rfl)
theorem dX7_waysWith_52 : decode cX7_waysWith 52 = .ok (.getfield 127, 3) := dk_180 0 127 (dk_at dksX7_waysWith_2 5 rfl rfl)
theorem dX7_waysWith_55 : decode cX7_waysWith 55 = .ok (.iload 5, 2) := dk_21 5 (dk_at dksX7_waysWith_2 8 rfl rfl)
theorem dX7_waysWith_57 : decode cX7_waysWith 57 = .ok (.iaload, 1) := dk_46 (dk_at dksX7_waysWith_2 10 rfl rfl)
theorem dX7_waysWith_58 : decode cX7_waysWith 58 = .ok (.iload 4, 2) := dk_21 4 (dk_at dksX7_waysWith_2 11 rfl rfl)
theorem dX7_waysWith_60 : decode cX7_waysWith 60 = .ok (.iconst 2, 1) := dk_5 (dk_at dksX7_waysWith_2 13 rfl rfl)
theorem dX7_waysWith_61 : decode cX7_waysWith 61 = .ok (.iload 5, 2) := dk_21 5 (dk_at dksX7_waysWith_2 14 rfl rfl)
theorem dX7_waysWith_63 : decode cX7_waysWith 63 = .ok (.imul, 1) := dk_104 (dk_at dksX7_waysWith_2 16 rfl rfl)
theorem dX7_waysWith_64 : decode cX7_waysWith 64 = .ok (.ishr, 1) := dk_122 (dk_at dksX7_waysWith_2 17 rfl rfl)
theorem dX7_waysWith_65 : decode cX7_waysWith 65 = .ok (.iconst 3, 1) := dk_6 (dk_at dksX7_waysWith_2 18 rfl rfl)
theorem dX7_waysWith_66 : decode cX7_waysWith 66 = .ok (.iand, 1) := dk_126 (dk_at dksX7_waysWith_2 19 rfl rfl)
theorem dX7_waysWith_67 : decode cX7_waysWith 67 = .ok (.iastore, 1) := dk_79 (dk_at dksX7_waysWith_2 20 rfl rfl)
theorem dX7_waysWith_68 : decode cX7_waysWith 68 = .ok (.iinc 5 1, 3) := dk_132 5 1 (dk_at dksX7_waysWith_2 21 rfl rfl)
theorem dX7_waysWith_71 : decode cX7_waysWith 71 = .ok (.goto (-33), 3) := dk_167 255 223 (dk_at dksX7_waysWith_3 0 rfl rfl)
theorem dX7_waysWith_74 : decode cX7_waysWith 74 = .ok (.iload_n 3, 1) := dk_29 (dk_at dksX7_waysWith_3 3 rfl rfl)
theorem dX7_waysWith_75 : decode cX7_waysWith 75 = .ok (.aload_n 0, 1) := dk_42 (dk_at dksX7_waysWith_3 4 rfl rfl)
theorem dX7_waysWith_76 : decode cX7_waysWith 76 = .ok (.aload_n 0, 1) := dk_42 (dk_at dksX7_waysWith_3 5 rfl rfl)
theorem dX7_waysWith_77 : decode cX7_waysWith 77 = .ok (.invokevirtual 370, 3) := dk_182 1 114 (dk_at dksX7_waysWith_3 6 rfl rfl)
theorem dX7_waysWith_80 : decode cX7_waysWith 80 = .ok (.invokevirtual 374, 3) := dk_182 1 118 (dk_at dksX7_waysWith_3 9 rfl rfl)
theorem dX7_waysWith_83 : decode cX7_waysWith 83 = .ok (.ifCond .eq 7, 3) := dk_153 0 7 (dk_at dksX7_waysWith_3 12 rfl rfl)
theorem dX7_waysWith_86 : decode cX7_waysWith 86 = .ok (.iconst 1, 1) := dk_4 (dk_at dksX7_waysWith_3 15 rfl rfl)
theorem dX7_waysWith_87 : decode cX7_waysWith 87 = .ok (.goto 4, 3) := dk_167 0 4 (dk_at dksX7_waysWith_3 16 rfl rfl)
theorem dX7_waysWith_90 : decode cX7_waysWith 90 = .ok (.iconst 0, 1) := dk_3 (dk_at dksX7_waysWith_3 19 rfl rfl)
theorem dX7_waysWith_91 : decode cX7_waysWith 91 = .ok (.iadd, 1) := dk_96 (dk_at dksX7_waysWith_3 20 rfl rfl)
theorem dX7_waysWith_92 : decode cX7_waysWith 92 = .ok (.istore_n 3, 1) := dk_62 (dk_at dksX7_waysWith_3 21 rfl rfl)
theorem dX7_waysWith_93 : decode cX7_waysWith 93 = .ok (.iinc 4 1, 3) := dk_132 4 1 (dk_at dksX7_waysWith_4 0 rfl rfl)
theorem dX7_waysWith_96 : decode cX7_waysWith 96 = .ok (.goto (-91), 3) := dk_167 255 165 (dk_at dksX7_waysWith_4 3 rfl rfl)
theorem dX7_waysWith_99 : decode cX7_waysWith 99 = .ok (.iload_n 3, 1) := dk_29 (dk_at dksX7_waysWith_4 6 rfl rfl)
theorem dX7_waysWith_100 : decode cX7_waysWith 100 = .ok (.ireturn, 1) := dk_172 (dk_at dksX7_waysWith_4 7 rfl rfl)
abbrev cX7_whichOf : ByteArray := prog_16_method_101_code
def yX7_whichOf : MethodName := ⟨RX7, "whichOf", "(I)I"⟩
def dkwX7_whichOf_1 : List UInt8 := [167, 0, 4, 28, 61, 132, 3, 1, 167, 255, 229, 28, 172]
abbrev dktX7_whichOf_1 : List UInt8 := dkwX7_whichOf_1 ++ []
def dkwX7_whichOf_0 : List UInt8 := [2, 61, 3, 62, 29, 42, 180, 1, 231, 162, 0, 25, 42, 180, 0, 127, 29, 46, 27, 160, 0, 7, 29]
abbrev dktX7_whichOf_0 : List UInt8 := dkwX7_whichOf_0 ++ dktX7_whichOf_1
theorem dksX7_whichOf_0 : cX7_whichOf.data.toList.drop 0 = dktX7_whichOf_0 := by decide +kernel
theorem dksX7_whichOf_1 : cX7_whichOf.data.toList.drop 23 = dktX7_whichOf_1 := dk_seg dksX7_whichOf_0 23 rfl rfl
theorem dX7_whichOf_0 : decode cX7_whichOf 0 = .ok (.iconst (-1), 1) := dk_2 (dk_at dksX7_whichOf_0 0 rfl rfl)
theorem dX7_whichOf_1 : decode cX7_whichOf 1 = .ok (.istore_n 2, 1) := dk_61 (dk_at dksX7_whichOf_0 1 rfl rfl)
theorem dX7_whichOf_2 : decode cX7_whichOf 2 = .ok (.iconst 0, 1) := dk_3 (dk_at dksX7_whichOf_0 2 rfl rfl)
theorem dX7_whichOf_3 : decode cX7_whichOf 3 = .ok (.istore_n 3, 1) := dk_62 (dk_at dksX7_whichOf_0 3 rfl rfl)
theorem dX7_whichOf_4 : decode cX7_whichOf 4 = .ok (.iload_n 3, 1) := dk_29 (dk_at dksX7_whichOf_0 4 rfl rfl)
theorem dX7_whichOf_5 : decode cX7_whichOf 5 = .ok (.aload_n 0, 1) := dk_42 (dk_at dksX7_whichOf_0 5 rfl rfl)
theorem dX7_whichOf_6 : decode cX7_whichOf 6 = .ok (.getfield 487, 3) := dk_180 1 231 (dk_at dksX7_whichOf_0 6 rfl rfl)
theorem dX7_whichOf_9 : decode cX7_whichOf 9 = .ok (.if_icmp .ge 25, 3) := dk_162 0 25 (dk_at dksX7_whichOf_0 9 rfl rfl)
theorem dX7_whichOf_12 : decode cX7_whichOf 12 = .ok (.aload_n 0, 1) := dk_42 (dk_at dksX7_whichOf_0 12 rfl rfl)
theorem dX7_whichOf_13 : decode cX7_whichOf 13 = .ok (.getfield 127, 3) := dk_180 0 127 (dk_at dksX7_whichOf_0 13 rfl rfl)
theorem dX7_whichOf_16 : decode cX7_whichOf 16 = .ok (.iload_n 3, 1) := dk_29 (dk_at dksX7_whichOf_0 16 rfl rfl)
theorem dX7_whichOf_17 : decode cX7_whichOf 17 = .ok (.iaload, 1) := dk_46 (dk_at dksX7_whichOf_0 17 rfl rfl)
theorem dX7_whichOf_18 : decode cX7_whichOf 18 = .ok (.iload_n 1, 1) := dk_27 (dk_at dksX7_whichOf_0 18 rfl rfl)
theorem dX7_whichOf_19 : decode cX7_whichOf 19 = .ok (.if_icmp .ne 7, 3) := dk_160 0 7 (dk_at dksX7_whichOf_0 19 rfl rfl)
theorem dX7_whichOf_22 : decode cX7_whichOf 22 = .ok (.iload_n 3, 1) := dk_29 (dk_at dksX7_whichOf_0 22 rfl rfl)
theorem dX7_whichOf_23 : decode cX7_whichOf 23 = .ok (.goto 4, 3) := dk_167 0 4 (dk_at dksX7_whichOf_1 0 rfl rfl)
theorem dX7_whichOf_26 : decode cX7_whichOf 26 = .ok (.iload_n 2, 1) := dk_28 (dk_at dksX7_whichOf_1 3 rfl rfl)
theorem dX7_whichOf_27 : decode cX7_whichOf 27 = .ok (.istore_n 2, 1) := dk_61 (dk_at dksX7_whichOf_1 4 rfl rfl)
theorem dX7_whichOf_28 : decode cX7_whichOf 28 = .ok (.iinc 3 1, 3) := dk_132 3 1 (dk_at dksX7_whichOf_1 5 rfl rfl)
theorem dX7_whichOf_31 : decode cX7_whichOf 31 = .ok (.goto (-27), 3) := dk_167 255 229 (dk_at dksX7_whichOf_1 8 rfl rfl)
theorem dX7_whichOf_34 : decode cX7_whichOf 34 = .ok (.iload_n 2, 1) := dk_28 (dk_at dksX7_whichOf_1 11 rfl rfl)
theorem dX7_whichOf_35 : decode cX7_whichOf 35 = .ok (.ireturn, 1) := dk_172 (dk_at dksX7_whichOf_1 12 rfl rfl)
abbrev cX7_could : ByteArray := prog_16_method_103_code
def yX7_could : MethodName := ⟨RX7, "could", "(II)I"⟩
def dkwX7_could_1 : List UInt8 := [182, 1, 240, 62, 29, 2, 160, 0, 7, 2, 167, 0, 9, 42, 29, 28, 182, 1, 237, 172]
abbrev dktX7_could_1 : List UInt8 := dkwX7_could_1 ++ []
def dkwX7_could_0 : List UInt8 := [42, 3, 181, 0, 133, 28, 184, 0, 169, 153, 0, 10, 42, 182, 1, 234, 154, 0, 5, 2, 172, 42, 27]
abbrev dktX7_could_0 : List UInt8 := dkwX7_could_0 ++ dktX7_could_1
theorem dksX7_could_0 : cX7_could.data.toList.drop 0 = dktX7_could_0 := by decide +kernel
theorem dksX7_could_1 : cX7_could.data.toList.drop 23 = dktX7_could_1 := dk_seg dksX7_could_0 23 rfl rfl
theorem dX7_could_0 : decode cX7_could 0 = .ok (.aload_n 0, 1) := dk_42 (dk_at dksX7_could_0 0 rfl rfl)
theorem dX7_could_1 : decode cX7_could 1 = .ok (.iconst 0, 1) := dk_3 (dk_at dksX7_could_0 1 rfl rfl)
theorem dX7_could_2 : decode cX7_could 2 = .ok (.putfield 133, 3) := dk_181 0 133 (dk_at dksX7_could_0 2 rfl rfl)
theorem dX7_could_5 : decode cX7_could 5 = .ok (.iload_n 2, 1) := dk_28 (dk_at dksX7_could_0 5 rfl rfl)
theorem dX7_could_6 : decode cX7_could 6 = .ok (.invokestatic 169, 3) := dk_184 0 169 (dk_at dksX7_could_0 6 rfl rfl)
theorem dX7_could_9 : decode cX7_could 9 = .ok (.ifCond .eq 10, 3) := dk_153 0 10 (dk_at dksX7_could_0 9 rfl rfl)
theorem dX7_could_12 : decode cX7_could 12 = .ok (.aload_n 0, 1) := dk_42 (dk_at dksX7_could_0 12 rfl rfl)
theorem dX7_could_13 : decode cX7_could 13 = .ok (.invokevirtual 490, 3) := dk_182 1 234 (dk_at dksX7_could_0 13 rfl rfl)
theorem dX7_could_16 : decode cX7_could 16 = .ok (.ifCond .ne 5, 3) := dk_154 0 5 (dk_at dksX7_could_0 16 rfl rfl)
theorem dX7_could_19 : decode cX7_could 19 = .ok (.iconst (-1), 1) := dk_2 (dk_at dksX7_could_0 19 rfl rfl)
theorem dX7_could_20 : decode cX7_could 20 = .ok (.ireturn, 1) := dk_172 (dk_at dksX7_could_0 20 rfl rfl)
theorem dX7_could_21 : decode cX7_could 21 = .ok (.aload_n 0, 1) := dk_42 (dk_at dksX7_could_0 21 rfl rfl)
theorem dX7_could_22 : decode cX7_could 22 = .ok (.iload_n 1, 1) := dk_27 (dk_at dksX7_could_0 22 rfl rfl)
theorem dX7_could_23 : decode cX7_could 23 = .ok (.invokevirtual 496, 3) := dk_182 1 240 (dk_at dksX7_could_1 0 rfl rfl)
theorem dX7_could_26 : decode cX7_could 26 = .ok (.istore_n 3, 1) := dk_62 (dk_at dksX7_could_1 3 rfl rfl)
theorem dX7_could_27 : decode cX7_could 27 = .ok (.iload_n 3, 1) := dk_29 (dk_at dksX7_could_1 4 rfl rfl)
theorem dX7_could_28 : decode cX7_could 28 = .ok (.iconst (-1), 1) := dk_2 (dk_at dksX7_could_1 5 rfl rfl)
theorem dX7_could_29 : decode cX7_could 29 = .ok (.if_icmp .ne 7, 3) := dk_160 0 7 (dk_at dksX7_could_1 6 rfl rfl)
theorem dX7_could_32 : decode cX7_could 32 = .ok (.iconst (-1), 1) := dk_2 (dk_at dksX7_could_1 9 rfl rfl)
theorem dX7_could_33 : decode cX7_could 33 = .ok (.goto 9, 3) := dk_167 0 9 (dk_at dksX7_could_1 10 rfl rfl)
theorem dX7_could_36 : decode cX7_could 36 = .ok (.aload_n 0, 1) := dk_42 (dk_at dksX7_could_1 13 rfl rfl)
theorem dX7_could_37 : decode cX7_could 37 = .ok (.iload_n 3, 1) := dk_29 (dk_at dksX7_could_1 14 rfl rfl)
theorem dX7_could_38 : decode cX7_could 38 = .ok (.iload_n 2, 1) := dk_28 (dk_at dksX7_could_1 15 rfl rfl)
theorem dX7_could_39 : decode cX7_could 39 = .ok (.invokevirtual 493, 3) := dk_182 1 237 (dk_at dksX7_could_1 16 rfl rfl)
theorem dX7_could_42 : decode cX7_could 42 = .ok (.ireturn, 1) := dk_172 (dk_at dksX7_could_1 19 rfl rfl)
abbrev cX7_when : ByteArray := prog_16_method_104_code
def yX7_when : MethodName := ⟨RX7, "when", "(II)I"⟩
def dkwX7_when_5 : List UInt8 := [154, 0, 7, 29, 167, 0, 15, 28, 4, 160, 0, 8, 21, 4, 167, 0, 5, 21, 5, 172]
abbrev dktX7_when_5 : List UInt8 := dkwX7_when_5 ++ []
def dkwX7_when_4 : List UInt8 := [2, 160, 0, 8, 21, 6, 167, 0, 5, 21, 4, 54, 4, 21, 6, 54, 5, 132, 6, 1, 167, 255, 205, 28]
abbrev dktX7_when_4 : List UInt8 := dkwX7_when_4 ++ dktX7_when_5
def dkwX7_when_3 : List UInt8 := [42, 180, 0, 58, 27, 21, 6, 79, 42, 42, 182, 1, 114, 182, 1, 118, 153, 0, 25, 132, 3, 1, 21, 4]
abbrev dktX7_when_3 : List UInt8 := dkwX7_when_3 ++ dktX7_when_4
def dkwX7_when_2 : List UInt8 := [2, 172, 42, 182, 1, 111, 3, 62, 2, 54, 4, 2, 54, 5, 4, 54, 6, 21, 6, 16, 32, 162, 0, 50]
abbrev dktX7_when_2 : List UInt8 := dkwX7_when_2 ++ dktX7_when_3
def dkwX7_when_1 : List UInt8 := [42, 180, 0, 13, 16, 42, 27, 184, 0, 166, 153, 0, 7, 27, 167, 0, 4, 3, 96, 46, 2, 159, 0, 5]
abbrev dktX7_when_1 : List UInt8 := dkwX7_when_1 ++ dktX7_when_2
def dkwX7_when_0 : List UInt8 := [42, 3, 181, 0, 133, 27, 184, 0, 166, 153, 0, 39, 28, 133, 9, 20, 0, 182, 184, 0, 143, 153, 0, 27]
abbrev dktX7_when_0 : List UInt8 := dkwX7_when_0 ++ dktX7_when_1
theorem dksX7_when_0 : cX7_when.data.toList.drop 0 = dktX7_when_0 := by decide +kernel
theorem dksX7_when_1 : cX7_when.data.toList.drop 24 = dktX7_when_1 := dk_seg dksX7_when_0 24 rfl rfl
theorem dksX7_when_2 : cX7_when.data.toList.drop 48 = dktX7_when_2 := dk_seg dksX7_when_1 24 rfl rfl
theorem dksX7_when_3 : cX7_when.data.toList.drop 72 = dktX7_when_3 := dk_seg dksX7_when_2 24 rfl rfl
theorem dksX7_when_4 : cX7_when.data.toList.drop 96 = dktX7_when_4 := dk_seg dksX7_when_3 24 rfl rfl
theorem dksX7_when_5 : cX7_when.data.toList.drop 120 = dktX7_when_5 := dk_seg dksX7_when_4 24 rfl rfl
theorem dX7_when_0 : decode cX7_when 0 = .ok (.aload_n 0, 1) := dk_42 (dk_at dksX7_when_0 0 rfl rfl)
theorem dX7_when_1 : decode cX7_when 1 = .ok (.iconst 0, 1) := dk_3 (dk_at dksX7_when_0 1 rfl rfl)
theorem dX7_when_2 : decode cX7_when 2 = .ok (.putfield 133, 3) := dk_181 0 133 (dk_at dksX7_when_0 2 rfl rfl)
theorem dX7_when_5 : decode cX7_when 5 = .ok (.iload_n 1, 1) := dk_27 (dk_at dksX7_when_0 5 rfl rfl)
theorem dX7_when_6 : decode cX7_when 6 = .ok (.invokestatic 166, 3) := dk_184 0 166 (dk_at dksX7_when_0 6 rfl rfl)
theorem dX7_when_9 : decode cX7_when 9 = .ok (.ifCond .eq 39, 3) := dk_153 0 39 (dk_at dksX7_when_0 9 rfl rfl)
theorem dX7_when_12 : decode cX7_when 12 = .ok (.iload_n 2, 1) := dk_28 (dk_at dksX7_when_0 12 rfl rfl)
theorem dX7_when_13 : decode cX7_when 13 = .ok (.i2l, 1) := dk_133 (dk_at dksX7_when_0 13 rfl rfl)
theorem dX7_when_14 : decode cX7_when 14 = .ok (.lconst 0, 1) := dk_9 (dk_at dksX7_when_0 14 rfl rfl)
theorem dX7_when_15 : decode cX7_when 15 = .ok (.ldc2_w 182, 3) := dk_20 0 182 (dk_at dksX7_when_0 15 rfl rfl)
theorem dX7_when_18 : decode cX7_when 18 = .ok (.invokestatic 143, 3) := dk_184 0 143 (dk_at dksX7_when_0 18 rfl rfl)
theorem dX7_when_21 : decode cX7_when 21 = .ok (.ifCond .eq 27, 3) := dk_153 0 27 (dk_at dksX7_when_0 21 rfl rfl)
theorem dX7_when_24 : decode cX7_when 24 = .ok (.aload_n 0, 1) := dk_42 (dk_at dksX7_when_1 0 rfl rfl)
theorem dX7_when_25 : decode cX7_when 25 = .ok (.getfield 13, 3) := dk_180 0 13 (dk_at dksX7_when_1 1 rfl rfl)
theorem dX7_when_28 : decode cX7_when 28 = .ok (.bipush 42, 2) := dk_16 42 (dk_at dksX7_when_1 4 rfl rfl)
theorem dX7_when_30 : decode cX7_when 30 = .ok (.iload_n 1, 1) := dk_27 (dk_at dksX7_when_1 6 rfl rfl)
theorem dX7_when_31 : decode cX7_when 31 = .ok (.invokestatic 166, 3) := dk_184 0 166 (dk_at dksX7_when_1 7 rfl rfl)
theorem dX7_when_34 : decode cX7_when 34 = .ok (.ifCond .eq 7, 3) := dk_153 0 7 (dk_at dksX7_when_1 10 rfl rfl)
theorem dX7_when_37 : decode cX7_when 37 = .ok (.iload_n 1, 1) := dk_27 (dk_at dksX7_when_1 13 rfl rfl)
theorem dX7_when_38 : decode cX7_when 38 = .ok (.goto 4, 3) := dk_167 0 4 (dk_at dksX7_when_1 14 rfl rfl)
theorem dX7_when_41 : decode cX7_when 41 = .ok (.iconst 0, 1) := dk_3 (dk_at dksX7_when_1 17 rfl rfl)
theorem dX7_when_42 : decode cX7_when 42 = .ok (.iadd, 1) := dk_96 (dk_at dksX7_when_1 18 rfl rfl)
theorem dX7_when_43 : decode cX7_when 43 = .ok (.iaload, 1) := dk_46 (dk_at dksX7_when_1 19 rfl rfl)
theorem dX7_when_44 : decode cX7_when 44 = .ok (.iconst (-1), 1) := dk_2 (dk_at dksX7_when_1 20 rfl rfl)
theorem dX7_when_45 : decode cX7_when 45 = .ok (.if_icmp .eq 5, 3) := dk_159 0 5 (dk_at dksX7_when_1 21 rfl rfl)
theorem dX7_when_48 : decode cX7_when 48 = .ok (.iconst (-1), 1) := dk_2 (dk_at dksX7_when_2 0 rfl rfl)
theorem dX7_when_49 : decode cX7_when 49 = .ok (.ireturn, 1) := dk_172 (dk_at dksX7_when_2 1 rfl rfl)
theorem dX7_when_50 : decode cX7_when 50 = .ok (.aload_n 0, 1) := dk_42 (dk_at dksX7_when_2 2 rfl rfl)
theorem dX7_when_51 : decode cX7_when 51 = .ok (.invokevirtual 367, 3) := dk_182 1 111 (dk_at dksX7_when_2 3 rfl rfl)
theorem dX7_when_54 : decode cX7_when 54 = .ok (.iconst 0, 1) := dk_3 (dk_at dksX7_when_2 6 rfl rfl)
theorem dX7_when_55 : decode cX7_when 55 = .ok (.istore_n 3, 1) := dk_62 (dk_at dksX7_when_2 7 rfl rfl)
theorem dX7_when_56 : decode cX7_when 56 = .ok (.iconst (-1), 1) := dk_2 (dk_at dksX7_when_2 8 rfl rfl)
theorem dX7_when_57 : decode cX7_when 57 = .ok (.istore 4, 2) := dk_54 4 (dk_at dksX7_when_2 9 rfl rfl)
theorem dX7_when_59 : decode cX7_when 59 = .ok (.iconst (-1), 1) := dk_2 (dk_at dksX7_when_2 11 rfl rfl)
theorem dX7_when_60 : decode cX7_when 60 = .ok (.istore 5, 2) := dk_54 5 (dk_at dksX7_when_2 12 rfl rfl)
theorem dX7_when_62 : decode cX7_when 62 = .ok (.iconst 1, 1) := dk_4 (dk_at dksX7_when_2 14 rfl rfl)
theorem dX7_when_63 : decode cX7_when 63 = .ok (.istore 6, 2) := dk_54 6 (dk_at dksX7_when_2 15 rfl rfl)
theorem dX7_when_65 : decode cX7_when 65 = .ok (.iload 6, 2) := dk_21 6 (dk_at dksX7_when_2 17 rfl rfl)
theorem dX7_when_67 : decode cX7_when 67 = .ok (.bipush 32, 2) := dk_16 32 (dk_at dksX7_when_2 19 rfl rfl)
theorem dX7_when_69 : decode cX7_when 69 = .ok (.if_icmp .ge 50, 3) := dk_162 0 50 (dk_at dksX7_when_2 21 rfl rfl)
theorem dX7_when_72 : decode cX7_when 72 = .ok (.aload_n 0, 1) := dk_42 (dk_at dksX7_when_3 0 rfl rfl)
theorem dX7_when_73 : decode cX7_when 73 = .ok (.getfield 58, 3) := dk_180 0 58 (dk_at dksX7_when_3 1 rfl rfl)
theorem dX7_when_76 : decode cX7_when 76 = .ok (.iload_n 1, 1) := dk_27 (dk_at dksX7_when_3 4 rfl rfl)
theorem dX7_when_77 : decode cX7_when 77 = .ok (.iload 6, 2) := dk_21 6 (dk_at dksX7_when_3 5 rfl rfl)
theorem dX7_when_79 : decode cX7_when 79 = .ok (.iastore, 1) := dk_79 (dk_at dksX7_when_3 7 rfl rfl)
theorem dX7_when_80 : decode cX7_when 80 = .ok (.aload_n 0, 1) := dk_42 (dk_at dksX7_when_3 8 rfl rfl)
theorem dX7_when_81 : decode cX7_when 81 = .ok (.aload_n 0, 1) := dk_42 (dk_at dksX7_when_3 9 rfl rfl)
theorem dX7_when_82 : decode cX7_when 82 = .ok (.invokevirtual 370, 3) := dk_182 1 114 (dk_at dksX7_when_3 10 rfl rfl)
theorem dX7_when_85 : decode cX7_when 85 = .ok (.invokevirtual 374, 3) := dk_182 1 118 (dk_at dksX7_when_3 13 rfl rfl)
theorem dX7_when_88 : decode cX7_when 88 = .ok (.ifCond .eq 25, 3) := dk_153 0 25 (dk_at dksX7_when_3 16 rfl rfl)
theorem dX7_when_91 : decode cX7_when 91 = .ok (.iinc 3 1, 3) := dk_132 3 1 (dk_at dksX7_when_3 19 rfl rfl)
theorem dX7_when_94 : decode cX7_when 94 = .ok (.iload 4, 2) := dk_21 4 (dk_at dksX7_when_3 22 rfl rfl)
theorem dX7_when_96 : decode cX7_when 96 = .ok (.iconst (-1), 1) := dk_2 (dk_at dksX7_when_4 0 rfl rfl)
theorem dX7_when_97 : decode cX7_when 97 = .ok (.if_icmp .ne 8, 3) := dk_160 0 8 (dk_at dksX7_when_4 1 rfl rfl)
theorem dX7_when_100 : decode cX7_when 100 = .ok (.iload 6, 2) := dk_21 6 (dk_at dksX7_when_4 4 rfl rfl)
theorem dX7_when_102 : decode cX7_when 102 = .ok (.goto 5, 3) := dk_167 0 5 (dk_at dksX7_when_4 6 rfl rfl)
theorem dX7_when_105 : decode cX7_when 105 = .ok (.iload 4, 2) := dk_21 4 (dk_at dksX7_when_4 9 rfl rfl)
theorem dX7_when_107 : decode cX7_when 107 = .ok (.istore 4, 2) := dk_54 4 (dk_at dksX7_when_4 11 rfl rfl)
theorem dX7_when_109 : decode cX7_when 109 = .ok (.iload 6, 2) := dk_21 6 (dk_at dksX7_when_4 13 rfl rfl)
theorem dX7_when_111 : decode cX7_when 111 = .ok (.istore 5, 2) := dk_54 5 (dk_at dksX7_when_4 15 rfl rfl)
theorem dX7_when_113 : decode cX7_when 113 = .ok (.iinc 6 1, 3) := dk_132 6 1 (dk_at dksX7_when_4 17 rfl rfl)
theorem dX7_when_116 : decode cX7_when 116 = .ok (.goto (-51), 3) := dk_167 255 205 (dk_at dksX7_when_4 20 rfl rfl)
theorem dX7_when_119 : decode cX7_when 119 = .ok (.iload_n 2, 1) := dk_28 (dk_at dksX7_when_4 23 rfl rfl)
theorem dX7_when_120 : decode cX7_when 120 = .ok (.ifCond .ne 7, 3) := dk_154 0 7 (dk_at dksX7_when_5 0 rfl rfl)
theorem dX7_when_123 : decode cX7_when 123 = .ok (.iload_n 3, 1) := dk_29 (dk_at dksX7_when_5 3 rfl rfl)
theorem dX7_when_124 : decode cX7_when 124 = .ok (.goto 15, 3) := dk_167 0 15 (dk_at dksX7_when_5 4 rfl rfl)
theorem dX7_when_127 : decode cX7_when 127 = .ok (.iload_n 2, 1) := dk_28 (dk_at dksX7_when_5 7 rfl rfl)
theorem dX7_when_128 : decode cX7_when 128 = .ok (.iconst 1, 1) := dk_4 (dk_at dksX7_when_5 8 rfl rfl)
theorem dX7_when_129 : decode cX7_when 129 = .ok (.if_icmp .ne 8, 3) := dk_160 0 8 (dk_at dksX7_when_5 9 rfl rfl)
theorem dX7_when_132 : decode cX7_when 132 = .ok (.iload 4, 2) := dk_21 4 (dk_at dksX7_when_5 12 rfl rfl)
theorem dX7_when_134 : decode cX7_when 134 = .ok (.goto 5, 3) := dk_167 0 5 (dk_at dksX7_when_5 14 rfl rfl)
theorem dX7_when_137 : decode cX7_when 137 = .ok (.iload 5, 2) := dk_21 5 (dk_at dksX7_when_5 17 rfl rfl)
theorem dX7_when_139 : decode cX7_when 139 = .ok (.ireturn, 1) := dk_172 (dk_at dksX7_when_5 19 rfl rfl)
abbrev cX7_tell : ByteArray := prog_16_method_105_code
def yX7_tell : MethodName := ⟨RX7, "tell", "(II)I"⟩
def dkwX7_tell_1 : List UInt8 := [184, 0, 143, 153, 0, 15, 42, 16, 60, 27, 96, 28, 182, 0, 162, 167, 0, 8, 42, 2, 182, 0, 147, 172]
abbrev dktX7_tell_1 : List UInt8 := dkwX7_tell_1 ++ []
def dkwX7_tell_0 : List UInt8 := [42, 3, 181, 0, 133, 27, 133, 9, 20, 1, 125, 184, 0, 143, 153, 0, 27, 28, 133, 10, 20, 1, 243]
abbrev dktX7_tell_0 : List UInt8 := dkwX7_tell_0 ++ dktX7_tell_1
theorem dksX7_tell_0 : cX7_tell.data.toList.drop 0 = dktX7_tell_0 := by decide +kernel
theorem dksX7_tell_1 : cX7_tell.data.toList.drop 23 = dktX7_tell_1 := dk_seg dksX7_tell_0 23 rfl rfl
theorem dX7_tell_0 : decode cX7_tell 0 = .ok (.aload_n 0, 1) := dk_42 (dk_at dksX7_tell_0 0 rfl rfl)
theorem dX7_tell_1 : decode cX7_tell 1 = .ok (.iconst 0, 1) := dk_3 (dk_at dksX7_tell_0 1 rfl rfl)
theorem dX7_tell_2 : decode cX7_tell 2 = .ok (.putfield 133, 3) := dk_181 0 133 (dk_at dksX7_tell_0 2 rfl rfl)
theorem dX7_tell_5 : decode cX7_tell 5 = .ok (.iload_n 1, 1) := dk_27 (dk_at dksX7_tell_0 5 rfl rfl)
theorem dX7_tell_6 : decode cX7_tell 6 = .ok (.i2l, 1) := dk_133 (dk_at dksX7_tell_0 6 rfl rfl)
theorem dX7_tell_7 : decode cX7_tell 7 = .ok (.lconst 0, 1) := dk_9 (dk_at dksX7_tell_0 7 rfl rfl)
theorem dX7_tell_8 : decode cX7_tell 8 = .ok (.ldc2_w 381, 3) := dk_20 1 125 (dk_at dksX7_tell_0 8 rfl rfl)
theorem dX7_tell_11 : decode cX7_tell 11 = .ok (.invokestatic 143, 3) := dk_184 0 143 (dk_at dksX7_tell_0 11 rfl rfl)
theorem dX7_tell_14 : decode cX7_tell 14 = .ok (.ifCond .eq 27, 3) := dk_153 0 27 (dk_at dksX7_tell_0 14 rfl rfl)
theorem dX7_tell_17 : decode cX7_tell 17 = .ok (.iload_n 2, 1) := dk_28 (dk_at dksX7_tell_0 17 rfl rfl)
theorem dX7_tell_18 : decode cX7_tell 18 = .ok (.i2l, 1) := dk_133 (dk_at dksX7_tell_0 18 rfl rfl)
theorem dX7_tell_19 : decode cX7_tell 19 = .ok (.lconst 1, 1) := dk_10 (dk_at dksX7_tell_0 19 rfl rfl)
theorem dX7_tell_20 : decode cX7_tell 20 = .ok (.ldc2_w 499, 3) := dk_20 1 243 (dk_at dksX7_tell_0 20 rfl rfl)
theorem dX7_tell_23 : decode cX7_tell 23 = .ok (.invokestatic 143, 3) := dk_184 0 143 (dk_at dksX7_tell_1 0 rfl rfl)
theorem dX7_tell_26 : decode cX7_tell 26 = .ok (.ifCond .eq 15, 3) := dk_153 0 15 (dk_at dksX7_tell_1 3 rfl rfl)
theorem dX7_tell_29 : decode cX7_tell 29 = .ok (.aload_n 0, 1) := dk_42 (dk_at dksX7_tell_1 6 rfl rfl)
theorem dX7_tell_30 : decode cX7_tell 30 = .ok (.bipush 60, 2) := dk_16 60 (dk_at dksX7_tell_1 7 rfl rfl)
theorem dX7_tell_32 : decode cX7_tell 32 = .ok (.iload_n 1, 1) := dk_27 (dk_at dksX7_tell_1 9 rfl rfl)
theorem dX7_tell_33 : decode cX7_tell 33 = .ok (.iadd, 1) := dk_96 (dk_at dksX7_tell_1 10 rfl rfl)
theorem dX7_tell_34 : decode cX7_tell 34 = .ok (.iload_n 2, 1) := dk_28 (dk_at dksX7_tell_1 11 rfl rfl)
theorem dX7_tell_35 : decode cX7_tell 35 = .ok (.invokevirtual 162, 3) := dk_182 0 162 (dk_at dksX7_tell_1 12 rfl rfl)
theorem dX7_tell_38 : decode cX7_tell 38 = .ok (.goto 8, 3) := dk_167 0 8 (dk_at dksX7_tell_1 15 rfl rfl)
theorem dX7_tell_41 : decode cX7_tell 41 = .ok (.aload_n 0, 1) := dk_42 (dk_at dksX7_tell_1 18 rfl rfl)
theorem dX7_tell_42 : decode cX7_tell 42 = .ok (.iconst (-1), 1) := dk_2 (dk_at dksX7_tell_1 19 rfl rfl)
theorem dX7_tell_43 : decode cX7_tell 43 = .ok (.invokevirtual 147, 3) := dk_182 0 147 (dk_at dksX7_tell_1 20 rfl rfl)
theorem dX7_tell_46 : decode cX7_tell 46 = .ok (.ireturn, 1) := dk_172 (dk_at dksX7_tell_1 23 rfl rfl)
abbrev cX7_says : ByteArray := prog_16_method_107_code
def yX7_says : MethodName := ⟨RX7, "says", "(III)I"⟩
def dkwX7_says_4 : List UInt8 := [5, 21, 5, 104, 108, 172]
abbrev dktX7_says_4 : List UInt8 := dkwX7_says_4 ++ []
def dkwX7_says_3 : List UInt8 := [108, 167, 0, 28, 29, 4, 160, 0, 11, 21, 4, 21, 5, 108, 167, 0, 15, 5, 21, 4, 104, 21, 5, 96]
abbrev dktX7_says_3 : List UInt8 := dkwX7_says_3 ++ dktX7_says_4
def dkwX7_says_2 : List UInt8 := [54, 4, 42, 180, 0, 13, 16, 72, 28, 96, 46, 54, 5, 29, 154, 0, 14, 16, 100, 21, 4, 104, 21, 5]
abbrev dktX7_says_2 : List UInt8 := dkwX7_says_2 ++ dktX7_says_3
def dkwX7_says_1 : List UInt8 := [29, 133, 9, 20, 0, 182, 184, 0, 143, 154, 0, 5, 2, 172, 42, 180, 0, 13, 16, 60, 27, 96, 46]
abbrev dktX7_says_1 : List UInt8 := dkwX7_says_1 ++ dktX7_says_2
def dkwX7_says_0 : List UInt8 := [42, 3, 181, 0, 133, 27, 133, 9, 20, 1, 129, 184, 0, 143, 153, 0, 22, 28, 184, 0, 169, 153, 0, 15]
abbrev dktX7_says_0 : List UInt8 := dkwX7_says_0 ++ dktX7_says_1
theorem dksX7_says_0 : cX7_says.data.toList.drop 0 = dktX7_says_0 := by decide +kernel
theorem dksX7_says_1 : cX7_says.data.toList.drop 24 = dktX7_says_1 := dk_seg dksX7_says_0 24 rfl rfl
theorem dksX7_says_2 : cX7_says.data.toList.drop 47 = dktX7_says_2 := dk_seg dksX7_says_1 23 rfl rfl
theorem dksX7_says_3 : cX7_says.data.toList.drop 71 = dktX7_says_3 := dk_seg dksX7_says_2 24 rfl rfl
theorem dksX7_says_4 : cX7_says.data.toList.drop 95 = dktX7_says_4 := dk_seg dksX7_says_3 24 rfl rfl
theorem dX7_says_0 : decode cX7_says 0 = .ok (.aload_n 0, 1) := dk_42 (dk_at dksX7_says_0 0 rfl rfl)
theorem dX7_says_1 : decode cX7_says 1 = .ok (.iconst 0, 1) := dk_3 (dk_at dksX7_says_0 1 rfl rfl)
theorem dX7_says_2 : decode cX7_says 2 = .ok (.putfield 133, 3) := dk_181 0 133 (dk_at dksX7_says_0 2 rfl rfl)
theorem dX7_says_5 : decode cX7_says 5 = .ok (.iload_n 1, 1) := dk_27 (dk_at dksX7_says_0 5 rfl rfl)
theorem dX7_says_6 : decode cX7_says 6 = .ok (.i2l, 1) := dk_133 (dk_at dksX7_says_0 6 rfl rfl)
theorem dX7_says_7 : decode cX7_says 7 = .ok (.lconst 0, 1) := dk_9 (dk_at dksX7_says_0 7 rfl rfl)
theorem dX7_says_8 : decode cX7_says 8 = .ok (.ldc2_w 385, 3) := dk_20 1 129 (dk_at dksX7_says_0 8 rfl rfl)
theorem dX7_says_11 : decode cX7_says 11 = .ok (.invokestatic 143, 3) := dk_184 0 143 (dk_at dksX7_says_0 11 rfl rfl)
theorem dX7_says_14 : decode cX7_says 14 = .ok (.ifCond .eq 22, 3) := dk_153 0 22 (dk_at dksX7_says_0 14 rfl rfl)
theorem dX7_says_17 : decode cX7_says 17 = .ok (.iload_n 2, 1) := dk_28 (dk_at dksX7_says_0 17 rfl rfl)
theorem dX7_says_18 : decode cX7_says 18 = .ok (.invokestatic 169, 3) := dk_184 0 169 (dk_at dksX7_says_0 18 rfl rfl)
theorem dX7_says_21 : decode cX7_says 21 = .ok (.ifCond .eq 15, 3) := dk_153 0 15 (dk_at dksX7_says_0 21 rfl rfl)
theorem dX7_says_24 : decode cX7_says 24 = .ok (.iload_n 3, 1) := dk_29 (dk_at dksX7_says_1 0 rfl rfl)
theorem dX7_says_25 : decode cX7_says 25 = .ok (.i2l, 1) := dk_133 (dk_at dksX7_says_1 1 rfl rfl)
theorem dX7_says_26 : decode cX7_says 26 = .ok (.lconst 0, 1) := dk_9 (dk_at dksX7_says_1 2 rfl rfl)
theorem dX7_says_27 : decode cX7_says 27 = .ok (.ldc2_w 182, 3) := dk_20 0 182 (dk_at dksX7_says_1 3 rfl rfl)
theorem dX7_says_30 : decode cX7_says 30 = .ok (.invokestatic 143, 3) := dk_184 0 143 (dk_at dksX7_says_1 6 rfl rfl)
theorem dX7_says_33 : decode cX7_says 33 = .ok (.ifCond .ne 5, 3) := dk_154 0 5 (dk_at dksX7_says_1 9 rfl rfl)
theorem dX7_says_36 : decode cX7_says 36 = .ok (.iconst (-1), 1) := dk_2 (dk_at dksX7_says_1 12 rfl rfl)
theorem dX7_says_37 : decode cX7_says 37 = .ok (.ireturn, 1) := dk_172 (dk_at dksX7_says_1 13 rfl rfl)
theorem dX7_says_38 : decode cX7_says 38 = .ok (.aload_n 0, 1) := dk_42 (dk_at dksX7_says_1 14 rfl rfl)
theorem dX7_says_39 : decode cX7_says 39 = .ok (.getfield 13, 3) := dk_180 0 13 (dk_at dksX7_says_1 15 rfl rfl)
theorem dX7_says_42 : decode cX7_says 42 = .ok (.bipush 60, 2) := dk_16 60 (dk_at dksX7_says_1 18 rfl rfl)
theorem dX7_says_44 : decode cX7_says 44 = .ok (.iload_n 1, 1) := dk_27 (dk_at dksX7_says_1 20 rfl rfl)
theorem dX7_says_45 : decode cX7_says 45 = .ok (.iadd, 1) := dk_96 (dk_at dksX7_says_1 21 rfl rfl)
theorem dX7_says_46 : decode cX7_says 46 = .ok (.iaload, 1) := dk_46 (dk_at dksX7_says_1 22 rfl rfl)
theorem dX7_says_47 : decode cX7_says 47 = .ok (.istore 4, 2) := dk_54 4 (dk_at dksX7_says_2 0 rfl rfl)
theorem dX7_says_49 : decode cX7_says 49 = .ok (.aload_n 0, 1) := dk_42 (dk_at dksX7_says_2 2 rfl rfl)
theorem dX7_says_50 : decode cX7_says 50 = .ok (.getfield 13, 3) := dk_180 0 13 (dk_at dksX7_says_2 3 rfl rfl)
theorem dX7_says_53 : decode cX7_says 53 = .ok (.bipush 72, 2) := dk_16 72 (dk_at dksX7_says_2 6 rfl rfl)
theorem dX7_says_55 : decode cX7_says 55 = .ok (.iload_n 2, 1) := dk_28 (dk_at dksX7_says_2 8 rfl rfl)
theorem dX7_says_56 : decode cX7_says 56 = .ok (.iadd, 1) := dk_96 (dk_at dksX7_says_2 9 rfl rfl)
theorem dX7_says_57 : decode cX7_says 57 = .ok (.iaload, 1) := dk_46 (dk_at dksX7_says_2 10 rfl rfl)
theorem dX7_says_58 : decode cX7_says 58 = .ok (.istore 5, 2) := dk_54 5 (dk_at dksX7_says_2 11 rfl rfl)
theorem dX7_says_60 : decode cX7_says 60 = .ok (.iload_n 3, 1) := dk_29 (dk_at dksX7_says_2 13 rfl rfl)
theorem dX7_says_61 : decode cX7_says 61 = .ok (.ifCond .ne 14, 3) := dk_154 0 14 (dk_at dksX7_says_2 14 rfl rfl)
theorem dX7_says_64 : decode cX7_says 64 = .ok (.bipush 100, 2) := dk_16 100 (dk_at dksX7_says_2 17 rfl rfl)
theorem dX7_says_66 : decode cX7_says 66 = .ok (.iload 4, 2) := dk_21 4 (dk_at dksX7_says_2 19 rfl rfl)
theorem dX7_says_68 : decode cX7_says 68 = .ok (.imul, 1) := dk_104 (dk_at dksX7_says_2 21 rfl rfl)
theorem dX7_says_69 : decode cX7_says 69 = .ok (.iload 5, 2) := dk_21 5 (dk_at dksX7_says_2 22 rfl rfl)
theorem dX7_says_71 : decode cX7_says 71 = .ok (.idiv, 1) := dk_108 (dk_at dksX7_says_3 0 rfl rfl)
theorem dX7_says_72 : decode cX7_says 72 = .ok (.goto 28, 3) := dk_167 0 28 (dk_at dksX7_says_3 1 rfl rfl)
theorem dX7_says_75 : decode cX7_says 75 = .ok (.iload_n 3, 1) := dk_29 (dk_at dksX7_says_3 4 rfl rfl)
theorem dX7_says_76 : decode cX7_says 76 = .ok (.iconst 1, 1) := dk_4 (dk_at dksX7_says_3 5 rfl rfl)
theorem dX7_says_77 : decode cX7_says 77 = .ok (.if_icmp .ne 11, 3) := dk_160 0 11 (dk_at dksX7_says_3 6 rfl rfl)
theorem dX7_says_80 : decode cX7_says 80 = .ok (.iload 4, 2) := dk_21 4 (dk_at dksX7_says_3 9 rfl rfl)
theorem dX7_says_82 : decode cX7_says 82 = .ok (.iload 5, 2) := dk_21 5 (dk_at dksX7_says_3 11 rfl rfl)
theorem dX7_says_84 : decode cX7_says 84 = .ok (.idiv, 1) := dk_108 (dk_at dksX7_says_3 13 rfl rfl)
theorem dX7_says_85 : decode cX7_says 85 = .ok (.goto 15, 3) := dk_167 0 15 (dk_at dksX7_says_3 14 rfl rfl)
theorem dX7_says_88 : decode cX7_says 88 = .ok (.iconst 2, 1) := dk_5 (dk_at dksX7_says_3 17 rfl rfl)
theorem dX7_says_89 : decode cX7_says 89 = .ok (.iload 4, 2) := dk_21 4 (dk_at dksX7_says_3 18 rfl rfl)
theorem dX7_says_91 : decode cX7_says 91 = .ok (.imul, 1) := dk_104 (dk_at dksX7_says_3 20 rfl rfl)
theorem dX7_says_92 : decode cX7_says 92 = .ok (.iload 5, 2) := dk_21 5 (dk_at dksX7_says_3 21 rfl rfl)
theorem dX7_says_94 : decode cX7_says 94 = .ok (.iadd, 1) := dk_96 (dk_at dksX7_says_3 23 rfl rfl)
theorem dX7_says_95 : decode cX7_says 95 = .ok (.iconst 2, 1) := dk_5 (dk_at dksX7_says_4 0 rfl rfl)
theorem dX7_says_96 : decode cX7_says 96 = .ok (.iload 5, 2) := dk_21 5 (dk_at dksX7_says_4 1 rfl rfl)
theorem dX7_says_98 : decode cX7_says 98 = .ok (.imul, 1) := dk_104 (dk_at dksX7_says_4 3 rfl rfl)
theorem dX7_says_99 : decode cX7_says 99 = .ok (.idiv, 1) := dk_108 (dk_at dksX7_says_4 4 rfl rfl)
theorem dX7_says_100 : decode cX7_says 100 = .ok (.ireturn, 1) := dk_172 (dk_at dksX7_says_4 5 rfl rfl)
abbrev cX7_judge : ByteArray := prog_16_method_109_code
def yX7_judge : MethodName := ⟨RX7, "judge", "(I)I"⟩
def dkwX7_judge_11 : List UInt8 := [167, 255, 197, 21, 4, 153, 0, 7, 4, 167, 0, 4, 3, 172]
abbrev dktX7_judge_11 : List UInt8 := dkwX7_judge_11 ++ []
def dkwX7_judge_10 : List UInt8 := [180, 0, 13, 16, 60, 21, 5, 96, 46, 163, 0, 7, 4, 167, 0, 4, 3, 54, 4, 132, 5, 1]
abbrev dktX7_judge_10 : List UInt8 := dkwX7_judge_10 ++ dktX7_judge_11
def dkwX7_judge_9 : List UInt8 := [180, 0, 13, 16, 42, 21, 5, 96, 46, 2, 159, 0, 26, 42, 180, 0, 13, 16, 66, 21, 5, 96, 46, 42]
abbrev dktX7_judge_9 : List UInt8 := dkwX7_judge_9 ++ dktX7_judge_10
def dkwX7_judge_8 : List UInt8 := [54, 4, 132, 5, 1, 167, 255, 185, 3, 54, 5, 21, 5, 16, 6, 162, 0, 58, 21, 4, 153, 0, 44, 42]
abbrev dktX7_judge_8 : List UInt8 := dkwX7_judge_8 ++ dktX7_judge_9
def dkwX7_judge_7 : List UInt8 := [180, 0, 13, 16, 48, 5, 21, 5, 104, 96, 4, 96, 46, 96, 46, 162, 0, 7, 4, 167, 0, 4, 3]
abbrev dktX7_judge_7 : List UInt8 := dkwX7_judge_7 ++ dktX7_judge_8
def dkwX7_judge_6 : List UInt8 := [16, 72, 42, 180, 0, 13, 16, 48, 5, 21, 5, 104, 96, 46, 96, 46, 42, 180, 0, 13, 16, 72, 42]
abbrev dktX7_judge_6 : List UInt8 := dkwX7_judge_6 ++ dktX7_judge_7
def dkwX7_judge_5 : List UInt8 := [3, 54, 5, 21, 5, 42, 180, 0, 13, 4, 46, 162, 0, 66, 21, 4, 153, 0, 52, 42, 180, 0, 13]
abbrev dktX7_judge_5 : List UInt8 := dkwX7_judge_5 ++ dktX7_judge_6
def dkwX7_judge_4 : List UInt8 := [162, 0, 13, 27, 154, 0, 7, 29, 167, 0, 4, 28, 172, 28, 154, 0, 7, 4, 167, 0, 4, 3, 54, 4]
abbrev dktX7_judge_4 : List UInt8 := dkwX7_judge_4 ++ dktX7_judge_5
def dkwX7_judge_3 : List UInt8 := [21, 4, 182, 1, 245, 154, 0, 9, 132, 2, 1, 21, 4, 62, 132, 4, 255, 167, 255, 203, 27, 5]
abbrev dktX7_judge_3 : List UInt8 := dkwX7_judge_3 ++ dktX7_judge_4
def dkwX7_judge_2 : List UInt8 := [160, 0, 37, 42, 180, 0, 13, 16, 10, 42, 21, 4, 4, 182, 0, 195, 96, 46, 2, 159, 0, 18, 42]
abbrev dktX7_judge_2 : List UInt8 := dkwX7_judge_2 ++ dktX7_judge_3
def dkwX7_judge_1 : List UInt8 := [180, 0, 13, 3, 46, 4, 100, 54, 4, 21, 4, 155, 0, 54, 42, 21, 4, 7, 182, 0, 195, 4]
abbrev dktX7_judge_1 : List UInt8 := dkwX7_judge_1 ++ dktX7_judge_2
def dkwX7_judge_0 : List UInt8 := [42, 3, 181, 0, 133, 27, 133, 9, 20, 0, 182, 184, 0, 143, 154, 0, 5, 2, 172, 3, 61, 2, 62, 42]
abbrev dktX7_judge_0 : List UInt8 := dkwX7_judge_0 ++ dktX7_judge_1
theorem dksX7_judge_0 : cX7_judge.data.toList.drop 0 = dktX7_judge_0 := by decide +kernel
theorem dksX7_judge_1 : cX7_judge.data.toList.drop 24 = dktX7_judge_1 := dk_seg dksX7_judge_0 24 rfl rfl
theorem dksX7_judge_2 : cX7_judge.data.toList.drop 46 = dktX7_judge_2 := dk_seg dksX7_judge_1 22 rfl rfl
theorem dksX7_judge_3 : cX7_judge.data.toList.drop 69 = dktX7_judge_3 := dk_seg dksX7_judge_2 23 rfl rfl
theorem dksX7_judge_4 : cX7_judge.data.toList.drop 91 = dktX7_judge_4 := dk_seg dksX7_judge_3 22 rfl rfl
theorem dksX7_judge_5 : cX7_judge.data.toList.drop 115 = dktX7_judge_5 := dk_seg dksX7_judge_4 24 rfl rfl
theorem dksX7_judge_6 : cX7_judge.data.toList.drop 138 = dktX7_judge_6 := dk_seg dksX7_judge_5 23 rfl rfl
theorem dksX7_judge_7 : cX7_judge.data.toList.drop 161 = dktX7_judge_7 := dk_seg dksX7_judge_6 23 rfl rfl
theorem dksX7_judge_8 : cX7_judge.data.toList.drop 184 = dktX7_judge_8 := dk_seg dksX7_judge_7 23 rfl rfl
theorem dksX7_judge_9 : cX7_judge.data.toList.drop 208 = dktX7_judge_9 := dk_seg dksX7_judge_8 24 rfl rfl
theorem dksX7_judge_10 : cX7_judge.data.toList.drop 232 = dktX7_judge_10 := dk_seg dksX7_judge_9 24 rfl rfl
theorem dksX7_judge_11 : cX7_judge.data.toList.drop 254 = dktX7_judge_11 := dk_seg dksX7_judge_10 22 rfl rfl
theorem dX7_judge_0 : decode cX7_judge 0 = .ok (.aload_n 0, 1) := dk_42 (dk_at dksX7_judge_0 0 rfl rfl)
theorem dX7_judge_1 : decode cX7_judge 1 = .ok (.iconst 0, 1) := dk_3 (dk_at dksX7_judge_0 1 rfl rfl)
theorem dX7_judge_2 : decode cX7_judge 2 = .ok (.putfield 133, 3) := dk_181 0 133 (dk_at dksX7_judge_0 2 rfl rfl)
theorem dX7_judge_5 : decode cX7_judge 5 = .ok (.iload_n 1, 1) := dk_27 (dk_at dksX7_judge_0 5 rfl rfl)
theorem dX7_judge_6 : decode cX7_judge 6 = .ok (.i2l, 1) := dk_133 (dk_at dksX7_judge_0 6 rfl rfl)
theorem dX7_judge_7 : decode cX7_judge 7 = .ok (.lconst 0, 1) := dk_9 (dk_at dksX7_judge_0 7 rfl rfl)
theorem dX7_judge_8 : decode cX7_judge 8 = .ok (.ldc2_w 182, 3) := dk_20 0 182 (dk_at dksX7_judge_0 8 rfl rfl)
theorem dX7_judge_11 : decode cX7_judge 11 = .ok (.invokestatic 143, 3) := dk_184 0 143 (dk_at dksX7_judge_0 11 rfl rfl)
theorem dX7_judge_14 : decode cX7_judge 14 = .ok (.ifCond .ne 5, 3) := dk_154 0 5 (dk_at dksX7_judge_0 14 rfl rfl)
theorem dX7_judge_17 : decode cX7_judge 17 = .ok (.iconst (-1), 1) := dk_2 (dk_at dksX7_judge_0 17 rfl rfl)
theorem dX7_judge_18 : decode cX7_judge 18 = .ok (.ireturn, 1) := dk_172 (dk_at dksX7_judge_0 18 rfl rfl)
theorem dX7_judge_19 : decode cX7_judge 19 = .ok (.iconst 0, 1) := dk_3 (dk_at dksX7_judge_0 19 rfl rfl)
theorem dX7_judge_20 : decode cX7_judge 20 = .ok (.istore_n 2, 1) := dk_61 (dk_at dksX7_judge_0 20 rfl rfl)
theorem dX7_judge_21 : decode cX7_judge 21 = .ok (.iconst (-1), 1) := dk_2 (dk_at dksX7_judge_0 21 rfl rfl)
theorem dX7_judge_22 : decode cX7_judge 22 = .ok (.istore_n 3, 1) := dk_62 (dk_at dksX7_judge_0 22 rfl rfl)
theorem dX7_judge_23 : decode cX7_judge 23 = .ok (.aload_n 0, 1) := dk_42 (dk_at dksX7_judge_0 23 rfl rfl)
theorem dX7_judge_24 : decode cX7_judge 24 = .ok (.getfield 13, 3) := dk_180 0 13 (dk_at dksX7_judge_1 0 rfl rfl)
theorem dX7_judge_27 : decode cX7_judge 27 = .ok (.iconst 0, 1) := dk_3 (dk_at dksX7_judge_1 3 rfl rfl)
theorem dX7_judge_28 : decode cX7_judge 28 = .ok (.iaload, 1) := dk_46 (dk_at dksX7_judge_1 4 rfl rfl)
theorem dX7_judge_29 : decode cX7_judge 29 = .ok (.iconst 1, 1) := dk_4 (dk_at dksX7_judge_1 5 rfl rfl)
theorem dX7_judge_30 : decode cX7_judge 30 = .ok (.isub, 1) := dk_100 (dk_at dksX7_judge_1 6 rfl rfl)
theorem dX7_judge_31 : decode cX7_judge 31 = .ok (.istore 4, 2) := dk_54 4 (dk_at dksX7_judge_1 7 rfl rfl)
theorem dX7_judge_33 : decode cX7_judge 33 = .ok (.iload 4, 2) := dk_21 4 (dk_at dksX7_judge_1 9 rfl rfl)
theorem dX7_judge_35 : decode cX7_judge 35 = .ok (.ifCond .lt 54, 3) := dk_155 0 54 (dk_at dksX7_judge_1 11 rfl rfl)
theorem dX7_judge_38 : decode cX7_judge 38 = .ok (.aload_n 0, 1) := dk_42 (dk_at dksX7_judge_1 14 rfl rfl)
theorem dX7_judge_39 : decode cX7_judge 39 = .ok (.iload 4, 2) := dk_21 4 (dk_at dksX7_judge_1 15 rfl rfl)
theorem dX7_judge_41 : decode cX7_judge 41 = .ok (.iconst 4, 1) := dk_7 (dk_at dksX7_judge_1 17 rfl rfl)
theorem dX7_judge_42 : decode cX7_judge 42 = .ok (.invokevirtual 195, 3) := dk_182 0 195 (dk_at dksX7_judge_1 18 rfl rfl)
theorem dX7_judge_45 : decode cX7_judge 45 = .ok (.iconst 1, 1) := dk_4 (dk_at dksX7_judge_1 21 rfl rfl)
theorem dX7_judge_46 : decode cX7_judge 46 = .ok (.if_icmp .ne 37, 3) := dk_160 0 37 (dk_at dksX7_judge_2 0 rfl rfl)
theorem dX7_judge_49 : decode cX7_judge 49 = .ok (.aload_n 0, 1) := dk_42 (dk_at dksX7_judge_2 3 rfl rfl)
theorem dX7_judge_50 : decode cX7_judge 50 = .ok (.getfield 13, 3) := dk_180 0 13 (dk_at dksX7_judge_2 4 rfl rfl)
theorem dX7_judge_53 : decode cX7_judge 53 = .ok (.bipush 10, 2) := dk_16 10 (dk_at dksX7_judge_2 7 rfl rfl)
theorem dX7_judge_55 : decode cX7_judge 55 = .ok (.aload_n 0, 1) := dk_42 (dk_at dksX7_judge_2 9 rfl rfl)
theorem dX7_judge_56 : decode cX7_judge 56 = .ok (.iload 4, 2) := dk_21 4 (dk_at dksX7_judge_2 10 rfl rfl)
theorem dX7_judge_58 : decode cX7_judge 58 = .ok (.iconst 1, 1) := dk_4 (dk_at dksX7_judge_2 12 rfl rfl)
theorem dX7_judge_59 : decode cX7_judge 59 = .ok (.invokevirtual 195, 3) := dk_182 0 195 (dk_at dksX7_judge_2 13 rfl rfl)
theorem dX7_judge_62 : decode cX7_judge 62 = .ok (.iadd, 1) := dk_96 (dk_at dksX7_judge_2 16 rfl rfl)
theorem dX7_judge_63 : decode cX7_judge 63 = .ok (.iaload, 1) := dk_46 (dk_at dksX7_judge_2 17 rfl rfl)
theorem dX7_judge_64 : decode cX7_judge 64 = .ok (.iconst (-1), 1) := dk_2 (dk_at dksX7_judge_2 18 rfl rfl)
theorem dX7_judge_65 : decode cX7_judge 65 = .ok (.if_icmp .eq 18, 3) := dk_159 0 18 (dk_at dksX7_judge_2 19 rfl rfl)
theorem dX7_judge_68 : decode cX7_judge 68 = .ok (.aload_n 0, 1) := dk_42 (dk_at dksX7_judge_2 22 rfl rfl)
theorem dX7_judge_69 : decode cX7_judge 69 = .ok (.iload 4, 2) := dk_21 4 (dk_at dksX7_judge_3 0 rfl rfl)
theorem dX7_judge_71 : decode cX7_judge 71 = .ok (.invokevirtual 501, 3) := dk_182 1 245 (dk_at dksX7_judge_3 2 rfl rfl)
theorem dX7_judge_74 : decode cX7_judge 74 = .ok (.ifCond .ne 9, 3) := dk_154 0 9 (dk_at dksX7_judge_3 5 rfl rfl)
theorem dX7_judge_77 : decode cX7_judge 77 = .ok (.iinc 2 1, 3) := dk_132 2 1 (dk_at dksX7_judge_3 8 rfl rfl)
theorem dX7_judge_80 : decode cX7_judge 80 = .ok (.iload 4, 2) := dk_21 4 (dk_at dksX7_judge_3 11 rfl rfl)
theorem dX7_judge_82 : decode cX7_judge 82 = .ok (.istore_n 3, 1) := dk_62 (dk_at dksX7_judge_3 13 rfl rfl)
theorem dX7_judge_83 : decode cX7_judge 83 = .ok (.iinc 4 (-1), 3) := dk_132 4 255 (dk_at dksX7_judge_3 14 rfl rfl)
theorem dX7_judge_86 : decode cX7_judge 86 = .ok (.goto (-53), 3) := dk_167 255 203 (dk_at dksX7_judge_3 17 rfl rfl)
theorem dX7_judge_89 : decode cX7_judge 89 = .ok (.iload_n 1, 1) := dk_27 (dk_at dksX7_judge_3 20 rfl rfl)
theorem dX7_judge_90 : decode cX7_judge 90 = .ok (.iconst 2, 1) := dk_5 (dk_at dksX7_judge_3 21 rfl rfl)
theorem dX7_judge_91 : decode cX7_judge 91 = .ok (.if_icmp .ge 13, 3) := dk_162 0 13 (dk_at dksX7_judge_4 0 rfl rfl)
theorem dX7_judge_94 : decode cX7_judge 94 = .ok (.iload_n 1, 1) := dk_27 (dk_at dksX7_judge_4 3 rfl rfl)
theorem dX7_judge_95 : decode cX7_judge 95 = .ok (.ifCond .ne 7, 3) := dk_154 0 7 (dk_at dksX7_judge_4 4 rfl rfl)
theorem dX7_judge_98 : decode cX7_judge 98 = .ok (.iload_n 3, 1) := dk_29 (dk_at dksX7_judge_4 7 rfl rfl)
theorem dX7_judge_99 : decode cX7_judge 99 = .ok (.goto 4, 3) := dk_167 0 4 (dk_at dksX7_judge_4 8 rfl rfl)
theorem dX7_judge_102 : decode cX7_judge 102 = .ok (.iload_n 2, 1) := dk_28 (dk_at dksX7_judge_4 11 rfl rfl)
theorem dX7_judge_103 : decode cX7_judge 103 = .ok (.ireturn, 1) := dk_172 (dk_at dksX7_judge_4 12 rfl rfl)
theorem dX7_judge_104 : decode cX7_judge 104 = .ok (.iload_n 2, 1) := dk_28 (dk_at dksX7_judge_4 13 rfl rfl)
theorem dX7_judge_105 : decode cX7_judge 105 = .ok (.ifCond .ne 7, 3) := dk_154 0 7 (dk_at dksX7_judge_4 14 rfl rfl)
theorem dX7_judge_108 : decode cX7_judge 108 = .ok (.iconst 1, 1) := dk_4 (dk_at dksX7_judge_4 17 rfl rfl)
theorem dX7_judge_109 : decode cX7_judge 109 = .ok (.goto 4, 3) := dk_167 0 4 (dk_at dksX7_judge_4 18 rfl rfl)
theorem dX7_judge_112 : decode cX7_judge 112 = .ok (.iconst 0, 1) := dk_3 (dk_at dksX7_judge_4 21 rfl rfl)
theorem dX7_judge_113 : decode cX7_judge 113 = .ok (.istore 4, 2) := dk_54 4 (dk_at dksX7_judge_4 22 rfl rfl)
theorem dX7_judge_115 : decode cX7_judge 115 = .ok (.iconst 0, 1) := dk_3 (dk_at dksX7_judge_5 0 rfl rfl)
theorem dX7_judge_116 : decode cX7_judge 116 = .ok (.istore 5, 2) := dk_54 5 (dk_at dksX7_judge_5 1 rfl rfl)
theorem dX7_judge_118 : decode cX7_judge 118 = .ok (.iload 5, 2) := dk_21 5 (dk_at dksX7_judge_5 3 rfl rfl)
theorem dX7_judge_120 : decode cX7_judge 120 = .ok (.aload_n 0, 1) := dk_42 (dk_at dksX7_judge_5 5 rfl rfl)
theorem dX7_judge_121 : decode cX7_judge 121 = .ok (.getfield 13, 3) := dk_180 0 13 (dk_at dksX7_judge_5 6 rfl rfl)
theorem dX7_judge_124 : decode cX7_judge 124 = .ok (.iconst 1, 1) := dk_4 (dk_at dksX7_judge_5 9 rfl rfl)
theorem dX7_judge_125 : decode cX7_judge 125 = .ok (.iaload, 1) := dk_46 (dk_at dksX7_judge_5 10 rfl rfl)
theorem dX7_judge_126 : decode cX7_judge 126 = .ok (.if_icmp .ge 66, 3) := dk_162 0 66 (dk_at dksX7_judge_5 11 rfl rfl)
theorem dX7_judge_129 : decode cX7_judge 129 = .ok (.iload 4, 2) := dk_21 4 (dk_at dksX7_judge_5 14 rfl rfl)
theorem dX7_judge_131 : decode cX7_judge 131 = .ok (.ifCond .eq 52, 3) := dk_153 0 52 (dk_at dksX7_judge_5 16 rfl rfl)
theorem dX7_judge_134 : decode cX7_judge 134 = .ok (.aload_n 0, 1) := dk_42 (dk_at dksX7_judge_5 19 rfl rfl)
theorem dX7_judge_135 : decode cX7_judge 135 = .ok (.getfield 13, 3) := dk_180 0 13 (dk_at dksX7_judge_5 20 rfl rfl)
theorem dX7_judge_138 : decode cX7_judge 138 = .ok (.bipush 72, 2) := dk_16 72 (dk_at dksX7_judge_6 0 rfl rfl)
theorem dX7_judge_140 : decode cX7_judge 140 = .ok (.aload_n 0, 1) := dk_42 (dk_at dksX7_judge_6 2 rfl rfl)
theorem dX7_judge_141 : decode cX7_judge 141 = .ok (.getfield 13, 3) := dk_180 0 13 (dk_at dksX7_judge_6 3 rfl rfl)
theorem dX7_judge_144 : decode cX7_judge 144 = .ok (.bipush 48, 2) := dk_16 48 (dk_at dksX7_judge_6 6 rfl rfl)
theorem dX7_judge_146 : decode cX7_judge 146 = .ok (.iconst 2, 1) := dk_5 (dk_at dksX7_judge_6 8 rfl rfl)
theorem dX7_judge_147 : decode cX7_judge 147 = .ok (.iload 5, 2) := dk_21 5 (dk_at dksX7_judge_6 9 rfl rfl)
theorem dX7_judge_149 : decode cX7_judge 149 = .ok (.imul, 1) := dk_104 (dk_at dksX7_judge_6 11 rfl rfl)
theorem dX7_judge_150 : decode cX7_judge 150 = .ok (.iadd, 1) := dk_96 (dk_at dksX7_judge_6 12 rfl rfl)
theorem dX7_judge_151 : decode cX7_judge 151 = .ok (.iaload, 1) := dk_46 (dk_at dksX7_judge_6 13 rfl rfl)
theorem dX7_judge_152 : decode cX7_judge 152 = .ok (.iadd, 1) := dk_96 (dk_at dksX7_judge_6 14 rfl rfl)
theorem dX7_judge_153 : decode cX7_judge 153 = .ok (.iaload, 1) := dk_46 (dk_at dksX7_judge_6 15 rfl rfl)
theorem dX7_judge_154 : decode cX7_judge 154 = .ok (.aload_n 0, 1) := dk_42 (dk_at dksX7_judge_6 16 rfl rfl)
theorem dX7_judge_155 : decode cX7_judge 155 = .ok (.getfield 13, 3) := dk_180 0 13 (dk_at dksX7_judge_6 17 rfl rfl)
theorem dX7_judge_158 : decode cX7_judge 158 = .ok (.bipush 72, 2) := dk_16 72 (dk_at dksX7_judge_6 20 rfl rfl)
theorem dX7_judge_160 : decode cX7_judge 160 = .ok (.aload_n 0, 1) := dk_42 (dk_at dksX7_judge_6 22 rfl rfl)
theorem dX7_judge_161 : decode cX7_judge 161 = .ok (.getfield 13, 3) := dk_180 0 13 (dk_at dksX7_judge_7 0 rfl rfl)
theorem dX7_judge_164 : decode cX7_judge 164 = .ok (.bipush 48, 2) := dk_16 48 (dk_at dksX7_judge_7 3 rfl rfl)
theorem dX7_judge_166 : decode cX7_judge 166 = .ok (.iconst 2, 1) := dk_5 (dk_at dksX7_judge_7 5 rfl rfl)
theorem dX7_judge_167 : decode cX7_judge 167 = .ok (.iload 5, 2) := dk_21 5 (dk_at dksX7_judge_7 6 rfl rfl)
theorem dX7_judge_169 : decode cX7_judge 169 = .ok (.imul, 1) := dk_104 (dk_at dksX7_judge_7 8 rfl rfl)
theorem dX7_judge_170 : decode cX7_judge 170 = .ok (.iadd, 1) := dk_96 (dk_at dksX7_judge_7 9 rfl rfl)
theorem dX7_judge_171 : decode cX7_judge 171 = .ok (.iconst 1, 1) := dk_4 (dk_at dksX7_judge_7 10 rfl rfl)
theorem dX7_judge_172 : decode cX7_judge 172 = .ok (.iadd, 1) := dk_96 (dk_at dksX7_judge_7 11 rfl rfl)
theorem dX7_judge_173 : decode cX7_judge 173 = .ok (.iaload, 1) := dk_46 (dk_at dksX7_judge_7 12 rfl rfl)
theorem dX7_judge_174 : decode cX7_judge 174 = .ok (.iadd, 1) := dk_96 (dk_at dksX7_judge_7 13 rfl rfl)
theorem dX7_judge_175 : decode cX7_judge 175 = .ok (.iaload, 1) := dk_46 (dk_at dksX7_judge_7 14 rfl rfl)
theorem dX7_judge_176 : decode cX7_judge 176 = .ok (.if_icmp .ge 7, 3) := dk_162 0 7 (dk_at dksX7_judge_7 15 rfl rfl)
theorem dX7_judge_179 : decode cX7_judge 179 = .ok (.iconst 1, 1) := dk_4 (dk_at dksX7_judge_7 18 rfl rfl)
theorem dX7_judge_180 : decode cX7_judge 180 = .ok (.goto 4, 3) := dk_167 0 4 (dk_at dksX7_judge_7 19 rfl rfl)
theorem dX7_judge_183 : decode cX7_judge 183 = .ok (.iconst 0, 1) := dk_3 (dk_at dksX7_judge_7 22 rfl rfl)
theorem dX7_judge_184 : decode cX7_judge 184 = .ok (.istore 4, 2) := dk_54 4 (dk_at dksX7_judge_8 0 rfl rfl)
theorem dX7_judge_186 : decode cX7_judge 186 = .ok (.iinc 5 1, 3) := dk_132 5 1 (dk_at dksX7_judge_8 2 rfl rfl)
theorem dX7_judge_189 : decode cX7_judge 189 = .ok (.goto (-71), 3) := dk_167 255 185 (dk_at dksX7_judge_8 5 rfl rfl)
theorem dX7_judge_192 : decode cX7_judge 192 = .ok (.iconst 0, 1) := dk_3 (dk_at dksX7_judge_8 8 rfl rfl)
theorem dX7_judge_193 : decode cX7_judge 193 = .ok (.istore 5, 2) := dk_54 5 (dk_at dksX7_judge_8 9 rfl rfl)
theorem dX7_judge_195 : decode cX7_judge 195 = .ok (.iload 5, 2) := dk_21 5 (dk_at dksX7_judge_8 11 rfl rfl)
theorem dX7_judge_197 : decode cX7_judge 197 = .ok (.bipush 6, 2) := dk_16 6 (dk_at dksX7_judge_8 13 rfl rfl)
theorem dX7_judge_199 : decode cX7_judge 199 = .ok (.if_icmp .ge 58, 3) := dk_162 0 58 (dk_at dksX7_judge_8 15 rfl rfl)
theorem dX7_judge_202 : decode cX7_judge 202 = .ok (.iload 4, 2) := dk_21 4 (dk_at dksX7_judge_8 18 rfl rfl)
theorem dX7_judge_204 : decode cX7_judge 204 = .ok (.ifCond .eq 44, 3) := dk_153 0 44 (dk_at dksX7_judge_8 20 rfl rfl)
theorem dX7_judge_207 : decode cX7_judge 207 = .ok (.aload_n 0, 1) := dk_42 (dk_at dksX7_judge_8 23 rfl rfl)
theorem dX7_judge_208 : decode cX7_judge 208 = .ok (.getfield 13, 3) := dk_180 0 13 (dk_at dksX7_judge_9 0 rfl rfl)
theorem dX7_judge_211 : decode cX7_judge 211 = .ok (.bipush 42, 2) := dk_16 42 (dk_at dksX7_judge_9 3 rfl rfl)
theorem dX7_judge_213 : decode cX7_judge 213 = .ok (.iload 5, 2) := dk_21 5 (dk_at dksX7_judge_9 5 rfl rfl)
theorem dX7_judge_215 : decode cX7_judge 215 = .ok (.iadd, 1) := dk_96 (dk_at dksX7_judge_9 7 rfl rfl)
theorem dX7_judge_216 : decode cX7_judge 216 = .ok (.iaload, 1) := dk_46 (dk_at dksX7_judge_9 8 rfl rfl)
theorem dX7_judge_217 : decode cX7_judge 217 = .ok (.iconst (-1), 1) := dk_2 (dk_at dksX7_judge_9 9 rfl rfl)
theorem dX7_judge_218 : decode cX7_judge 218 = .ok (.if_icmp .eq 26, 3) := dk_159 0 26 (dk_at dksX7_judge_9 10 rfl rfl)
theorem dX7_judge_221 : decode cX7_judge 221 = .ok (.aload_n 0, 1) := dk_42 (dk_at dksX7_judge_9 13 rfl rfl)
theorem dX7_judge_222 : decode cX7_judge 222 = .ok (.getfield 13, 3) := dk_180 0 13 (dk_at dksX7_judge_9 14 rfl rfl)
theorem dX7_judge_225 : decode cX7_judge 225 = .ok (.bipush 66, 2) := dk_16 66 (dk_at dksX7_judge_9 17 rfl rfl)
theorem dX7_judge_227 : decode cX7_judge 227 = .ok (.iload 5, 2) := dk_21 5 (dk_at dksX7_judge_9 19 rfl rfl)
theorem dX7_judge_229 : decode cX7_judge 229 = .ok (.iadd, 1) := dk_96 (dk_at dksX7_judge_9 21 rfl rfl)
theorem dX7_judge_230 : decode cX7_judge 230 = .ok (.iaload, 1) := dk_46 (dk_at dksX7_judge_9 22 rfl rfl)
theorem dX7_judge_231 : decode cX7_judge 231 = .ok (.aload_n 0, 1) := dk_42 (dk_at dksX7_judge_9 23 rfl rfl)
theorem dX7_judge_232 : decode cX7_judge 232 = .ok (.getfield 13, 3) := dk_180 0 13 (dk_at dksX7_judge_10 0 rfl rfl)
theorem dX7_judge_235 : decode cX7_judge 235 = .ok (.bipush 60, 2) := dk_16 60 (dk_at dksX7_judge_10 3 rfl rfl)
theorem dX7_judge_237 : decode cX7_judge 237 = .ok (.iload 5, 2) := dk_21 5 (dk_at dksX7_judge_10 5 rfl rfl)
theorem dX7_judge_239 : decode cX7_judge 239 = .ok (.iadd, 1) := dk_96 (dk_at dksX7_judge_10 7 rfl rfl)
theorem dX7_judge_240 : decode cX7_judge 240 = .ok (.iaload, 1) := dk_46 (dk_at dksX7_judge_10 8 rfl rfl)
theorem dX7_judge_241 : decode cX7_judge 241 = .ok (.if_icmp .gt 7, 3) := dk_163 0 7 (dk_at dksX7_judge_10 9 rfl rfl)
theorem dX7_judge_244 : decode cX7_judge 244 = .ok (.iconst 1, 1) := dk_4 (dk_at dksX7_judge_10 12 rfl rfl)
theorem dX7_judge_245 : decode cX7_judge 245 = .ok (.goto 4, 3) := dk_167 0 4 (dk_at dksX7_judge_10 13 rfl rfl)
theorem dX7_judge_248 : decode cX7_judge 248 = .ok (.iconst 0, 1) := dk_3 (dk_at dksX7_judge_10 16 rfl rfl)
theorem dX7_judge_249 : decode cX7_judge 249 = .ok (.istore 4, 2) := dk_54 4 (dk_at dksX7_judge_10 17 rfl rfl)
theorem dX7_judge_251 : decode cX7_judge 251 = .ok (.iinc 5 1, 3) := dk_132 5 1 (dk_at dksX7_judge_10 19 rfl rfl)
theorem dX7_judge_254 : decode cX7_judge 254 = .ok (.goto (-59), 3) := dk_167 255 197 (dk_at dksX7_judge_11 0 rfl rfl)
theorem dX7_judge_257 : decode cX7_judge 257 = .ok (.iload 4, 2) := dk_21 4 (dk_at dksX7_judge_11 3 rfl rfl)
theorem dX7_judge_259 : decode cX7_judge 259 = .ok (.ifCond .eq 7, 3) := dk_153 0 7 (dk_at dksX7_judge_11 5 rfl rfl)
theorem dX7_judge_262 : decode cX7_judge 262 = .ok (.iconst 1, 1) := dk_4 (dk_at dksX7_judge_11 8 rfl rfl)
theorem dX7_judge_263 : decode cX7_judge 263 = .ok (.goto 4, 3) := dk_167 0 4 (dk_at dksX7_judge_11 9 rfl rfl)
theorem dX7_judge_266 : decode cX7_judge 266 = .ok (.iconst 0, 1) := dk_3 (dk_at dksX7_judge_11 12 rfl rfl)
theorem dX7_judge_267 : decode cX7_judge 267 = .ok (.ireturn, 1) := dk_172 (dk_at dksX7_judge_11 13 rfl rfl)
abbrev cX7_isSo : ByteArray := prog_16_method_108_code
def yX7_isSo : MethodName := ⟨RX7, "isSo", "(I)Z"⟩
def dkwX7_isSo_7 : List UInt8 := [172]
abbrev dktX7_isSo_7 : List UInt8 := dkwX7_isSo_7 ++ []
def dkwX7_isSo_6 : List UInt8 := [29, 104, 161, 0, 21, 5, 28, 104, 5, 21, 4, 104, 4, 96, 29, 104, 162, 0, 7, 4, 167, 0, 4, 3]
abbrev dktX7_isSo_6 : List UInt8 := dkwX7_isSo_6 ++ dktX7_isSo_7
def dkwX7_isSo_5 : List UInt8 := [21, 4, 4, 96, 29, 104, 162, 0, 7, 4, 167, 0, 4, 3, 172, 5, 28, 104, 5, 21, 4, 104, 4, 100]
abbrev dktX7_isSo_5 : List UInt8 := dkwX7_isSo_5 ++ dktX7_isSo_6
def dkwX7_isSo_4 : List UInt8 := [28, 21, 4, 29, 104, 160, 0, 7, 4, 167, 0, 4, 3, 172, 28, 21, 4, 29, 104, 161, 0, 17, 28]
abbrev dktX7_isSo_4 : List UInt8 := dkwX7_isSo_4 ++ dktX7_isSo_5
def dkwX7_isSo_3 : List UInt8 := [171, 0, 0, 0, 63, 0, 0, 0, 2, 0, 0, 0, 0, 0, 0, 0, 25, 0, 0, 0, 1, 0, 0, 0, 39]
abbrev dktX7_isSo_3 : List UInt8 := dkwX7_isSo_3 ++ dktX7_isSo_4
def dkwX7_isSo_2 : List UInt8 := [182, 0, 195]
abbrev dktX7_isSo_2 : List UInt8 := dkwX7_isSo_2 ++ dktX7_isSo_3
def dkwX7_isSo_1 : List UInt8 := [16, 10, 42, 27, 4, 182, 0, 195, 96, 46, 96, 46, 62, 42, 27, 5, 182, 0, 195, 54, 4, 42, 27, 6]
abbrev dktX7_isSo_1 : List UInt8 := dkwX7_isSo_1 ++ dktX7_isSo_2
def dkwX7_isSo_0 : List UInt8 := [42, 180, 0, 13, 16, 60, 42, 27, 182, 0, 198, 96, 46, 61, 42, 180, 0, 13, 16, 72, 42, 180, 0, 13]
abbrev dktX7_isSo_0 : List UInt8 := dkwX7_isSo_0 ++ dktX7_isSo_1
theorem dksX7_isSo_0 : cX7_isSo.data.toList.drop 0 = dktX7_isSo_0 := by decide +kernel
theorem dksX7_isSo_1 : cX7_isSo.data.toList.drop 24 = dktX7_isSo_1 := dk_seg dksX7_isSo_0 24 rfl rfl
theorem dksX7_isSo_2 : cX7_isSo.data.toList.drop 48 = dktX7_isSo_2 := dk_seg dksX7_isSo_1 24 rfl rfl
theorem dksX7_isSo_3 : cX7_isSo.data.toList.drop 51 = dktX7_isSo_3 := dk_seg dksX7_isSo_2 3 rfl rfl
theorem dksX7_isSo_4 : cX7_isSo.data.toList.drop 76 = dktX7_isSo_4 := dk_seg dksX7_isSo_3 25 rfl rfl
theorem dksX7_isSo_5 : cX7_isSo.data.toList.drop 99 = dktX7_isSo_5 := dk_seg dksX7_isSo_4 23 rfl rfl
theorem dksX7_isSo_6 : cX7_isSo.data.toList.drop 123 = dktX7_isSo_6 := dk_seg dksX7_isSo_5 24 rfl rfl
theorem dksX7_isSo_7 : cX7_isSo.data.toList.drop 147 = dktX7_isSo_7 := dk_seg dksX7_isSo_6 24 rfl rfl
theorem dX7_isSo_0 : decode cX7_isSo 0 = .ok (.aload_n 0, 1) := dk_42 (dk_at dksX7_isSo_0 0 rfl rfl)
theorem dX7_isSo_1 : decode cX7_isSo 1 = .ok (.getfield 13, 3) := dk_180 0 13 (dk_at dksX7_isSo_0 1 rfl rfl)
theorem dX7_isSo_4 : decode cX7_isSo 4 = .ok (.bipush 60, 2) := dk_16 60 (dk_at dksX7_isSo_0 4 rfl rfl)
theorem dX7_isSo_6 : decode cX7_isSo 6 = .ok (.aload_n 0, 1) := dk_42 (dk_at dksX7_isSo_0 6 rfl rfl)
theorem dX7_isSo_7 : decode cX7_isSo 7 = .ok (.iload_n 1, 1) := dk_27 (dk_at dksX7_isSo_0 7 rfl rfl)
theorem dX7_isSo_8 : decode cX7_isSo 8 = .ok (.invokevirtual 198, 3) := dk_182 0 198 (dk_at dksX7_isSo_0 8 rfl rfl)
theorem dX7_isSo_11 : decode cX7_isSo 11 = .ok (.iadd, 1) := dk_96 (dk_at dksX7_isSo_0 11 rfl rfl)
theorem dX7_isSo_12 : decode cX7_isSo 12 = .ok (.iaload, 1) := dk_46 (dk_at dksX7_isSo_0 12 rfl rfl)
theorem dX7_isSo_13 : decode cX7_isSo 13 = .ok (.istore_n 2, 1) := dk_61 (dk_at dksX7_isSo_0 13 rfl rfl)
theorem dX7_isSo_14 : decode cX7_isSo 14 = .ok (.aload_n 0, 1) := dk_42 (dk_at dksX7_isSo_0 14 rfl rfl)
theorem dX7_isSo_15 : decode cX7_isSo 15 = .ok (.getfield 13, 3) := dk_180 0 13 (dk_at dksX7_isSo_0 15 rfl rfl)
theorem dX7_isSo_18 : decode cX7_isSo 18 = .ok (.bipush 72, 2) := dk_16 72 (dk_at dksX7_isSo_0 18 rfl rfl)
theorem dX7_isSo_20 : decode cX7_isSo 20 = .ok (.aload_n 0, 1) := dk_42 (dk_at dksX7_isSo_0 20 rfl rfl)
theorem dX7_isSo_21 : decode cX7_isSo 21 = .ok (.getfield 13, 3) := dk_180 0 13 (dk_at dksX7_isSo_0 21 rfl rfl)
theorem dX7_isSo_24 : decode cX7_isSo 24 = .ok (.bipush 10, 2) := dk_16 10 (dk_at dksX7_isSo_1 0 rfl rfl)
theorem dX7_isSo_26 : decode cX7_isSo 26 = .ok (.aload_n 0, 1) := dk_42 (dk_at dksX7_isSo_1 2 rfl rfl)
theorem dX7_isSo_27 : decode cX7_isSo 27 = .ok (.iload_n 1, 1) := dk_27 (dk_at dksX7_isSo_1 3 rfl rfl)
theorem dX7_isSo_28 : decode cX7_isSo 28 = .ok (.iconst 1, 1) := dk_4 (dk_at dksX7_isSo_1 4 rfl rfl)
theorem dX7_isSo_29 : decode cX7_isSo 29 = .ok (.invokevirtual 195, 3) := dk_182 0 195 (dk_at dksX7_isSo_1 5 rfl rfl)
theorem dX7_isSo_32 : decode cX7_isSo 32 = .ok (.iadd, 1) := dk_96 (dk_at dksX7_isSo_1 8 rfl rfl)
theorem dX7_isSo_33 : decode cX7_isSo 33 = .ok (.iaload, 1) := dk_46 (dk_at dksX7_isSo_1 9 rfl rfl)
theorem dX7_isSo_34 : decode cX7_isSo 34 = .ok (.iadd, 1) := dk_96 (dk_at dksX7_isSo_1 10 rfl rfl)
theorem dX7_isSo_35 : decode cX7_isSo 35 = .ok (.iaload, 1) := dk_46 (dk_at dksX7_isSo_1 11 rfl rfl)
theorem dX7_isSo_36 : decode cX7_isSo 36 = .ok (.istore_n 3, 1) := dk_62 (dk_at dksX7_isSo_1 12 rfl rfl)
theorem dX7_isSo_37 : decode cX7_isSo 37 = .ok (.aload_n 0, 1) := dk_42 (dk_at dksX7_isSo_1 13 rfl rfl)
theorem dX7_isSo_38 : decode cX7_isSo 38 = .ok (.iload_n 1, 1) := dk_27 (dk_at dksX7_isSo_1 14 rfl rfl)
theorem dX7_isSo_39 : decode cX7_isSo 39 = .ok (.iconst 2, 1) := dk_5 (dk_at dksX7_isSo_1 15 rfl rfl)
theorem dX7_isSo_40 : decode cX7_isSo 40 = .ok (.invokevirtual 195, 3) := dk_182 0 195 (dk_at dksX7_isSo_1 16 rfl rfl)
theorem dX7_isSo_43 : decode cX7_isSo 43 = .ok (.istore 4, 2) := dk_54 4 (dk_at dksX7_isSo_1 19 rfl rfl)
theorem dX7_isSo_45 : decode cX7_isSo 45 = .ok (.aload_n 0, 1) := dk_42 (dk_at dksX7_isSo_1 21 rfl rfl)
theorem dX7_isSo_46 : decode cX7_isSo 46 = .ok (.iload_n 1, 1) := dk_27 (dk_at dksX7_isSo_1 22 rfl rfl)
theorem dX7_isSo_47 : decode cX7_isSo 47 = .ok (.iconst 3, 1) := dk_6 (dk_at dksX7_isSo_1 23 rfl rfl)
theorem dX7_isSo_48 : decode cX7_isSo 48 = .ok (.invokevirtual 195, 3) := dk_182 0 195 (dk_at dksX7_isSo_2 0 rfl rfl)
theorem dX7_isSo_51 : decode cX7_isSo 51 = .ok (.lookupswitch 63 #[(0, 25), (1, 39)], 25) := by decide +kernel
theorem dX7_isSo_76 : decode cX7_isSo 76 = .ok (.iload_n 2, 1) := dk_28 (dk_at dksX7_isSo_4 0 rfl rfl)
theorem dX7_isSo_77 : decode cX7_isSo 77 = .ok (.iload 4, 2) := dk_21 4 (dk_at dksX7_isSo_4 1 rfl rfl)
theorem dX7_isSo_79 : decode cX7_isSo 79 = .ok (.iload_n 3, 1) := dk_29 (dk_at dksX7_isSo_4 3 rfl rfl)
theorem dX7_isSo_80 : decode cX7_isSo 80 = .ok (.imul, 1) := dk_104 (dk_at dksX7_isSo_4 4 rfl rfl)
theorem dX7_isSo_81 : decode cX7_isSo 81 = .ok (.if_icmp .ne 7, 3) := dk_160 0 7 (dk_at dksX7_isSo_4 5 rfl rfl)
theorem dX7_isSo_84 : decode cX7_isSo 84 = .ok (.iconst 1, 1) := dk_4 (dk_at dksX7_isSo_4 8 rfl rfl)
theorem dX7_isSo_85 : decode cX7_isSo 85 = .ok (.goto 4, 3) := dk_167 0 4 (dk_at dksX7_isSo_4 9 rfl rfl)
theorem dX7_isSo_88 : decode cX7_isSo 88 = .ok (.iconst 0, 1) := dk_3 (dk_at dksX7_isSo_4 12 rfl rfl)
theorem dX7_isSo_89 : decode cX7_isSo 89 = .ok (.ireturn, 1) := dk_172 (dk_at dksX7_isSo_4 13 rfl rfl)
theorem dX7_isSo_90 : decode cX7_isSo 90 = .ok (.iload_n 2, 1) := dk_28 (dk_at dksX7_isSo_4 14 rfl rfl)
theorem dX7_isSo_91 : decode cX7_isSo 91 = .ok (.iload 4, 2) := dk_21 4 (dk_at dksX7_isSo_4 15 rfl rfl)
theorem dX7_isSo_93 : decode cX7_isSo 93 = .ok (.iload_n 3, 1) := dk_29 (dk_at dksX7_isSo_4 17 rfl rfl)
theorem dX7_isSo_94 : decode cX7_isSo 94 = .ok (.imul, 1) := dk_104 (dk_at dksX7_isSo_4 18 rfl rfl)
theorem dX7_isSo_95 : decode cX7_isSo 95 = .ok (.if_icmp .lt 17, 3) := dk_161 0 17 (dk_at dksX7_isSo_4 19 rfl rfl)
theorem dX7_isSo_98 : decode cX7_isSo 98 = .ok (.iload_n 2, 1) := dk_28 (dk_at dksX7_isSo_4 22 rfl rfl)
theorem dX7_isSo_99 : decode cX7_isSo 99 = .ok (.iload 4, 2) := dk_21 4 (dk_at dksX7_isSo_5 0 rfl rfl)
theorem dX7_isSo_101 : decode cX7_isSo 101 = .ok (.iconst 1, 1) := dk_4 (dk_at dksX7_isSo_5 2 rfl rfl)
theorem dX7_isSo_102 : decode cX7_isSo 102 = .ok (.iadd, 1) := dk_96 (dk_at dksX7_isSo_5 3 rfl rfl)
theorem dX7_isSo_103 : decode cX7_isSo 103 = .ok (.iload_n 3, 1) := dk_29 (dk_at dksX7_isSo_5 4 rfl rfl)
theorem dX7_isSo_104 : decode cX7_isSo 104 = .ok (.imul, 1) := dk_104 (dk_at dksX7_isSo_5 5 rfl rfl)
theorem dX7_isSo_105 : decode cX7_isSo 105 = .ok (.if_icmp .ge 7, 3) := dk_162 0 7 (dk_at dksX7_isSo_5 6 rfl rfl)
theorem dX7_isSo_108 : decode cX7_isSo 108 = .ok (.iconst 1, 1) := dk_4 (dk_at dksX7_isSo_5 9 rfl rfl)
theorem dX7_isSo_109 : decode cX7_isSo 109 = .ok (.goto 4, 3) := dk_167 0 4 (dk_at dksX7_isSo_5 10 rfl rfl)
theorem dX7_isSo_112 : decode cX7_isSo 112 = .ok (.iconst 0, 1) := dk_3 (dk_at dksX7_isSo_5 13 rfl rfl)
theorem dX7_isSo_113 : decode cX7_isSo 113 = .ok (.ireturn, 1) := dk_172 (dk_at dksX7_isSo_5 14 rfl rfl)
theorem dX7_isSo_114 : decode cX7_isSo 114 = .ok (.iconst 2, 1) := dk_5 (dk_at dksX7_isSo_5 15 rfl rfl)
theorem dX7_isSo_115 : decode cX7_isSo 115 = .ok (.iload_n 2, 1) := dk_28 (dk_at dksX7_isSo_5 16 rfl rfl)
theorem dX7_isSo_116 : decode cX7_isSo 116 = .ok (.imul, 1) := dk_104 (dk_at dksX7_isSo_5 17 rfl rfl)
theorem dX7_isSo_117 : decode cX7_isSo 117 = .ok (.iconst 2, 1) := dk_5 (dk_at dksX7_isSo_5 18 rfl rfl)
theorem dX7_isSo_118 : decode cX7_isSo 118 = .ok (.iload 4, 2) := dk_21 4 (dk_at dksX7_isSo_5 19 rfl rfl)
theorem dX7_isSo_120 : decode cX7_isSo 120 = .ok (.imul, 1) := dk_104 (dk_at dksX7_isSo_5 21 rfl rfl)
theorem dX7_isSo_121 : decode cX7_isSo 121 = .ok (.iconst 1, 1) := dk_4 (dk_at dksX7_isSo_5 22 rfl rfl)
theorem dX7_isSo_122 : decode cX7_isSo 122 = .ok (.isub, 1) := dk_100 (dk_at dksX7_isSo_5 23 rfl rfl)
theorem dX7_isSo_123 : decode cX7_isSo 123 = .ok (.iload_n 3, 1) := dk_29 (dk_at dksX7_isSo_6 0 rfl rfl)
theorem dX7_isSo_124 : decode cX7_isSo 124 = .ok (.imul, 1) := dk_104 (dk_at dksX7_isSo_6 1 rfl rfl)
theorem dX7_isSo_125 : decode cX7_isSo 125 = .ok (.if_icmp .lt 21, 3) := dk_161 0 21 (dk_at dksX7_isSo_6 2 rfl rfl)
theorem dX7_isSo_128 : decode cX7_isSo 128 = .ok (.iconst 2, 1) := dk_5 (dk_at dksX7_isSo_6 5 rfl rfl)
theorem dX7_isSo_129 : decode cX7_isSo 129 = .ok (.iload_n 2, 1) := dk_28 (dk_at dksX7_isSo_6 6 rfl rfl)
theorem dX7_isSo_130 : decode cX7_isSo 130 = .ok (.imul, 1) := dk_104 (dk_at dksX7_isSo_6 7 rfl rfl)
theorem dX7_isSo_131 : decode cX7_isSo 131 = .ok (.iconst 2, 1) := dk_5 (dk_at dksX7_isSo_6 8 rfl rfl)
theorem dX7_isSo_132 : decode cX7_isSo 132 = .ok (.iload 4, 2) := dk_21 4 (dk_at dksX7_isSo_6 9 rfl rfl)
theorem dX7_isSo_134 : decode cX7_isSo 134 = .ok (.imul, 1) := dk_104 (dk_at dksX7_isSo_6 11 rfl rfl)
theorem dX7_isSo_135 : decode cX7_isSo 135 = .ok (.iconst 1, 1) := dk_4 (dk_at dksX7_isSo_6 12 rfl rfl)
theorem dX7_isSo_136 : decode cX7_isSo 136 = .ok (.iadd, 1) := dk_96 (dk_at dksX7_isSo_6 13 rfl rfl)
theorem dX7_isSo_137 : decode cX7_isSo 137 = .ok (.iload_n 3, 1) := dk_29 (dk_at dksX7_isSo_6 14 rfl rfl)
theorem dX7_isSo_138 : decode cX7_isSo 138 = .ok (.imul, 1) := dk_104 (dk_at dksX7_isSo_6 15 rfl rfl)
theorem dX7_isSo_139 : decode cX7_isSo 139 = .ok (.if_icmp .ge 7, 3) := dk_162 0 7 (dk_at dksX7_isSo_6 16 rfl rfl)
theorem dX7_isSo_142 : decode cX7_isSo 142 = .ok (.iconst 1, 1) := dk_4 (dk_at dksX7_isSo_6 19 rfl rfl)
theorem dX7_isSo_143 : decode cX7_isSo 143 = .ok (.goto 4, 3) := dk_167 0 4 (dk_at dksX7_isSo_6 20 rfl rfl)
theorem dX7_isSo_146 : decode cX7_isSo 146 = .ok (.iconst 0, 1) := dk_3 (dk_at dksX7_isSo_6 23 rfl rfl)
theorem dX7_isSo_147 : decode cX7_isSo 147 = .ok (.ireturn, 1) := dk_172 (dk_at dksX7_isSo_7 0 rfl rfl)
abbrev cX7_year : ByteArray := prog_16_method_110_code
def yX7_year : MethodName := ⟨RX7, "year", "(III)I"⟩
def dkwX7_year_8 : List UInt8 := [167, 255, 194, 132, 7, 1, 167, 255, 175, 42, 21, 6, 182, 0, 147, 172]
abbrev dktX7_year_8 : List UInt8 := dkwX7_year_8 ++ []
def dkwX7_year_7 : List UInt8 := [21, 6, 164, 0, 19, 21, 9, 54, 6, 42, 21, 7, 181, 2, 3, 42, 21, 8, 181, 2, 6, 132, 8, 1]
abbrev dktX7_year_7 : List UInt8 := dkwX7_year_7 ++ dktX7_year_8
def dkwX7_year_6 : List UInt8 := [21, 8, 46, 182, 2, 9, 42, 28, 42, 180, 0, 130, 21, 7, 46, 182, 2, 9, 100, 104, 54, 9, 21, 9]
abbrev dktX7_year_6 : List UInt8 := dkwX7_year_6 ++ dktX7_year_7
def dkwX7_year_5 : List UInt8 := [162, 0, 80, 21, 7, 4, 96, 54, 8, 21, 8, 16, 32, 162, 0, 61, 29, 42, 28, 42, 180, 0, 130]
abbrev dktX7_year_5 : List UInt8 := dkwX7_year_5 ++ dktX7_year_6
def dkwX7_year_4 : List UInt8 := [181, 2, 0, 42, 2, 181, 2, 3, 42, 2, 181, 2, 6, 3, 54, 6, 3, 54, 7, 21, 7, 16, 32]
abbrev dktX7_year_4 : List UInt8 := dkwX7_year_4 ++ dktX7_year_5
def dkwX7_year_3 : List UInt8 := [55, 4, 42, 180, 0, 130, 21, 6, 22, 4, 20, 1, 254, 113, 136, 79, 132, 6, 1, 167, 255, 216, 42, 4]
abbrev dktX7_year_3 : List UInt8 := dkwX7_year_3 ++ dktX7_year_4
def dkwX7_year_2 : List UInt8 := [54, 6, 21, 6, 16, 32, 162, 0, 39, 22, 4, 20, 1, 248, 105, 20, 1, 250, 97, 20, 1, 252, 113]
abbrev dktX7_year_2 : List UInt8 := dkwX7_year_2 ++ dktX7_year_3
def dkwX7_year_1 : List UInt8 := [29, 133, 10, 20, 0, 180, 184, 0, 143, 154, 0, 9, 42, 2, 182, 0, 147, 172, 27, 133, 55, 4, 3]
abbrev dktX7_year_1 : List UInt8 := dkwX7_year_1 ++ dktX7_year_2
def dkwX7_year_0 : List UInt8 := [42, 3, 181, 0, 133, 27, 133, 9, 20, 0, 241, 184, 0, 143, 153, 0, 22, 28, 184, 0, 166, 153, 0, 15]
abbrev dktX7_year_0 : List UInt8 := dkwX7_year_0 ++ dktX7_year_1
theorem dksX7_year_0 : cX7_year.data.toList.drop 0 = dktX7_year_0 := by decide +kernel
theorem dksX7_year_1 : cX7_year.data.toList.drop 24 = dktX7_year_1 := dk_seg dksX7_year_0 24 rfl rfl
theorem dksX7_year_2 : cX7_year.data.toList.drop 47 = dktX7_year_2 := dk_seg dksX7_year_1 23 rfl rfl
theorem dksX7_year_3 : cX7_year.data.toList.drop 70 = dktX7_year_3 := dk_seg dksX7_year_2 23 rfl rfl
theorem dksX7_year_4 : cX7_year.data.toList.drop 94 = dktX7_year_4 := dk_seg dksX7_year_3 24 rfl rfl
theorem dksX7_year_5 : cX7_year.data.toList.drop 117 = dktX7_year_5 := dk_seg dksX7_year_4 23 rfl rfl
theorem dksX7_year_6 : cX7_year.data.toList.drop 140 = dktX7_year_6 := dk_seg dksX7_year_5 23 rfl rfl
theorem dksX7_year_7 : cX7_year.data.toList.drop 164 = dktX7_year_7 := dk_seg dksX7_year_6 24 rfl rfl
theorem dksX7_year_8 : cX7_year.data.toList.drop 188 = dktX7_year_8 := dk_seg dksX7_year_7 24 rfl rfl
theorem dX7_year_0 : decode cX7_year 0 = .ok (.aload_n 0, 1) := dk_42 (dk_at dksX7_year_0 0 rfl rfl)
theorem dX7_year_1 : decode cX7_year 1 = .ok (.iconst 0, 1) := dk_3 (dk_at dksX7_year_0 1 rfl rfl)
theorem dX7_year_2 : decode cX7_year 2 = .ok (.putfield 133, 3) := dk_181 0 133 (dk_at dksX7_year_0 2 rfl rfl)
theorem dX7_year_5 : decode cX7_year 5 = .ok (.iload_n 1, 1) := dk_27 (dk_at dksX7_year_0 5 rfl rfl)
theorem dX7_year_6 : decode cX7_year 6 = .ok (.i2l, 1) := dk_133 (dk_at dksX7_year_0 6 rfl rfl)
theorem dX7_year_7 : decode cX7_year 7 = .ok (.lconst 0, 1) := dk_9 (dk_at dksX7_year_0 7 rfl rfl)
theorem dX7_year_8 : decode cX7_year 8 = .ok (.ldc2_w 241, 3) := dk_20 0 241 (dk_at dksX7_year_0 8 rfl rfl)
theorem dX7_year_11 : decode cX7_year 11 = .ok (.invokestatic 143, 3) := dk_184 0 143 (dk_at dksX7_year_0 11 rfl rfl)
theorem dX7_year_14 : decode cX7_year 14 = .ok (.ifCond .eq 22, 3) := dk_153 0 22 (dk_at dksX7_year_0 14 rfl rfl)
theorem dX7_year_17 : decode cX7_year 17 = .ok (.iload_n 2, 1) := dk_28 (dk_at dksX7_year_0 17 rfl rfl)
theorem dX7_year_18 : decode cX7_year 18 = .ok (.invokestatic 166, 3) := dk_184 0 166 (dk_at dksX7_year_0 18 rfl rfl)
theorem dX7_year_21 : decode cX7_year 21 = .ok (.ifCond .eq 15, 3) := dk_153 0 15 (dk_at dksX7_year_0 21 rfl rfl)
theorem dX7_year_24 : decode cX7_year 24 = .ok (.iload_n 3, 1) := dk_29 (dk_at dksX7_year_1 0 rfl rfl)
theorem dX7_year_25 : decode cX7_year 25 = .ok (.i2l, 1) := dk_133 (dk_at dksX7_year_1 1 rfl rfl)
theorem dX7_year_26 : decode cX7_year 26 = .ok (.lconst 1, 1) := dk_10 (dk_at dksX7_year_1 2 rfl rfl)
theorem dX7_year_27 : decode cX7_year 27 = .ok (.ldc2_w 180, 3) := dk_20 0 180 (dk_at dksX7_year_1 3 rfl rfl)
theorem dX7_year_30 : decode cX7_year 30 = .ok (.invokestatic 143, 3) := dk_184 0 143 (dk_at dksX7_year_1 6 rfl rfl)
theorem dX7_year_33 : decode cX7_year 33 = .ok (.ifCond .ne 9, 3) := dk_154 0 9 (dk_at dksX7_year_1 9 rfl rfl)
theorem dX7_year_36 : decode cX7_year 36 = .ok (.aload_n 0, 1) := dk_42 (dk_at dksX7_year_1 12 rfl rfl)
theorem dX7_year_37 : decode cX7_year 37 = .ok (.iconst (-1), 1) := dk_2 (dk_at dksX7_year_1 13 rfl rfl)
theorem dX7_year_38 : decode cX7_year 38 = .ok (.invokevirtual 147, 3) := dk_182 0 147 (dk_at dksX7_year_1 14 rfl rfl)
theorem dX7_year_41 : decode cX7_year 41 = .ok (.ireturn, 1) := dk_172 (dk_at dksX7_year_1 17 rfl rfl)
theorem dX7_year_42 : decode cX7_year 42 = .ok (.iload_n 1, 1) := dk_27 (dk_at dksX7_year_1 18 rfl rfl)
theorem dX7_year_43 : decode cX7_year 43 = .ok (.i2l, 1) := dk_133 (dk_at dksX7_year_1 19 rfl rfl)
theorem dX7_year_44 : decode cX7_year 44 = .ok (.lstore 4, 2) := dk_55 4 (dk_at dksX7_year_1 20 rfl rfl)
theorem dX7_year_46 : decode cX7_year 46 = .ok (.iconst 0, 1) := dk_3 (dk_at dksX7_year_1 22 rfl rfl)
theorem dX7_year_47 : decode cX7_year 47 = .ok (.istore 6, 2) := dk_54 6 (dk_at dksX7_year_2 0 rfl rfl)
theorem dX7_year_49 : decode cX7_year 49 = .ok (.iload 6, 2) := dk_21 6 (dk_at dksX7_year_2 2 rfl rfl)
theorem dX7_year_51 : decode cX7_year 51 = .ok (.bipush 32, 2) := dk_16 32 (dk_at dksX7_year_2 4 rfl rfl)
theorem dX7_year_53 : decode cX7_year 53 = .ok (.if_icmp .ge 39, 3) := dk_162 0 39 (dk_at dksX7_year_2 6 rfl rfl)
theorem dX7_year_56 : decode cX7_year 56 = .ok (.lload 4, 2) := dk_22 4 (dk_at dksX7_year_2 9 rfl rfl)
theorem dX7_year_58 : decode cX7_year 58 = .ok (.ldc2_w 504, 3) := dk_20 1 248 (dk_at dksX7_year_2 11 rfl rfl)
theorem dX7_year_61 : decode cX7_year 61 = .ok (.lmul, 1) := dk_105 (dk_at dksX7_year_2 14 rfl rfl)
theorem dX7_year_62 : decode cX7_year 62 = .ok (.ldc2_w 506, 3) := dk_20 1 250 (dk_at dksX7_year_2 15 rfl rfl)
theorem dX7_year_65 : decode cX7_year 65 = .ok (.ladd, 1) := dk_97 (dk_at dksX7_year_2 18 rfl rfl)
theorem dX7_year_66 : decode cX7_year 66 = .ok (.ldc2_w 508, 3) := dk_20 1 252 (dk_at dksX7_year_2 19 rfl rfl)
theorem dX7_year_69 : decode cX7_year 69 = .ok (.lrem, 1) := dk_113 (dk_at dksX7_year_2 22 rfl rfl)
theorem dX7_year_70 : decode cX7_year 70 = .ok (.lstore 4, 2) := dk_55 4 (dk_at dksX7_year_3 0 rfl rfl)
theorem dX7_year_72 : decode cX7_year 72 = .ok (.aload_n 0, 1) := dk_42 (dk_at dksX7_year_3 2 rfl rfl)
theorem dX7_year_73 : decode cX7_year 73 = .ok (.getfield 130, 3) := dk_180 0 130 (dk_at dksX7_year_3 3 rfl rfl)
theorem dX7_year_76 : decode cX7_year 76 = .ok (.iload 6, 2) := dk_21 6 (dk_at dksX7_year_3 6 rfl rfl)
theorem dX7_year_78 : decode cX7_year 78 = .ok (.lload 4, 2) := dk_22 4 (dk_at dksX7_year_3 8 rfl rfl)
theorem dX7_year_80 : decode cX7_year 80 = .ok (.ldc2_w 510, 3) := dk_20 1 254 (dk_at dksX7_year_3 10 rfl rfl)
theorem dX7_year_83 : decode cX7_year 83 = .ok (.lrem, 1) := dk_113 (dk_at dksX7_year_3 13 rfl rfl)
theorem dX7_year_84 : decode cX7_year 84 = .ok (.l2i, 1) := dk_136 (dk_at dksX7_year_3 14 rfl rfl)
theorem dX7_year_85 : decode cX7_year 85 = .ok (.iastore, 1) := dk_79 (dk_at dksX7_year_3 15 rfl rfl)
theorem dX7_year_86 : decode cX7_year 86 = .ok (.iinc 6 1, 3) := dk_132 6 1 (dk_at dksX7_year_3 16 rfl rfl)
theorem dX7_year_89 : decode cX7_year 89 = .ok (.goto (-40), 3) := dk_167 255 216 (dk_at dksX7_year_3 19 rfl rfl)
theorem dX7_year_92 : decode cX7_year 92 = .ok (.aload_n 0, 1) := dk_42 (dk_at dksX7_year_3 22 rfl rfl)
theorem dX7_year_93 : decode cX7_year 93 = .ok (.iconst 1, 1) := dk_4 (dk_at dksX7_year_3 23 rfl rfl)
theorem dX7_year_94 : decode cX7_year 94 = .ok (.putfield 512, 3) := dk_181 2 0 (dk_at dksX7_year_4 0 rfl rfl)
theorem dX7_year_97 : decode cX7_year 97 = .ok (.aload_n 0, 1) := dk_42 (dk_at dksX7_year_4 3 rfl rfl)
theorem dX7_year_98 : decode cX7_year 98 = .ok (.iconst (-1), 1) := dk_2 (dk_at dksX7_year_4 4 rfl rfl)
theorem dX7_year_99 : decode cX7_year 99 = .ok (.putfield 515, 3) := dk_181 2 3 (dk_at dksX7_year_4 5 rfl rfl)
theorem dX7_year_102 : decode cX7_year 102 = .ok (.aload_n 0, 1) := dk_42 (dk_at dksX7_year_4 8 rfl rfl)
theorem dX7_year_103 : decode cX7_year 103 = .ok (.iconst (-1), 1) := dk_2 (dk_at dksX7_year_4 9 rfl rfl)
theorem dX7_year_104 : decode cX7_year 104 = .ok (.putfield 518, 3) := dk_181 2 6 (dk_at dksX7_year_4 10 rfl rfl)
theorem dX7_year_107 : decode cX7_year 107 = .ok (.iconst 0, 1) := dk_3 (dk_at dksX7_year_4 13 rfl rfl)
theorem dX7_year_108 : decode cX7_year 108 = .ok (.istore 6, 2) := dk_54 6 (dk_at dksX7_year_4 14 rfl rfl)
theorem dX7_year_110 : decode cX7_year 110 = .ok (.iconst 0, 1) := dk_3 (dk_at dksX7_year_4 16 rfl rfl)
theorem dX7_year_111 : decode cX7_year 111 = .ok (.istore 7, 2) := dk_54 7 (dk_at dksX7_year_4 17 rfl rfl)
theorem dX7_year_113 : decode cX7_year 113 = .ok (.iload 7, 2) := dk_21 7 (dk_at dksX7_year_4 19 rfl rfl)
theorem dX7_year_115 : decode cX7_year 115 = .ok (.bipush 32, 2) := dk_16 32 (dk_at dksX7_year_4 21 rfl rfl)
theorem dX7_year_117 : decode cX7_year 117 = .ok (.if_icmp .ge 80, 3) := dk_162 0 80 (dk_at dksX7_year_5 0 rfl rfl)
theorem dX7_year_120 : decode cX7_year 120 = .ok (.iload 7, 2) := dk_21 7 (dk_at dksX7_year_5 3 rfl rfl)
theorem dX7_year_122 : decode cX7_year 122 = .ok (.iconst 1, 1) := dk_4 (dk_at dksX7_year_5 5 rfl rfl)
theorem dX7_year_123 : decode cX7_year 123 = .ok (.iadd, 1) := dk_96 (dk_at dksX7_year_5 6 rfl rfl)
theorem dX7_year_124 : decode cX7_year 124 = .ok (.istore 8, 2) := dk_54 8 (dk_at dksX7_year_5 7 rfl rfl)
theorem dX7_year_126 : decode cX7_year 126 = .ok (.iload 8, 2) := dk_21 8 (dk_at dksX7_year_5 9 rfl rfl)
theorem dX7_year_128 : decode cX7_year 128 = .ok (.bipush 32, 2) := dk_16 32 (dk_at dksX7_year_5 11 rfl rfl)
theorem dX7_year_130 : decode cX7_year 130 = .ok (.if_icmp .ge 61, 3) := dk_162 0 61 (dk_at dksX7_year_5 13 rfl rfl)
theorem dX7_year_133 : decode cX7_year 133 = .ok (.iload_n 3, 1) := dk_29 (dk_at dksX7_year_5 16 rfl rfl)
theorem dX7_year_134 : decode cX7_year 134 = .ok (.aload_n 0, 1) := dk_42 (dk_at dksX7_year_5 17 rfl rfl)
theorem dX7_year_135 : decode cX7_year 135 = .ok (.iload_n 2, 1) := dk_28 (dk_at dksX7_year_5 18 rfl rfl)
theorem dX7_year_136 : decode cX7_year 136 = .ok (.aload_n 0, 1) := dk_42 (dk_at dksX7_year_5 19 rfl rfl)
theorem dX7_year_137 : decode cX7_year 137 = .ok (.getfield 130, 3) := dk_180 0 130 (dk_at dksX7_year_5 20 rfl rfl)
theorem dX7_year_140 : decode cX7_year 140 = .ok (.iload 8, 2) := dk_21 8 (dk_at dksX7_year_6 0 rfl rfl)
theorem dX7_year_142 : decode cX7_year 142 = .ok (.iaload, 1) := dk_46 (dk_at dksX7_year_6 2 rfl rfl)
theorem dX7_year_143 : decode cX7_year 143 = .ok (.invokevirtual 521, 3) := dk_182 2 9 (dk_at dksX7_year_6 3 rfl rfl)
theorem dX7_year_146 : decode cX7_year 146 = .ok (.aload_n 0, 1) := dk_42 (dk_at dksX7_year_6 6 rfl rfl)
theorem dX7_year_147 : decode cX7_year 147 = .ok (.iload_n 2, 1) := dk_28 (dk_at dksX7_year_6 7 rfl rfl)
theorem dX7_year_148 : decode cX7_year 148 = .ok (.aload_n 0, 1) := dk_42 (dk_at dksX7_year_6 8 rfl rfl)
theorem dX7_year_149 : decode cX7_year 149 = .ok (.getfield 130, 3) := dk_180 0 130 (dk_at dksX7_year_6 9 rfl rfl)
theorem dX7_year_152 : decode cX7_year 152 = .ok (.iload 7, 2) := dk_21 7 (dk_at dksX7_year_6 12 rfl rfl)
theorem dX7_year_154 : decode cX7_year 154 = .ok (.iaload, 1) := dk_46 (dk_at dksX7_year_6 14 rfl rfl)
theorem dX7_year_155 : decode cX7_year 155 = .ok (.invokevirtual 521, 3) := dk_182 2 9 (dk_at dksX7_year_6 15 rfl rfl)
theorem dX7_year_158 : decode cX7_year 158 = .ok (.isub, 1) := dk_100 (dk_at dksX7_year_6 18 rfl rfl)
theorem dX7_year_159 : decode cX7_year 159 = .ok (.imul, 1) := dk_104 (dk_at dksX7_year_6 19 rfl rfl)
theorem dX7_year_160 : decode cX7_year 160 = .ok (.istore 9, 2) := dk_54 9 (dk_at dksX7_year_6 20 rfl rfl)
theorem dX7_year_162 : decode cX7_year 162 = .ok (.iload 9, 2) := dk_21 9 (dk_at dksX7_year_6 22 rfl rfl)
theorem dX7_year_164 : decode cX7_year 164 = .ok (.iload 6, 2) := dk_21 6 (dk_at dksX7_year_7 0 rfl rfl)
theorem dX7_year_166 : decode cX7_year 166 = .ok (.if_icmp .le 19, 3) := dk_164 0 19 (dk_at dksX7_year_7 2 rfl rfl)
theorem dX7_year_169 : decode cX7_year 169 = .ok (.iload 9, 2) := dk_21 9 (dk_at dksX7_year_7 5 rfl rfl)
theorem dX7_year_171 : decode cX7_year 171 = .ok (.istore 6, 2) := dk_54 6 (dk_at dksX7_year_7 7 rfl rfl)
theorem dX7_year_173 : decode cX7_year 173 = .ok (.aload_n 0, 1) := dk_42 (dk_at dksX7_year_7 9 rfl rfl)
theorem dX7_year_174 : decode cX7_year 174 = .ok (.iload 7, 2) := dk_21 7 (dk_at dksX7_year_7 10 rfl rfl)
theorem dX7_year_176 : decode cX7_year 176 = .ok (.putfield 515, 3) := dk_181 2 3 (dk_at dksX7_year_7 12 rfl rfl)
theorem dX7_year_179 : decode cX7_year 179 = .ok (.aload_n 0, 1) := dk_42 (dk_at dksX7_year_7 15 rfl rfl)
theorem dX7_year_180 : decode cX7_year 180 = .ok (.iload 8, 2) := dk_21 8 (dk_at dksX7_year_7 16 rfl rfl)
theorem dX7_year_182 : decode cX7_year 182 = .ok (.putfield 518, 3) := dk_181 2 6 (dk_at dksX7_year_7 18 rfl rfl)
theorem dX7_year_185 : decode cX7_year 185 = .ok (.iinc 8 1, 3) := dk_132 8 1 (dk_at dksX7_year_7 21 rfl rfl)
theorem dX7_year_188 : decode cX7_year 188 = .ok (.goto (-62), 3) := dk_167 255 194 (dk_at dksX7_year_8 0 rfl rfl)
theorem dX7_year_191 : decode cX7_year 191 = .ok (.iinc 7 1, 3) := dk_132 7 1 (dk_at dksX7_year_8 3 rfl rfl)
theorem dX7_year_194 : decode cX7_year 194 = .ok (.goto (-81), 3) := dk_167 255 175 (dk_at dksX7_year_8 6 rfl rfl)
theorem dX7_year_197 : decode cX7_year 197 = .ok (.aload_n 0, 1) := dk_42 (dk_at dksX7_year_8 9 rfl rfl)
theorem dX7_year_198 : decode cX7_year 198 = .ok (.iload 6, 2) := dk_21 6 (dk_at dksX7_year_8 10 rfl rfl)
theorem dX7_year_200 : decode cX7_year 200 = .ok (.invokevirtual 147, 3) := dk_182 0 147 (dk_at dksX7_year_8 12 rfl rfl)
theorem dX7_year_203 : decode cX7_year 203 = .ok (.ireturn, 1) := dk_172 (dk_at dksX7_year_8 15 rfl rfl)
abbrev cX7_feetOf : ByteArray := prog_16_method_106_code
def yX7_feetOf : MethodName := ⟨RX7, "feetOf", "(II)I"⟩
def dkwX7_feetOf_0 : List UInt8 := [42, 180, 0, 13, 16, 60, 27, 96, 46, 42, 180, 0, 13, 16, 72, 28, 96, 46, 108, 172]
abbrev dktX7_feetOf_0 : List UInt8 := dkwX7_feetOf_0 ++ []
theorem dksX7_feetOf_0 : cX7_feetOf.data.toList.drop 0 = dktX7_feetOf_0 := by decide +kernel
theorem dX7_feetOf_0 : decode cX7_feetOf 0 = .ok (.aload_n 0, 1) := dk_42 (dk_at dksX7_feetOf_0 0 rfl rfl)
theorem dX7_feetOf_1 : decode cX7_feetOf 1 = .ok (.getfield 13, 3) := dk_180 0 13 (dk_at dksX7_feetOf_0 1 rfl rfl)
theorem dX7_feetOf_4 : decode cX7_feetOf 4 = .ok (.bipush 60, 2) := dk_16 60 (dk_at dksX7_feetOf_0 4 rfl rfl)
theorem dX7_feetOf_6 : decode cX7_feetOf 6 = .ok (.iload_n 1, 1) := dk_27 (dk_at dksX7_feetOf_0 6 rfl rfl)
theorem dX7_feetOf_7 : decode cX7_feetOf 7 = .ok (.iadd, 1) := dk_96 (dk_at dksX7_feetOf_0 7 rfl rfl)
theorem dX7_feetOf_8 : decode cX7_feetOf 8 = .ok (.iaload, 1) := dk_46 (dk_at dksX7_feetOf_0 8 rfl rfl)
theorem dX7_feetOf_9 : decode cX7_feetOf 9 = .ok (.aload_n 0, 1) := dk_42 (dk_at dksX7_feetOf_0 9 rfl rfl)
theorem dX7_feetOf_10 : decode cX7_feetOf 10 = .ok (.getfield 13, 3) := dk_180 0 13 (dk_at dksX7_feetOf_0 10 rfl rfl)
theorem dX7_feetOf_13 : decode cX7_feetOf 13 = .ok (.bipush 72, 2) := dk_16 72 (dk_at dksX7_feetOf_0 13 rfl rfl)
theorem dX7_feetOf_15 : decode cX7_feetOf 15 = .ok (.iload_n 2, 1) := dk_28 (dk_at dksX7_feetOf_0 15 rfl rfl)
theorem dX7_feetOf_16 : decode cX7_feetOf 16 = .ok (.iadd, 1) := dk_96 (dk_at dksX7_feetOf_0 16 rfl rfl)
theorem dX7_feetOf_17 : decode cX7_feetOf 17 = .ok (.iaload, 1) := dk_46 (dk_at dksX7_feetOf_0 17 rfl rfl)
theorem dX7_feetOf_18 : decode cX7_feetOf 18 = .ok (.idiv, 1) := dk_108 (dk_at dksX7_feetOf_0 18 rfl rfl)
theorem dX7_feetOf_19 : decode cX7_feetOf 19 = .ok (.ireturn, 1) := dk_172 (dk_at dksX7_feetOf_0 19 rfl rfl)
abbrev cX7_trade : ByteArray := prog_16_method_111_code
def yX7_trade : MethodName := ⟨RX7, "trade", "(I)I"⟩
def dkwX7_trade_2 : List UInt8 := [167, 0, 11, 42, 180, 0, 130, 27, 5, 100, 46, 172]
abbrev dktX7_trade_2 : List UInt8 := dkwX7_trade_2 ++ []
def dkwX7_trade_1 : List UInt8 := [2, 172, 27, 154, 0, 10, 42, 180, 2, 3, 167, 0, 23, 27, 4, 160, 0, 10, 42, 180, 2, 6]
abbrev dktX7_trade_1 : List UInt8 := dkwX7_trade_1 ++ dktX7_trade_2
def dkwX7_trade_0 : List UInt8 := [42, 3, 181, 0, 133, 42, 180, 2, 0, 153, 0, 15, 27, 133, 9, 20, 2, 12, 184, 0, 143, 154, 0, 5]
abbrev dktX7_trade_0 : List UInt8 := dkwX7_trade_0 ++ dktX7_trade_1
theorem dksX7_trade_0 : cX7_trade.data.toList.drop 0 = dktX7_trade_0 := by decide +kernel
theorem dksX7_trade_1 : cX7_trade.data.toList.drop 24 = dktX7_trade_1 := dk_seg dksX7_trade_0 24 rfl rfl
theorem dksX7_trade_2 : cX7_trade.data.toList.drop 46 = dktX7_trade_2 := dk_seg dksX7_trade_1 22 rfl rfl
theorem dX7_trade_0 : decode cX7_trade 0 = .ok (.aload_n 0, 1) := dk_42 (dk_at dksX7_trade_0 0 rfl rfl)
theorem dX7_trade_1 : decode cX7_trade 1 = .ok (.iconst 0, 1) := dk_3 (dk_at dksX7_trade_0 1 rfl rfl)
theorem dX7_trade_2 : decode cX7_trade 2 = .ok (.putfield 133, 3) := dk_181 0 133 (dk_at dksX7_trade_0 2 rfl rfl)
theorem dX7_trade_5 : decode cX7_trade 5 = .ok (.aload_n 0, 1) := dk_42 (dk_at dksX7_trade_0 5 rfl rfl)
theorem dX7_trade_6 : decode cX7_trade 6 = .ok (.getfield 512, 3) := dk_180 2 0 (dk_at dksX7_trade_0 6 rfl rfl)
theorem dX7_trade_9 : decode cX7_trade 9 = .ok (.ifCond .eq 15, 3) := dk_153 0 15 (dk_at dksX7_trade_0 9 rfl rfl)
theorem dX7_trade_12 : decode cX7_trade 12 = .ok (.iload_n 1, 1) := dk_27 (dk_at dksX7_trade_0 12 rfl rfl)
theorem dX7_trade_13 : decode cX7_trade 13 = .ok (.i2l, 1) := dk_133 (dk_at dksX7_trade_0 13 rfl rfl)
theorem dX7_trade_14 : decode cX7_trade 14 = .ok (.lconst 0, 1) := dk_9 (dk_at dksX7_trade_0 14 rfl rfl)
theorem dX7_trade_15 : decode cX7_trade 15 = .ok (.ldc2_w 524, 3) := dk_20 2 12 (dk_at dksX7_trade_0 15 rfl rfl)
theorem dX7_trade_18 : decode cX7_trade 18 = .ok (.invokestatic 143, 3) := dk_184 0 143 (dk_at dksX7_trade_0 18 rfl rfl)
theorem dX7_trade_21 : decode cX7_trade 21 = .ok (.ifCond .ne 5, 3) := dk_154 0 5 (dk_at dksX7_trade_0 21 rfl rfl)
theorem dX7_trade_24 : decode cX7_trade 24 = .ok (.iconst (-1), 1) := dk_2 (dk_at dksX7_trade_1 0 rfl rfl)
theorem dX7_trade_25 : decode cX7_trade 25 = .ok (.ireturn, 1) := dk_172 (dk_at dksX7_trade_1 1 rfl rfl)
theorem dX7_trade_26 : decode cX7_trade 26 = .ok (.iload_n 1, 1) := dk_27 (dk_at dksX7_trade_1 2 rfl rfl)
theorem dX7_trade_27 : decode cX7_trade 27 = .ok (.ifCond .ne 10, 3) := dk_154 0 10 (dk_at dksX7_trade_1 3 rfl rfl)
theorem dX7_trade_30 : decode cX7_trade 30 = .ok (.aload_n 0, 1) := dk_42 (dk_at dksX7_trade_1 6 rfl rfl)
theorem dX7_trade_31 : decode cX7_trade 31 = .ok (.getfield 515, 3) := dk_180 2 3 (dk_at dksX7_trade_1 7 rfl rfl)
theorem dX7_trade_34 : decode cX7_trade 34 = .ok (.goto 23, 3) := dk_167 0 23 (dk_at dksX7_trade_1 10 rfl rfl)
theorem dX7_trade_37 : decode cX7_trade 37 = .ok (.iload_n 1, 1) := dk_27 (dk_at dksX7_trade_1 13 rfl rfl)
theorem dX7_trade_38 : decode cX7_trade 38 = .ok (.iconst 1, 1) := dk_4 (dk_at dksX7_trade_1 14 rfl rfl)
theorem dX7_trade_39 : decode cX7_trade 39 = .ok (.if_icmp .ne 10, 3) := dk_160 0 10 (dk_at dksX7_trade_1 15 rfl rfl)
theorem dX7_trade_42 : decode cX7_trade 42 = .ok (.aload_n 0, 1) := dk_42 (dk_at dksX7_trade_1 18 rfl rfl)
theorem dX7_trade_43 : decode cX7_trade 43 = .ok (.getfield 518, 3) := dk_180 2 6 (dk_at dksX7_trade_1 19 rfl rfl)
theorem dX7_trade_46 : decode cX7_trade 46 = .ok (.goto 11, 3) := dk_167 0 11 (dk_at dksX7_trade_2 0 rfl rfl)
theorem dX7_trade_49 : decode cX7_trade 49 = .ok (.aload_n 0, 1) := dk_42 (dk_at dksX7_trade_2 3 rfl rfl)
theorem dX7_trade_50 : decode cX7_trade 50 = .ok (.getfield 130, 3) := dk_180 0 130 (dk_at dksX7_trade_2 4 rfl rfl)
theorem dX7_trade_53 : decode cX7_trade 53 = .ok (.iload_n 1, 1) := dk_27 (dk_at dksX7_trade_2 7 rfl rfl)
theorem dX7_trade_54 : decode cX7_trade 54 = .ok (.iconst 2, 1) := dk_5 (dk_at dksX7_trade_2 8 rfl rfl)
theorem dX7_trade_55 : decode cX7_trade 55 = .ok (.isub, 1) := dk_100 (dk_at dksX7_trade_2 9 rfl rfl)
theorem dX7_trade_56 : decode cX7_trade 56 = .ok (.iaload, 1) := dk_46 (dk_at dksX7_trade_2 10 rfl rfl)
theorem dX7_trade_57 : decode cX7_trade 57 = .ok (.ireturn, 1) := dk_172 (dk_at dksX7_trade_2 11 rfl rfl)
abbrev cX7_told : ByteArray := prog_16_method_112_code
def yX7_told : MethodName := ⟨RX7, "told", "(I)I"⟩
def dkwX7_told_3 : List UInt8 := [21, 4, 42, 180, 0, 130, 29, 46, 182, 2, 9, 96, 61, 132, 3, 1, 167, 255, 196, 28, 172]
abbrev dktX7_told_3 : List UInt8 := dkwX7_told_3 ++ []
def dkwX7_told_2 : List UInt8 := [180, 0, 13, 16, 42, 27, 96, 46, 161, 0, 10, 16, 6, 27, 96, 167, 0, 4, 27, 54, 4, 28, 42]
abbrev dktX7_told_2 : List UInt8 := dkwX7_told_2 ++ dktX7_told_3
def dkwX7_told_1 : List UInt8 := [62, 29, 16, 32, 162, 0, 60, 42, 180, 0, 13, 16, 42, 27, 96, 46, 2, 159, 0, 23, 29, 42]
abbrev dktX7_told_1 : List UInt8 := dkwX7_told_1 ++ dktX7_told_2
def dkwX7_told_0 : List UInt8 := [42, 3, 181, 0, 133, 42, 180, 2, 0, 153, 0, 10, 27, 184, 0, 166, 154, 0, 5, 2, 172, 3, 61, 3]
abbrev dktX7_told_0 : List UInt8 := dkwX7_told_0 ++ dktX7_told_1
theorem dksX7_told_0 : cX7_told.data.toList.drop 0 = dktX7_told_0 := by decide +kernel
theorem dksX7_told_1 : cX7_told.data.toList.drop 24 = dktX7_told_1 := dk_seg dksX7_told_0 24 rfl rfl
theorem dksX7_told_2 : cX7_told.data.toList.drop 46 = dktX7_told_2 := dk_seg dksX7_told_1 22 rfl rfl
theorem dksX7_told_3 : cX7_told.data.toList.drop 69 = dktX7_told_3 := dk_seg dksX7_told_2 23 rfl rfl
theorem dX7_told_0 : decode cX7_told 0 = .ok (.aload_n 0, 1) := dk_42 (dk_at dksX7_told_0 0 rfl rfl)
theorem dX7_told_1 : decode cX7_told 1 = .ok (.iconst 0, 1) := dk_3 (dk_at dksX7_told_0 1 rfl rfl)
theorem dX7_told_2 : decode cX7_told 2 = .ok (.putfield 133, 3) := dk_181 0 133 (dk_at dksX7_told_0 2 rfl rfl)
theorem dX7_told_5 : decode cX7_told 5 = .ok (.aload_n 0, 1) := dk_42 (dk_at dksX7_told_0 5 rfl rfl)
theorem dX7_told_6 : decode cX7_told 6 = .ok (.getfield 512, 3) := dk_180 2 0 (dk_at dksX7_told_0 6 rfl rfl)
theorem dX7_told_9 : decode cX7_told 9 = .ok (.ifCond .eq 10, 3) := dk_153 0 10 (dk_at dksX7_told_0 9 rfl rfl)
theorem dX7_told_12 : decode cX7_told 12 = .ok (.iload_n 1, 1) := dk_27 (dk_at dksX7_told_0 12 rfl rfl)
theorem dX7_told_13 : decode cX7_told 13 = .ok (.invokestatic 166, 3) := dk_184 0 166 (dk_at dksX7_told_0 13 rfl rfl)
theorem dX7_told_16 : decode cX7_told 16 = .ok (.ifCond .ne 5, 3) := dk_154 0 5 (dk_at dksX7_told_0 16 rfl rfl)
theorem dX7_told_19 : decode cX7_told 19 = .ok (.iconst (-1), 1) := dk_2 (dk_at dksX7_told_0 19 rfl rfl)
theorem dX7_told_20 : decode cX7_told 20 = .ok (.ireturn, 1) := dk_172 (dk_at dksX7_told_0 20 rfl rfl)
theorem dX7_told_21 : decode cX7_told 21 = .ok (.iconst 0, 1) := dk_3 (dk_at dksX7_told_0 21 rfl rfl)
theorem dX7_told_22 : decode cX7_told 22 = .ok (.istore_n 2, 1) := dk_61 (dk_at dksX7_told_0 22 rfl rfl)
theorem dX7_told_23 : decode cX7_told 23 = .ok (.iconst 0, 1) := dk_3 (dk_at dksX7_told_0 23 rfl rfl)
theorem dX7_told_24 : decode cX7_told 24 = .ok (.istore_n 3, 1) := dk_62 (dk_at dksX7_told_1 0 rfl rfl)
theorem dX7_told_25 : decode cX7_told 25 = .ok (.iload_n 3, 1) := dk_29 (dk_at dksX7_told_1 1 rfl rfl)
theorem dX7_told_26 : decode cX7_told 26 = .ok (.bipush 32, 2) := dk_16 32 (dk_at dksX7_told_1 2 rfl rfl)
theorem dX7_told_28 : decode cX7_told 28 = .ok (.if_icmp .ge 60, 3) := dk_162 0 60 (dk_at dksX7_told_1 4 rfl rfl)
theorem dX7_told_31 : decode cX7_told 31 = .ok (.aload_n 0, 1) := dk_42 (dk_at dksX7_told_1 7 rfl rfl)
theorem dX7_told_32 : decode cX7_told 32 = .ok (.getfield 13, 3) := dk_180 0 13 (dk_at dksX7_told_1 8 rfl rfl)
theorem dX7_told_35 : decode cX7_told 35 = .ok (.bipush 42, 2) := dk_16 42 (dk_at dksX7_told_1 11 rfl rfl)
theorem dX7_told_37 : decode cX7_told 37 = .ok (.iload_n 1, 1) := dk_27 (dk_at dksX7_told_1 13 rfl rfl)
theorem dX7_told_38 : decode cX7_told 38 = .ok (.iadd, 1) := dk_96 (dk_at dksX7_told_1 14 rfl rfl)
theorem dX7_told_39 : decode cX7_told 39 = .ok (.iaload, 1) := dk_46 (dk_at dksX7_told_1 15 rfl rfl)
theorem dX7_told_40 : decode cX7_told 40 = .ok (.iconst (-1), 1) := dk_2 (dk_at dksX7_told_1 16 rfl rfl)
theorem dX7_told_41 : decode cX7_told 41 = .ok (.if_icmp .eq 23, 3) := dk_159 0 23 (dk_at dksX7_told_1 17 rfl rfl)
theorem dX7_told_44 : decode cX7_told 44 = .ok (.iload_n 3, 1) := dk_29 (dk_at dksX7_told_1 20 rfl rfl)
theorem dX7_told_45 : decode cX7_told 45 = .ok (.aload_n 0, 1) := dk_42 (dk_at dksX7_told_1 21 rfl rfl)
theorem dX7_told_46 : decode cX7_told 46 = .ok (.getfield 13, 3) := dk_180 0 13 (dk_at dksX7_told_2 0 rfl rfl)
theorem dX7_told_49 : decode cX7_told 49 = .ok (.bipush 42, 2) := dk_16 42 (dk_at dksX7_told_2 3 rfl rfl)
theorem dX7_told_51 : decode cX7_told 51 = .ok (.iload_n 1, 1) := dk_27 (dk_at dksX7_told_2 5 rfl rfl)
theorem dX7_told_52 : decode cX7_told 52 = .ok (.iadd, 1) := dk_96 (dk_at dksX7_told_2 6 rfl rfl)
theorem dX7_told_53 : decode cX7_told 53 = .ok (.iaload, 1) := dk_46 (dk_at dksX7_told_2 7 rfl rfl)
theorem dX7_told_54 : decode cX7_told 54 = .ok (.if_icmp .lt 10, 3) := dk_161 0 10 (dk_at dksX7_told_2 8 rfl rfl)
theorem dX7_told_57 : decode cX7_told 57 = .ok (.bipush 6, 2) := dk_16 6 (dk_at dksX7_told_2 11 rfl rfl)
theorem dX7_told_59 : decode cX7_told 59 = .ok (.iload_n 1, 1) := dk_27 (dk_at dksX7_told_2 13 rfl rfl)
theorem dX7_told_60 : decode cX7_told 60 = .ok (.iadd, 1) := dk_96 (dk_at dksX7_told_2 14 rfl rfl)
theorem dX7_told_61 : decode cX7_told 61 = .ok (.goto 4, 3) := dk_167 0 4 (dk_at dksX7_told_2 15 rfl rfl)
theorem dX7_told_64 : decode cX7_told 64 = .ok (.iload_n 1, 1) := dk_27 (dk_at dksX7_told_2 18 rfl rfl)
theorem dX7_told_65 : decode cX7_told 65 = .ok (.istore 4, 2) := dk_54 4 (dk_at dksX7_told_2 19 rfl rfl)
theorem dX7_told_67 : decode cX7_told 67 = .ok (.iload_n 2, 1) := dk_28 (dk_at dksX7_told_2 21 rfl rfl)
theorem dX7_told_68 : decode cX7_told 68 = .ok (.aload_n 0, 1) := dk_42 (dk_at dksX7_told_2 22 rfl rfl)
theorem dX7_told_69 : decode cX7_told 69 = .ok (.iload 4, 2) := dk_21 4 (dk_at dksX7_told_3 0 rfl rfl)
theorem dX7_told_71 : decode cX7_told 71 = .ok (.aload_n 0, 1) := dk_42 (dk_at dksX7_told_3 2 rfl rfl)
theorem dX7_told_72 : decode cX7_told 72 = .ok (.getfield 130, 3) := dk_180 0 130 (dk_at dksX7_told_3 3 rfl rfl)
theorem dX7_told_75 : decode cX7_told 75 = .ok (.iload_n 3, 1) := dk_29 (dk_at dksX7_told_3 6 rfl rfl)
theorem dX7_told_76 : decode cX7_told 76 = .ok (.iaload, 1) := dk_46 (dk_at dksX7_told_3 7 rfl rfl)
theorem dX7_told_77 : decode cX7_told 77 = .ok (.invokevirtual 521, 3) := dk_182 2 9 (dk_at dksX7_told_3 8 rfl rfl)
theorem dX7_told_80 : decode cX7_told 80 = .ok (.iadd, 1) := dk_96 (dk_at dksX7_told_3 11 rfl rfl)
theorem dX7_told_81 : decode cX7_told 81 = .ok (.istore_n 2, 1) := dk_61 (dk_at dksX7_told_3 12 rfl rfl)
theorem dX7_told_82 : decode cX7_told 82 = .ok (.iinc 3 1, 3) := dk_132 3 1 (dk_at dksX7_told_3 13 rfl rfl)
theorem dX7_told_85 : decode cX7_told 85 = .ok (.goto (-60), 3) := dk_167 255 196 (dk_at dksX7_told_3 16 rfl rfl)
theorem dX7_told_88 : decode cX7_told 88 = .ok (.iload_n 2, 1) := dk_28 (dk_at dksX7_told_3 19 rfl rfl)
theorem dX7_told_89 : decode cX7_told 89 = .ok (.ireturn, 1) := dk_172 (dk_at dksX7_told_3 20 rfl rfl)
abbrev cX7_count : ByteArray := prog_16_method_113_code
def yX7_count : MethodName := ⟨RX7, "count", "(I)I"⟩
def dkwX7_count_7 : List UInt8 := [180, 0, 7, 6, 46, 172, 42, 180, 0, 7, 8, 46, 172, 42, 180, 0, 7, 16, 6, 46, 172, 2, 172]
abbrev dktX7_count_7 : List UInt8 := dkwX7_count_7 ++ []
def dkwX7_count_6 : List UInt8 := [29, 172, 42, 180, 0, 201, 172, 42, 180, 0, 7, 4, 46, 172, 42, 180, 0, 7, 5, 46, 172, 42]
abbrev dktX7_count_6 : List UInt8 := dkwX7_count_6 ++ dktX7_count_7
def dkwX7_count_5 : List UInt8 := [42, 180, 0, 13, 3, 46, 172, 42, 182, 1, 114, 184, 2, 14, 172, 42, 180, 0, 13, 4, 46, 172, 28, 172]
abbrev dktX7_count_5 : List UInt8 := dkwX7_count_5 ++ dktX7_count_6
def dkwX7_count_4 : List UInt8 := [170, 0, 0, 0, 0, 125, 0, 0, 0, 0, 0, 0, 0, 10, 0, 0, 0, 58, 0, 0, 0, 65, 0, 0, 0, 73, 0, 0, 0, 80, 0, 0, 0, 82, 0, 0, 0, 84, 0, 0, 0, 89, 0, 0, 0, 96, 0, 0, 0, 103, 0, 0, 0, 110, 0, 0, 0, 117]
abbrev dktX7_count_4 : List UInt8 := dkwX7_count_4 ++ dktX7_count_5
def dkwX7_count_3 : List UInt8 := [4, 167, 0, 4, 3, 96, 62, 132, 4, 1, 167, 255, 224, 27]
abbrev dktX7_count_3 : List UInt8 := dkwX7_count_3 ++ dktX7_count_4
def dkwX7_count_2 : List UInt8 := [54, 4, 21, 4, 16, 6, 162, 0, 31, 29, 42, 180, 0, 13, 16, 42, 21, 4, 96, 46, 2, 159, 0, 7]
abbrev dktX7_count_2 : List UInt8 := dkwX7_count_2 ++ dktX7_count_3
def dkwX7_count_1 : List UInt8 := [16, 10, 21, 4, 96, 46, 2, 159, 0, 7, 4, 167, 0, 4, 3, 96, 61, 132, 4, 1, 167, 255, 224, 3]
abbrev dktX7_count_1 : List UInt8 := dkwX7_count_1 ++ dktX7_count_2
def dkwX7_count_0 : List UInt8 := [42, 3, 181, 0, 133, 3, 61, 3, 62, 3, 54, 4, 21, 4, 16, 32, 162, 0, 31, 28, 42, 180, 0, 13]
abbrev dktX7_count_0 : List UInt8 := dkwX7_count_0 ++ dktX7_count_1
theorem dksX7_count_0 : cX7_count.data.toList.drop 0 = dktX7_count_0 := by decide +kernel
theorem dksX7_count_1 : cX7_count.data.toList.drop 24 = dktX7_count_1 := dk_seg dksX7_count_0 24 rfl rfl
theorem dksX7_count_2 : cX7_count.data.toList.drop 48 = dktX7_count_2 := dk_seg dksX7_count_1 24 rfl rfl
theorem dksX7_count_3 : cX7_count.data.toList.drop 72 = dktX7_count_3 := dk_seg dksX7_count_2 24 rfl rfl
theorem dksX7_count_4 : cX7_count.data.toList.drop 86 = dktX7_count_4 := dk_seg dksX7_count_3 14 rfl rfl
theorem dksX7_count_5 : cX7_count.data.toList.drop 144 = dktX7_count_5 := dk_seg dksX7_count_4 58 rfl rfl
theorem dksX7_count_6 : cX7_count.data.toList.drop 168 = dktX7_count_6 := dk_seg dksX7_count_5 24 rfl rfl
theorem dksX7_count_7 : cX7_count.data.toList.drop 190 = dktX7_count_7 := dk_seg dksX7_count_6 22 rfl rfl
theorem dX7_count_0 : decode cX7_count 0 = .ok (.aload_n 0, 1) := dk_42 (dk_at dksX7_count_0 0 rfl rfl)
theorem dX7_count_1 : decode cX7_count 1 = .ok (.iconst 0, 1) := dk_3 (dk_at dksX7_count_0 1 rfl rfl)
theorem dX7_count_2 : decode cX7_count 2 = .ok (.putfield 133, 3) := dk_181 0 133 (dk_at dksX7_count_0 2 rfl rfl)
theorem dX7_count_5 : decode cX7_count 5 = .ok (.iconst 0, 1) := dk_3 (dk_at dksX7_count_0 5 rfl rfl)
theorem dX7_count_6 : decode cX7_count 6 = .ok (.istore_n 2, 1) := dk_61 (dk_at dksX7_count_0 6 rfl rfl)
theorem dX7_count_7 : decode cX7_count 7 = .ok (.iconst 0, 1) := dk_3 (dk_at dksX7_count_0 7 rfl rfl)
theorem dX7_count_8 : decode cX7_count 8 = .ok (.istore_n 3, 1) := dk_62 (dk_at dksX7_count_0 8 rfl rfl)
theorem dX7_count_9 : decode cX7_count 9 = .ok (.iconst 0, 1) := dk_3 (dk_at dksX7_count_0 9 rfl rfl)
theorem dX7_count_10 : decode cX7_count 10 = .ok (.istore 4, 2) := dk_54 4 (dk_at dksX7_count_0 10 rfl rfl)
theorem dX7_count_12 : decode cX7_count 12 = .ok (.iload 4, 2) := dk_21 4 (dk_at dksX7_count_0 12 rfl rfl)
theorem dX7_count_14 : decode cX7_count 14 = .ok (.bipush 32, 2) := dk_16 32 (dk_at dksX7_count_0 14 rfl rfl)
theorem dX7_count_16 : decode cX7_count 16 = .ok (.if_icmp .ge 31, 3) := dk_162 0 31 (dk_at dksX7_count_0 16 rfl rfl)
theorem dX7_count_19 : decode cX7_count 19 = .ok (.iload_n 2, 1) := dk_28 (dk_at dksX7_count_0 19 rfl rfl)
theorem dX7_count_20 : decode cX7_count 20 = .ok (.aload_n 0, 1) := dk_42 (dk_at dksX7_count_0 20 rfl rfl)
theorem dX7_count_21 : decode cX7_count 21 = .ok (.getfield 13, 3) := dk_180 0 13 (dk_at dksX7_count_0 21 rfl rfl)
theorem dX7_count_24 : decode cX7_count 24 = .ok (.bipush 10, 2) := dk_16 10 (dk_at dksX7_count_1 0 rfl rfl)
theorem dX7_count_26 : decode cX7_count 26 = .ok (.iload 4, 2) := dk_21 4 (dk_at dksX7_count_1 2 rfl rfl)
theorem dX7_count_28 : decode cX7_count 28 = .ok (.iadd, 1) := dk_96 (dk_at dksX7_count_1 4 rfl rfl)
theorem dX7_count_29 : decode cX7_count 29 = .ok (.iaload, 1) := dk_46 (dk_at dksX7_count_1 5 rfl rfl)
theorem dX7_count_30 : decode cX7_count 30 = .ok (.iconst (-1), 1) := dk_2 (dk_at dksX7_count_1 6 rfl rfl)
theorem dX7_count_31 : decode cX7_count 31 = .ok (.if_icmp .eq 7, 3) := dk_159 0 7 (dk_at dksX7_count_1 7 rfl rfl)
theorem dX7_count_34 : decode cX7_count 34 = .ok (.iconst 1, 1) := dk_4 (dk_at dksX7_count_1 10 rfl rfl)
theorem dX7_count_35 : decode cX7_count 35 = .ok (.goto 4, 3) := dk_167 0 4 (dk_at dksX7_count_1 11 rfl rfl)
theorem dX7_count_38 : decode cX7_count 38 = .ok (.iconst 0, 1) := dk_3 (dk_at dksX7_count_1 14 rfl rfl)
theorem dX7_count_39 : decode cX7_count 39 = .ok (.iadd, 1) := dk_96 (dk_at dksX7_count_1 15 rfl rfl)
theorem dX7_count_40 : decode cX7_count 40 = .ok (.istore_n 2, 1) := dk_61 (dk_at dksX7_count_1 16 rfl rfl)
theorem dX7_count_41 : decode cX7_count 41 = .ok (.iinc 4 1, 3) := dk_132 4 1 (dk_at dksX7_count_1 17 rfl rfl)
theorem dX7_count_44 : decode cX7_count 44 = .ok (.goto (-32), 3) := dk_167 255 224 (dk_at dksX7_count_1 20 rfl rfl)
theorem dX7_count_47 : decode cX7_count 47 = .ok (.iconst 0, 1) := dk_3 (dk_at dksX7_count_1 23 rfl rfl)
theorem dX7_count_48 : decode cX7_count 48 = .ok (.istore 4, 2) := dk_54 4 (dk_at dksX7_count_2 0 rfl rfl)
theorem dX7_count_50 : decode cX7_count 50 = .ok (.iload 4, 2) := dk_21 4 (dk_at dksX7_count_2 2 rfl rfl)
theorem dX7_count_52 : decode cX7_count 52 = .ok (.bipush 6, 2) := dk_16 6 (dk_at dksX7_count_2 4 rfl rfl)
theorem dX7_count_54 : decode cX7_count 54 = .ok (.if_icmp .ge 31, 3) := dk_162 0 31 (dk_at dksX7_count_2 6 rfl rfl)
theorem dX7_count_57 : decode cX7_count 57 = .ok (.iload_n 3, 1) := dk_29 (dk_at dksX7_count_2 9 rfl rfl)
theorem dX7_count_58 : decode cX7_count 58 = .ok (.aload_n 0, 1) := dk_42 (dk_at dksX7_count_2 10 rfl rfl)
theorem dX7_count_59 : decode cX7_count 59 = .ok (.getfield 13, 3) := dk_180 0 13 (dk_at dksX7_count_2 11 rfl rfl)
theorem dX7_count_62 : decode cX7_count 62 = .ok (.bipush 42, 2) := dk_16 42 (dk_at dksX7_count_2 14 rfl rfl)
theorem dX7_count_64 : decode cX7_count 64 = .ok (.iload 4, 2) := dk_21 4 (dk_at dksX7_count_2 16 rfl rfl)
theorem dX7_count_66 : decode cX7_count 66 = .ok (.iadd, 1) := dk_96 (dk_at dksX7_count_2 18 rfl rfl)
theorem dX7_count_67 : decode cX7_count 67 = .ok (.iaload, 1) := dk_46 (dk_at dksX7_count_2 19 rfl rfl)
theorem dX7_count_68 : decode cX7_count 68 = .ok (.iconst (-1), 1) := dk_2 (dk_at dksX7_count_2 20 rfl rfl)
theorem dX7_count_69 : decode cX7_count 69 = .ok (.if_icmp .eq 7, 3) := dk_159 0 7 (dk_at dksX7_count_2 21 rfl rfl)
theorem dX7_count_72 : decode cX7_count 72 = .ok (.iconst 1, 1) := dk_4 (dk_at dksX7_count_3 0 rfl rfl)
theorem dX7_count_73 : decode cX7_count 73 = .ok (.goto 4, 3) := dk_167 0 4 (dk_at dksX7_count_3 1 rfl rfl)
theorem dX7_count_76 : decode cX7_count 76 = .ok (.iconst 0, 1) := dk_3 (dk_at dksX7_count_3 4 rfl rfl)
theorem dX7_count_77 : decode cX7_count 77 = .ok (.iadd, 1) := dk_96 (dk_at dksX7_count_3 5 rfl rfl)
theorem dX7_count_78 : decode cX7_count 78 = .ok (.istore_n 3, 1) := dk_62 (dk_at dksX7_count_3 6 rfl rfl)
theorem dX7_count_79 : decode cX7_count 79 = .ok (.iinc 4 1, 3) := dk_132 4 1 (dk_at dksX7_count_3 7 rfl rfl)
theorem dX7_count_82 : decode cX7_count 82 = .ok (.goto (-32), 3) := dk_167 255 224 (dk_at dksX7_count_3 10 rfl rfl)
theorem dX7_count_85 : decode cX7_count 85 = .ok (.iload_n 1, 1) := dk_27 (dk_at dksX7_count_3 13 rfl rfl)
theorem dX7_count_86 : decode cX7_count 86 = .ok (.tableswitch 125 0 10 #[58, 65, 73, 80, 82, 84, 89, 96, 103, 110, 117], 58) := by decide +kernel
theorem dX7_count_144 : decode cX7_count 144 = .ok (.aload_n 0, 1) := dk_42 (dk_at dksX7_count_5 0 rfl rfl)
theorem dX7_count_145 : decode cX7_count 145 = .ok (.getfield 13, 3) := dk_180 0 13 (dk_at dksX7_count_5 1 rfl rfl)
theorem dX7_count_148 : decode cX7_count 148 = .ok (.iconst 0, 1) := dk_3 (dk_at dksX7_count_5 4 rfl rfl)
theorem dX7_count_149 : decode cX7_count 149 = .ok (.iaload, 1) := dk_46 (dk_at dksX7_count_5 5 rfl rfl)
theorem dX7_count_150 : decode cX7_count 150 = .ok (.ireturn, 1) := dk_172 (dk_at dksX7_count_5 6 rfl rfl)
theorem dX7_count_151 : decode cX7_count 151 = .ok (.aload_n 0, 1) := dk_42 (dk_at dksX7_count_5 7 rfl rfl)
theorem dX7_count_152 : decode cX7_count 152 = .ok (.invokevirtual 370, 3) := dk_182 1 114 (dk_at dksX7_count_5 8 rfl rfl)
theorem dX7_count_155 : decode cX7_count 155 = .ok (.invokestatic 526, 3) := dk_184 2 14 (dk_at dksX7_count_5 11 rfl rfl)
theorem dX7_count_158 : decode cX7_count 158 = .ok (.ireturn, 1) := dk_172 (dk_at dksX7_count_5 14 rfl rfl)
theorem dX7_count_159 : decode cX7_count 159 = .ok (.aload_n 0, 1) := dk_42 (dk_at dksX7_count_5 15 rfl rfl)
theorem dX7_count_160 : decode cX7_count 160 = .ok (.getfield 13, 3) := dk_180 0 13 (dk_at dksX7_count_5 16 rfl rfl)
theorem dX7_count_163 : decode cX7_count 163 = .ok (.iconst 1, 1) := dk_4 (dk_at dksX7_count_5 19 rfl rfl)
theorem dX7_count_164 : decode cX7_count 164 = .ok (.iaload, 1) := dk_46 (dk_at dksX7_count_5 20 rfl rfl)
theorem dX7_count_165 : decode cX7_count 165 = .ok (.ireturn, 1) := dk_172 (dk_at dksX7_count_5 21 rfl rfl)
theorem dX7_count_166 : decode cX7_count 166 = .ok (.iload_n 2, 1) := dk_28 (dk_at dksX7_count_5 22 rfl rfl)
theorem dX7_count_167 : decode cX7_count 167 = .ok (.ireturn, 1) := dk_172 (dk_at dksX7_count_5 23 rfl rfl)
theorem dX7_count_168 : decode cX7_count 168 = .ok (.iload_n 3, 1) := dk_29 (dk_at dksX7_count_6 0 rfl rfl)
theorem dX7_count_169 : decode cX7_count 169 = .ok (.ireturn, 1) := dk_172 (dk_at dksX7_count_6 1 rfl rfl)
theorem dX7_count_170 : decode cX7_count 170 = .ok (.aload_n 0, 1) := dk_42 (dk_at dksX7_count_6 2 rfl rfl)
theorem dX7_count_171 : decode cX7_count 171 = .ok (.getfield 201, 3) := dk_180 0 201 (dk_at dksX7_count_6 3 rfl rfl)
theorem dX7_count_174 : decode cX7_count 174 = .ok (.ireturn, 1) := dk_172 (dk_at dksX7_count_6 6 rfl rfl)
theorem dX7_count_175 : decode cX7_count 175 = .ok (.aload_n 0, 1) := dk_42 (dk_at dksX7_count_6 7 rfl rfl)
theorem dX7_count_176 : decode cX7_count 176 = .ok (.getfield 7, 3) := dk_180 0 7 (dk_at dksX7_count_6 8 rfl rfl)
theorem dX7_count_179 : decode cX7_count 179 = .ok (.iconst 1, 1) := dk_4 (dk_at dksX7_count_6 11 rfl rfl)
theorem dX7_count_180 : decode cX7_count 180 = .ok (.iaload, 1) := dk_46 (dk_at dksX7_count_6 12 rfl rfl)
theorem dX7_count_181 : decode cX7_count 181 = .ok (.ireturn, 1) := dk_172 (dk_at dksX7_count_6 13 rfl rfl)
theorem dX7_count_182 : decode cX7_count 182 = .ok (.aload_n 0, 1) := dk_42 (dk_at dksX7_count_6 14 rfl rfl)
theorem dX7_count_183 : decode cX7_count 183 = .ok (.getfield 7, 3) := dk_180 0 7 (dk_at dksX7_count_6 15 rfl rfl)
theorem dX7_count_186 : decode cX7_count 186 = .ok (.iconst 2, 1) := dk_5 (dk_at dksX7_count_6 18 rfl rfl)
theorem dX7_count_187 : decode cX7_count 187 = .ok (.iaload, 1) := dk_46 (dk_at dksX7_count_6 19 rfl rfl)
theorem dX7_count_188 : decode cX7_count 188 = .ok (.ireturn, 1) := dk_172 (dk_at dksX7_count_6 20 rfl rfl)
theorem dX7_count_189 : decode cX7_count 189 = .ok (.aload_n 0, 1) := dk_42 (dk_at dksX7_count_6 21 rfl rfl)
theorem dX7_count_190 : decode cX7_count 190 = .ok (.getfield 7, 3) := dk_180 0 7 (dk_at dksX7_count_7 0 rfl rfl)
theorem dX7_count_193 : decode cX7_count 193 = .ok (.iconst 3, 1) := dk_6 (dk_at dksX7_count_7 3 rfl rfl)
theorem dX7_count_194 : decode cX7_count 194 = .ok (.iaload, 1) := dk_46 (dk_at dksX7_count_7 4 rfl rfl)
theorem dX7_count_195 : decode cX7_count 195 = .ok (.ireturn, 1) := dk_172 (dk_at dksX7_count_7 5 rfl rfl)
theorem dX7_count_196 : decode cX7_count 196 = .ok (.aload_n 0, 1) := dk_42 (dk_at dksX7_count_7 6 rfl rfl)
theorem dX7_count_197 : decode cX7_count 197 = .ok (.getfield 7, 3) := dk_180 0 7 (dk_at dksX7_count_7 7 rfl rfl)
theorem dX7_count_200 : decode cX7_count 200 = .ok (.iconst 5, 1) := dk_8 (dk_at dksX7_count_7 10 rfl rfl)
theorem dX7_count_201 : decode cX7_count 201 = .ok (.iaload, 1) := dk_46 (dk_at dksX7_count_7 11 rfl rfl)
theorem dX7_count_202 : decode cX7_count 202 = .ok (.ireturn, 1) := dk_172 (dk_at dksX7_count_7 12 rfl rfl)
theorem dX7_count_203 : decode cX7_count 203 = .ok (.aload_n 0, 1) := dk_42 (dk_at dksX7_count_7 13 rfl rfl)
theorem dX7_count_204 : decode cX7_count 204 = .ok (.getfield 7, 3) := dk_180 0 7 (dk_at dksX7_count_7 14 rfl rfl)
theorem dX7_count_207 : decode cX7_count 207 = .ok (.bipush 6, 2) := dk_16 6 (dk_at dksX7_count_7 17 rfl rfl)
theorem dX7_count_209 : decode cX7_count 209 = .ok (.iaload, 1) := dk_46 (dk_at dksX7_count_7 19 rfl rfl)
theorem dX7_count_210 : decode cX7_count 210 = .ok (.ireturn, 1) := dk_172 (dk_at dksX7_count_7 20 rfl rfl)
theorem dX7_count_211 : decode cX7_count 211 = .ok (.iconst (-1), 1) := dk_2 (dk_at dksX7_count_7 21 rfl rfl)
theorem dX7_count_212 : decode cX7_count 212 = .ok (.ireturn, 1) := dk_172 (dk_at dksX7_count_7 22 rfl rfl)
abbrev cX7_bits : ByteArray := prog_16_method_114_code
def yX7_bits : MethodName := ⟨RX7, "bits", "(I)I"⟩
def dkwX7_bits_1 : List UInt8 := [27, 172]
abbrev dktX7_bits_1 : List UInt8 := dkwX7_bits_1 ++ []
def dkwX7_bits_0 : List UInt8 := [3, 60, 3, 61, 28, 16, 24, 162, 0, 17, 27, 26, 28, 122, 4, 126, 96, 60, 132, 2, 1, 167, 255, 239]
abbrev dktX7_bits_0 : List UInt8 := dkwX7_bits_0 ++ dktX7_bits_1
theorem dksX7_bits_0 : cX7_bits.data.toList.drop 0 = dktX7_bits_0 := by decide +kernel
theorem dksX7_bits_1 : cX7_bits.data.toList.drop 24 = dktX7_bits_1 := dk_seg dksX7_bits_0 24 rfl rfl
theorem dX7_bits_0 : decode cX7_bits 0 = .ok (.iconst 0, 1) := dk_3 (dk_at dksX7_bits_0 0 rfl rfl)
theorem dX7_bits_1 : decode cX7_bits 1 = .ok (.istore_n 1, 1) := dk_60 (dk_at dksX7_bits_0 1 rfl rfl)
theorem dX7_bits_2 : decode cX7_bits 2 = .ok (.iconst 0, 1) := dk_3 (dk_at dksX7_bits_0 2 rfl rfl)
theorem dX7_bits_3 : decode cX7_bits 3 = .ok (.istore_n 2, 1) := dk_61 (dk_at dksX7_bits_0 3 rfl rfl)
theorem dX7_bits_4 : decode cX7_bits 4 = .ok (.iload_n 2, 1) := dk_28 (dk_at dksX7_bits_0 4 rfl rfl)
theorem dX7_bits_5 : decode cX7_bits 5 = .ok (.bipush 24, 2) := dk_16 24 (dk_at dksX7_bits_0 5 rfl rfl)
theorem dX7_bits_7 : decode cX7_bits 7 = .ok (.if_icmp .ge 17, 3) := dk_162 0 17 (dk_at dksX7_bits_0 7 rfl rfl)
theorem dX7_bits_10 : decode cX7_bits 10 = .ok (.iload_n 1, 1) := dk_27 (dk_at dksX7_bits_0 10 rfl rfl)
theorem dX7_bits_11 : decode cX7_bits 11 = .ok (.iload_n 0, 1) := dk_26 (dk_at dksX7_bits_0 11 rfl rfl)
theorem dX7_bits_12 : decode cX7_bits 12 = .ok (.iload_n 2, 1) := dk_28 (dk_at dksX7_bits_0 12 rfl rfl)
theorem dX7_bits_13 : decode cX7_bits 13 = .ok (.ishr, 1) := dk_122 (dk_at dksX7_bits_0 13 rfl rfl)
theorem dX7_bits_14 : decode cX7_bits 14 = .ok (.iconst 1, 1) := dk_4 (dk_at dksX7_bits_0 14 rfl rfl)
theorem dX7_bits_15 : decode cX7_bits 15 = .ok (.iand, 1) := dk_126 (dk_at dksX7_bits_0 15 rfl rfl)
theorem dX7_bits_16 : decode cX7_bits 16 = .ok (.iadd, 1) := dk_96 (dk_at dksX7_bits_0 16 rfl rfl)
theorem dX7_bits_17 : decode cX7_bits 17 = .ok (.istore_n 1, 1) := dk_60 (dk_at dksX7_bits_0 17 rfl rfl)
theorem dX7_bits_18 : decode cX7_bits 18 = .ok (.iinc 2 1, 3) := dk_132 2 1 (dk_at dksX7_bits_0 18 rfl rfl)
theorem dX7_bits_21 : decode cX7_bits 21 = .ok (.goto (-17), 3) := dk_167 255 239 (dk_at dksX7_bits_0 21 rfl rfl)
theorem dX7_bits_24 : decode cX7_bits 24 = .ok (.iload_n 1, 1) := dk_27 (dk_at dksX7_bits_1 0 rfl rfl)
theorem dX7_bits_25 : decode cX7_bits 25 = .ok (.ireturn, 1) := dk_172 (dk_at dksX7_bits_1 1 rfl rfl)
abbrev cX7_status : ByteArray := prog_16_method_115_code
def yX7_status : MethodName := ⟨RX7, "status", "()I"⟩
def dkwX7_status_0 : List UInt8 := [42, 3, 181, 0, 133, 42, 180, 0, 136, 172]
abbrev dktX7_status_0 : List UInt8 := dkwX7_status_0 ++ []
theorem dksX7_status_0 : cX7_status.data.toList.drop 0 = dktX7_status_0 := by decide +kernel
theorem dX7_status_0 : decode cX7_status 0 = .ok (.aload_n 0, 1) := dk_42 (dk_at dksX7_status_0 0 rfl rfl)
theorem dX7_status_1 : decode cX7_status 1 = .ok (.iconst 0, 1) := dk_3 (dk_at dksX7_status_0 1 rfl rfl)
theorem dX7_status_2 : decode cX7_status 2 = .ok (.putfield 133, 3) := dk_181 0 133 (dk_at dksX7_status_0 2 rfl rfl)
theorem dX7_status_5 : decode cX7_status 5 = .ok (.aload_n 0, 1) := dk_42 (dk_at dksX7_status_0 5 rfl rfl)
theorem dX7_status_6 : decode cX7_status 6 = .ok (.getfield 136, 3) := dk_180 0 136 (dk_at dksX7_status_0 6 rfl rfl)
theorem dX7_status_9 : decode cX7_status 9 = .ok (.ireturn, 1) := dk_172 (dk_at dksX7_status_0 9 rfl rfl)
theorem q114 : (Jvm.Cond.initialized "WeekFootModel") ∈ lw_all := lw_g (lw_at lw_m1 11 rfl) rfl
theorem q271 : (Jvm.Cond.selects "WeekFootModel" ({ cls := "java/lang/Object", name := "getClass", desc := "()Ljava/lang/Class;" } : Jvm.MethodName) ({ cls := "java/lang/Object", name := "getClass", desc := "()Ljava/lang/Class;" } : Jvm.MethodName)) ∈ lw_all := lw_g (lw_at lw_m1 168 rfl) rfl
theorem q1295 : (Jvm.Cond.instantiable "WeekFootModel" (63 : Nat)) ∈ lw_all := lw_g (lw_at lw_m5 232 rfl) rfl
theorem q1297 : (Jvm.Cond.instanceMethod ({ cls := "WeekFootModel", name := "<init>", desc := "()V" } : Jvm.MethodName)) ∈ lw_all := lw_g (lw_at lw_m5 234 rfl) rfl
theorem q1298 : (Jvm.Cond.code ({ cls := "WeekFootModel", name := "<init>", desc := "()V" } : Jvm.MethodName) prog_16_method_1_code (2 : Nat) (Option.none : Option Jvm.ClassFile.FieldType)) ∈ lw_all := lw_g (lw_at lw_m5 235 rfl) rfl
theorem q1299 : (Jvm.Cond.methodLink "WeekFootModel" (1 : Nat) ({ cls := "java/lang/Object", name := "<init>", desc := "()V" } : Jvm.MethodName)) ∈ lw_all := lw_g (lw_at lw_m5 236 rfl) rfl
theorem q1300 : (Jvm.Cond.fieldLink "WeekFootModel" (133 : Nat) "WeekFootModel" "thrown" "I") ∈ lw_all := lw_g (lw_at lw_m5 237 rfl) rfl
theorem q1301 : (Jvm.Cond.fieldLink "WeekFootModel" (136 : Nat) "WeekFootModel" "status" "I") ∈ lw_all := lw_g (lw_at lw_m5 238 rfl) rfl
theorem q1302 : (Jvm.Cond.fieldLink "WeekFootModel" (7 : Nat) "WeekFootModel" "refusals" "[I") ∈ lw_all := lw_g (lw_at lw_m5 239 rfl) rfl
theorem q1303 : (Jvm.Cond.fieldLink "WeekFootModel" (13 : Nat) "WeekFootModel" "row" "[I") ∈ lw_all := lw_g (lw_at lw_m6 0 rfl) rfl
theorem q1304 : (Jvm.Cond.fieldLink "WeekFootModel" (16 : Nat) "WeekFootModel" "images" "[I") ∈ lw_all := lw_g (lw_at lw_m6 1 rfl) rfl
theorem q1305 : (Jvm.Cond.fieldLink "WeekFootModel" (19 : Nat) "WeekFootModel" "isKept" "[Z") ∈ lw_all := lw_g (lw_at lw_m6 2 rfl) rfl
theorem q1306 : (Jvm.Cond.fieldLink "WeekFootModel" (204 : Nat) "WeekFootModel" "blurred" "I") ∈ lw_all := lw_g (lw_at lw_m6 3 rfl) rfl
theorem q1307 : (Jvm.Cond.fieldLink "WeekFootModel" (23 : Nat) "WeekFootModel" "tape" "[I") ∈ lw_all := lw_g (lw_at lw_m6 4 rfl) rfl
theorem q1308 : (Jvm.Cond.fieldLink "WeekFootModel" (201 : Nat) "WeekFootModel" "taped" "I") ∈ lw_all := lw_g (lw_at lw_m6 5 rfl) rfl
theorem q1309 : (Jvm.Cond.fieldLink "WeekFootModel" (221 : Nat) "WeekFootModel" "from" "I") ∈ lw_all := lw_g (lw_at lw_m6 6 rfl) rfl
theorem q1310 : (Jvm.Cond.fieldLink "WeekFootModel" (211 : Nat) "WeekFootModel" "to" "I") ∈ lw_all := lw_g (lw_at lw_m6 7 rfl) rfl
theorem q1311 : (Jvm.Cond.fieldLink "WeekFootModel" (234 : Nat) "WeekFootModel" "sort" "I") ∈ lw_all := lw_g (lw_at lw_m6 8 rfl) rfl
theorem q1312 : (Jvm.Cond.fieldLink "WeekFootModel" (224 : Nat) "WeekFootModel" "worth" "J") ∈ lw_all := lw_g (lw_at lw_m6 9 rfl) rfl
theorem q1313 : (Jvm.Cond.fieldLink "WeekFootModel" (26 : Nat) "WeekFootModel" "fault" "I") ∈ lw_all := lw_g (lw_at lw_m6 10 rfl) rfl
theorem q1314 : (Jvm.Cond.fieldLink "WeekFootModel" (214 : Nat) "WeekFootModel" "bad" "Z") ∈ lw_all := lw_g (lw_at lw_m6 11 rfl) rfl
theorem q1315 : (Jvm.Cond.fieldLink "WeekFootModel" (30 : Nat) "WeekFootModel" "acts" "[I") ∈ lw_all := lw_g (lw_at lw_m6 12 rfl) rfl
theorem q1316 : (Jvm.Cond.fieldLink "WeekFootModel" (251 : Nat) "WeekFootModel" "nActs" "I") ∈ lw_all := lw_g (lw_at lw_m6 13 rfl) rfl
theorem q1317 : (Jvm.Cond.fieldLink "WeekFootModel" (282 : Nat) "WeekFootModel" "nEntries" "I") ∈ lw_all := lw_g (lw_at lw_m6 14 rfl) rfl
theorem q1318 : (Jvm.Cond.fieldLink "WeekFootModel" (277 : Nat) "WeekFootModel" "nShorts" "I") ∈ lw_all := lw_g (lw_at lw_m6 15 rfl) rfl
theorem q1319 : (Jvm.Cond.fieldLink "WeekFootModel" (33 : Nat) "WeekFootModel" "first" "[J") ∈ lw_all := lw_g (lw_at lw_m6 16 rfl) rfl
theorem q1320 : (Jvm.Cond.fieldLink "WeekFootModel" (37 : Nat) "WeekFootModel" "second" "[J") ∈ lw_all := lw_g (lw_at lw_m6 17 rfl) rfl
theorem q1321 : (Jvm.Cond.fieldLink "WeekFootModel" (333 : Nat) "WeekFootModel" "edges" "I") ∈ lw_all := lw_g (lw_at lw_m6 18 rfl) rfl
theorem q1322 : (Jvm.Cond.fieldLink "WeekFootModel" (40 : Nat) "WeekFootModel" "edgeFrom" "[I") ∈ lw_all := lw_g (lw_at lw_m6 19 rfl) rfl
theorem q1323 : (Jvm.Cond.fieldLink "WeekFootModel" (43 : Nat) "WeekFootModel" "edgeTo" "[I") ∈ lw_all := lw_g (lw_at lw_m6 20 rfl) rfl
theorem q1324 : (Jvm.Cond.fieldLink "WeekFootModel" (46 : Nat) "WeekFootModel" "edgeUp" "[I") ∈ lw_all := lw_g (lw_at lw_m6 21 rfl) rfl
theorem q1325 : (Jvm.Cond.fieldLink "WeekFootModel" (49 : Nat) "WeekFootModel" "edgeLow" "[I") ∈ lw_all := lw_g (lw_at lw_m6 22 rfl) rfl
theorem q1326 : (Jvm.Cond.fieldLink "WeekFootModel" (52 : Nat) "WeekFootModel" "edgeOpen" "[Z") ∈ lw_all := lw_g (lw_at lw_m6 23 rfl) rfl
theorem q1327 : (Jvm.Cond.fieldLink "WeekFootModel" (55 : Nat) "WeekFootModel" "keepers" "[I") ∈ lw_all := lw_g (lw_at lw_m6 24 rfl) rfl
theorem q1328 : (Jvm.Cond.fieldLink "WeekFootModel" (58 : Nat) "WeekFootModel" "cuts" "[I") ∈ lw_all := lw_g (lw_at lw_m6 25 rfl) rfl
theorem q1329 : (Jvm.Cond.fieldLink "WeekFootModel" (61 : Nat) "WeekFootModel" "ups" "[J") ∈ lw_all := lw_g (lw_at lw_m6 26 rfl) rfl
theorem q1330 : (Jvm.Cond.fieldLink "WeekFootModel" (64 : Nat) "WeekFootModel" "lows" "[J") ∈ lw_all := lw_g (lw_at lw_m6 27 rfl) rfl
theorem q1331 : (Jvm.Cond.fieldLink "WeekFootModel" (67 : Nat) "WeekFootModel" "opens" "[Z") ∈ lw_all := lw_g (lw_at lw_m6 28 rfl) rfl
theorem q1332 : (Jvm.Cond.fieldLink "WeekFootModel" (70 : Nat) "WeekFootModel" "there" "[Z") ∈ lw_all := lw_g (lw_at lw_m6 29 rfl) rfl
theorem q1333 : (Jvm.Cond.fieldLink "WeekFootModel" (73 : Nat) "WeekFootModel" "thenUps" "[J") ∈ lw_all := lw_g (lw_at lw_m6 30 rfl) rfl
theorem q1334 : (Jvm.Cond.fieldLink "WeekFootModel" (76 : Nat) "WeekFootModel" "thenLows" "[J") ∈ lw_all := lw_g (lw_at lw_m6 31 rfl) rfl
theorem q1335 : (Jvm.Cond.fieldLink "WeekFootModel" (79 : Nat) "WeekFootModel" "thenOpens" "[Z") ∈ lw_all := lw_g (lw_at lw_m6 32 rfl) rfl
theorem q1336 : (Jvm.Cond.fieldLink "WeekFootModel" (82 : Nat) "WeekFootModel" "thenThere" "[Z") ∈ lw_all := lw_g (lw_at lw_m6 33 rfl) rfl
theorem q1337 : (Jvm.Cond.fieldLink "WeekFootModel" (85 : Nat) "WeekFootModel" "tryUp" "[J") ∈ lw_all := lw_g (lw_at lw_m6 34 rfl) rfl
theorem q1338 : (Jvm.Cond.fieldLink "WeekFootModel" (88 : Nat) "WeekFootModel" "tryLow" "[J") ∈ lw_all := lw_g (lw_at lw_m6 35 rfl) rfl
theorem q1339 : (Jvm.Cond.fieldLink "WeekFootModel" (91 : Nat) "WeekFootModel" "tight" "[Z") ∈ lw_all := lw_g (lw_at lw_m6 36 rfl) rfl
theorem q1340 : (Jvm.Cond.fieldLink "WeekFootModel" (94 : Nat) "WeekFootModel" "scaled" "[J") ∈ lw_all := lw_g (lw_at lw_m6 37 rfl) rfl
theorem q1341 : (Jvm.Cond.fieldLink "WeekFootModel" (97 : Nat) "WeekFootModel" "tried" "[J") ∈ lw_all := lw_g (lw_at lw_m6 38 rfl) rfl
theorem q1342 : (Jvm.Cond.fieldLink "WeekFootModel" (100 : Nat) "WeekFootModel" "ones" "[J") ∈ lw_all := lw_g (lw_at lw_m6 39 rfl) rfl
theorem q1343 : (Jvm.Cond.fieldLink "WeekFootModel" (103 : Nat) "WeekFootModel" "ends" "[J") ∈ lw_all := lw_g (lw_at lw_m6 40 rfl) rfl
theorem q1344 : (Jvm.Cond.fieldLink "WeekFootModel" (409 : Nat) "WeekFootModel" "hasLow" "Z") ∈ lw_all := lw_g (lw_at lw_m6 41 rfl) rfl
theorem q1345 : (Jvm.Cond.fieldLink "WeekFootModel" (415 : Nat) "WeekFootModel" "hasHigh" "Z") ∈ lw_all := lw_g (lw_at lw_m6 42 rfl) rfl
theorem q1346 : (Jvm.Cond.fieldLink "WeekFootModel" (412 : Nat) "WeekFootModel" "lowCome" "Z") ∈ lw_all := lw_g (lw_at lw_m6 43 rfl) rfl
theorem q1347 : (Jvm.Cond.fieldLink "WeekFootModel" (418 : Nat) "WeekFootModel" "highCome" "Z") ∈ lw_all := lw_g (lw_at lw_m6 44 rfl) rfl
theorem q1348 : (Jvm.Cond.fieldLink "WeekFootModel" (106 : Nat) "WeekFootModel" "sumUp" "[J") ∈ lw_all := lw_g (lw_at lw_m6 45 rfl) rfl
theorem q1349 : (Jvm.Cond.fieldLink "WeekFootModel" (109 : Nat) "WeekFootModel" "sumLow" "[J") ∈ lw_all := lw_g (lw_at lw_m6 46 rfl) rfl
theorem q1350 : (Jvm.Cond.fieldLink "WeekFootModel" (112 : Nat) "WeekFootModel" "factor" "[J") ∈ lw_all := lw_g (lw_at lw_m6 47 rfl) rfl
theorem q1351 : (Jvm.Cond.fieldLink "WeekFootModel" (115 : Nat) "WeekFootModel" "partly" "[J") ∈ lw_all := lw_g (lw_at lw_m6 48 rfl) rfl
theorem q1352 : (Jvm.Cond.fieldLink "WeekFootModel" (118 : Nat) "WeekFootModel" "upper" "[J") ∈ lw_all := lw_g (lw_at lw_m6 49 rfl) rfl
theorem q1353 : (Jvm.Cond.fieldLink "WeekFootModel" (121 : Nat) "WeekFootModel" "lower" "[J") ∈ lw_all := lw_g (lw_at lw_m6 50 rfl) rfl
theorem q1354 : (Jvm.Cond.fieldLink "WeekFootModel" (459 : Nat) "WeekFootModel" "allThere" "Z") ∈ lw_all := lw_g (lw_at lw_m6 51 rfl) rfl
theorem q1355 : (Jvm.Cond.fieldLink "WeekFootModel" (462 : Nat) "WeekFootModel" "allCome" "Z") ∈ lw_all := lw_g (lw_at lw_m6 52 rfl) rfl
theorem q1356 : (Jvm.Cond.fieldLink "WeekFootModel" (124 : Nat) "WeekFootModel" "group" "[I") ∈ lw_all := lw_g (lw_at lw_m6 53 rfl) rfl
theorem q1357 : (Jvm.Cond.fieldLink "WeekFootModel" (127 : Nat) "WeekFootModel" "asked" "[I") ∈ lw_all := lw_g (lw_at lw_m6 54 rfl) rfl
theorem q1358 : (Jvm.Cond.fieldLink "WeekFootModel" (487 : Nat) "WeekFootModel" "nAsked" "I") ∈ lw_all := lw_g (lw_at lw_m6 55 rfl) rfl
theorem q1359 : (Jvm.Cond.fieldLink "WeekFootModel" (130 : Nat) "WeekFootModel" "drawn" "[I") ∈ lw_all := lw_g (lw_at lw_m6 56 rfl) rfl
theorem q1360 : (Jvm.Cond.fieldLink "WeekFootModel" (512 : Nat) "WeekFootModel" "isDrawn" "Z") ∈ lw_all := lw_g (lw_at lw_m6 57 rfl) rfl
theorem q1361 : (Jvm.Cond.fieldLink "WeekFootModel" (515 : Nat) "WeekFootModel" "bought" "I") ∈ lw_all := lw_g (lw_at lw_m6 58 rfl) rfl
theorem q1362 : (Jvm.Cond.fieldLink "WeekFootModel" (518 : Nat) "WeekFootModel" "sold" "I") ∈ lw_all := lw_g (lw_at lw_m6 59 rfl) rfl
theorem q1363 : (Jvm.Cond.lays "WeekFootModel" "WeekFootModel" "thrown" "I") ∈ lw_all := lw_g (lw_at lw_m6 60 rfl) rfl
theorem q1364 : (Jvm.Cond.soleField "WeekFootModel" "thrown") ∈ lw_all := lw_g (lw_at lw_m6 61 rfl) rfl
theorem q1365 : (Jvm.Cond.lays "WeekFootModel" "WeekFootModel" "status" "I") ∈ lw_all := lw_g (lw_at lw_m6 62 rfl) rfl
theorem q1366 : (Jvm.Cond.soleField "WeekFootModel" "status") ∈ lw_all := lw_g (lw_at lw_m6 63 rfl) rfl
theorem q1367 : (Jvm.Cond.laysFinal "WeekFootModel" "WeekFootModel" "refusals" "[I") ∈ lw_all := lw_g (lw_at lw_m6 64 rfl) rfl
theorem q1368 : (Jvm.Cond.soleField "WeekFootModel" "refusals") ∈ lw_all := lw_g (lw_at lw_m6 65 rfl) rfl
theorem q1369 : (Jvm.Cond.laysFinal "WeekFootModel" "WeekFootModel" "row" "[I") ∈ lw_all := lw_g (lw_at lw_m6 66 rfl) rfl
theorem q1370 : (Jvm.Cond.soleField "WeekFootModel" "row") ∈ lw_all := lw_g (lw_at lw_m6 67 rfl) rfl
theorem q1371 : (Jvm.Cond.laysFinal "WeekFootModel" "WeekFootModel" "images" "[I") ∈ lw_all := lw_g (lw_at lw_m6 68 rfl) rfl
theorem q1372 : (Jvm.Cond.soleField "WeekFootModel" "images") ∈ lw_all := lw_g (lw_at lw_m6 69 rfl) rfl
theorem q1373 : (Jvm.Cond.laysFinal "WeekFootModel" "WeekFootModel" "isKept" "[Z") ∈ lw_all := lw_g (lw_at lw_m6 70 rfl) rfl
theorem q1374 : (Jvm.Cond.soleField "WeekFootModel" "isKept") ∈ lw_all := lw_g (lw_at lw_m6 71 rfl) rfl
theorem q1375 : (Jvm.Cond.lays "WeekFootModel" "WeekFootModel" "blurred" "I") ∈ lw_all := lw_g (lw_at lw_m6 72 rfl) rfl
theorem q1376 : (Jvm.Cond.soleField "WeekFootModel" "blurred") ∈ lw_all := lw_g (lw_at lw_m6 73 rfl) rfl
theorem q1377 : (Jvm.Cond.laysFinal "WeekFootModel" "WeekFootModel" "tape" "[I") ∈ lw_all := lw_g (lw_at lw_m6 74 rfl) rfl
theorem q1378 : (Jvm.Cond.soleField "WeekFootModel" "tape") ∈ lw_all := lw_g (lw_at lw_m6 75 rfl) rfl
theorem q1379 : (Jvm.Cond.lays "WeekFootModel" "WeekFootModel" "taped" "I") ∈ lw_all := lw_g (lw_at lw_m6 76 rfl) rfl
theorem q1380 : (Jvm.Cond.soleField "WeekFootModel" "taped") ∈ lw_all := lw_g (lw_at lw_m6 77 rfl) rfl
theorem q1381 : (Jvm.Cond.lays "WeekFootModel" "WeekFootModel" "from" "I") ∈ lw_all := lw_g (lw_at lw_m6 78 rfl) rfl
theorem q1382 : (Jvm.Cond.soleField "WeekFootModel" "from") ∈ lw_all := lw_g (lw_at lw_m6 79 rfl) rfl
theorem q1383 : (Jvm.Cond.lays "WeekFootModel" "WeekFootModel" "to" "I") ∈ lw_all := lw_g (lw_at lw_m6 80 rfl) rfl
theorem q1384 : (Jvm.Cond.soleField "WeekFootModel" "to") ∈ lw_all := lw_g (lw_at lw_m6 81 rfl) rfl
theorem q1385 : (Jvm.Cond.lays "WeekFootModel" "WeekFootModel" "sort" "I") ∈ lw_all := lw_g (lw_at lw_m6 82 rfl) rfl
theorem q1386 : (Jvm.Cond.soleField "WeekFootModel" "sort") ∈ lw_all := lw_g (lw_at lw_m6 83 rfl) rfl
theorem q1387 : (Jvm.Cond.lays "WeekFootModel" "WeekFootModel" "worth" "J") ∈ lw_all := lw_g (lw_at lw_m6 84 rfl) rfl
theorem q1388 : (Jvm.Cond.soleField "WeekFootModel" "worth") ∈ lw_all := lw_g (lw_at lw_m6 85 rfl) rfl
theorem q1389 : (Jvm.Cond.lays "WeekFootModel" "WeekFootModel" "fault" "I") ∈ lw_all := lw_g (lw_at lw_m6 86 rfl) rfl
theorem q1390 : (Jvm.Cond.soleField "WeekFootModel" "fault") ∈ lw_all := lw_g (lw_at lw_m6 87 rfl) rfl
theorem q1391 : (Jvm.Cond.lays "WeekFootModel" "WeekFootModel" "bad" "Z") ∈ lw_all := lw_g (lw_at lw_m6 88 rfl) rfl
theorem q1392 : (Jvm.Cond.soleField "WeekFootModel" "bad") ∈ lw_all := lw_g (lw_at lw_m6 89 rfl) rfl
theorem q1393 : (Jvm.Cond.laysFinal "WeekFootModel" "WeekFootModel" "acts" "[I") ∈ lw_all := lw_g (lw_at lw_m6 90 rfl) rfl
theorem q1394 : (Jvm.Cond.soleField "WeekFootModel" "acts") ∈ lw_all := lw_g (lw_at lw_m6 91 rfl) rfl
theorem q1395 : (Jvm.Cond.lays "WeekFootModel" "WeekFootModel" "nActs" "I") ∈ lw_all := lw_g (lw_at lw_m6 92 rfl) rfl
theorem q1396 : (Jvm.Cond.soleField "WeekFootModel" "nActs") ∈ lw_all := lw_g (lw_at lw_m6 93 rfl) rfl
theorem q1397 : (Jvm.Cond.lays "WeekFootModel" "WeekFootModel" "nEntries" "I") ∈ lw_all := lw_g (lw_at lw_m6 94 rfl) rfl
theorem q1398 : (Jvm.Cond.soleField "WeekFootModel" "nEntries") ∈ lw_all := lw_g (lw_at lw_m6 95 rfl) rfl
theorem q1399 : (Jvm.Cond.lays "WeekFootModel" "WeekFootModel" "nShorts" "I") ∈ lw_all := lw_g (lw_at lw_m6 96 rfl) rfl
theorem q1400 : (Jvm.Cond.soleField "WeekFootModel" "nShorts") ∈ lw_all := lw_g (lw_at lw_m6 97 rfl) rfl
theorem q1401 : (Jvm.Cond.laysFinal "WeekFootModel" "WeekFootModel" "first" "[J") ∈ lw_all := lw_g (lw_at lw_m6 98 rfl) rfl
theorem q1402 : (Jvm.Cond.soleField "WeekFootModel" "first") ∈ lw_all := lw_g (lw_at lw_m6 99 rfl) rfl
theorem q1403 : (Jvm.Cond.laysFinal "WeekFootModel" "WeekFootModel" "second" "[J") ∈ lw_all := lw_g (lw_at lw_m6 100 rfl) rfl
theorem q1404 : (Jvm.Cond.soleField "WeekFootModel" "second") ∈ lw_all := lw_g (lw_at lw_m6 101 rfl) rfl
theorem q1405 : (Jvm.Cond.lays "WeekFootModel" "WeekFootModel" "edges" "I") ∈ lw_all := lw_g (lw_at lw_m6 102 rfl) rfl
theorem q1406 : (Jvm.Cond.soleField "WeekFootModel" "edges") ∈ lw_all := lw_g (lw_at lw_m6 103 rfl) rfl
theorem q1407 : (Jvm.Cond.laysFinal "WeekFootModel" "WeekFootModel" "edgeFrom" "[I") ∈ lw_all := lw_g (lw_at lw_m6 104 rfl) rfl
theorem q1408 : (Jvm.Cond.soleField "WeekFootModel" "edgeFrom") ∈ lw_all := lw_g (lw_at lw_m6 105 rfl) rfl
theorem q1409 : (Jvm.Cond.laysFinal "WeekFootModel" "WeekFootModel" "edgeTo" "[I") ∈ lw_all := lw_g (lw_at lw_m6 106 rfl) rfl
theorem q1410 : (Jvm.Cond.soleField "WeekFootModel" "edgeTo") ∈ lw_all := lw_g (lw_at lw_m6 107 rfl) rfl
theorem q1411 : (Jvm.Cond.laysFinal "WeekFootModel" "WeekFootModel" "edgeUp" "[I") ∈ lw_all := lw_g (lw_at lw_m6 108 rfl) rfl
theorem q1412 : (Jvm.Cond.soleField "WeekFootModel" "edgeUp") ∈ lw_all := lw_g (lw_at lw_m6 109 rfl) rfl
theorem q1413 : (Jvm.Cond.laysFinal "WeekFootModel" "WeekFootModel" "edgeLow" "[I") ∈ lw_all := lw_g (lw_at lw_m6 110 rfl) rfl
theorem q1414 : (Jvm.Cond.soleField "WeekFootModel" "edgeLow") ∈ lw_all := lw_g (lw_at lw_m6 111 rfl) rfl
theorem q1415 : (Jvm.Cond.laysFinal "WeekFootModel" "WeekFootModel" "edgeOpen" "[Z") ∈ lw_all := lw_g (lw_at lw_m6 112 rfl) rfl
theorem q1416 : (Jvm.Cond.soleField "WeekFootModel" "edgeOpen") ∈ lw_all := lw_g (lw_at lw_m6 113 rfl) rfl
theorem q1417 : (Jvm.Cond.laysFinal "WeekFootModel" "WeekFootModel" "keepers" "[I") ∈ lw_all := lw_g (lw_at lw_m6 114 rfl) rfl
theorem q1418 : (Jvm.Cond.soleField "WeekFootModel" "keepers") ∈ lw_all := lw_g (lw_at lw_m6 115 rfl) rfl
theorem q1419 : (Jvm.Cond.laysFinal "WeekFootModel" "WeekFootModel" "cuts" "[I") ∈ lw_all := lw_g (lw_at lw_m6 116 rfl) rfl
theorem q1420 : (Jvm.Cond.soleField "WeekFootModel" "cuts") ∈ lw_all := lw_g (lw_at lw_m6 117 rfl) rfl
theorem q1421 : (Jvm.Cond.laysFinal "WeekFootModel" "WeekFootModel" "ups" "[J") ∈ lw_all := lw_g (lw_at lw_m6 118 rfl) rfl
theorem q1422 : (Jvm.Cond.soleField "WeekFootModel" "ups") ∈ lw_all := lw_g (lw_at lw_m6 119 rfl) rfl
theorem q1423 : (Jvm.Cond.laysFinal "WeekFootModel" "WeekFootModel" "lows" "[J") ∈ lw_all := lw_g (lw_at lw_m6 120 rfl) rfl
theorem q1424 : (Jvm.Cond.soleField "WeekFootModel" "lows") ∈ lw_all := lw_g (lw_at lw_m6 121 rfl) rfl
theorem q1425 : (Jvm.Cond.laysFinal "WeekFootModel" "WeekFootModel" "opens" "[Z") ∈ lw_all := lw_g (lw_at lw_m6 122 rfl) rfl
theorem q1426 : (Jvm.Cond.soleField "WeekFootModel" "opens") ∈ lw_all := lw_g (lw_at lw_m6 123 rfl) rfl
theorem q1427 : (Jvm.Cond.laysFinal "WeekFootModel" "WeekFootModel" "there" "[Z") ∈ lw_all := lw_g (lw_at lw_m6 124 rfl) rfl
theorem q1428 : (Jvm.Cond.soleField "WeekFootModel" "there") ∈ lw_all := lw_g (lw_at lw_m6 125 rfl) rfl
theorem q1429 : (Jvm.Cond.laysFinal "WeekFootModel" "WeekFootModel" "thenUps" "[J") ∈ lw_all := lw_g (lw_at lw_m6 126 rfl) rfl
theorem q1430 : (Jvm.Cond.soleField "WeekFootModel" "thenUps") ∈ lw_all := lw_g (lw_at lw_m6 127 rfl) rfl
theorem q1431 : (Jvm.Cond.laysFinal "WeekFootModel" "WeekFootModel" "thenLows" "[J") ∈ lw_all := lw_g (lw_at lw_m6 128 rfl) rfl
theorem q1432 : (Jvm.Cond.soleField "WeekFootModel" "thenLows") ∈ lw_all := lw_g (lw_at lw_m6 129 rfl) rfl
theorem q1433 : (Jvm.Cond.laysFinal "WeekFootModel" "WeekFootModel" "thenOpens" "[Z") ∈ lw_all := lw_g (lw_at lw_m6 130 rfl) rfl
theorem q1434 : (Jvm.Cond.soleField "WeekFootModel" "thenOpens") ∈ lw_all := lw_g (lw_at lw_m6 131 rfl) rfl
theorem q1435 : (Jvm.Cond.laysFinal "WeekFootModel" "WeekFootModel" "thenThere" "[Z") ∈ lw_all := lw_g (lw_at lw_m6 132 rfl) rfl
theorem q1436 : (Jvm.Cond.soleField "WeekFootModel" "thenThere") ∈ lw_all := lw_g (lw_at lw_m6 133 rfl) rfl
theorem q1437 : (Jvm.Cond.laysFinal "WeekFootModel" "WeekFootModel" "tryUp" "[J") ∈ lw_all := lw_g (lw_at lw_m6 134 rfl) rfl
theorem q1438 : (Jvm.Cond.soleField "WeekFootModel" "tryUp") ∈ lw_all := lw_g (lw_at lw_m6 135 rfl) rfl
theorem q1439 : (Jvm.Cond.laysFinal "WeekFootModel" "WeekFootModel" "tryLow" "[J") ∈ lw_all := lw_g (lw_at lw_m6 136 rfl) rfl
theorem q1440 : (Jvm.Cond.soleField "WeekFootModel" "tryLow") ∈ lw_all := lw_g (lw_at lw_m6 137 rfl) rfl
theorem q1441 : (Jvm.Cond.laysFinal "WeekFootModel" "WeekFootModel" "tight" "[Z") ∈ lw_all := lw_g (lw_at lw_m6 138 rfl) rfl
theorem q1442 : (Jvm.Cond.soleField "WeekFootModel" "tight") ∈ lw_all := lw_g (lw_at lw_m6 139 rfl) rfl
theorem q1443 : (Jvm.Cond.laysFinal "WeekFootModel" "WeekFootModel" "scaled" "[J") ∈ lw_all := lw_g (lw_at lw_m6 140 rfl) rfl
theorem q1444 : (Jvm.Cond.soleField "WeekFootModel" "scaled") ∈ lw_all := lw_g (lw_at lw_m6 141 rfl) rfl
theorem q1445 : (Jvm.Cond.laysFinal "WeekFootModel" "WeekFootModel" "tried" "[J") ∈ lw_all := lw_g (lw_at lw_m6 142 rfl) rfl
theorem q1446 : (Jvm.Cond.soleField "WeekFootModel" "tried") ∈ lw_all := lw_g (lw_at lw_m6 143 rfl) rfl
theorem q1447 : (Jvm.Cond.laysFinal "WeekFootModel" "WeekFootModel" "ones" "[J") ∈ lw_all := lw_g (lw_at lw_m6 144 rfl) rfl
theorem q1448 : (Jvm.Cond.soleField "WeekFootModel" "ones") ∈ lw_all := lw_g (lw_at lw_m6 145 rfl) rfl
theorem q1449 : (Jvm.Cond.laysFinal "WeekFootModel" "WeekFootModel" "ends" "[J") ∈ lw_all := lw_g (lw_at lw_m6 146 rfl) rfl
theorem q1450 : (Jvm.Cond.soleField "WeekFootModel" "ends") ∈ lw_all := lw_g (lw_at lw_m6 147 rfl) rfl
theorem q1451 : (Jvm.Cond.lays "WeekFootModel" "WeekFootModel" "hasLow" "Z") ∈ lw_all := lw_g (lw_at lw_m6 148 rfl) rfl
theorem q1452 : (Jvm.Cond.soleField "WeekFootModel" "hasLow") ∈ lw_all := lw_g (lw_at lw_m6 149 rfl) rfl
theorem q1453 : (Jvm.Cond.lays "WeekFootModel" "WeekFootModel" "hasHigh" "Z") ∈ lw_all := lw_g (lw_at lw_m6 150 rfl) rfl
theorem q1454 : (Jvm.Cond.soleField "WeekFootModel" "hasHigh") ∈ lw_all := lw_g (lw_at lw_m6 151 rfl) rfl
theorem q1455 : (Jvm.Cond.lays "WeekFootModel" "WeekFootModel" "lowCome" "Z") ∈ lw_all := lw_g (lw_at lw_m6 152 rfl) rfl
theorem q1456 : (Jvm.Cond.soleField "WeekFootModel" "lowCome") ∈ lw_all := lw_g (lw_at lw_m6 153 rfl) rfl
theorem q1457 : (Jvm.Cond.lays "WeekFootModel" "WeekFootModel" "highCome" "Z") ∈ lw_all := lw_g (lw_at lw_m6 154 rfl) rfl
theorem q1458 : (Jvm.Cond.soleField "WeekFootModel" "highCome") ∈ lw_all := lw_g (lw_at lw_m6 155 rfl) rfl
theorem q1459 : (Jvm.Cond.laysFinal "WeekFootModel" "WeekFootModel" "sumUp" "[J") ∈ lw_all := lw_g (lw_at lw_m6 156 rfl) rfl
theorem q1460 : (Jvm.Cond.soleField "WeekFootModel" "sumUp") ∈ lw_all := lw_g (lw_at lw_m6 157 rfl) rfl
theorem q1461 : (Jvm.Cond.laysFinal "WeekFootModel" "WeekFootModel" "sumLow" "[J") ∈ lw_all := lw_g (lw_at lw_m6 158 rfl) rfl
theorem q1462 : (Jvm.Cond.soleField "WeekFootModel" "sumLow") ∈ lw_all := lw_g (lw_at lw_m6 159 rfl) rfl
theorem q1463 : (Jvm.Cond.laysFinal "WeekFootModel" "WeekFootModel" "factor" "[J") ∈ lw_all := lw_g (lw_at lw_m6 160 rfl) rfl
theorem q1464 : (Jvm.Cond.soleField "WeekFootModel" "factor") ∈ lw_all := lw_g (lw_at lw_m6 161 rfl) rfl
theorem q1465 : (Jvm.Cond.laysFinal "WeekFootModel" "WeekFootModel" "partly" "[J") ∈ lw_all := lw_g (lw_at lw_m6 162 rfl) rfl
theorem q1466 : (Jvm.Cond.soleField "WeekFootModel" "partly") ∈ lw_all := lw_g (lw_at lw_m6 163 rfl) rfl
theorem q1467 : (Jvm.Cond.laysFinal "WeekFootModel" "WeekFootModel" "upper" "[J") ∈ lw_all := lw_g (lw_at lw_m6 164 rfl) rfl
theorem q1468 : (Jvm.Cond.soleField "WeekFootModel" "upper") ∈ lw_all := lw_g (lw_at lw_m6 165 rfl) rfl
theorem q1469 : (Jvm.Cond.laysFinal "WeekFootModel" "WeekFootModel" "lower" "[J") ∈ lw_all := lw_g (lw_at lw_m6 166 rfl) rfl
theorem q1470 : (Jvm.Cond.soleField "WeekFootModel" "lower") ∈ lw_all := lw_g (lw_at lw_m6 167 rfl) rfl
theorem q1471 : (Jvm.Cond.lays "WeekFootModel" "WeekFootModel" "allThere" "Z") ∈ lw_all := lw_g (lw_at lw_m6 168 rfl) rfl
theorem q1472 : (Jvm.Cond.soleField "WeekFootModel" "allThere") ∈ lw_all := lw_g (lw_at lw_m6 169 rfl) rfl
theorem q1473 : (Jvm.Cond.lays "WeekFootModel" "WeekFootModel" "allCome" "Z") ∈ lw_all := lw_g (lw_at lw_m6 170 rfl) rfl
theorem q1474 : (Jvm.Cond.soleField "WeekFootModel" "allCome") ∈ lw_all := lw_g (lw_at lw_m6 171 rfl) rfl
theorem q1475 : (Jvm.Cond.laysFinal "WeekFootModel" "WeekFootModel" "group" "[I") ∈ lw_all := lw_g (lw_at lw_m6 172 rfl) rfl
theorem q1476 : (Jvm.Cond.soleField "WeekFootModel" "group") ∈ lw_all := lw_g (lw_at lw_m6 173 rfl) rfl
theorem q1477 : (Jvm.Cond.laysFinal "WeekFootModel" "WeekFootModel" "asked" "[I") ∈ lw_all := lw_g (lw_at lw_m6 174 rfl) rfl
theorem q1478 : (Jvm.Cond.soleField "WeekFootModel" "asked") ∈ lw_all := lw_g (lw_at lw_m6 175 rfl) rfl
theorem q1479 : (Jvm.Cond.lays "WeekFootModel" "WeekFootModel" "nAsked" "I") ∈ lw_all := lw_g (lw_at lw_m6 176 rfl) rfl
theorem q1480 : (Jvm.Cond.soleField "WeekFootModel" "nAsked") ∈ lw_all := lw_g (lw_at lw_m6 177 rfl) rfl
theorem q1481 : (Jvm.Cond.laysFinal "WeekFootModel" "WeekFootModel" "drawn" "[I") ∈ lw_all := lw_g (lw_at lw_m6 178 rfl) rfl
theorem q1482 : (Jvm.Cond.soleField "WeekFootModel" "drawn") ∈ lw_all := lw_g (lw_at lw_m6 179 rfl) rfl
theorem q1483 : (Jvm.Cond.lays "WeekFootModel" "WeekFootModel" "isDrawn" "Z") ∈ lw_all := lw_g (lw_at lw_m6 180 rfl) rfl
theorem q1484 : (Jvm.Cond.soleField "WeekFootModel" "isDrawn") ∈ lw_all := lw_g (lw_at lw_m6 181 rfl) rfl
theorem q1485 : (Jvm.Cond.lays "WeekFootModel" "WeekFootModel" "bought" "I") ∈ lw_all := lw_g (lw_at lw_m6 182 rfl) rfl
theorem q1486 : (Jvm.Cond.soleField "WeekFootModel" "bought") ∈ lw_all := lw_g (lw_at lw_m6 183 rfl) rfl
theorem q1487 : (Jvm.Cond.lays "WeekFootModel" "WeekFootModel" "sold" "I") ∈ lw_all := lw_g (lw_at lw_m6 184 rfl) rfl
theorem q1488 : (Jvm.Cond.soleField "WeekFootModel" "sold") ∈ lw_all := lw_g (lw_at lw_m6 185 rfl) rfl
theorem q1489 : (Jvm.Cond.superclass "WeekFootModel" "java/lang/Object") ∈ lw_all := lw_g (lw_at lw_m6 186 rfl) rfl
theorem q1492 : (Jvm.Cond.instanceMethod ({ cls := "WeekFootModel", name := "image", desc := "(I)I" } : Jvm.MethodName)) ∈ lw_all := lw_g (lw_at lw_m6 189 rfl) rfl
theorem q1493 : (Jvm.Cond.selects "WeekFootModel" ({ cls := "WeekFootModel", name := "image", desc := "(I)I" } : Jvm.MethodName) ({ cls := "WeekFootModel", name := "image", desc := "(I)I" } : Jvm.MethodName)) ∈ lw_all := lw_g (lw_at lw_m6 190 rfl) rfl
theorem q1494 : (Jvm.Cond.code ({ cls := "WeekFootModel", name := "image", desc := "(I)I" } : Jvm.MethodName) prog_16_method_8_code (3 : Nat) (Option.some Jvm.ClassFile.FieldType.int)) ∈ lw_all := lw_g (lw_at lw_m6 191 rfl) rfl
theorem q1495 : (Jvm.Cond.methodLink "WeekFootModel" (143 : Nat) ({ cls := "WeekFootModel", name := "in", desc := "(JJJ)Z" } : Jvm.MethodName)) ∈ lw_all := lw_g (lw_at lw_m6 192 rfl) rfl
theorem q1496 : (Jvm.Cond.static ({ cls := "WeekFootModel", name := "in", desc := "(JJJ)Z" } : Jvm.MethodName)) ∈ lw_all := lw_g (lw_at lw_m6 193 rfl) rfl
theorem q1497 : (Jvm.Cond.code ({ cls := "WeekFootModel", name := "in", desc := "(JJJ)Z" } : Jvm.MethodName) prog_16_method_3_code (6 : Nat) (Option.some Jvm.ClassFile.FieldType.boolean)) ∈ lw_all := lw_g (lw_at lw_m6 194 rfl) rfl
theorem q1498 : (Jvm.Cond.methodLink "WeekFootModel" (147 : Nat) ({ cls := "WeekFootModel", name := "answer", desc := "(I)I" } : Jvm.MethodName)) ∈ lw_all := lw_g (lw_at lw_m6 195 rfl) rfl
theorem q1499 : (Jvm.Cond.privateMethod ({ cls := "WeekFootModel", name := "answer", desc := "(I)I" } : Jvm.MethodName)) ∈ lw_tbl := lw_at lw_m6 196 rfl
theorem q1500 : (Jvm.Cond.instanceMethod ({ cls := "WeekFootModel", name := "answer", desc := "(I)I" } : Jvm.MethodName)) ∈ lw_all := lw_g (lw_at lw_m6 197 rfl) rfl
theorem q1501 : (Jvm.Cond.code ({ cls := "WeekFootModel", name := "answer", desc := "(I)I" } : Jvm.MethodName) prog_16_method_5_code (2 : Nat) (Option.some Jvm.ClassFile.FieldType.int)) ∈ lw_all := lw_g (lw_at lw_m6 198 rfl) rfl
theorem q1503 : (Jvm.Cond.instanceMethod ({ cls := "WeekFootModel", name := "back", desc := "(I)I" } : Jvm.MethodName)) ∈ lw_all := lw_g (lw_at lw_m6 200 rfl) rfl
theorem q1504 : (Jvm.Cond.selects "WeekFootModel" ({ cls := "WeekFootModel", name := "back", desc := "(I)I" } : Jvm.MethodName) ({ cls := "WeekFootModel", name := "back", desc := "(I)I" } : Jvm.MethodName)) ∈ lw_all := lw_g (lw_at lw_m6 201 rfl) rfl
theorem q1505 : (Jvm.Cond.code ({ cls := "WeekFootModel", name := "back", desc := "(I)I" } : Jvm.MethodName) prog_16_method_9_code (3 : Nat) (Option.some Jvm.ClassFile.FieldType.int)) ∈ lw_all := lw_g (lw_at lw_m6 202 rfl) rfl
theorem q1507 : (Jvm.Cond.instanceMethod ({ cls := "WeekFootModel", name := "week", desc := "(II)I" } : Jvm.MethodName)) ∈ lw_all := lw_g (lw_at lw_m6 204 rfl) rfl
theorem q1508 : (Jvm.Cond.selects "WeekFootModel" ({ cls := "WeekFootModel", name := "week", desc := "(II)I" } : Jvm.MethodName) ({ cls := "WeekFootModel", name := "week", desc := "(II)I" } : Jvm.MethodName)) ∈ lw_all := lw_g (lw_at lw_m6 205 rfl) rfl
theorem q1509 : (Jvm.Cond.code ({ cls := "WeekFootModel", name := "week", desc := "(II)I" } : Jvm.MethodName) prog_16_method_13_code (3 : Nat) (Option.some Jvm.ClassFile.FieldType.int)) ∈ lw_all := lw_g (lw_at lw_m6 206 rfl) rfl
theorem q1510 : (Jvm.Cond.methodLink "WeekFootModel" (156 : Nat) ({ cls := "WeekFootModel", name := "isWeek", desc := "(I)Z" } : Jvm.MethodName)) ∈ lw_all := lw_g (lw_at lw_m6 207 rfl) rfl
theorem q1511 : (Jvm.Cond.static ({ cls := "WeekFootModel", name := "isWeek", desc := "(I)Z" } : Jvm.MethodName)) ∈ lw_all := lw_g (lw_at lw_m6 208 rfl) rfl
theorem q1512 : (Jvm.Cond.code ({ cls := "WeekFootModel", name := "isWeek", desc := "(I)Z" } : Jvm.MethodName) prog_16_method_12_code (1 : Nat) (Option.some Jvm.ClassFile.FieldType.boolean)) ∈ lw_all := lw_g (lw_at lw_m6 209 rfl) rfl
theorem q1513 : (Jvm.Cond.constantLong "WeekFootModel" (154 : Nat) (31 : Int64)) ∈ lw_all := lw_g (lw_at lw_m6 210 rfl) rfl
theorem q1514 : (Jvm.Cond.constantLong "WeekFootModel" (160 : Nat) (-1 : Int64)) ∈ lw_all := lw_g (lw_at lw_m6 211 rfl) rfl
theorem q1515 : (Jvm.Cond.constantLong "WeekFootModel" (152 : Nat) (3 : Int64)) ∈ lw_all := lw_g (lw_at lw_m6 212 rfl) rfl
theorem q1516 : (Jvm.Cond.methodLink "WeekFootModel" (162 : Nat) ({ cls := "WeekFootModel", name := "change", desc := "(II)I" } : Jvm.MethodName)) ∈ lw_all := lw_g (lw_at lw_m6 213 rfl) rfl
theorem q1517 : (Jvm.Cond.privateMethod ({ cls := "WeekFootModel", name := "change", desc := "(II)I" } : Jvm.MethodName)) ∈ lw_tbl := lw_at lw_m6 214 rfl
theorem q1518 : (Jvm.Cond.instanceMethod ({ cls := "WeekFootModel", name := "change", desc := "(II)I" } : Jvm.MethodName)) ∈ lw_all := lw_g (lw_at lw_m6 215 rfl) rfl
theorem q1519 : (Jvm.Cond.code ({ cls := "WeekFootModel", name := "change", desc := "(II)I" } : Jvm.MethodName) prog_16_method_7_code (4 : Nat) (Option.some Jvm.ClassFile.FieldType.int)) ∈ lw_all := lw_g (lw_at lw_m6 216 rfl) rfl
theorem q1520 : (Jvm.Cond.methodLink "WeekFootModel" (139 : Nat) ({ cls := "WeekFootModel", name := "was", desc := "(I)I" } : Jvm.MethodName)) ∈ lw_all := lw_g (lw_at lw_m6 217 rfl) rfl
theorem q1521 : (Jvm.Cond.privateMethod ({ cls := "WeekFootModel", name := "was", desc := "(I)I" } : Jvm.MethodName)) ∈ lw_tbl := lw_at lw_m6 218 rfl
theorem q1522 : (Jvm.Cond.instanceMethod ({ cls := "WeekFootModel", name := "was", desc := "(I)I" } : Jvm.MethodName)) ∈ lw_all := lw_g (lw_at lw_m6 219 rfl) rfl
theorem q1523 : (Jvm.Cond.code ({ cls := "WeekFootModel", name := "was", desc := "(I)I" } : Jvm.MethodName) prog_16_method_6_code (2 : Nat) (Option.some Jvm.ClassFile.FieldType.int)) ∈ lw_all := lw_g (lw_at lw_m6 220 rfl) rfl
theorem q1525 : (Jvm.Cond.instanceMethod ({ cls := "WeekFootModel", name := "cut", desc := "(II)I" } : Jvm.MethodName)) ∈ lw_all := lw_g (lw_at lw_m6 222 rfl) rfl
theorem q1526 : (Jvm.Cond.selects "WeekFootModel" ({ cls := "WeekFootModel", name := "cut", desc := "(II)I" } : Jvm.MethodName) ({ cls := "WeekFootModel", name := "cut", desc := "(II)I" } : Jvm.MethodName)) ∈ lw_all := lw_g (lw_at lw_m6 223 rfl) rfl
theorem q1527 : (Jvm.Cond.code ({ cls := "WeekFootModel", name := "cut", desc := "(II)I" } : Jvm.MethodName) prog_16_method_14_code (3 : Nat) (Option.some Jvm.ClassFile.FieldType.int)) ∈ lw_all := lw_g (lw_at lw_m6 224 rfl) rfl
theorem q1528 : (Jvm.Cond.methodLink "WeekFootModel" (166 : Nat) ({ cls := "WeekFootModel", name := "isThing", desc := "(I)Z" } : Jvm.MethodName)) ∈ lw_all := lw_g (lw_at lw_m6 225 rfl) rfl
theorem q1529 : (Jvm.Cond.static ({ cls := "WeekFootModel", name := "isThing", desc := "(I)Z" } : Jvm.MethodName)) ∈ lw_all := lw_g (lw_at lw_m6 226 rfl) rfl
theorem q1530 : (Jvm.Cond.code ({ cls := "WeekFootModel", name := "isThing", desc := "(I)Z" } : Jvm.MethodName) prog_16_method_10_code (1 : Nat) (Option.some Jvm.ClassFile.FieldType.boolean)) ∈ lw_all := lw_g (lw_at lw_m6 227 rfl) rfl
theorem q1531 : (Jvm.Cond.constantLong "WeekFootModel" (150 : Nat) (5 : Int64)) ∈ lw_all := lw_g (lw_at lw_m6 228 rfl) rfl
theorem q1533 : (Jvm.Cond.instanceMethod ({ cls := "WeekFootModel", name := "shorter", desc := "(II)I" } : Jvm.MethodName)) ∈ lw_all := lw_g (lw_at lw_m6 230 rfl) rfl
theorem q1534 : (Jvm.Cond.selects "WeekFootModel" ({ cls := "WeekFootModel", name := "shorter", desc := "(II)I" } : Jvm.MethodName) ({ cls := "WeekFootModel", name := "shorter", desc := "(II)I" } : Jvm.MethodName)) ∈ lw_all := lw_g (lw_at lw_m6 231 rfl) rfl
theorem q1535 : (Jvm.Cond.code ({ cls := "WeekFootModel", name := "shorter", desc := "(II)I" } : Jvm.MethodName) prog_16_method_17_code (3 : Nat) (Option.some Jvm.ClassFile.FieldType.int)) ∈ lw_all := lw_g (lw_at lw_m6 232 rfl) rfl
theorem q1536 : (Jvm.Cond.methodLink "WeekFootModel" (169 : Nat) ({ cls := "WeekFootModel", name := "isKeeper", desc := "(I)Z" } : Jvm.MethodName)) ∈ lw_all := lw_g (lw_at lw_m6 233 rfl) rfl
theorem q1537 : (Jvm.Cond.static ({ cls := "WeekFootModel", name := "isKeeper", desc := "(I)Z" } : Jvm.MethodName)) ∈ lw_all := lw_g (lw_at lw_m6 234 rfl) rfl
theorem q1538 : (Jvm.Cond.code ({ cls := "WeekFootModel", name := "isKeeper", desc := "(I)Z" } : Jvm.MethodName) prog_16_method_11_code (1 : Nat) (Option.some Jvm.ClassFile.FieldType.boolean)) ∈ lw_all := lw_g (lw_at lw_m6 235 rfl) rfl
theorem q1539 : (Jvm.Cond.methodLink "WeekFootModel" (172 : Nat) ({ cls := "WeekFootModel", name := "isShorter", desc := "(II)Z" } : Jvm.MethodName)) ∈ lw_all := lw_g (lw_at lw_m6 236 rfl) rfl
theorem q1540 : (Jvm.Cond.privateMethod ({ cls := "WeekFootModel", name := "isShorter", desc := "(II)Z" } : Jvm.MethodName)) ∈ lw_tbl := lw_at lw_m6 237 rfl
theorem q1541 : (Jvm.Cond.instanceMethod ({ cls := "WeekFootModel", name := "isShorter", desc := "(II)Z" } : Jvm.MethodName)) ∈ lw_all := lw_g (lw_at lw_m6 238 rfl) rfl
theorem q1542 : (Jvm.Cond.code ({ cls := "WeekFootModel", name := "isShorter", desc := "(II)Z" } : Jvm.MethodName) prog_16_method_15_code (4 : Nat) (Option.some Jvm.ClassFile.FieldType.boolean)) ∈ lw_all := lw_g (lw_at lw_m6 239 rfl) rfl
theorem q1543 : (Jvm.Cond.methodLink "WeekFootModel" (176 : Nat) ({ cls := "WeekFootModel", name := "addShorter", desc := "(II)V" } : Jvm.MethodName)) ∈ lw_all := lw_g (lw_at lw_m7 0 rfl) rfl
theorem q1544 : (Jvm.Cond.privateMethod ({ cls := "WeekFootModel", name := "addShorter", desc := "(II)V" } : Jvm.MethodName)) ∈ lw_tbl := lw_at lw_m7 1 rfl
theorem q1545 : (Jvm.Cond.instanceMethod ({ cls := "WeekFootModel", name := "addShorter", desc := "(II)V" } : Jvm.MethodName)) ∈ lw_all := lw_g (lw_at lw_m7 2 rfl) rfl
theorem q1546 : (Jvm.Cond.code ({ cls := "WeekFootModel", name := "addShorter", desc := "(II)V" } : Jvm.MethodName) prog_16_method_16_code (3 : Nat) (Option.none : Option Jvm.ClassFile.FieldType)) ∈ lw_all := lw_g (lw_at lw_m7 3 rfl) rfl
theorem q1548 : (Jvm.Cond.instanceMethod ({ cls := "WeekFootModel", name := "entry", desc := "(IIII)I" } : Jvm.MethodName)) ∈ lw_all := lw_g (lw_at lw_m7 5 rfl) rfl
theorem q1549 : (Jvm.Cond.selects "WeekFootModel" ({ cls := "WeekFootModel", name := "entry", desc := "(IIII)I" } : Jvm.MethodName) ({ cls := "WeekFootModel", name := "entry", desc := "(IIII)I" } : Jvm.MethodName)) ∈ lw_all := lw_g (lw_at lw_m7 6 rfl) rfl
theorem q1550 : (Jvm.Cond.code ({ cls := "WeekFootModel", name := "entry", desc := "(IIII)I" } : Jvm.MethodName) prog_16_method_20_code (5 : Nat) (Option.some Jvm.ClassFile.FieldType.int)) ∈ lw_all := lw_g (lw_at lw_m7 7 rfl) rfl
theorem q1551 : (Jvm.Cond.methodLink "WeekFootModel" (184 : Nat) ({ cls := "WeekFootModel", name := "canEnter", desc := "(IIII)Z" } : Jvm.MethodName)) ∈ lw_all := lw_g (lw_at lw_m7 8 rfl) rfl
theorem q1552 : (Jvm.Cond.static ({ cls := "WeekFootModel", name := "canEnter", desc := "(IIII)Z" } : Jvm.MethodName)) ∈ lw_all := lw_g (lw_at lw_m7 9 rfl) rfl
theorem q1553 : (Jvm.Cond.code ({ cls := "WeekFootModel", name := "canEnter", desc := "(IIII)Z" } : Jvm.MethodName) prog_16_method_18_code (4 : Nat) (Option.some Jvm.ClassFile.FieldType.boolean)) ∈ lw_all := lw_g (lw_at lw_m7 10 rfl) rfl
theorem q1554 : (Jvm.Cond.constantLong "WeekFootModel" (180 : Nat) (99 : Int64)) ∈ lw_all := lw_g (lw_at lw_m7 11 rfl) rfl
theorem q1555 : (Jvm.Cond.constantLong "WeekFootModel" (182 : Nat) (2 : Int64)) ∈ lw_all := lw_g (lw_at lw_m7 12 rfl) rfl
theorem q1556 : (Jvm.Cond.methodLink "WeekFootModel" (188 : Nat) ({ cls := "WeekFootModel", name := "addEntry", desc := "(IIII)V" } : Jvm.MethodName)) ∈ lw_all := lw_g (lw_at lw_m7 13 rfl) rfl
theorem q1557 : (Jvm.Cond.privateMethod ({ cls := "WeekFootModel", name := "addEntry", desc := "(IIII)V" } : Jvm.MethodName)) ∈ lw_tbl := lw_at lw_m7 14 rfl
theorem q1558 : (Jvm.Cond.instanceMethod ({ cls := "WeekFootModel", name := "addEntry", desc := "(IIII)V" } : Jvm.MethodName)) ∈ lw_all := lw_g (lw_at lw_m7 15 rfl) rfl
theorem q1559 : (Jvm.Cond.code ({ cls := "WeekFootModel", name := "addEntry", desc := "(IIII)V" } : Jvm.MethodName) prog_16_method_19_code (6 : Nat) (Option.none : Option Jvm.ClassFile.FieldType)) ∈ lw_all := lw_g (lw_at lw_m7 16 rfl) rfl
theorem q1561 : (Jvm.Cond.instanceMethod ({ cls := "WeekFootModel", name := "counts", desc := "(II)I" } : Jvm.MethodName)) ∈ lw_all := lw_g (lw_at lw_m7 18 rfl) rfl
theorem q1562 : (Jvm.Cond.selects "WeekFootModel" ({ cls := "WeekFootModel", name := "counts", desc := "(II)I" } : Jvm.MethodName) ({ cls := "WeekFootModel", name := "counts", desc := "(II)I" } : Jvm.MethodName)) ∈ lw_all := lw_g (lw_at lw_m7 19 rfl) rfl
theorem q1563 : (Jvm.Cond.code ({ cls := "WeekFootModel", name := "counts", desc := "(II)I" } : Jvm.MethodName) prog_16_method_23_code (3 : Nat) (Option.some Jvm.ClassFile.FieldType.int)) ∈ lw_all := lw_g (lw_at lw_m7 20 rfl) rfl
theorem q1564 : (Jvm.Cond.methodLink "WeekFootModel" (192 : Nat) ({ cls := "WeekFootModel", name := "isEntry", desc := "(I)Z" } : Jvm.MethodName)) ∈ lw_all := lw_g (lw_at lw_m7 21 rfl) rfl
theorem q1565 : (Jvm.Cond.privateMethod ({ cls := "WeekFootModel", name := "isEntry", desc := "(I)Z" } : Jvm.MethodName)) ∈ lw_tbl := lw_at lw_m7 22 rfl
theorem q1566 : (Jvm.Cond.instanceMethod ({ cls := "WeekFootModel", name := "isEntry", desc := "(I)Z" } : Jvm.MethodName)) ∈ lw_all := lw_g (lw_at lw_m7 23 rfl) rfl
theorem q1567 : (Jvm.Cond.code ({ cls := "WeekFootModel", name := "isEntry", desc := "(I)Z" } : Jvm.MethodName) prog_16_method_21_code (2 : Nat) (Option.some Jvm.ClassFile.FieldType.boolean)) ∈ lw_all := lw_g (lw_at lw_m7 24 rfl) rfl
theorem q1569 : (Jvm.Cond.instanceMethod ({ cls := "WeekFootModel", name := "of", desc := "(II)I" } : Jvm.MethodName)) ∈ lw_all := lw_g (lw_at lw_m7 26 rfl) rfl
theorem q1570 : (Jvm.Cond.selects "WeekFootModel" ({ cls := "WeekFootModel", name := "of", desc := "(II)I" } : Jvm.MethodName) ({ cls := "WeekFootModel", name := "of", desc := "(II)I" } : Jvm.MethodName)) ∈ lw_all := lw_g (lw_at lw_m7 27 rfl) rfl
theorem q1571 : (Jvm.Cond.code ({ cls := "WeekFootModel", name := "of", desc := "(II)I" } : Jvm.MethodName) prog_16_method_25_code (3 : Nat) (Option.some Jvm.ClassFile.FieldType.int)) ∈ lw_all := lw_g (lw_at lw_m7 28 rfl) rfl
theorem q1572 : (Jvm.Cond.methodLink "WeekFootModel" (198 : Nat) ({ cls := "WeekFootModel", name := "lengthOf", desc := "(I)I" } : Jvm.MethodName)) ∈ lw_all := lw_g (lw_at lw_m7 29 rfl) rfl
theorem q1573 : (Jvm.Cond.privateMethod ({ cls := "WeekFootModel", name := "lengthOf", desc := "(I)I" } : Jvm.MethodName)) ∈ lw_tbl := lw_at lw_m7 30 rfl
theorem q1574 : (Jvm.Cond.instanceMethod ({ cls := "WeekFootModel", name := "lengthOf", desc := "(I)I" } : Jvm.MethodName)) ∈ lw_all := lw_g (lw_at lw_m7 31 rfl) rfl
theorem q1575 : (Jvm.Cond.code ({ cls := "WeekFootModel", name := "lengthOf", desc := "(I)I" } : Jvm.MethodName) prog_16_method_24_code (3 : Nat) (Option.some Jvm.ClassFile.FieldType.int)) ∈ lw_all := lw_g (lw_at lw_m7 32 rfl) rfl
theorem q1576 : (Jvm.Cond.methodLink "WeekFootModel" (195 : Nat) ({ cls := "WeekFootModel", name := "ofEntry", desc := "(II)I" } : Jvm.MethodName)) ∈ lw_all := lw_g (lw_at lw_m7 33 rfl) rfl
theorem q1577 : (Jvm.Cond.privateMethod ({ cls := "WeekFootModel", name := "ofEntry", desc := "(II)I" } : Jvm.MethodName)) ∈ lw_tbl := lw_at lw_m7 34 rfl
theorem q1578 : (Jvm.Cond.instanceMethod ({ cls := "WeekFootModel", name := "ofEntry", desc := "(II)I" } : Jvm.MethodName)) ∈ lw_all := lw_g (lw_at lw_m7 35 rfl) rfl
theorem q1579 : (Jvm.Cond.code ({ cls := "WeekFootModel", name := "ofEntry", desc := "(II)I" } : Jvm.MethodName) prog_16_method_22_code (3 : Nat) (Option.some Jvm.ClassFile.FieldType.int)) ∈ lw_all := lw_g (lw_at lw_m7 36 rfl) rfl
theorem q1581 : (Jvm.Cond.instanceMethod ({ cls := "WeekFootModel", name := "row", desc := "()I" } : Jvm.MethodName)) ∈ lw_all := lw_g (lw_at lw_m7 38 rfl) rfl
theorem q1582 : (Jvm.Cond.selects "WeekFootModel" ({ cls := "WeekFootModel", name := "row", desc := "()I" } : Jvm.MethodName) ({ cls := "WeekFootModel", name := "row", desc := "()I" } : Jvm.MethodName)) ∈ lw_all := lw_g (lw_at lw_m7 39 rfl) rfl
theorem q1583 : (Jvm.Cond.code ({ cls := "WeekFootModel", name := "row", desc := "()I" } : Jvm.MethodName) prog_16_method_26_code (5 : Nat) (Option.some Jvm.ClassFile.FieldType.int)) ∈ lw_all := lw_g (lw_at lw_m7 40 rfl) rfl
theorem q1585 : (Jvm.Cond.instanceMethod ({ cls := "WeekFootModel", name := "blurred", desc := "()I" } : Jvm.MethodName)) ∈ lw_all := lw_g (lw_at lw_m7 42 rfl) rfl
theorem q1586 : (Jvm.Cond.selects "WeekFootModel" ({ cls := "WeekFootModel", name := "blurred", desc := "()I" } : Jvm.MethodName) ({ cls := "WeekFootModel", name := "blurred", desc := "()I" } : Jvm.MethodName)) ∈ lw_all := lw_g (lw_at lw_m7 43 rfl) rfl
theorem q1587 : (Jvm.Cond.code ({ cls := "WeekFootModel", name := "blurred", desc := "()I" } : Jvm.MethodName) prog_16_method_27_code (1 : Nat) (Option.some Jvm.ClassFile.FieldType.int)) ∈ lw_all := lw_g (lw_at lw_m7 44 rfl) rfl
theorem q1589 : (Jvm.Cond.instanceMethod ({ cls := "WeekFootModel", name := "feed", desc := "(IIIII)I" } : Jvm.MethodName)) ∈ lw_all := lw_g (lw_at lw_m7 46 rfl) rfl
theorem q1590 : (Jvm.Cond.selects "WeekFootModel" ({ cls := "WeekFootModel", name := "feed", desc := "(IIIII)I" } : Jvm.MethodName) ({ cls := "WeekFootModel", name := "feed", desc := "(IIIII)I" } : Jvm.MethodName)) ∈ lw_all := lw_g (lw_at lw_m7 47 rfl) rfl
theorem q1591 : (Jvm.Cond.code ({ cls := "WeekFootModel", name := "feed", desc := "(IIIII)I" } : Jvm.MethodName) prog_16_method_29_code (6 : Nat) (Option.some Jvm.ClassFile.FieldType.int)) ∈ lw_all := lw_g (lw_at lw_m7 48 rfl) rfl
theorem q1592 : (Jvm.Cond.methodLink "WeekFootModel" (207 : Nat) ({ cls := "WeekFootModel", name := "four", desc := "(I)V" } : Jvm.MethodName)) ∈ lw_all := lw_g (lw_at lw_m7 49 rfl) rfl
theorem q1593 : (Jvm.Cond.privateMethod ({ cls := "WeekFootModel", name := "four", desc := "(I)V" } : Jvm.MethodName)) ∈ lw_tbl := lw_at lw_m7 50 rfl
theorem q1594 : (Jvm.Cond.instanceMethod ({ cls := "WeekFootModel", name := "four", desc := "(I)V" } : Jvm.MethodName)) ∈ lw_all := lw_g (lw_at lw_m7 51 rfl) rfl
theorem q1595 : (Jvm.Cond.code ({ cls := "WeekFootModel", name := "four", desc := "(I)V" } : Jvm.MethodName) prog_16_method_28_code (3 : Nat) (Option.none : Option Jvm.ClassFile.FieldType)) ∈ lw_all := lw_g (lw_at lw_m7 52 rfl) rfl
theorem q1597 : (Jvm.Cond.instanceMethod ({ cls := "WeekFootModel", name := "end", desc := "(I)I" } : Jvm.MethodName)) ∈ lw_all := lw_g (lw_at lw_m7 54 rfl) rfl
theorem q1598 : (Jvm.Cond.selects "WeekFootModel" ({ cls := "WeekFootModel", name := "end", desc := "(I)I" } : Jvm.MethodName) ({ cls := "WeekFootModel", name := "end", desc := "(I)I" } : Jvm.MethodName)) ∈ lw_all := lw_g (lw_at lw_m7 55 rfl) rfl
theorem q1599 : (Jvm.Cond.code ({ cls := "WeekFootModel", name := "end", desc := "(I)I" } : Jvm.MethodName) prog_16_method_30_code (2 : Nat) (Option.some Jvm.ClassFile.FieldType.int)) ∈ lw_all := lw_g (lw_at lw_m7 56 rfl) rfl
theorem q1601 : (Jvm.Cond.instanceMethod ({ cls := "WeekFootModel", name := "fault", desc := "()I" } : Jvm.MethodName)) ∈ lw_all := lw_g (lw_at lw_m7 58 rfl) rfl
theorem q1602 : (Jvm.Cond.selects "WeekFootModel" ({ cls := "WeekFootModel", name := "fault", desc := "()I" } : Jvm.MethodName) ({ cls := "WeekFootModel", name := "fault", desc := "()I" } : Jvm.MethodName)) ∈ lw_all := lw_g (lw_at lw_m7 59 rfl) rfl
theorem q1603 : (Jvm.Cond.code ({ cls := "WeekFootModel", name := "fault", desc := "()I" } : Jvm.MethodName) prog_16_method_39_code (1 : Nat) (Option.some Jvm.ClassFile.FieldType.int)) ∈ lw_all := lw_g (lw_at lw_m7 60 rfl) rfl
theorem q1605 : (Jvm.Cond.instanceMethod ({ cls := "WeekFootModel", name := "book", desc := "()I" } : Jvm.MethodName)) ∈ lw_all := lw_g (lw_at lw_m7 62 rfl) rfl
theorem q1606 : (Jvm.Cond.selects "WeekFootModel" ({ cls := "WeekFootModel", name := "book", desc := "()I" } : Jvm.MethodName) ({ cls := "WeekFootModel", name := "book", desc := "()I" } : Jvm.MethodName)) ∈ lw_all := lw_g (lw_at lw_m7 63 rfl) rfl
theorem q1607 : (Jvm.Cond.code ({ cls := "WeekFootModel", name := "book", desc := "()I" } : Jvm.MethodName) prog_16_method_47_code (3 : Nat) (Option.some Jvm.ClassFile.FieldType.int)) ∈ lw_all := lw_g (lw_at lw_m7 64 rfl) rfl
theorem q1608 : (Jvm.Cond.methodLink "WeekFootModel" (318 : Nat) ({ cls := "WeekFootModel", name := "begin", desc := "()V" } : Jvm.MethodName)) ∈ lw_all := lw_g (lw_at lw_m7 65 rfl) rfl
theorem q1609 : (Jvm.Cond.privateMethod ({ cls := "WeekFootModel", name := "begin", desc := "()V" } : Jvm.MethodName)) ∈ lw_tbl := lw_at lw_m7 66 rfl
theorem q1610 : (Jvm.Cond.instanceMethod ({ cls := "WeekFootModel", name := "begin", desc := "()V" } : Jvm.MethodName)) ∈ lw_all := lw_g (lw_at lw_m7 67 rfl) rfl
theorem q1611 : (Jvm.Cond.code ({ cls := "WeekFootModel", name := "begin", desc := "()V" } : Jvm.MethodName) prog_16_method_33_code (1 : Nat) (Option.none : Option Jvm.ClassFile.FieldType)) ∈ lw_all := lw_g (lw_at lw_m7 68 rfl) rfl
theorem q1612 : (Jvm.Cond.methodLink "WeekFootModel" (218 : Nat) ({ cls := "WeekFootModel", name := "next", desc := "()V" } : Jvm.MethodName)) ∈ lw_all := lw_g (lw_at lw_m7 69 rfl) rfl
theorem q1613 : (Jvm.Cond.privateMethod ({ cls := "WeekFootModel", name := "next", desc := "()V" } : Jvm.MethodName)) ∈ lw_tbl := lw_at lw_m7 70 rfl
theorem q1614 : (Jvm.Cond.instanceMethod ({ cls := "WeekFootModel", name := "next", desc := "()V" } : Jvm.MethodName)) ∈ lw_all := lw_g (lw_at lw_m7 71 rfl) rfl
theorem q1615 : (Jvm.Cond.code ({ cls := "WeekFootModel", name := "next", desc := "()V" } : Jvm.MethodName) prog_16_method_34_code (1 : Nat) (Option.none : Option Jvm.ClassFile.FieldType)) ∈ lw_all := lw_g (lw_at lw_m7 72 rfl) rfl
theorem q1616 : (Jvm.Cond.methodLink "WeekFootModel" (228 : Nat) ({ cls := "WeekFootModel", name := "isSmall", desc := "(I)Z" } : Jvm.MethodName)) ∈ lw_all := lw_g (lw_at lw_m7 73 rfl) rfl
theorem q1617 : (Jvm.Cond.static ({ cls := "WeekFootModel", name := "isSmall", desc := "(I)Z" } : Jvm.MethodName)) ∈ lw_all := lw_g (lw_at lw_m7 74 rfl) rfl
theorem q1618 : (Jvm.Cond.code ({ cls := "WeekFootModel", name := "isSmall", desc := "(I)Z" } : Jvm.MethodName) prog_16_method_31_code (1 : Nat) (Option.some Jvm.ClassFile.FieldType.boolean)) ∈ lw_all := lw_g (lw_at lw_m7 75 rfl) rfl
theorem q1619 : (Jvm.Cond.methodLink "WeekFootModel" (231 : Nat) ({ cls := "WeekFootModel", name := "isDigit", desc := "(I)Z" } : Jvm.MethodName)) ∈ lw_all := lw_g (lw_at lw_m7 76 rfl) rfl
theorem q1620 : (Jvm.Cond.static ({ cls := "WeekFootModel", name := "isDigit", desc := "(I)Z" } : Jvm.MethodName)) ∈ lw_all := lw_g (lw_at lw_m7 77 rfl) rfl
theorem q1621 : (Jvm.Cond.code ({ cls := "WeekFootModel", name := "isDigit", desc := "(I)Z" } : Jvm.MethodName) prog_16_method_32_code (1 : Nat) (Option.some Jvm.ClassFile.FieldType.boolean)) ∈ lw_all := lw_g (lw_at lw_m7 78 rfl) rfl
theorem q1622 : (Jvm.Cond.constantLong "WeekFootModel" (237 : Nat) (32 : Int64)) ∈ lw_all := lw_g (lw_at lw_m7 79 rfl) rfl
theorem q1623 : (Jvm.Cond.constantLong "WeekFootModel" (239 : Nat) (96 : Int64)) ∈ lw_all := lw_g (lw_at lw_m7 80 rfl) rfl
theorem q1624 : (Jvm.Cond.constantLong "WeekFootModel" (241 : Nat) (1000000 : Int64)) ∈ lw_all := lw_g (lw_at lw_m7 81 rfl) rfl
theorem q1625 : (Jvm.Cond.constantLong "WeekFootModel" (243 : Nat) (10 : Int64)) ∈ lw_all := lw_g (lw_at lw_m7 82 rfl) rfl
theorem q1626 : (Jvm.Cond.constantLong "WeekFootModel" (245 : Nat) (48 : Int64)) ∈ lw_all := lw_g (lw_at lw_m7 83 rfl) rfl
theorem q1627 : (Jvm.Cond.methodLink "WeekFootModel" (321 : Nat) ({ cls := "WeekFootModel", name := "readClause", desc := "()V" } : Jvm.MethodName)) ∈ lw_all := lw_g (lw_at lw_m7 84 rfl) rfl
theorem q1628 : (Jvm.Cond.privateMethod ({ cls := "WeekFootModel", name := "readClause", desc := "()V" } : Jvm.MethodName)) ∈ lw_tbl := lw_at lw_m7 85 rfl
theorem q1629 : (Jvm.Cond.instanceMethod ({ cls := "WeekFootModel", name := "readClause", desc := "()V" } : Jvm.MethodName)) ∈ lw_all := lw_g (lw_at lw_m7 86 rfl) rfl
theorem q1630 : (Jvm.Cond.code ({ cls := "WeekFootModel", name := "readClause", desc := "()V" } : Jvm.MethodName) prog_16_method_46_code (1 : Nat) (Option.none : Option Jvm.ClassFile.FieldType)) ∈ lw_all := lw_g (lw_at lw_m7 87 rfl) rfl
theorem q1631 : (Jvm.Cond.constantLong "WeekFootModel" (303 : Nat) (758955 : Int64)) ∈ lw_all := lw_g (lw_at lw_m7 88 rfl) rfl
theorem q1632 : (Jvm.Cond.methodLink "WeekFootModel" (260 : Nat) ({ cls := "WeekFootModel", name := "isWord", desc := "(J)Z" } : Jvm.MethodName)) ∈ lw_all := lw_g (lw_at lw_m7 89 rfl) rfl
theorem q1633 : (Jvm.Cond.privateMethod ({ cls := "WeekFootModel", name := "isWord", desc := "(J)Z" } : Jvm.MethodName)) ∈ lw_tbl := lw_at lw_m7 90 rfl
theorem q1634 : (Jvm.Cond.instanceMethod ({ cls := "WeekFootModel", name := "isWord", desc := "(J)Z" } : Jvm.MethodName)) ∈ lw_all := lw_g (lw_at lw_m7 91 rfl) rfl
theorem q1635 : (Jvm.Cond.code ({ cls := "WeekFootModel", name := "isWord", desc := "(J)Z" } : Jvm.MethodName) prog_16_method_35_code (3 : Nat) (Option.some Jvm.ClassFile.FieldType.boolean)) ∈ lw_all := lw_g (lw_at lw_m7 92 rfl) rfl
theorem q1636 : (Jvm.Cond.methodLink "WeekFootModel" (305 : Nat) ({ cls := "WeekFootModel", name := "readWeeks", desc := "()V" } : Jvm.MethodName)) ∈ lw_all := lw_g (lw_at lw_m7 93 rfl) rfl
theorem q1637 : (Jvm.Cond.privateMethod ({ cls := "WeekFootModel", name := "readWeeks", desc := "()V" } : Jvm.MethodName)) ∈ lw_tbl := lw_at lw_m7 94 rfl
theorem q1638 : (Jvm.Cond.instanceMethod ({ cls := "WeekFootModel", name := "readWeeks", desc := "()V" } : Jvm.MethodName)) ∈ lw_all := lw_g (lw_at lw_m7 95 rfl) rfl
theorem q1639 : (Jvm.Cond.code ({ cls := "WeekFootModel", name := "readWeeks", desc := "()V" } : Jvm.MethodName) prog_16_method_41_code (3 : Nat) (Option.none : Option Jvm.ClassFile.FieldType)) ∈ lw_all := lw_g (lw_at lw_m7 96 rfl) rfl
theorem q1640 : (Jvm.Cond.methodLink "WeekFootModel" (254 : Nat) ({ cls := "WeekFootModel", name := "number", desc := "(JJ)I" } : Jvm.MethodName)) ∈ lw_all := lw_g (lw_at lw_m7 97 rfl) rfl
theorem q1641 : (Jvm.Cond.privateMethod ({ cls := "WeekFootModel", name := "number", desc := "(JJ)I" } : Jvm.MethodName)) ∈ lw_tbl := lw_at lw_m7 98 rfl
theorem q1642 : (Jvm.Cond.instanceMethod ({ cls := "WeekFootModel", name := "number", desc := "(JJ)I" } : Jvm.MethodName)) ∈ lw_all := lw_g (lw_at lw_m7 99 rfl) rfl
theorem q1643 : (Jvm.Cond.code ({ cls := "WeekFootModel", name := "number", desc := "(JJ)I" } : Jvm.MethodName) prog_16_method_38_code (6 : Nat) (Option.some Jvm.ClassFile.FieldType.int)) ∈ lw_all := lw_g (lw_at lw_m7 100 rfl) rfl
theorem q1644 : (Jvm.Cond.methodLink "WeekFootModel" (247 : Nat) ({ cls := "WeekFootModel", name := "must", desc := "(Z)V" } : Jvm.MethodName)) ∈ lw_all := lw_g (lw_at lw_m7 101 rfl) rfl
theorem q1645 : (Jvm.Cond.privateMethod ({ cls := "WeekFootModel", name := "must", desc := "(Z)V" } : Jvm.MethodName)) ∈ lw_tbl := lw_at lw_m7 102 rfl
theorem q1646 : (Jvm.Cond.instanceMethod ({ cls := "WeekFootModel", name := "must", desc := "(Z)V" } : Jvm.MethodName)) ∈ lw_all := lw_g (lw_at lw_m7 103 rfl) rfl
theorem q1647 : (Jvm.Cond.code ({ cls := "WeekFootModel", name := "must", desc := "(Z)V" } : Jvm.MethodName) prog_16_method_37_code (2 : Nat) (Option.none : Option Jvm.ClassFile.FieldType)) ∈ lw_all := lw_g (lw_at lw_m7 104 rfl) rfl
theorem q1648 : (Jvm.Cond.constantLong "WeekFootModel" (258 : Nat) (655 : Int64)) ∈ lw_all := lw_g (lw_at lw_m7 105 rfl) rfl
theorem q1649 : (Jvm.Cond.constantLong "WeekFootModel" (264 : Nat) (89 : Int64)) ∈ lw_all := lw_g (lw_at lw_m7 106 rfl) rfl
theorem q1650 : (Jvm.Cond.constantLong "WeekFootModel" (266 : Nat) (485571737 : Int64)) ∈ lw_all := lw_g (lw_at lw_m7 107 rfl) rfl
theorem q1651 : (Jvm.Cond.methodLink "WeekFootModel" (268 : Nat) ({ cls := "WeekFootModel", name := "act", desc := "(IIIII)V" } : Jvm.MethodName)) ∈ lw_all := lw_g (lw_at lw_m7 108 rfl) rfl
theorem q1652 : (Jvm.Cond.privateMethod ({ cls := "WeekFootModel", name := "act", desc := "(IIIII)V" } : Jvm.MethodName)) ∈ lw_tbl := lw_at lw_m7 109 rfl
theorem q1653 : (Jvm.Cond.instanceMethod ({ cls := "WeekFootModel", name := "act", desc := "(IIIII)V" } : Jvm.MethodName)) ∈ lw_all := lw_g (lw_at lw_m7 110 rfl) rfl
theorem q1654 : (Jvm.Cond.code ({ cls := "WeekFootModel", name := "act", desc := "(IIIII)V" } : Jvm.MethodName) prog_16_method_40_code (7 : Nat) (Option.none : Option Jvm.ClassFile.FieldType)) ∈ lw_all := lw_g (lw_at lw_m7 111 rfl) rfl
theorem q1655 : (Jvm.Cond.constantLong "WeekFootModel" (308 : Nat) (374522034 : Int64)) ∈ lw_all := lw_g (lw_at lw_m7 112 rfl) rfl
theorem q1656 : (Jvm.Cond.methodLink "WeekFootModel" (310 : Nat) ({ cls := "WeekFootModel", name := "readShorter", desc := "()V" } : Jvm.MethodName)) ∈ lw_all := lw_g (lw_at lw_m7 113 rfl) rfl
theorem q1657 : (Jvm.Cond.privateMethod ({ cls := "WeekFootModel", name := "readShorter", desc := "()V" } : Jvm.MethodName)) ∈ lw_tbl := lw_at lw_m7 114 rfl
theorem q1658 : (Jvm.Cond.instanceMethod ({ cls := "WeekFootModel", name := "readShorter", desc := "()V" } : Jvm.MethodName)) ∈ lw_all := lw_g (lw_at lw_m7 115 rfl) rfl
theorem q1659 : (Jvm.Cond.code ({ cls := "WeekFootModel", name := "readShorter", desc := "()V" } : Jvm.MethodName) prog_16_method_43_code (4 : Nat) (Option.none : Option Jvm.ClassFile.FieldType)) ∈ lw_all := lw_g (lw_at lw_m7 116 rfl) rfl
theorem q1660 : (Jvm.Cond.constantLong "WeekFootModel" (272 : Nat) (2273783 : Int64)) ∈ lw_all := lw_g (lw_at lw_m7 117 rfl) rfl
theorem q1661 : (Jvm.Cond.methodLink "WeekFootModel" (274 : Nat) ({ cls := "WeekFootModel", name := "isDrafted", desc := "(II)Z" } : Jvm.MethodName)) ∈ lw_all := lw_g (lw_at lw_m7 118 rfl) rfl
theorem q1662 : (Jvm.Cond.privateMethod ({ cls := "WeekFootModel", name := "isDrafted", desc := "(II)Z" } : Jvm.MethodName)) ∈ lw_tbl := lw_at lw_m7 119 rfl
theorem q1663 : (Jvm.Cond.instanceMethod ({ cls := "WeekFootModel", name := "isDrafted", desc := "(II)Z" } : Jvm.MethodName)) ∈ lw_all := lw_g (lw_at lw_m7 120 rfl) rfl
theorem q1664 : (Jvm.Cond.code ({ cls := "WeekFootModel", name := "isDrafted", desc := "(II)Z" } : Jvm.MethodName) prog_16_method_42_code (5 : Nat) (Option.some Jvm.ClassFile.FieldType.boolean)) ∈ lw_all := lw_g (lw_at lw_m7 121 rfl) rfl
theorem q1665 : (Jvm.Cond.constantLong "WeekFootModel" (313 : Nat) (21243335 : Int64)) ∈ lw_all := lw_g (lw_at lw_m7 122 rfl) rfl
theorem q1666 : (Jvm.Cond.methodLink "WeekFootModel" (315 : Nat) ({ cls := "WeekFootModel", name := "readThing", desc := "()V" } : Jvm.MethodName)) ∈ lw_all := lw_g (lw_at lw_m7 123 rfl) rfl
theorem q1667 : (Jvm.Cond.privateMethod ({ cls := "WeekFootModel", name := "readThing", desc := "()V" } : Jvm.MethodName)) ∈ lw_tbl := lw_at lw_m7 124 rfl
theorem q1668 : (Jvm.Cond.instanceMethod ({ cls := "WeekFootModel", name := "readThing", desc := "()V" } : Jvm.MethodName)) ∈ lw_all := lw_g (lw_at lw_m7 125 rfl) rfl
theorem q1669 : (Jvm.Cond.code ({ cls := "WeekFootModel", name := "readThing", desc := "()V" } : Jvm.MethodName) prog_16_method_45_code (2 : Nat) (Option.none : Option Jvm.ClassFile.FieldType)) ∈ lw_all := lw_g (lw_at lw_m7 126 rfl) rfl
theorem q1670 : (Jvm.Cond.constantLong "WeekFootModel" (293 : Nat) (3764 : Int64)) ∈ lw_all := lw_g (lw_at lw_m7 127 rfl) rfl
theorem q1671 : (Jvm.Cond.constantLong "WeekFootModel" (295 : Nat) (14866610 : Int64)) ∈ lw_all := lw_g (lw_at lw_m7 128 rfl) rfl
theorem q1672 : (Jvm.Cond.constantLong "WeekFootModel" (280 : Nat) (302 : Int64)) ∈ lw_all := lw_g (lw_at lw_m7 129 rfl) rfl
theorem q1673 : (Jvm.Cond.methodLink "WeekFootModel" (297 : Nat) ({ cls := "WeekFootModel", name := "readMeasure", desc := "(I)V" } : Jvm.MethodName)) ∈ lw_all := lw_g (lw_at lw_m7 130 rfl) rfl
theorem q1674 : (Jvm.Cond.privateMethod ({ cls := "WeekFootModel", name := "readMeasure", desc := "(I)V" } : Jvm.MethodName)) ∈ lw_tbl := lw_at lw_m7 131 rfl
theorem q1675 : (Jvm.Cond.instanceMethod ({ cls := "WeekFootModel", name := "readMeasure", desc := "(I)V" } : Jvm.MethodName)) ∈ lw_all := lw_g (lw_at lw_m7 132 rfl) rfl
theorem q1676 : (Jvm.Cond.code ({ cls := "WeekFootModel", name := "readMeasure", desc := "(I)V" } : Jvm.MethodName) prog_16_method_44_code (5 : Nat) (Option.none : Option Jvm.ClassFile.FieldType)) ∈ lw_all := lw_g (lw_at lw_m7 133 rfl) rfl
theorem q1677 : (Jvm.Cond.constantLong "WeekFootModel" (285 : Nat) (307 : Int64)) ∈ lw_all := lw_g (lw_at lw_m7 134 rfl) rfl
theorem q1678 : (Jvm.Cond.constantLong "WeekFootModel" (287 : Nat) (24395141 : Int64)) ∈ lw_all := lw_g (lw_at lw_m7 135 rfl) rfl
theorem q1679 : (Jvm.Cond.constantLong "WeekFootModel" (289 : Nat) (263558 : Int64)) ∈ lw_all := lw_g (lw_at lw_m7 136 rfl) rfl
theorem q1680 : (Jvm.Cond.constantLong "WeekFootModel" (291 : Nat) (6030452 : Int64)) ∈ lw_all := lw_g (lw_at lw_m7 137 rfl) rfl
theorem q1681 : (Jvm.Cond.methodLink "WeekFootModel" (300 : Nat) ({ cls := "WeekFootModel", name := "isSign", desc := "(I)Z" } : Jvm.MethodName)) ∈ lw_all := lw_g (lw_at lw_m7 138 rfl) rfl
theorem q1682 : (Jvm.Cond.privateMethod ({ cls := "WeekFootModel", name := "isSign", desc := "(I)Z" } : Jvm.MethodName)) ∈ lw_tbl := lw_at lw_m7 139 rfl
theorem q1683 : (Jvm.Cond.instanceMethod ({ cls := "WeekFootModel", name := "isSign", desc := "(I)Z" } : Jvm.MethodName)) ∈ lw_all := lw_g (lw_at lw_m7 140 rfl) rfl
theorem q1684 : (Jvm.Cond.code ({ cls := "WeekFootModel", name := "isSign", desc := "(I)Z" } : Jvm.MethodName) prog_16_method_36_code (2 : Nat) (Option.some Jvm.ClassFile.FieldType.boolean)) ∈ lw_all := lw_g (lw_at lw_m7 141 rfl) rfl
theorem q1685 : (Jvm.Cond.methodLink "WeekFootModel" (324 : Nat) ({ cls := "WeekFootModel", name := "doAct", desc := "(I)V" } : Jvm.MethodName)) ∈ lw_all := lw_g (lw_at lw_m7 142 rfl) rfl
theorem q1686 : (Jvm.Cond.privateMethod ({ cls := "WeekFootModel", name := "doAct", desc := "(I)V" } : Jvm.MethodName)) ∈ lw_tbl := lw_at lw_m7 143 rfl
theorem q1687 : (Jvm.Cond.instanceMethod ({ cls := "WeekFootModel", name := "doAct", desc := "(I)V" } : Jvm.MethodName)) ∈ lw_all := lw_g (lw_at lw_m7 144 rfl) rfl
theorem q1688 : (Jvm.Cond.code ({ cls := "WeekFootModel", name := "doAct", desc := "(I)V" } : Jvm.MethodName) prog_16_method_48_code (3 : Nat) (Option.none : Option Jvm.ClassFile.FieldType)) ∈ lw_all := lw_g (lw_at lw_m7 145 rfl) rfl
theorem q1690 : (Jvm.Cond.instanceMethod ({ cls := "WeekFootModel", name := "fits", desc := "()I" } : Jvm.MethodName)) ∈ lw_all := lw_g (lw_at lw_m7 147 rfl) rfl
theorem q1691 : (Jvm.Cond.selects "WeekFootModel" ({ cls := "WeekFootModel", name := "fits", desc := "()I" } : Jvm.MethodName) ({ cls := "WeekFootModel", name := "fits", desc := "()I" } : Jvm.MethodName)) ∈ lw_all := lw_g (lw_at lw_m7 148 rfl) rfl
theorem q1692 : (Jvm.Cond.code ({ cls := "WeekFootModel", name := "fits", desc := "()I" } : Jvm.MethodName) prog_16_method_62_code (1 : Nat) (Option.some Jvm.ClassFile.FieldType.int)) ∈ lw_all := lw_g (lw_at lw_m7 149 rfl) rfl
theorem q1693 : (Jvm.Cond.methodLink "WeekFootModel" (377 : Nat) ({ cls := "WeekFootModel", name := "canBeNow", desc := "()Z" } : Jvm.MethodName)) ∈ lw_all := lw_g (lw_at lw_m7 150 rfl) rfl
theorem q1694 : (Jvm.Cond.privateMethod ({ cls := "WeekFootModel", name := "canBeNow", desc := "()Z" } : Jvm.MethodName)) ∈ lw_tbl := lw_at lw_m7 151 rfl
theorem q1695 : (Jvm.Cond.instanceMethod ({ cls := "WeekFootModel", name := "canBeNow", desc := "()Z" } : Jvm.MethodName)) ∈ lw_all := lw_g (lw_at lw_m7 152 rfl) rfl
theorem q1696 : (Jvm.Cond.code ({ cls := "WeekFootModel", name := "canBeNow", desc := "()Z" } : Jvm.MethodName) prog_16_method_61_code (1 : Nat) (Option.some Jvm.ClassFile.FieldType.boolean)) ∈ lw_all := lw_g (lw_at lw_m7 153 rfl) rfl
theorem q1697 : (Jvm.Cond.methodLink "WeekFootModel" (367 : Nat) ({ cls := "WeekFootModel", name := "asIs", desc := "()V" } : Jvm.MethodName)) ∈ lw_all := lw_g (lw_at lw_m7 154 rfl) rfl
theorem q1698 : (Jvm.Cond.privateMethod ({ cls := "WeekFootModel", name := "asIs", desc := "()V" } : Jvm.MethodName)) ∈ lw_tbl := lw_at lw_m7 155 rfl
theorem q1699 : (Jvm.Cond.instanceMethod ({ cls := "WeekFootModel", name := "asIs", desc := "()V" } : Jvm.MethodName)) ∈ lw_all := lw_g (lw_at lw_m7 156 rfl) rfl
theorem q1700 : (Jvm.Cond.code ({ cls := "WeekFootModel", name := "asIs", desc := "()V" } : Jvm.MethodName) prog_16_method_52_code (2 : Nat) (Option.none : Option Jvm.ClassFile.FieldType)) ∈ lw_all := lw_g (lw_at lw_m7 157 rfl) rfl
theorem q1701 : (Jvm.Cond.methodLink "WeekFootModel" (370 : Nat) ({ cls := "WeekFootModel", name := "counting", desc := "()I" } : Jvm.MethodName)) ∈ lw_all := lw_g (lw_at lw_m7 158 rfl) rfl
theorem q1702 : (Jvm.Cond.privateMethod ({ cls := "WeekFootModel", name := "counting", desc := "()I" } : Jvm.MethodName)) ∈ lw_tbl := lw_at lw_m7 159 rfl
theorem q1703 : (Jvm.Cond.instanceMethod ({ cls := "WeekFootModel", name := "counting", desc := "()I" } : Jvm.MethodName)) ∈ lw_all := lw_g (lw_at lw_m7 160 rfl) rfl
theorem q1704 : (Jvm.Cond.code ({ cls := "WeekFootModel", name := "counting", desc := "()I" } : Jvm.MethodName) prog_16_method_54_code (3 : Nat) (Option.some Jvm.ClassFile.FieldType.int)) ∈ lw_all := lw_g (lw_at lw_m7 161 rfl) rfl
theorem q1705 : (Jvm.Cond.methodLink "WeekFootModel" (374 : Nat) ({ cls := "WeekFootModel", name := "canBe", desc := "(I)Z" } : Jvm.MethodName)) ∈ lw_all := lw_g (lw_at lw_m7 162 rfl) rfl
theorem q1706 : (Jvm.Cond.privateMethod ({ cls := "WeekFootModel", name := "canBe", desc := "(I)Z" } : Jvm.MethodName)) ∈ lw_tbl := lw_at lw_m7 163 rfl
theorem q1707 : (Jvm.Cond.instanceMethod ({ cls := "WeekFootModel", name := "canBe", desc := "(I)Z" } : Jvm.MethodName)) ∈ lw_all := lw_g (lw_at lw_m7 164 rfl) rfl
theorem q1708 : (Jvm.Cond.code ({ cls := "WeekFootModel", name := "canBe", desc := "(I)Z" } : Jvm.MethodName) prog_16_method_59_code (6 : Nat) (Option.some Jvm.ClassFile.FieldType.boolean)) ∈ lw_all := lw_g (lw_at lw_m7 165 rfl) rfl
theorem q1709 : (Jvm.Cond.methodLink "WeekFootModel" (354 : Nat) ({ cls := "WeekFootModel", name := "build", desc := "(I)V" } : Jvm.MethodName)) ∈ lw_all := lw_g (lw_at lw_m7 166 rfl) rfl
theorem q1710 : (Jvm.Cond.privateMethod ({ cls := "WeekFootModel", name := "build", desc := "(I)V" } : Jvm.MethodName)) ∈ lw_tbl := lw_at lw_m7 167 rfl
theorem q1711 : (Jvm.Cond.instanceMethod ({ cls := "WeekFootModel", name := "build", desc := "(I)V" } : Jvm.MethodName)) ∈ lw_all := lw_g (lw_at lw_m7 168 rfl) rfl
theorem q1712 : (Jvm.Cond.code ({ cls := "WeekFootModel", name := "build", desc := "(I)V" } : Jvm.MethodName) prog_16_method_55_code (11 : Nat) (Option.none : Option Jvm.ClassFile.FieldType)) ∈ lw_all := lw_g (lw_at lw_m7 169 rfl) rfl
theorem q1713 : (Jvm.Cond.methodLink "WeekFootModel" (336 : Nat) ({ cls := "WeekFootModel", name := "is", desc := "(II)Z" } : Jvm.MethodName)) ∈ lw_all := lw_g (lw_at lw_m7 170 rfl) rfl
theorem q1714 : (Jvm.Cond.static ({ cls := "WeekFootModel", name := "is", desc := "(II)Z" } : Jvm.MethodName)) ∈ lw_all := lw_g (lw_at lw_m7 171 rfl) rfl
theorem q1715 : (Jvm.Cond.code ({ cls := "WeekFootModel", name := "is", desc := "(II)Z" } : Jvm.MethodName) prog_16_method_4_code (2 : Nat) (Option.some Jvm.ClassFile.FieldType.boolean)) ∈ lw_all := lw_g (lw_at lw_m7 172 rfl) rfl
theorem q1716 : (Jvm.Cond.methodLink "WeekFootModel" (339 : Nat) ({ cls := "WeekFootModel", name := "edge", desc := "(IIIIZ)V" } : Jvm.MethodName)) ∈ lw_all := lw_g (lw_at lw_m7 173 rfl) rfl
theorem q1717 : (Jvm.Cond.privateMethod ({ cls := "WeekFootModel", name := "edge", desc := "(IIIIZ)V" } : Jvm.MethodName)) ∈ lw_tbl := lw_at lw_m7 174 rfl
theorem q1718 : (Jvm.Cond.instanceMethod ({ cls := "WeekFootModel", name := "edge", desc := "(IIIIZ)V" } : Jvm.MethodName)) ∈ lw_all := lw_g (lw_at lw_m7 175 rfl) rfl
theorem q1719 : (Jvm.Cond.code ({ cls := "WeekFootModel", name := "edge", desc := "(IIIIZ)V" } : Jvm.MethodName) prog_16_method_53_code (6 : Nat) (Option.none : Option Jvm.ClassFile.FieldType)) ∈ lw_all := lw_g (lw_at lw_m7 176 rfl) rfl
theorem q1720 : (Jvm.Cond.methodLink "WeekFootModel" (357 : Nat) ({ cls := "WeekFootModel", name := "startAt", desc := "(I)V" } : Jvm.MethodName)) ∈ lw_all := lw_g (lw_at lw_m7 177 rfl) rfl
theorem q1721 : (Jvm.Cond.privateMethod ({ cls := "WeekFootModel", name := "startAt", desc := "(I)V" } : Jvm.MethodName)) ∈ lw_tbl := lw_at lw_m7 178 rfl
theorem q1722 : (Jvm.Cond.instanceMethod ({ cls := "WeekFootModel", name := "startAt", desc := "(I)V" } : Jvm.MethodName)) ∈ lw_all := lw_g (lw_at lw_m7 179 rfl) rfl
theorem q1723 : (Jvm.Cond.code ({ cls := "WeekFootModel", name := "startAt", desc := "(I)V" } : Jvm.MethodName) prog_16_method_56_code (4 : Nat) (Option.none : Option Jvm.ClassFile.FieldType)) ∈ lw_all := lw_g (lw_at lw_m7 180 rfl) rfl
theorem q1724 : (Jvm.Cond.methodLink "WeekFootModel" (360 : Nat) ({ cls := "WeekFootModel", name := "round", desc := "(Z)Z" } : Jvm.MethodName)) ∈ lw_all := lw_g (lw_at lw_m7 181 rfl) rfl
theorem q1725 : (Jvm.Cond.privateMethod ({ cls := "WeekFootModel", name := "round", desc := "(Z)Z" } : Jvm.MethodName)) ∈ lw_tbl := lw_at lw_m7 182 rfl
theorem q1726 : (Jvm.Cond.instanceMethod ({ cls := "WeekFootModel", name := "round", desc := "(Z)Z" } : Jvm.MethodName)) ∈ lw_all := lw_g (lw_at lw_m7 183 rfl) rfl
theorem q1727 : (Jvm.Cond.code ({ cls := "WeekFootModel", name := "round", desc := "(Z)Z" } : Jvm.MethodName) prog_16_method_58_code (9 : Nat) (Option.some Jvm.ClassFile.FieldType.boolean)) ∈ lw_all := lw_g (lw_at lw_m7 184 rfl) rfl
theorem q1728 : (Jvm.Cond.methodLink "WeekFootModel" (343 : Nat) ({ cls := "WeekFootModel", name := "keep", desc := "(Z)V" } : Jvm.MethodName)) ∈ lw_all := lw_g (lw_at lw_m7 185 rfl) rfl
theorem q1729 : (Jvm.Cond.privateMethod ({ cls := "WeekFootModel", name := "keep", desc := "(Z)V" } : Jvm.MethodName)) ∈ lw_tbl := lw_at lw_m7 186 rfl
theorem q1730 : (Jvm.Cond.instanceMethod ({ cls := "WeekFootModel", name := "keep", desc := "(Z)V" } : Jvm.MethodName)) ∈ lw_all := lw_g (lw_at lw_m7 187 rfl) rfl
theorem q1731 : (Jvm.Cond.code ({ cls := "WeekFootModel", name := "keep", desc := "(Z)V" } : Jvm.MethodName) prog_16_method_57_code (3 : Nat) (Option.none : Option Jvm.ClassFile.FieldType)) ∈ lw_all := lw_g (lw_at lw_m7 188 rfl) rfl
theorem q1732 : (Jvm.Cond.methodLink "WeekFootModel" (346 : Nat) ({ cls := "WeekFootModel", name := "times", desc := "([JI[JII)V" } : Jvm.MethodName)) ∈ lw_all := lw_g (lw_at lw_m7 189 rfl) rfl
theorem q1733 : (Jvm.Cond.static ({ cls := "WeekFootModel", name := "times", desc := "([JI[JII)V" } : Jvm.MethodName)) ∈ lw_all := lw_g (lw_at lw_m7 190 rfl) rfl
theorem q1734 : (Jvm.Cond.code ({ cls := "WeekFootModel", name := "times", desc := "([JI[JII)V" } : Jvm.MethodName) prog_16_method_49_code (10 : Nat) (Option.none : Option Jvm.ClassFile.FieldType)) ∈ lw_all := lw_g (lw_at lw_m7 191 rfl) rfl
theorem q1735 : (Jvm.Cond.constantLong "WeekFootModel" (327 : Nat) (100000000 : Int64)) ∈ lw_all := lw_g (lw_at lw_m7 192 rfl) rfl
theorem q1736 : (Jvm.Cond.methodLink "WeekFootModel" (350 : Nat) ({ cls := "WeekFootModel", name := "compare", desc := "([J[JI[J[JI)I" } : Jvm.MethodName)) ∈ lw_all := lw_g (lw_at lw_m7 193 rfl) rfl
theorem q1737 : (Jvm.Cond.privateMethod ({ cls := "WeekFootModel", name := "compare", desc := "([J[JI[J[JI)I" } : Jvm.MethodName)) ∈ lw_tbl := lw_at lw_m7 194 rfl
theorem q1738 : (Jvm.Cond.instanceMethod ({ cls := "WeekFootModel", name := "compare", desc := "([J[JI[J[JI)I" } : Jvm.MethodName)) ∈ lw_all := lw_g (lw_at lw_m7 195 rfl) rfl
theorem q1739 : (Jvm.Cond.code ({ cls := "WeekFootModel", name := "compare", desc := "([J[JI[J[JI)I" } : Jvm.MethodName) prog_16_method_51_code (8 : Nat) (Option.some Jvm.ClassFile.FieldType.int)) ∈ lw_all := lw_g (lw_at lw_m7 196 rfl) rfl
theorem q1740 : (Jvm.Cond.methodLink "WeekFootModel" (329 : Nat) ({ cls := "WeekFootModel", name := "product", desc := "([J[JI[JI)V" } : Jvm.MethodName)) ∈ lw_all := lw_g (lw_at lw_m7 197 rfl) rfl
theorem q1741 : (Jvm.Cond.static ({ cls := "WeekFootModel", name := "product", desc := "([J[JI[JI)V" } : Jvm.MethodName)) ∈ lw_all := lw_g (lw_at lw_m7 198 rfl) rfl
theorem q1742 : (Jvm.Cond.code ({ cls := "WeekFootModel", name := "product", desc := "([J[JI[JI)V" } : Jvm.MethodName) prog_16_method_50_code (11 : Nat) (Option.none : Option Jvm.ClassFile.FieldType)) ∈ lw_all := lw_g (lw_at lw_m7 199 rfl) rfl
theorem q1743 : (Jvm.Cond.methodLink "WeekFootModel" (364 : Nat) ({ cls := "WeekFootModel", name := "isTight", desc := "(I)Z" } : Jvm.MethodName)) ∈ lw_all := lw_g (lw_at lw_m7 200 rfl) rfl
theorem q1744 : (Jvm.Cond.privateMethod ({ cls := "WeekFootModel", name := "isTight", desc := "(I)Z" } : Jvm.MethodName)) ∈ lw_tbl := lw_at lw_m7 201 rfl
theorem q1745 : (Jvm.Cond.instanceMethod ({ cls := "WeekFootModel", name := "isTight", desc := "(I)Z" } : Jvm.MethodName)) ∈ lw_all := lw_g (lw_at lw_m7 202 rfl) rfl
theorem q1746 : (Jvm.Cond.code ({ cls := "WeekFootModel", name := "isTight", desc := "(I)Z" } : Jvm.MethodName) prog_16_method_60_code (2 : Nat) (Option.some Jvm.ClassFile.FieldType.boolean)) ∈ lw_all := lw_g (lw_at lw_m7 203 rfl) rfl
theorem q1748 : (Jvm.Cond.instanceMethod ({ cls := "WeekFootModel", name := "between", desc := "(III)I" } : Jvm.MethodName)) ∈ lw_all := lw_g (lw_at lw_m7 205 rfl) rfl
theorem q1749 : (Jvm.Cond.selects "WeekFootModel" ({ cls := "WeekFootModel", name := "between", desc := "(III)I" } : Jvm.MethodName) ({ cls := "WeekFootModel", name := "between", desc := "(III)I" } : Jvm.MethodName)) ∈ lw_all := lw_g (lw_at lw_m7 206 rfl) rfl
theorem q1750 : (Jvm.Cond.code ({ cls := "WeekFootModel", name := "between", desc := "(III)I" } : Jvm.MethodName) prog_16_method_68_code (6 : Nat) (Option.some Jvm.ClassFile.FieldType.int)) ∈ lw_all := lw_g (lw_at lw_m7 207 rfl) rfl
theorem q1751 : (Jvm.Cond.methodLink "WeekFootModel" (394 : Nat) ({ cls := "WeekFootModel", name := "isAnswered", desc := "(II)Z" } : Jvm.MethodName)) ∈ lw_all := lw_g (lw_at lw_m7 208 rfl) rfl
theorem q1752 : (Jvm.Cond.privateMethod ({ cls := "WeekFootModel", name := "isAnswered", desc := "(II)Z" } : Jvm.MethodName)) ∈ lw_tbl := lw_at lw_m7 209 rfl
theorem q1753 : (Jvm.Cond.instanceMethod ({ cls := "WeekFootModel", name := "isAnswered", desc := "(II)Z" } : Jvm.MethodName)) ∈ lw_all := lw_g (lw_at lw_m7 210 rfl) rfl
theorem q1754 : (Jvm.Cond.code ({ cls := "WeekFootModel", name := "isAnswered", desc := "(II)Z" } : Jvm.MethodName) prog_16_method_67_code (3 : Nat) (Option.some Jvm.ClassFile.FieldType.boolean)) ∈ lw_all := lw_g (lw_at lw_m7 211 rfl) rfl
theorem q1755 : (Jvm.Cond.methodLink "WeekFootModel" (391 : Nat) ({ cls := "WeekFootModel", name := "isLength", desc := "(I)Z" } : Jvm.MethodName)) ∈ lw_all := lw_g (lw_at lw_m7 212 rfl) rfl
theorem q1756 : (Jvm.Cond.privateMethod ({ cls := "WeekFootModel", name := "isLength", desc := "(I)Z" } : Jvm.MethodName)) ∈ lw_tbl := lw_at lw_m7 213 rfl
theorem q1757 : (Jvm.Cond.instanceMethod ({ cls := "WeekFootModel", name := "isLength", desc := "(I)Z" } : Jvm.MethodName)) ∈ lw_all := lw_g (lw_at lw_m7 214 rfl) rfl
theorem q1758 : (Jvm.Cond.code ({ cls := "WeekFootModel", name := "isLength", desc := "(I)Z" } : Jvm.MethodName) prog_16_method_63_code (2 : Nat) (Option.some Jvm.ClassFile.FieldType.boolean)) ∈ lw_all := lw_g (lw_at lw_m7 215 rfl) rfl
theorem q1759 : (Jvm.Cond.constantLong "WeekFootModel" (381 : Nat) (15 : Int64)) ∈ lw_all := lw_g (lw_at lw_m7 216 rfl) rfl
theorem q1760 : (Jvm.Cond.constantLong "WeekFootModel" (383 : Nat) (6 : Int64)) ∈ lw_all := lw_g (lw_at lw_m7 217 rfl) rfl
theorem q1761 : (Jvm.Cond.constantLong "WeekFootModel" (385 : Nat) (11 : Int64)) ∈ lw_all := lw_g (lw_at lw_m7 218 rfl) rfl
theorem q1762 : (Jvm.Cond.methodLink "WeekFootModel" (397 : Nat) ({ cls := "WeekFootModel", name := "goFrom", desc := "(I)V" } : Jvm.MethodName)) ∈ lw_all := lw_g (lw_at lw_m7 219 rfl) rfl
theorem q1763 : (Jvm.Cond.privateMethod ({ cls := "WeekFootModel", name := "goFrom", desc := "(I)V" } : Jvm.MethodName)) ∈ lw_tbl := lw_at lw_m7 220 rfl
theorem q1764 : (Jvm.Cond.instanceMethod ({ cls := "WeekFootModel", name := "goFrom", desc := "(I)V" } : Jvm.MethodName)) ∈ lw_all := lw_g (lw_at lw_m7 221 rfl) rfl
theorem q1765 : (Jvm.Cond.code ({ cls := "WeekFootModel", name := "goFrom", desc := "(I)V" } : Jvm.MethodName) prog_16_method_64_code (3 : Nat) (Option.none : Option Jvm.ClassFile.FieldType)) ∈ lw_all := lw_g (lw_at lw_m7 222 rfl) rfl
theorem q1766 : (Jvm.Cond.constant "WeekFootModel" (400 : Nat) (1000000 : Int32)) ∈ lw_all := lw_g (lw_at lw_m7 223 rfl) rfl
theorem q1767 : (Jvm.Cond.constant "WeekFootModel" (401 : Nat) (2000000000 : Int32)) ∈ lw_all := lw_g (lw_at lw_m7 224 rfl) rfl
theorem q1768 : (Jvm.Cond.methodLink "WeekFootModel" (402 : Nat) ({ cls := "WeekFootModel", name := "share", desc := "([JI[JIII)I" } : Jvm.MethodName)) ∈ lw_all := lw_g (lw_at lw_m7 225 rfl) rfl
theorem q1769 : (Jvm.Cond.privateMethod ({ cls := "WeekFootModel", name := "share", desc := "([JI[JIII)I" } : Jvm.MethodName)) ∈ lw_tbl := lw_at lw_m7 226 rfl
theorem q1770 : (Jvm.Cond.instanceMethod ({ cls := "WeekFootModel", name := "share", desc := "([JI[JIII)I" } : Jvm.MethodName)) ∈ lw_all := lw_g (lw_at lw_m7 227 rfl) rfl
theorem q1771 : (Jvm.Cond.code ({ cls := "WeekFootModel", name := "share", desc := "([JI[JIII)I" } : Jvm.MethodName) prog_16_method_65_code (13 : Nat) (Option.some Jvm.ClassFile.FieldType.int)) ∈ lw_all := lw_g (lw_at lw_m7 228 rfl) rfl
theorem q1772 : (Jvm.Cond.methodLink "WeekFootModel" (387 : Nat) ({ cls := "WeekFootModel", name := "wide", desc := "([J[JIJ)V" } : Jvm.MethodName)) ∈ lw_all := lw_g (lw_at lw_m7 229 rfl) rfl
theorem q1773 : (Jvm.Cond.static ({ cls := "WeekFootModel", name := "wide", desc := "([J[JIJ)V" } : Jvm.MethodName)) ∈ lw_all := lw_g (lw_at lw_m7 230 rfl) rfl
theorem q1774 : (Jvm.Cond.code ({ cls := "WeekFootModel", name := "wide", desc := "([J[JIJ)V" } : Jvm.MethodName) prog_16_method_66_code (10 : Nat) (Option.none : Option Jvm.ClassFile.FieldType)) ∈ lw_all := lw_g (lw_at lw_m7 231 rfl) rfl
theorem q1776 : (Jvm.Cond.instanceMethod ({ cls := "WeekFootModel", name := "sure", desc := "(II)I" } : Jvm.MethodName)) ∈ lw_all := lw_g (lw_at lw_m7 233 rfl) rfl
theorem q1777 : (Jvm.Cond.selects "WeekFootModel" ({ cls := "WeekFootModel", name := "sure", desc := "(II)I" } : Jvm.MethodName) ({ cls := "WeekFootModel", name := "sure", desc := "(II)I" } : Jvm.MethodName)) ∈ lw_all := lw_g (lw_at lw_m7 234 rfl) rfl
theorem q1778 : (Jvm.Cond.code ({ cls := "WeekFootModel", name := "sure", desc := "(II)I" } : Jvm.MethodName) prog_16_method_70_code (5 : Nat) (Option.some Jvm.ClassFile.FieldType.int)) ∈ lw_all := lw_g (lw_at lw_m7 235 rfl) rfl
theorem q1779 : (Jvm.Cond.methodLink "WeekFootModel" (406 : Nat) ({ cls := "WeekFootModel", name := "besideOne", desc := "(II)I" } : Jvm.MethodName)) ∈ lw_all := lw_g (lw_at lw_m7 236 rfl) rfl
theorem q1780 : (Jvm.Cond.privateMethod ({ cls := "WeekFootModel", name := "besideOne", desc := "(II)I" } : Jvm.MethodName)) ∈ lw_tbl := lw_at lw_m7 237 rfl
theorem q1781 : (Jvm.Cond.instanceMethod ({ cls := "WeekFootModel", name := "besideOne", desc := "(II)I" } : Jvm.MethodName)) ∈ lw_all := lw_g (lw_at lw_m7 238 rfl) rfl
theorem q1782 : (Jvm.Cond.code ({ cls := "WeekFootModel", name := "besideOne", desc := "(II)I" } : Jvm.MethodName) prog_16_method_69_code (4 : Nat) (Option.some Jvm.ClassFile.FieldType.int)) ∈ lw_all := lw_g (lw_at lw_m7 239 rfl) rfl
theorem q1784 : (Jvm.Cond.instanceMethod ({ cls := "WeekFootModel", name := "feet", desc := "(III)I" } : Jvm.MethodName)) ∈ lw_all := lw_g (lw_at lw_m8 1 rfl) rfl
theorem q1785 : (Jvm.Cond.selects "WeekFootModel" ({ cls := "WeekFootModel", name := "feet", desc := "(III)I" } : Jvm.MethodName) ({ cls := "WeekFootModel", name := "feet", desc := "(III)I" } : Jvm.MethodName)) ∈ lw_all := lw_g (lw_at lw_m8 2 rfl) rfl
theorem q1786 : (Jvm.Cond.code ({ cls := "WeekFootModel", name := "feet", desc := "(III)I" } : Jvm.MethodName) prog_16_method_71_code (8 : Nat) (Option.some Jvm.ClassFile.FieldType.int)) ∈ lw_all := lw_g (lw_at lw_m8 3 rfl) rfl
theorem q1788 : (Jvm.Cond.instanceMethod ({ cls := "WeekFootModel", name := "would", desc := "(IIII)I" } : Jvm.MethodName)) ∈ lw_all := lw_g (lw_at lw_m8 5 rfl) rfl
theorem q1789 : (Jvm.Cond.selects "WeekFootModel" ({ cls := "WeekFootModel", name := "would", desc := "(IIII)I" } : Jvm.MethodName) ({ cls := "WeekFootModel", name := "would", desc := "(IIII)I" } : Jvm.MethodName)) ∈ lw_all := lw_g (lw_at lw_m8 6 rfl) rfl
theorem q1790 : (Jvm.Cond.code ({ cls := "WeekFootModel", name := "would", desc := "(IIII)I" } : Jvm.MethodName) prog_16_method_76_code (5 : Nat) (Option.some Jvm.ClassFile.FieldType.int)) ∈ lw_all := lw_g (lw_at lw_m8 7 rfl) rfl
theorem q1791 : (Jvm.Cond.methodLink "WeekFootModel" (425 : Nat) ({ cls := "WeekFootModel", name := "isAsked", desc := "(II)Z" } : Jvm.MethodName)) ∈ lw_all := lw_g (lw_at lw_m8 8 rfl) rfl
theorem q1792 : (Jvm.Cond.privateMethod ({ cls := "WeekFootModel", name := "isAsked", desc := "(II)Z" } : Jvm.MethodName)) ∈ lw_tbl := lw_at lw_m8 9 rfl
theorem q1793 : (Jvm.Cond.instanceMethod ({ cls := "WeekFootModel", name := "isAsked", desc := "(II)Z" } : Jvm.MethodName)) ∈ lw_all := lw_g (lw_at lw_m8 10 rfl) rfl
theorem q1794 : (Jvm.Cond.code ({ cls := "WeekFootModel", name := "isAsked", desc := "(II)Z" } : Jvm.MethodName) prog_16_method_75_code (3 : Nat) (Option.some Jvm.ClassFile.FieldType.boolean)) ∈ lw_all := lw_g (lw_at lw_m8 11 rfl) rfl
theorem q1795 : (Jvm.Cond.methodLink "WeekFootModel" (428 : Nat) ({ cls := "WeekFootModel", name := "findEnds", desc := "(II)V" } : Jvm.MethodName)) ∈ lw_all := lw_g (lw_at lw_m8 12 rfl) rfl
theorem q1796 : (Jvm.Cond.privateMethod ({ cls := "WeekFootModel", name := "findEnds", desc := "(II)V" } : Jvm.MethodName)) ∈ lw_tbl := lw_at lw_m8 13 rfl
theorem q1797 : (Jvm.Cond.instanceMethod ({ cls := "WeekFootModel", name := "findEnds", desc := "(II)V" } : Jvm.MethodName)) ∈ lw_all := lw_g (lw_at lw_m8 14 rfl) rfl
theorem q1798 : (Jvm.Cond.code ({ cls := "WeekFootModel", name := "findEnds", desc := "(II)V" } : Jvm.MethodName) prog_16_method_72_code (5 : Nat) (Option.none : Option Jvm.ClassFile.FieldType)) ∈ lw_all := lw_g (lw_at lw_m8 15 rfl) rfl
theorem q1799 : (Jvm.Cond.methodLink "WeekFootModel" (431 : Nat) ({ cls := "WeekFootModel", name := "tells", desc := "(II)I" } : Jvm.MethodName)) ∈ lw_all := lw_g (lw_at lw_m8 16 rfl) rfl
theorem q1800 : (Jvm.Cond.privateMethod ({ cls := "WeekFootModel", name := "tells", desc := "(II)I" } : Jvm.MethodName)) ∈ lw_tbl := lw_at lw_m8 17 rfl
theorem q1801 : (Jvm.Cond.instanceMethod ({ cls := "WeekFootModel", name := "tells", desc := "(II)I" } : Jvm.MethodName)) ∈ lw_all := lw_g (lw_at lw_m8 18 rfl) rfl
theorem q1802 : (Jvm.Cond.code ({ cls := "WeekFootModel", name := "tells", desc := "(II)I" } : Jvm.MethodName) prog_16_method_74_code (13 : Nat) (Option.some Jvm.ClassFile.FieldType.int)) ∈ lw_all := lw_g (lw_at lw_m8 19 rfl) rfl
theorem q1803 : (Jvm.Cond.methodLink "WeekFootModel" (421 : Nat) ({ cls := "WeekFootModel", name := "beside", desc := "(III)I" } : Jvm.MethodName)) ∈ lw_all := lw_g (lw_at lw_m8 20 rfl) rfl
theorem q1804 : (Jvm.Cond.privateMethod ({ cls := "WeekFootModel", name := "beside", desc := "(III)I" } : Jvm.MethodName)) ∈ lw_tbl := lw_at lw_m8 21 rfl
theorem q1805 : (Jvm.Cond.instanceMethod ({ cls := "WeekFootModel", name := "beside", desc := "(III)I" } : Jvm.MethodName)) ∈ lw_all := lw_g (lw_at lw_m8 22 rfl) rfl
theorem q1806 : (Jvm.Cond.code ({ cls := "WeekFootModel", name := "beside", desc := "(III)I" } : Jvm.MethodName) prog_16_method_73_code (5 : Nat) (Option.some Jvm.ClassFile.FieldType.int)) ∈ lw_all := lw_g (lw_at lw_m8 23 rfl) rfl
theorem q1808 : (Jvm.Cond.instanceMethod ({ cls := "WeekFootModel", name := "numbers", desc := "(IIII)I" } : Jvm.MethodName)) ∈ lw_all := lw_g (lw_at lw_m8 25 rfl) rfl
theorem q1809 : (Jvm.Cond.selects "WeekFootModel" ({ cls := "WeekFootModel", name := "numbers", desc := "(IIII)I" } : Jvm.MethodName) ({ cls := "WeekFootModel", name := "numbers", desc := "(IIII)I" } : Jvm.MethodName)) ∈ lw_all := lw_g (lw_at lw_m8 26 rfl) rfl
theorem q1810 : (Jvm.Cond.code ({ cls := "WeekFootModel", name := "numbers", desc := "(IIII)I" } : Jvm.MethodName) prog_16_method_78_code (8 : Nat) (Option.some Jvm.ClassFile.FieldType.int)) ∈ lw_all := lw_g (lw_at lw_m8 27 rfl) rfl
theorem q1811 : (Jvm.Cond.methodLink "WeekFootModel" (434 : Nat) ({ cls := "WeekFootModel", name := "numbersOf", desc := "(I)I" } : Jvm.MethodName)) ∈ lw_all := lw_g (lw_at lw_m8 28 rfl) rfl
theorem q1812 : (Jvm.Cond.privateMethod ({ cls := "WeekFootModel", name := "numbersOf", desc := "(I)I" } : Jvm.MethodName)) ∈ lw_tbl := lw_at lw_m8 29 rfl
theorem q1813 : (Jvm.Cond.instanceMethod ({ cls := "WeekFootModel", name := "numbersOf", desc := "(I)I" } : Jvm.MethodName)) ∈ lw_all := lw_g (lw_at lw_m8 30 rfl) rfl
theorem q1814 : (Jvm.Cond.code ({ cls := "WeekFootModel", name := "numbersOf", desc := "(I)I" } : Jvm.MethodName) prog_16_method_77_code (4 : Nat) (Option.some Jvm.ClassFile.FieldType.int)) ∈ lw_all := lw_g (lw_at lw_m8 31 rfl) rfl
theorem q1816 : (Jvm.Cond.instanceMethod ({ cls := "WeekFootModel", name := "ask", desc := "(I)I" } : Jvm.MethodName)) ∈ lw_all := lw_g (lw_at lw_m8 33 rfl) rfl
theorem q1817 : (Jvm.Cond.selects "WeekFootModel" ({ cls := "WeekFootModel", name := "ask", desc := "(I)I" } : Jvm.MethodName) ({ cls := "WeekFootModel", name := "ask", desc := "(I)I" } : Jvm.MethodName)) ∈ lw_all := lw_g (lw_at lw_m8 34 rfl) rfl
theorem q1818 : (Jvm.Cond.code ({ cls := "WeekFootModel", name := "ask", desc := "(I)I" } : Jvm.MethodName) prog_16_method_79_code (7 : Nat) (Option.some Jvm.ClassFile.FieldType.int)) ∈ lw_all := lw_g (lw_at lw_m8 35 rfl) rfl
theorem q1820 : (Jvm.Cond.instanceMethod ({ cls := "WeekFootModel", name := "dates", desc := "(IIII)I" } : Jvm.MethodName)) ∈ lw_all := lw_g (lw_at lw_m8 37 rfl) rfl
theorem q1821 : (Jvm.Cond.selects "WeekFootModel" ({ cls := "WeekFootModel", name := "dates", desc := "(IIII)I" } : Jvm.MethodName) ({ cls := "WeekFootModel", name := "dates", desc := "(IIII)I" } : Jvm.MethodName)) ∈ lw_all := lw_g (lw_at lw_m8 38 rfl) rfl
theorem q1822 : (Jvm.Cond.code ({ cls := "WeekFootModel", name := "dates", desc := "(IIII)I" } : Jvm.MethodName) prog_16_method_80_code (10 : Nat) (Option.some Jvm.ClassFile.FieldType.int)) ∈ lw_all := lw_g (lw_at lw_m8 39 rfl) rfl
theorem q1824 : (Jvm.Cond.instanceMethod ({ cls := "WeekFootModel", name := "part", desc := "(III)J" } : Jvm.MethodName)) ∈ lw_all := lw_g (lw_at lw_m8 41 rfl) rfl
theorem q1825 : (Jvm.Cond.selects "WeekFootModel" ({ cls := "WeekFootModel", name := "part", desc := "(III)J" } : Jvm.MethodName) ({ cls := "WeekFootModel", name := "part", desc := "(III)J" } : Jvm.MethodName)) ∈ lw_all := lw_g (lw_at lw_m8 42 rfl) rfl
theorem q1826 : (Jvm.Cond.code ({ cls := "WeekFootModel", name := "part", desc := "(III)J" } : Jvm.MethodName) prog_16_method_83_code (16 : Nat) (Option.some Jvm.ClassFile.FieldType.long)) ∈ lw_all := lw_g (lw_at lw_m8 43 rfl) rfl
theorem q1827 : (Jvm.Cond.constantLong "WeekFootModel" (437 : Nat) (-2 : Int64)) ∈ lw_all := lw_g (lw_at lw_m8 44 rfl) rfl
theorem q1828 : (Jvm.Cond.methodLink "WeekFootModel" (439 : Nat) ({ cls := "WeekFootModel", name := "whole", desc := "([JI)J" } : Jvm.MethodName)) ∈ lw_all := lw_g (lw_at lw_m8 45 rfl) rfl
theorem q1829 : (Jvm.Cond.static ({ cls := "WeekFootModel", name := "whole", desc := "([JI)J" } : Jvm.MethodName)) ∈ lw_all := lw_g (lw_at lw_m8 46 rfl) rfl
theorem q1830 : (Jvm.Cond.code ({ cls := "WeekFootModel", name := "whole", desc := "([JI)J" } : Jvm.MethodName) prog_16_method_81_code (2 : Nat) (Option.some Jvm.ClassFile.FieldType.long)) ∈ lw_all := lw_g (lw_at lw_m8 47 rfl) rfl
theorem q1831 : (Jvm.Cond.methodLink "WeekFootModel" (443 : Nat) ({ cls := "WeekFootModel", name := "common", desc := "(JJ)J" } : Jvm.MethodName)) ∈ lw_all := lw_g (lw_at lw_m8 48 rfl) rfl
theorem q1832 : (Jvm.Cond.static ({ cls := "WeekFootModel", name := "common", desc := "(JJ)J" } : Jvm.MethodName)) ∈ lw_all := lw_g (lw_at lw_m8 49 rfl) rfl
theorem q1833 : (Jvm.Cond.code ({ cls := "WeekFootModel", name := "common", desc := "(JJ)J" } : Jvm.MethodName) prog_16_method_82_code (10 : Nat) (Option.some Jvm.ClassFile.FieldType.long)) ∈ lw_all := lw_g (lw_at lw_m8 50 rfl) rfl
theorem q1835 : (Jvm.Cond.instanceMethod ({ cls := "WeekFootModel", name := "lay", desc := "(IIIII)I" } : Jvm.MethodName)) ∈ lw_all := lw_g (lw_at lw_m8 52 rfl) rfl
theorem q1836 : (Jvm.Cond.selects "WeekFootModel" ({ cls := "WeekFootModel", name := "lay", desc := "(IIIII)I" } : Jvm.MethodName) ({ cls := "WeekFootModel", name := "lay", desc := "(IIIII)I" } : Jvm.MethodName)) ∈ lw_all := lw_g (lw_at lw_m8 53 rfl) rfl
theorem q1837 : (Jvm.Cond.code ({ cls := "WeekFootModel", name := "lay", desc := "(IIIII)I" } : Jvm.MethodName) prog_16_method_91_code (7 : Nat) (Option.some Jvm.ClassFile.FieldType.int)) ∈ lw_all := lw_g (lw_at lw_m8 54 rfl) rfl
theorem q1838 : (Jvm.Cond.methodLink "WeekFootModel" (465 : Nat) ({ cls := "WeekFootModel", name := "isGround", desc := "(I)Z" } : Jvm.MethodName)) ∈ lw_all := lw_g (lw_at lw_m8 55 rfl) rfl
theorem q1839 : (Jvm.Cond.static ({ cls := "WeekFootModel", name := "isGround", desc := "(I)Z" } : Jvm.MethodName)) ∈ lw_all := lw_g (lw_at lw_m8 56 rfl) rfl
theorem q1840 : (Jvm.Cond.code ({ cls := "WeekFootModel", name := "isGround", desc := "(I)Z" } : Jvm.MethodName) prog_16_method_90_code (1 : Nat) (Option.some Jvm.ClassFile.FieldType.boolean)) ∈ lw_all := lw_g (lw_at lw_m8 57 rfl) rfl
theorem q1841 : (Jvm.Cond.methodLink "WeekFootModel" (468 : Nat) ({ cls := "WeekFootModel", name := "takeEnd", desc := "(IIIZ)V" } : Jvm.MethodName)) ∈ lw_all := lw_g (lw_at lw_m8 58 rfl) rfl
theorem q1842 : (Jvm.Cond.privateMethod ({ cls := "WeekFootModel", name := "takeEnd", desc := "(IIIZ)V" } : Jvm.MethodName)) ∈ lw_tbl := lw_at lw_m8 59 rfl
theorem q1843 : (Jvm.Cond.instanceMethod ({ cls := "WeekFootModel", name := "takeEnd", desc := "(IIIZ)V" } : Jvm.MethodName)) ∈ lw_all := lw_g (lw_at lw_m8 60 rfl) rfl
theorem q1844 : (Jvm.Cond.code ({ cls := "WeekFootModel", name := "takeEnd", desc := "(IIIZ)V" } : Jvm.MethodName) prog_16_method_89_code (12 : Nat) (Option.none : Option Jvm.ClassFile.FieldType)) ∈ lw_all := lw_g (lw_at lw_m8 61 rfl) rfl
theorem q1845 : (Jvm.Cond.methodLink "WeekFootModel" (472 : Nat) ({ cls := "WeekFootModel", name := "triple", desc := "([JJJJ)V" } : Jvm.MethodName)) ∈ lw_all := lw_g (lw_at lw_m8 62 rfl) rfl
theorem q1846 : (Jvm.Cond.privateMethod ({ cls := "WeekFootModel", name := "triple", desc := "([JJJJ)V" } : Jvm.MethodName)) ∈ lw_tbl := lw_at lw_m8 63 rfl
theorem q1847 : (Jvm.Cond.instanceMethod ({ cls := "WeekFootModel", name := "triple", desc := "([JJJJ)V" } : Jvm.MethodName)) ∈ lw_all := lw_g (lw_at lw_m8 64 rfl) rfl
theorem q1848 : (Jvm.Cond.code ({ cls := "WeekFootModel", name := "triple", desc := "([JJJJ)V" } : Jvm.MethodName) prog_16_method_85_code (9 : Nat) (Option.none : Option Jvm.ClassFile.FieldType)) ∈ lw_all := lw_g (lw_at lw_m8 65 rfl) rfl
theorem q1849 : (Jvm.Cond.methodLink "WeekFootModel" (447 : Nat) ({ cls := "WeekFootModel", name := "multiply", desc := "([JJ)V" } : Jvm.MethodName)) ∈ lw_all := lw_g (lw_at lw_m8 66 rfl) rfl
theorem q1850 : (Jvm.Cond.privateMethod ({ cls := "WeekFootModel", name := "multiply", desc := "([JJ)V" } : Jvm.MethodName)) ∈ lw_tbl := lw_at lw_m8 67 rfl
theorem q1851 : (Jvm.Cond.instanceMethod ({ cls := "WeekFootModel", name := "multiply", desc := "([JJ)V" } : Jvm.MethodName)) ∈ lw_all := lw_g (lw_at lw_m8 68 rfl) rfl
theorem q1852 : (Jvm.Cond.code ({ cls := "WeekFootModel", name := "multiply", desc := "([JJ)V" } : Jvm.MethodName) prog_16_method_84_code (14 : Nat) (Option.none : Option Jvm.ClassFile.FieldType)) ∈ lw_all := lw_g (lw_at lw_m8 69 rfl) rfl
theorem q1853 : (Jvm.Cond.methodLink "WeekFootModel" (476 : Nat) ({ cls := "WeekFootModel", name := "addFactor", desc := "()V" } : Jvm.MethodName)) ∈ lw_all := lw_g (lw_at lw_m8 70 rfl) rfl
theorem q1854 : (Jvm.Cond.privateMethod ({ cls := "WeekFootModel", name := "addFactor", desc := "()V" } : Jvm.MethodName)) ∈ lw_tbl := lw_at lw_m8 71 rfl
theorem q1855 : (Jvm.Cond.instanceMethod ({ cls := "WeekFootModel", name := "addFactor", desc := "()V" } : Jvm.MethodName)) ∈ lw_all := lw_g (lw_at lw_m8 72 rfl) rfl
theorem q1856 : (Jvm.Cond.code ({ cls := "WeekFootModel", name := "addFactor", desc := "()V" } : Jvm.MethodName) prog_16_method_92_code (6 : Nat) (Option.none : Option Jvm.ClassFile.FieldType)) ∈ lw_all := lw_g (lw_at lw_m8 73 rfl) rfl
theorem q1857 : (Jvm.Cond.methodLink "WeekFootModel" (479 : Nat) ({ cls := "WeekFootModel", name := "often", desc := "(IZ)I" } : Jvm.MethodName)) ∈ lw_all := lw_g (lw_at lw_m8 74 rfl) rfl
theorem q1858 : (Jvm.Cond.privateMethod ({ cls := "WeekFootModel", name := "often", desc := "(IZ)I" } : Jvm.MethodName)) ∈ lw_tbl := lw_at lw_m8 75 rfl
theorem q1859 : (Jvm.Cond.instanceMethod ({ cls := "WeekFootModel", name := "often", desc := "(IZ)I" } : Jvm.MethodName)) ∈ lw_all := lw_g (lw_at lw_m8 76 rfl) rfl
theorem q1860 : (Jvm.Cond.code ({ cls := "WeekFootModel", name := "often", desc := "(IZ)I" } : Jvm.MethodName) prog_16_method_87_code (6 : Nat) (Option.some Jvm.ClassFile.FieldType.int)) ∈ lw_all := lw_g (lw_at lw_m8 77 rfl) rfl
theorem q1861 : (Jvm.Cond.methodLink "WeekFootModel" (451 : Nat) ({ cls := "WeekFootModel", name := "copyTen", desc := "([J)V" } : Jvm.MethodName)) ∈ lw_all := lw_g (lw_at lw_m8 78 rfl) rfl
theorem q1862 : (Jvm.Cond.privateMethod ({ cls := "WeekFootModel", name := "copyTen", desc := "([J)V" } : Jvm.MethodName)) ∈ lw_tbl := lw_at lw_m8 79 rfl
theorem q1863 : (Jvm.Cond.instanceMethod ({ cls := "WeekFootModel", name := "copyTen", desc := "([J)V" } : Jvm.MethodName)) ∈ lw_all := lw_g (lw_at lw_m8 80 rfl) rfl
theorem q1864 : (Jvm.Cond.code ({ cls := "WeekFootModel", name := "copyTen", desc := "([J)V" } : Jvm.MethodName) prog_16_method_88_code (3 : Nat) (Option.none : Option Jvm.ClassFile.FieldType)) ∈ lw_all := lw_g (lw_at lw_m8 81 rfl) rfl
theorem q1865 : (Jvm.Cond.methodLink "WeekFootModel" (455 : Nat) ({ cls := "WeekFootModel", name := "besideTen", desc := "([J[J)I" } : Jvm.MethodName)) ∈ lw_all := lw_g (lw_at lw_m8 82 rfl) rfl
theorem q1866 : (Jvm.Cond.static ({ cls := "WeekFootModel", name := "besideTen", desc := "([J[J)I" } : Jvm.MethodName)) ∈ lw_all := lw_g (lw_at lw_m8 83 rfl) rfl
theorem q1867 : (Jvm.Cond.code ({ cls := "WeekFootModel", name := "besideTen", desc := "([J[J)I" } : Jvm.MethodName) prog_16_method_86_code (3 : Nat) (Option.some Jvm.ClassFile.FieldType.int)) ∈ lw_all := lw_g (lw_at lw_m8 84 rfl) rfl
theorem q1869 : (Jvm.Cond.instanceMethod ({ cls := "WeekFootModel", name := "area", desc := "(IIII)I" } : Jvm.MethodName)) ∈ lw_all := lw_g (lw_at lw_m8 86 rfl) rfl
theorem q1870 : (Jvm.Cond.selects "WeekFootModel" ({ cls := "WeekFootModel", name := "area", desc := "(IIII)I" } : Jvm.MethodName) ({ cls := "WeekFootModel", name := "area", desc := "(IIII)I" } : Jvm.MethodName)) ∈ lw_all := lw_g (lw_at lw_m8 87 rfl) rfl
theorem q1871 : (Jvm.Cond.code ({ cls := "WeekFootModel", name := "area", desc := "(IIII)I" } : Jvm.MethodName) prog_16_method_93_code (6 : Nat) (Option.some Jvm.ClassFile.FieldType.int)) ∈ lw_all := lw_g (lw_at lw_m8 88 rfl) rfl
theorem q1872 : (Jvm.Cond.constant "WeekFootModel" (483 : Nat) (4000000 : Int32)) ∈ lw_all := lw_g (lw_at lw_m8 89 rfl) rfl
theorem q1874 : (Jvm.Cond.instanceMethod ({ cls := "WeekFootModel", name := "joined", desc := "(II)I" } : Jvm.MethodName)) ∈ lw_all := lw_g (lw_at lw_m8 91 rfl) rfl
theorem q1875 : (Jvm.Cond.selects "WeekFootModel" ({ cls := "WeekFootModel", name := "joined", desc := "(II)I" } : Jvm.MethodName) ({ cls := "WeekFootModel", name := "joined", desc := "(II)I" } : Jvm.MethodName)) ∈ lw_all := lw_g (lw_at lw_m8 92 rfl) rfl
theorem q1876 : (Jvm.Cond.code ({ cls := "WeekFootModel", name := "joined", desc := "(II)I" } : Jvm.MethodName) prog_16_method_95_code (3 : Nat) (Option.some Jvm.ClassFile.FieldType.int)) ∈ lw_all := lw_g (lw_at lw_m8 93 rfl) rfl
theorem q1877 : (Jvm.Cond.methodLink "WeekFootModel" (484 : Nat) ({ cls := "WeekFootModel", name := "findGroups", desc := "()V" } : Jvm.MethodName)) ∈ lw_all := lw_g (lw_at lw_m8 94 rfl) rfl
theorem q1878 : (Jvm.Cond.privateMethod ({ cls := "WeekFootModel", name := "findGroups", desc := "()V" } : Jvm.MethodName)) ∈ lw_tbl := lw_at lw_m8 95 rfl
theorem q1879 : (Jvm.Cond.instanceMethod ({ cls := "WeekFootModel", name := "findGroups", desc := "()V" } : Jvm.MethodName)) ∈ lw_all := lw_g (lw_at lw_m8 96 rfl) rfl
theorem q1880 : (Jvm.Cond.code ({ cls := "WeekFootModel", name := "findGroups", desc := "()V" } : Jvm.MethodName) prog_16_method_94_code (6 : Nat) (Option.none : Option Jvm.ClassFile.FieldType)) ∈ lw_all := lw_g (lw_at lw_m8 97 rfl) rfl
theorem q1882 : (Jvm.Cond.instanceMethod ({ cls := "WeekFootModel", name := "groups", desc := "(I)I" } : Jvm.MethodName)) ∈ lw_all := lw_g (lw_at lw_m8 99 rfl) rfl
theorem q1883 : (Jvm.Cond.selects "WeekFootModel" ({ cls := "WeekFootModel", name := "groups", desc := "(I)I" } : Jvm.MethodName) ({ cls := "WeekFootModel", name := "groups", desc := "(I)I" } : Jvm.MethodName)) ∈ lw_all := lw_g (lw_at lw_m8 100 rfl) rfl
theorem q1884 : (Jvm.Cond.code ({ cls := "WeekFootModel", name := "groups", desc := "(I)I" } : Jvm.MethodName) prog_16_method_96_code (7 : Nat) (Option.some Jvm.ClassFile.FieldType.int)) ∈ lw_all := lw_g (lw_at lw_m8 101 rfl) rfl
theorem q1886 : (Jvm.Cond.instanceMethod ({ cls := "WeekFootModel", name := "core", desc := "()I" } : Jvm.MethodName)) ∈ lw_all := lw_g (lw_at lw_m8 103 rfl) rfl
theorem q1887 : (Jvm.Cond.selects "WeekFootModel" ({ cls := "WeekFootModel", name := "core", desc := "()I" } : Jvm.MethodName) ({ cls := "WeekFootModel", name := "core", desc := "()I" } : Jvm.MethodName)) ∈ lw_all := lw_g (lw_at lw_m8 104 rfl) rfl
theorem q1888 : (Jvm.Cond.code ({ cls := "WeekFootModel", name := "core", desc := "()I" } : Jvm.MethodName) prog_16_method_97_code (3 : Nat) (Option.some Jvm.ClassFile.FieldType.int)) ∈ lw_all := lw_g (lw_at lw_m8 105 rfl) rfl
theorem q1890 : (Jvm.Cond.instanceMethod ({ cls := "WeekFootModel", name := "wrong", desc := "(I)I" } : Jvm.MethodName)) ∈ lw_all := lw_g (lw_at lw_m8 107 rfl) rfl
theorem q1891 : (Jvm.Cond.selects "WeekFootModel" ({ cls := "WeekFootModel", name := "wrong", desc := "(I)I" } : Jvm.MethodName) ({ cls := "WeekFootModel", name := "wrong", desc := "(I)I" } : Jvm.MethodName)) ∈ lw_all := lw_g (lw_at lw_m8 108 rfl) rfl
theorem q1892 : (Jvm.Cond.code ({ cls := "WeekFootModel", name := "wrong", desc := "(I)I" } : Jvm.MethodName) prog_16_method_98_code (11 : Nat) (Option.some Jvm.ClassFile.FieldType.int)) ∈ lw_all := lw_g (lw_at lw_m8 109 rfl) rfl
theorem q1894 : (Jvm.Cond.instanceMethod ({ cls := "WeekFootModel", name := "whose", desc := "(I)I" } : Jvm.MethodName)) ∈ lw_all := lw_g (lw_at lw_m8 111 rfl) rfl
theorem q1895 : (Jvm.Cond.selects "WeekFootModel" ({ cls := "WeekFootModel", name := "whose", desc := "(I)I" } : Jvm.MethodName) ({ cls := "WeekFootModel", name := "whose", desc := "(I)I" } : Jvm.MethodName)) ∈ lw_all := lw_g (lw_at lw_m8 112 rfl) rfl
theorem q1896 : (Jvm.Cond.code ({ cls := "WeekFootModel", name := "whose", desc := "(I)I" } : Jvm.MethodName) prog_16_method_102_code (5 : Nat) (Option.some Jvm.ClassFile.FieldType.int)) ∈ lw_all := lw_g (lw_at lw_m8 113 rfl) rfl
theorem q1897 : (Jvm.Cond.methodLink "WeekFootModel" (490 : Nat) ({ cls := "WeekFootModel", name := "findAsked", desc := "()Z" } : Jvm.MethodName)) ∈ lw_all := lw_g (lw_at lw_m8 114 rfl) rfl
theorem q1898 : (Jvm.Cond.privateMethod ({ cls := "WeekFootModel", name := "findAsked", desc := "()Z" } : Jvm.MethodName)) ∈ lw_tbl := lw_at lw_m8 115 rfl
theorem q1899 : (Jvm.Cond.instanceMethod ({ cls := "WeekFootModel", name := "findAsked", desc := "()Z" } : Jvm.MethodName)) ∈ lw_all := lw_g (lw_at lw_m8 116 rfl) rfl
theorem q1900 : (Jvm.Cond.code ({ cls := "WeekFootModel", name := "findAsked", desc := "()Z" } : Jvm.MethodName) prog_16_method_99_code (4 : Nat) (Option.some Jvm.ClassFile.FieldType.boolean)) ∈ lw_all := lw_g (lw_at lw_m8 117 rfl) rfl
theorem q1901 : (Jvm.Cond.methodLink "WeekFootModel" (493 : Nat) ({ cls := "WeekFootModel", name := "waysWith", desc := "(II)I" } : Jvm.MethodName)) ∈ lw_all := lw_g (lw_at lw_m8 118 rfl) rfl
theorem q1902 : (Jvm.Cond.privateMethod ({ cls := "WeekFootModel", name := "waysWith", desc := "(II)I" } : Jvm.MethodName)) ∈ lw_tbl := lw_at lw_m8 119 rfl
theorem q1903 : (Jvm.Cond.instanceMethod ({ cls := "WeekFootModel", name := "waysWith", desc := "(II)I" } : Jvm.MethodName)) ∈ lw_all := lw_g (lw_at lw_m8 120 rfl) rfl
theorem q1904 : (Jvm.Cond.code ({ cls := "WeekFootModel", name := "waysWith", desc := "(II)I" } : Jvm.MethodName) prog_16_method_100_code (6 : Nat) (Option.some Jvm.ClassFile.FieldType.int)) ∈ lw_all := lw_g (lw_at lw_m8 121 rfl) rfl
theorem q1905 : (Jvm.Cond.methodLink "WeekFootModel" (496 : Nat) ({ cls := "WeekFootModel", name := "whichOf", desc := "(I)I" } : Jvm.MethodName)) ∈ lw_all := lw_g (lw_at lw_m8 122 rfl) rfl
theorem q1906 : (Jvm.Cond.privateMethod ({ cls := "WeekFootModel", name := "whichOf", desc := "(I)I" } : Jvm.MethodName)) ∈ lw_tbl := lw_at lw_m8 123 rfl
theorem q1907 : (Jvm.Cond.instanceMethod ({ cls := "WeekFootModel", name := "whichOf", desc := "(I)I" } : Jvm.MethodName)) ∈ lw_all := lw_g (lw_at lw_m8 124 rfl) rfl
theorem q1908 : (Jvm.Cond.code ({ cls := "WeekFootModel", name := "whichOf", desc := "(I)I" } : Jvm.MethodName) prog_16_method_101_code (4 : Nat) (Option.some Jvm.ClassFile.FieldType.int)) ∈ lw_all := lw_g (lw_at lw_m8 125 rfl) rfl
theorem q1910 : (Jvm.Cond.instanceMethod ({ cls := "WeekFootModel", name := "could", desc := "(II)I" } : Jvm.MethodName)) ∈ lw_all := lw_g (lw_at lw_m8 127 rfl) rfl
theorem q1911 : (Jvm.Cond.selects "WeekFootModel" ({ cls := "WeekFootModel", name := "could", desc := "(II)I" } : Jvm.MethodName) ({ cls := "WeekFootModel", name := "could", desc := "(II)I" } : Jvm.MethodName)) ∈ lw_all := lw_g (lw_at lw_m8 128 rfl) rfl
theorem q1912 : (Jvm.Cond.code ({ cls := "WeekFootModel", name := "could", desc := "(II)I" } : Jvm.MethodName) prog_16_method_103_code (4 : Nat) (Option.some Jvm.ClassFile.FieldType.int)) ∈ lw_all := lw_g (lw_at lw_m8 129 rfl) rfl
theorem q1914 : (Jvm.Cond.instanceMethod ({ cls := "WeekFootModel", name := "when", desc := "(II)I" } : Jvm.MethodName)) ∈ lw_all := lw_g (lw_at lw_m8 131 rfl) rfl
theorem q1915 : (Jvm.Cond.selects "WeekFootModel" ({ cls := "WeekFootModel", name := "when", desc := "(II)I" } : Jvm.MethodName) ({ cls := "WeekFootModel", name := "when", desc := "(II)I" } : Jvm.MethodName)) ∈ lw_all := lw_g (lw_at lw_m8 132 rfl) rfl
theorem q1916 : (Jvm.Cond.code ({ cls := "WeekFootModel", name := "when", desc := "(II)I" } : Jvm.MethodName) prog_16_method_104_code (7 : Nat) (Option.some Jvm.ClassFile.FieldType.int)) ∈ lw_all := lw_g (lw_at lw_m8 133 rfl) rfl
theorem q1918 : (Jvm.Cond.instanceMethod ({ cls := "WeekFootModel", name := "tell", desc := "(II)I" } : Jvm.MethodName)) ∈ lw_all := lw_g (lw_at lw_m8 135 rfl) rfl
theorem q1919 : (Jvm.Cond.selects "WeekFootModel" ({ cls := "WeekFootModel", name := "tell", desc := "(II)I" } : Jvm.MethodName) ({ cls := "WeekFootModel", name := "tell", desc := "(II)I" } : Jvm.MethodName)) ∈ lw_all := lw_g (lw_at lw_m8 136 rfl) rfl
theorem q1920 : (Jvm.Cond.code ({ cls := "WeekFootModel", name := "tell", desc := "(II)I" } : Jvm.MethodName) prog_16_method_105_code (3 : Nat) (Option.some Jvm.ClassFile.FieldType.int)) ∈ lw_all := lw_g (lw_at lw_m8 137 rfl) rfl
theorem q1921 : (Jvm.Cond.constantLong "WeekFootModel" (499 : Nat) (9999 : Int64)) ∈ lw_all := lw_g (lw_at lw_m8 138 rfl) rfl
theorem q1923 : (Jvm.Cond.instanceMethod ({ cls := "WeekFootModel", name := "says", desc := "(III)I" } : Jvm.MethodName)) ∈ lw_all := lw_g (lw_at lw_m8 140 rfl) rfl
theorem q1924 : (Jvm.Cond.selects "WeekFootModel" ({ cls := "WeekFootModel", name := "says", desc := "(III)I" } : Jvm.MethodName) ({ cls := "WeekFootModel", name := "says", desc := "(III)I" } : Jvm.MethodName)) ∈ lw_all := lw_g (lw_at lw_m8 141 rfl) rfl
theorem q1925 : (Jvm.Cond.code ({ cls := "WeekFootModel", name := "says", desc := "(III)I" } : Jvm.MethodName) prog_16_method_107_code (6 : Nat) (Option.some Jvm.ClassFile.FieldType.int)) ∈ lw_all := lw_g (lw_at lw_m8 142 rfl) rfl
theorem q1927 : (Jvm.Cond.instanceMethod ({ cls := "WeekFootModel", name := "judge", desc := "(I)I" } : Jvm.MethodName)) ∈ lw_all := lw_g (lw_at lw_m8 144 rfl) rfl
theorem q1928 : (Jvm.Cond.selects "WeekFootModel" ({ cls := "WeekFootModel", name := "judge", desc := "(I)I" } : Jvm.MethodName) ({ cls := "WeekFootModel", name := "judge", desc := "(I)I" } : Jvm.MethodName)) ∈ lw_all := lw_g (lw_at lw_m8 145 rfl) rfl
theorem q1929 : (Jvm.Cond.code ({ cls := "WeekFootModel", name := "judge", desc := "(I)I" } : Jvm.MethodName) prog_16_method_109_code (6 : Nat) (Option.some Jvm.ClassFile.FieldType.int)) ∈ lw_all := lw_g (lw_at lw_m8 146 rfl) rfl
theorem q1930 : (Jvm.Cond.methodLink "WeekFootModel" (501 : Nat) ({ cls := "WeekFootModel", name := "isSo", desc := "(I)Z" } : Jvm.MethodName)) ∈ lw_all := lw_g (lw_at lw_m8 147 rfl) rfl
theorem q1931 : (Jvm.Cond.privateMethod ({ cls := "WeekFootModel", name := "isSo", desc := "(I)Z" } : Jvm.MethodName)) ∈ lw_tbl := lw_at lw_m8 148 rfl
theorem q1932 : (Jvm.Cond.instanceMethod ({ cls := "WeekFootModel", name := "isSo", desc := "(I)Z" } : Jvm.MethodName)) ∈ lw_all := lw_g (lw_at lw_m8 149 rfl) rfl
theorem q1933 : (Jvm.Cond.code ({ cls := "WeekFootModel", name := "isSo", desc := "(I)Z" } : Jvm.MethodName) prog_16_method_108_code (5 : Nat) (Option.some Jvm.ClassFile.FieldType.boolean)) ∈ lw_all := lw_g (lw_at lw_m8 150 rfl) rfl
theorem q1935 : (Jvm.Cond.instanceMethod ({ cls := "WeekFootModel", name := "year", desc := "(III)I" } : Jvm.MethodName)) ∈ lw_all := lw_g (lw_at lw_m8 152 rfl) rfl
theorem q1936 : (Jvm.Cond.selects "WeekFootModel" ({ cls := "WeekFootModel", name := "year", desc := "(III)I" } : Jvm.MethodName) ({ cls := "WeekFootModel", name := "year", desc := "(III)I" } : Jvm.MethodName)) ∈ lw_all := lw_g (lw_at lw_m8 153 rfl) rfl
theorem q1937 : (Jvm.Cond.code ({ cls := "WeekFootModel", name := "year", desc := "(III)I" } : Jvm.MethodName) prog_16_method_110_code (10 : Nat) (Option.some Jvm.ClassFile.FieldType.int)) ∈ lw_all := lw_g (lw_at lw_m8 154 rfl) rfl
theorem q1938 : (Jvm.Cond.constantLong "WeekFootModel" (504 : Nat) (1103 : Int64)) ∈ lw_all := lw_g (lw_at lw_m8 155 rfl) rfl
theorem q1939 : (Jvm.Cond.constantLong "WeekFootModel" (506 : Nat) (12345 : Int64)) ∈ lw_all := lw_g (lw_at lw_m8 156 rfl) rfl
theorem q1940 : (Jvm.Cond.constantLong "WeekFootModel" (508 : Nat) (1000003 : Int64)) ∈ lw_all := lw_g (lw_at lw_m8 157 rfl) rfl
theorem q1941 : (Jvm.Cond.constantLong "WeekFootModel" (510 : Nat) (4 : Int64)) ∈ lw_all := lw_g (lw_at lw_m8 158 rfl) rfl
theorem q1942 : (Jvm.Cond.methodLink "WeekFootModel" (521 : Nat) ({ cls := "WeekFootModel", name := "feetOf", desc := "(II)I" } : Jvm.MethodName)) ∈ lw_all := lw_g (lw_at lw_m8 159 rfl) rfl
theorem q1943 : (Jvm.Cond.privateMethod ({ cls := "WeekFootModel", name := "feetOf", desc := "(II)I" } : Jvm.MethodName)) ∈ lw_tbl := lw_at lw_m8 160 rfl
theorem q1944 : (Jvm.Cond.instanceMethod ({ cls := "WeekFootModel", name := "feetOf", desc := "(II)I" } : Jvm.MethodName)) ∈ lw_all := lw_g (lw_at lw_m8 161 rfl) rfl
theorem q1945 : (Jvm.Cond.code ({ cls := "WeekFootModel", name := "feetOf", desc := "(II)I" } : Jvm.MethodName) prog_16_method_106_code (3 : Nat) (Option.some Jvm.ClassFile.FieldType.int)) ∈ lw_all := lw_g (lw_at lw_m8 162 rfl) rfl
theorem q1947 : (Jvm.Cond.instanceMethod ({ cls := "WeekFootModel", name := "trade", desc := "(I)I" } : Jvm.MethodName)) ∈ lw_all := lw_g (lw_at lw_m8 164 rfl) rfl
theorem q1948 : (Jvm.Cond.selects "WeekFootModel" ({ cls := "WeekFootModel", name := "trade", desc := "(I)I" } : Jvm.MethodName) ({ cls := "WeekFootModel", name := "trade", desc := "(I)I" } : Jvm.MethodName)) ∈ lw_all := lw_g (lw_at lw_m8 165 rfl) rfl
theorem q1949 : (Jvm.Cond.code ({ cls := "WeekFootModel", name := "trade", desc := "(I)I" } : Jvm.MethodName) prog_16_method_111_code (2 : Nat) (Option.some Jvm.ClassFile.FieldType.int)) ∈ lw_all := lw_g (lw_at lw_m8 166 rfl) rfl
theorem q1950 : (Jvm.Cond.constantLong "WeekFootModel" (524 : Nat) (33 : Int64)) ∈ lw_all := lw_g (lw_at lw_m8 167 rfl) rfl
theorem q1952 : (Jvm.Cond.instanceMethod ({ cls := "WeekFootModel", name := "told", desc := "(I)I" } : Jvm.MethodName)) ∈ lw_all := lw_g (lw_at lw_m8 169 rfl) rfl
theorem q1953 : (Jvm.Cond.selects "WeekFootModel" ({ cls := "WeekFootModel", name := "told", desc := "(I)I" } : Jvm.MethodName) ({ cls := "WeekFootModel", name := "told", desc := "(I)I" } : Jvm.MethodName)) ∈ lw_all := lw_g (lw_at lw_m8 170 rfl) rfl
theorem q1954 : (Jvm.Cond.code ({ cls := "WeekFootModel", name := "told", desc := "(I)I" } : Jvm.MethodName) prog_16_method_112_code (5 : Nat) (Option.some Jvm.ClassFile.FieldType.int)) ∈ lw_all := lw_g (lw_at lw_m8 171 rfl) rfl
theorem q1956 : (Jvm.Cond.instanceMethod ({ cls := "WeekFootModel", name := "count", desc := "(I)I" } : Jvm.MethodName)) ∈ lw_all := lw_g (lw_at lw_m8 173 rfl) rfl
theorem q1957 : (Jvm.Cond.selects "WeekFootModel" ({ cls := "WeekFootModel", name := "count", desc := "(I)I" } : Jvm.MethodName) ({ cls := "WeekFootModel", name := "count", desc := "(I)I" } : Jvm.MethodName)) ∈ lw_all := lw_g (lw_at lw_m8 174 rfl) rfl
theorem q1958 : (Jvm.Cond.code ({ cls := "WeekFootModel", name := "count", desc := "(I)I" } : Jvm.MethodName) prog_16_method_113_code (5 : Nat) (Option.some Jvm.ClassFile.FieldType.int)) ∈ lw_all := lw_g (lw_at lw_m8 175 rfl) rfl
theorem q1959 : (Jvm.Cond.methodLink "WeekFootModel" (526 : Nat) ({ cls := "WeekFootModel", name := "bits", desc := "(I)I" } : Jvm.MethodName)) ∈ lw_all := lw_g (lw_at lw_m8 176 rfl) rfl
theorem q1960 : (Jvm.Cond.static ({ cls := "WeekFootModel", name := "bits", desc := "(I)I" } : Jvm.MethodName)) ∈ lw_all := lw_g (lw_at lw_m8 177 rfl) rfl
theorem q1961 : (Jvm.Cond.code ({ cls := "WeekFootModel", name := "bits", desc := "(I)I" } : Jvm.MethodName) prog_16_method_114_code (3 : Nat) (Option.some Jvm.ClassFile.FieldType.int)) ∈ lw_all := lw_g (lw_at lw_m8 178 rfl) rfl
theorem q1963 : (Jvm.Cond.instanceMethod ({ cls := "WeekFootModel", name := "status", desc := "()I" } : Jvm.MethodName)) ∈ lw_all := lw_g (lw_at lw_m8 180 rfl) rfl
theorem q1964 : (Jvm.Cond.selects "WeekFootModel" ({ cls := "WeekFootModel", name := "status", desc := "()I" } : Jvm.MethodName) ({ cls := "WeekFootModel", name := "status", desc := "()I" } : Jvm.MethodName)) ∈ lw_all := lw_g (lw_at lw_m8 181 rfl) rfl
theorem q1965 : (Jvm.Cond.code ({ cls := "WeekFootModel", name := "status", desc := "()I" } : Jvm.MethodName) prog_16_method_115_code (1 : Nat) (Option.some Jvm.ClassFile.FieldType.int)) ∈ lw_all := lw_g (lw_at lw_m8 182 rfl) rfl
theorem q1980 : (Jvm.Cond.castable "WeekFootModel" "java/lang/Object") ∈ lw_tbl := lw_at lw_m8 197 rfl
theorem in_X7 : ∀ w ∈ wsX70, w ∈ lw_all := lw_in wsX70 [1363, 1365, 1367, 1369, 1371, 1373, 1375, 1377, 1379, 1381, 1383, 1385, 1387, 1389, 1391, 1393, 1395, 1397, 1399, 1401, 1403, 1405, 1407, 1409, 1411, 1413, 1415, 1417, 1419, 1421, 1423, 1425, 1427, 1429, 1431, 1433, 1435, 1437, 1439, 1441, 1443, 1445, 1447, 1449, 1451, 1453, 1455, 1457, 1459, 1461, 1463, 1465, 1467, 1469, 1471, 1473, 1475, 1477, 1479, 1481, 1483, 1485, 1487] (by decide +kernel) (by decide +kernel)
