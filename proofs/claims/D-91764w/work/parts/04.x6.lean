/-! TwoSeekModel -/
set_option maxRecDepth 100000
def RX6 : String := "TwoSeekModel"
def TX6 : u_T := fun k => match k with
  | 0 => ("TwoSeekModel", "status", "I", false)
  | 1 => ("TwoSeekModel", "thrown", "I", false)
  | 2 => ("TwoSeekModel", "above", "J", false)
  | 3 => ("TwoSeekModel", "under", "J", false)
  | 4 => ("TwoSeekModel", "traySort", "[I", true)
  | 5 => ("TwoSeekModel", "trayMany", "[I", true)
  | 6 => ("TwoSeekModel", "numbers", "[J", true)
  | 7 => ("TwoSeekModel", "tape", "[B", true)
  | 8 => ("TwoSeekModel", "taped", "I", false)
  | 9 => ("TwoSeekModel", "textEnd", "I", false)
  | 10 => ("TwoSeekModel", "faultKind", "I", false)
  | 11 => ("TwoSeekModel", "faultAt", "I", false)
  | 12 => ("TwoSeekModel", "bad", "I", false)
  | 13 => ("TwoSeekModel", "badAt", "I", false)
  | 14 => ("TwoSeekModel", "sort", "I", false)
  | 15 => ("TwoSeekModel", "at", "I", false)
  | 16 => ("TwoSeekModel", "behind", "I", false)
  | 17 => ("TwoSeekModel", "number", "I", false)
  | 18 => ("TwoSeekModel", "letters", "I", false)
  | 19 => ("TwoSeekModel", "word", "J", false)
  | 20 => ("TwoSeekModel", "places", "I", false)
  | 21 => ("TwoSeekModel", "lanes", "I", false)
  | 22 => ("TwoSeekModel", "newPlaces", "I", false)
  | 23 => ("TwoSeekModel", "newLanes", "I", false)
  | 24 => ("TwoSeekModel", "slow", "I", false)
  | 25 => ("TwoSeekModel", "hears", "I", false)
  | 26 => ("TwoSeekModel", "newSlow", "I", false)
  | 27 => ("TwoSeekModel", "newHears", "I", false)
  | 28 => ("TwoSeekModel", "cross", "Z", false)
  | 29 => ("TwoSeekModel", "newCross", "Z", false)
  | 30 => ("TwoSeekModel", "marks", "Z", false)
  | 31 => ("TwoSeekModel", "features", "[I", true)
  | 32 => ("TwoSeekModel", "newFeatures", "[I", true)
  | 33 => ("TwoSeekModel", "degree", "[I", true)
  | 34 => ("TwoSeekModel", "newDegree", "[I", true)
  | 35 => ("TwoSeekModel", "laneAt", "[I", true)
  | 36 => ("TwoSeekModel", "newLaneAt", "[I", true)
  | 37 => ("TwoSeekModel", "one", "[I", true)
  | 38 => ("TwoSeekModel", "other", "[I", true)
  | 39 => ("TwoSeekModel", "newOne", "[I", true)
  | 40 => ("TwoSeekModel", "newOther", "[I", true)
  | 41 => ("TwoSeekModel", "isShut", "[Z", true)
  | 42 => ("TwoSeekModel", "names", "[J", true)
  | 43 => ("TwoSeekModel", "ways", "I", false)
  | 44 => ("TwoSeekModel", "length", "[I", true)
  | 45 => ("TwoSeekModel", "table", "[I", true)
  | 46 => ("TwoSeekModel", "again", "[Z", true)
  | 47 => ("TwoSeekModel", "pos", "[I", true)
  | 48 => ("TwoSeekModel", "done", "[I", true)
  | 49 => ("TwoSeekModel", "mood", "[I", true)
  | 50 => ("TwoSeekModel", "left", "[I", true)
  | 51 => ("TwoSeekModel", "far", "[I", true)
  | 52 => ("TwoSeekModel", "agreedMany", "I", false)
  | 53 => ("TwoSeekModel", "alikeMany", "I", false)
  | 54 => ("TwoSeekModel", "chanceMany", "I", false)
  | 55 => ("TwoSeekModel", "agreed", "[I", true)
  | 56 => ("TwoSeekModel", "alike", "[I", true)
  | 57 => ("TwoSeekModel", "tried", "[I", true)
  | 58 => ("TwoSeekModel", "chanceTop", "[J", true)
  | 59 => ("TwoSeekModel", "chanceBottom", "J", false)
  | 60 => ("TwoSeekModel", "hasSlow", "Z", false)
  | 61 => ("TwoSeekModel", "hasHears", "Z", false)
  | 62 => ("TwoSeekModel", "alikePlaces", "[Z", true)
  | 63 => ("TwoSeekModel", "bestMissed", "J", false)
  | 64 => ("TwoSeekModel", "bestLate", "J", false)
  | 65 => ("TwoSeekModel", "isReached", "[Z", true)
  | 66 => ("TwoSeekModel", "put", "[I", true)
  | 67 => ("TwoSeekModel", "there", "[J", true)
  | 68 => ("TwoSeekModel", "then", "[J", true)
  | 69 => ("TwoSeekModel", "led", "[I", true)
  | 70 => ("TwoSeekModel", "of", "[I", true)
  | 71 => ("TwoSeekModel", "worth", "[I", true)
  | 72 => ("TwoSeekModel", "rowsMany", "I", false)
  | 73 => ("TwoSeekModel", "columnsMany", "I", false)
  | 74 => ("TwoSeekModel", "corner", "[J", true)
  | 75 => ("TwoSeekModel", "equation", "[J", true)
  | 76 => ("TwoSeekModel", "cornerBottom", "J", false)
  | 77 => ("TwoSeekModel", "valueTop", "J", false)
  | _ => ("TwoSeekModel", "valueBottom", "J", false)
def tyX6 : Nat → FieldType := fun k => match k with
  | 0 => .int
  | 1 => .int
  | 2 => .long
  | 3 => .long
  | 4 => .array .int
  | 5 => .array .int
  | 6 => .array .long
  | 7 => .array .byte
  | 8 => .int
  | 9 => .int
  | 10 => .int
  | 11 => .int
  | 12 => .int
  | 13 => .int
  | 14 => .int
  | 15 => .int
  | 16 => .int
  | 17 => .int
  | 18 => .int
  | 19 => .long
  | 20 => .int
  | 21 => .int
  | 22 => .int
  | 23 => .int
  | 24 => .int
  | 25 => .int
  | 26 => .int
  | 27 => .int
  | 28 => .boolean
  | 29 => .boolean
  | 30 => .boolean
  | 31 => .array .int
  | 32 => .array .int
  | 33 => .array .int
  | 34 => .array .int
  | 35 => .array .int
  | 36 => .array .int
  | 37 => .array .int
  | 38 => .array .int
  | 39 => .array .int
  | 40 => .array .int
  | 41 => .array .boolean
  | 42 => .array .long
  | 43 => .int
  | 44 => .array .int
  | 45 => .array .int
  | 46 => .array .boolean
  | 47 => .array .int
  | 48 => .array .int
  | 49 => .array .int
  | 50 => .array .int
  | 51 => .array .int
  | 52 => .int
  | 53 => .int
  | 54 => .int
  | 55 => .array .int
  | 56 => .array .int
  | 57 => .array .int
  | 58 => .array .long
  | 59 => .long
  | 60 => .boolean
  | 61 => .boolean
  | 62 => .array .boolean
  | 63 => .long
  | 64 => .long
  | 65 => .array .boolean
  | 66 => .array .int
  | 67 => .array .long
  | 68 => .array .long
  | 69 => .array .int
  | 70 => .array .int
  | 71 => .array .int
  | 72 => .int
  | 73 => .int
  | 74 => .array .long
  | 75 => .array .long
  | 76 => .long
  | 77 => .long
  | _ => .long
abbrev wsX60 : List Cond := u_ws RX6 TX6 79
set_option maxRecDepth 100000 in
theorem nmX6 : ∀ a, a < 79 → ∀ b, b < 79 → a ≠ b → (TX6 a).2.1 ≠ (TX6 b).2.1 := by decide +kernel
set_option maxRecDepth 100000 in
theorem tyX6_ok : ∀ k, k < 79 → parseFieldDescriptor (TX6 k).2.2.1 = some (tyX6 k) := by decide +kernel
abbrev cX6_init : ByteArray := prog_15_method_1_code
def yX6_init : MethodName := ⟨RX6, "<init>", "()V"⟩
def dkwX6_init_14 : List UInt8 := [162, 0, 16, 42, 180, 0, 17, 27, 2, 79, 132, 1, 1, 167, 255, 241, 177]
abbrev dktX6_init_14 : List UInt8 := dkwX6_init_14 ++ []
def dkwX6_init_13 : List UInt8 := [188, 10, 181, 0, 135, 42, 6, 188, 11, 181, 0, 138, 42, 16, 6, 188, 11, 181, 0, 141, 3, 60, 27, 7]
abbrev dktX6_init_13 : List UInt8 := dkwX6_init_13 ++ dktX6_init_14
def dkwX6_init_12 : List UInt8 := [16, 64, 188, 11, 181, 0, 126, 42, 6, 188, 10, 181, 0, 129, 42, 6, 188, 10, 181, 0, 132, 42, 16, 9]
abbrev dktX6_init_12 : List UInt8 := dkwX6_init_12 ++ dktX6_init_13
def dkwX6_init_11 : List UInt8 := [16, 64, 188, 4, 181, 0, 117, 42, 16, 8, 188, 10, 181, 0, 120, 42, 16, 64, 188, 11, 181, 0, 123, 42]
abbrev dktX6_init_11 : List UInt8 := dkwX6_init_11 ++ dktX6_init_12
def dkwX6_init_10 : List UInt8 := [181, 0, 105, 42, 6, 188, 11, 181, 0, 108, 42, 10, 181, 0, 111, 42, 16, 64, 188, 4, 181, 0, 114, 42]
abbrev dktX6_init_10 : List UInt8 := dkwX6_init_10 ++ dktX6_init_11
def dkwX6_init_9 : List UInt8 := [181, 0, 96, 42, 16, 6, 188, 10, 181, 0, 99, 42, 8, 188, 10, 181, 0, 102, 42, 16, 6, 188, 10]
abbrev dktX6_init_9 : List UInt8 := dkwX6_init_9 ++ dktX6_init_10
def dkwX6_init_8 : List UInt8 := [181, 0, 87, 42, 6, 188, 10, 181, 0, 90, 42, 16, 8, 188, 10, 181, 0, 93, 42, 16, 8, 188, 10]
abbrev dktX6_init_8 : List UInt8 := dkwX6_init_8 ++ dktX6_init_9
def dkwX6_init_7 : List UInt8 := [181, 0, 78, 42, 16, 12, 188, 4, 181, 0, 81, 42, 6, 188, 10, 181, 0, 84, 42, 6, 188, 10]
abbrev dktX6_init_7 : List UInt8 := dkwX6_init_7 ++ dktX6_init_8
def dkwX6_init_6 : List UInt8 := [42, 16, 8, 188, 11, 181, 0, 72, 42, 16, 12, 188, 10, 181, 0, 75, 42, 17, 1, 32, 188, 10]
abbrev dktX6_init_6 : List UInt8 := dkwX6_init_6 ++ dktX6_init_7
def dkwX6_init_5 : List UInt8 := [42, 16, 12, 188, 10, 181, 0, 62, 42, 16, 12, 188, 10, 181, 0, 65, 42, 16, 12, 188, 4, 181, 0, 68]
abbrev dktX6_init_5 : List UInt8 := dkwX6_init_5 ++ dktX6_init_6
def dkwX6_init_4 : List UInt8 := [42, 16, 32, 188, 10, 181, 0, 53, 42, 16, 12, 188, 10, 181, 0, 56, 42, 16, 12, 188, 10, 181, 0, 59]
abbrev dktX6_init_4 : List UInt8 := dkwX6_init_4 ++ dktX6_init_5
def dkwX6_init_3 : List UInt8 := [42, 16, 8, 188, 10, 181, 0, 44, 42, 16, 8, 188, 10, 181, 0, 47, 42, 16, 32, 188, 10, 181, 0, 50]
abbrev dktX6_init_3 : List UInt8 := dkwX6_init_3 ++ dktX6_init_4
def dkwX6_init_2 : List UInt8 := [181, 0, 32, 42, 4, 181, 0, 35, 42, 16, 24, 188, 10, 181, 0, 38, 42, 16, 24, 188, 10, 181, 0, 41]
abbrev dktX6_init_2 : List UInt8 := dkwX6_init_2 ++ dktX6_init_3
def dkwX6_init_1 : List UInt8 := [17, 1, 0, 188, 11, 181, 0, 20, 42, 17, 1, 244, 188, 8, 181, 0, 24, 42, 2, 181, 0, 28, 42, 2]
abbrev dktX6_init_1 : List UInt8 := dkwX6_init_1 ++ dktX6_init_2
def dkwX6_init_0 : List UInt8 := [42, 183, 0, 1, 42, 10, 181, 0, 7, 42, 7, 188, 10, 181, 0, 13, 42, 7, 188, 10, 181, 0, 17, 42]
abbrev dktX6_init_0 : List UInt8 := dkwX6_init_0 ++ dktX6_init_1
theorem dksX6_init_0 : cX6_init.data.toList.drop 0 = dktX6_init_0 := by decide +kernel
theorem dksX6_init_1 : cX6_init.data.toList.drop 24 = dktX6_init_1 := dk_seg dksX6_init_0 24 rfl rfl
theorem dksX6_init_2 : cX6_init.data.toList.drop 48 = dktX6_init_2 := dk_seg dksX6_init_1 24 rfl rfl
theorem dksX6_init_3 : cX6_init.data.toList.drop 72 = dktX6_init_3 := dk_seg dksX6_init_2 24 rfl rfl
theorem dksX6_init_4 : cX6_init.data.toList.drop 96 = dktX6_init_4 := dk_seg dksX6_init_3 24 rfl rfl
theorem dksX6_init_5 : cX6_init.data.toList.drop 120 = dktX6_init_5 := dk_seg dksX6_init_4 24 rfl rfl
theorem dksX6_init_6 : cX6_init.data.toList.drop 144 = dktX6_init_6 := dk_seg dksX6_init_5 24 rfl rfl
theorem dksX6_init_7 : cX6_init.data.toList.drop 166 = dktX6_init_7 := dk_seg dksX6_init_6 22 rfl rfl
theorem dksX6_init_8 : cX6_init.data.toList.drop 188 = dktX6_init_8 := dk_seg dksX6_init_7 22 rfl rfl
theorem dksX6_init_9 : cX6_init.data.toList.drop 211 = dktX6_init_9 := dk_seg dksX6_init_8 23 rfl rfl
theorem dksX6_init_10 : cX6_init.data.toList.drop 234 = dktX6_init_10 := dk_seg dksX6_init_9 23 rfl rfl
theorem dksX6_init_11 : cX6_init.data.toList.drop 258 = dktX6_init_11 := dk_seg dksX6_init_10 24 rfl rfl
theorem dksX6_init_12 : cX6_init.data.toList.drop 282 = dktX6_init_12 := dk_seg dksX6_init_11 24 rfl rfl
theorem dksX6_init_13 : cX6_init.data.toList.drop 306 = dktX6_init_13 := dk_seg dksX6_init_12 24 rfl rfl
theorem dksX6_init_14 : cX6_init.data.toList.drop 330 = dktX6_init_14 := dk_seg dksX6_init_13 24 rfl rfl
theorem dX6_init_0 : decode cX6_init 0 = .ok (.aload_n 0, 1) := dk_42 (dk_at dksX6_init_0 0 rfl rfl)
theorem dX6_init_1 : decode cX6_init 1 = .ok (.invokespecial 1, 3) := dk_183 0 1 (dk_at dksX6_init_0 1 rfl rfl)
theorem dX6_init_4 : decode cX6_init 4 = .ok (.aload_n 0, 1) := dk_42 (dk_at dksX6_init_0 4 rfl rfl)
theorem dX6_init_5 : decode cX6_init 5 = .ok (.lconst 1, 1) := dk_10 (dk_at dksX6_init_0 5 rfl rfl)
theorem dX6_init_6 : decode cX6_init 6 = .ok (.putfield 7, 3) := dk_181 0 7 (dk_at dksX6_init_0 6 rfl rfl)
theorem dX6_init_9 : decode cX6_init 9 = .ok (.aload_n 0, 1) := dk_42 (dk_at dksX6_init_0 9 rfl rfl)
theorem dX6_init_10 : decode cX6_init 10 = .ok (.iconst 4, 1) := dk_7 (dk_at dksX6_init_0 10 rfl rfl)
theorem dX6_init_11 : decode cX6_init 11 = .ok (.newarray .int, 2) := dk_188_10 (dk_at dksX6_init_0 11 rfl rfl)
theorem dX6_init_13 : decode cX6_init 13 = .ok (.putfield 13, 3) := dk_181 0 13 (dk_at dksX6_init_0 13 rfl rfl)
theorem dX6_init_16 : decode cX6_init 16 = .ok (.aload_n 0, 1) := dk_42 (dk_at dksX6_init_0 16 rfl rfl)
theorem dX6_init_17 : decode cX6_init 17 = .ok (.iconst 4, 1) := dk_7 (dk_at dksX6_init_0 17 rfl rfl)
theorem dX6_init_18 : decode cX6_init 18 = .ok (.newarray .int, 2) := dk_188_10 (dk_at dksX6_init_0 18 rfl rfl)
theorem dX6_init_20 : decode cX6_init 20 = .ok (.putfield 17, 3) := dk_181 0 17 (dk_at dksX6_init_0 20 rfl rfl)
theorem dX6_init_23 : decode cX6_init 23 = .ok (.aload_n 0, 1) := dk_42 (dk_at dksX6_init_0 23 rfl rfl)
theorem dX6_init_24 : decode cX6_init 24 = .ok (.sipush 256, 3) := dk_17 1 0 (dk_at dksX6_init_1 0 rfl rfl)
theorem dX6_init_27 : decode cX6_init 27 = .ok (.newarray .long, 2) := dk_188_11 (dk_at dksX6_init_1 3 rfl rfl)
theorem dX6_init_29 : decode cX6_init 29 = .ok (.putfield 20, 3) := dk_181 0 20 (dk_at dksX6_init_1 5 rfl rfl)
theorem dX6_init_32 : decode cX6_init 32 = .ok (.aload_n 0, 1) := dk_42 (dk_at dksX6_init_1 8 rfl rfl)
theorem dX6_init_33 : decode cX6_init 33 = .ok (.sipush 500, 3) := dk_17 1 244 (dk_at dksX6_init_1 9 rfl rfl)
theorem dX6_init_36 : decode cX6_init 36 = .ok (.newarray .byte, 2) := dk_188_8 (dk_at dksX6_init_1 12 rfl rfl)
theorem dX6_init_38 : decode cX6_init 38 = .ok (.putfield 24, 3) := dk_181 0 24 (dk_at dksX6_init_1 14 rfl rfl)
theorem dX6_init_41 : decode cX6_init 41 = .ok (.aload_n 0, 1) := dk_42 (dk_at dksX6_init_1 17 rfl rfl)
theorem dX6_init_42 : decode cX6_init 42 = .ok (.iconst (-1), 1) := dk_2 (dk_at dksX6_init_1 18 rfl rfl)
theorem dX6_init_43 : decode cX6_init 43 = .ok (.putfield 28, 3) := dk_181 0 28 (dk_at dksX6_init_1 19 rfl rfl)
theorem dX6_init_46 : decode cX6_init 46 = .ok (.aload_n 0, 1) := dk_42 (dk_at dksX6_init_1 22 rfl rfl)
theorem dX6_init_47 : decode cX6_init 47 = .ok (.iconst (-1), 1) := dk_2 (dk_at dksX6_init_1 23 rfl rfl)
theorem dX6_init_48 : decode cX6_init 48 = .ok (.putfield 32, 3) := dk_181 0 32 (dk_at dksX6_init_2 0 rfl rfl)
theorem dX6_init_51 : decode cX6_init 51 = .ok (.aload_n 0, 1) := dk_42 (dk_at dksX6_init_2 3 rfl rfl)
theorem dX6_init_52 : decode cX6_init 52 = .ok (.iconst 1, 1) := dk_4 (dk_at dksX6_init_2 4 rfl rfl)
theorem dX6_init_53 : decode cX6_init 53 = .ok (.putfield 35, 3) := dk_181 0 35 (dk_at dksX6_init_2 5 rfl rfl)
theorem dX6_init_56 : decode cX6_init 56 = .ok (.aload_n 0, 1) := dk_42 (dk_at dksX6_init_2 8 rfl rfl)
theorem dX6_init_57 : decode cX6_init 57 = .ok (.bipush 24, 2) := dk_16 24 (dk_at dksX6_init_2 9 rfl rfl)
theorem dX6_init_59 : decode cX6_init 59 = .ok (.newarray .int, 2) := dk_188_10 (dk_at dksX6_init_2 11 rfl rfl)
theorem dX6_init_61 : decode cX6_init 61 = .ok (.putfield 38, 3) := dk_181 0 38 (dk_at dksX6_init_2 13 rfl rfl)
theorem dX6_init_64 : decode cX6_init 64 = .ok (.aload_n 0, 1) := dk_42 (dk_at dksX6_init_2 16 rfl rfl)
theorem dX6_init_65 : decode cX6_init 65 = .ok (.bipush 24, 2) := dk_16 24 (dk_at dksX6_init_2 17 rfl rfl)
theorem dX6_init_67 : decode cX6_init 67 = .ok (.newarray .int, 2) := dk_188_10 (dk_at dksX6_init_2 19 rfl rfl)
theorem dX6_init_69 : decode cX6_init 69 = .ok (.putfield 41, 3) := dk_181 0 41 (dk_at dksX6_init_2 21 rfl rfl)
theorem dX6_init_72 : decode cX6_init 72 = .ok (.aload_n 0, 1) := dk_42 (dk_at dksX6_init_3 0 rfl rfl)
theorem dX6_init_73 : decode cX6_init 73 = .ok (.bipush 8, 2) := dk_16 8 (dk_at dksX6_init_3 1 rfl rfl)
theorem dX6_init_75 : decode cX6_init 75 = .ok (.newarray .int, 2) := dk_188_10 (dk_at dksX6_init_3 3 rfl rfl)
theorem dX6_init_77 : decode cX6_init 77 = .ok (.putfield 44, 3) := dk_181 0 44 (dk_at dksX6_init_3 5 rfl rfl)
theorem dX6_init_80 : decode cX6_init 80 = .ok (.aload_n 0, 1) := dk_42 (dk_at dksX6_init_3 8 rfl rfl)
theorem dX6_init_81 : decode cX6_init 81 = .ok (.bipush 8, 2) := dk_16 8 (dk_at dksX6_init_3 9 rfl rfl)
theorem dX6_init_83 : decode cX6_init 83 = .ok (.newarray .int, 2) := dk_188_10 (dk_at dksX6_init_3 11 rfl rfl)
theorem dX6_init_85 : decode cX6_init 85 = .ok (.putfield 47, 3) := dk_181 0 47 (dk_at dksX6_init_3 13 rfl rfl)
theorem dX6_init_88 : decode cX6_init 88 = .ok (.aload_n 0, 1) := dk_42 (dk_at dksX6_init_3 16 rfl rfl)
theorem dX6_init_89 : decode cX6_init 89 = .ok (.bipush 32, 2) := dk_16 32 (dk_at dksX6_init_3 17 rfl rfl)
theorem dX6_init_91 : decode cX6_init 91 = .ok (.newarray .int, 2) := dk_188_10 (dk_at dksX6_init_3 19 rfl rfl)
theorem dX6_init_93 : decode cX6_init 93 = .ok (.putfield 50, 3) := dk_181 0 50 (dk_at dksX6_init_3 21 rfl rfl)
theorem dX6_init_96 : decode cX6_init 96 = .ok (.aload_n 0, 1) := dk_42 (dk_at dksX6_init_4 0 rfl rfl)
theorem dX6_init_97 : decode cX6_init 97 = .ok (.bipush 32, 2) := dk_16 32 (dk_at dksX6_init_4 1 rfl rfl)
theorem dX6_init_99 : decode cX6_init 99 = .ok (.newarray .int, 2) := dk_188_10 (dk_at dksX6_init_4 3 rfl rfl)
theorem dX6_init_101 : decode cX6_init 101 = .ok (.putfield 53, 3) := dk_181 0 53 (dk_at dksX6_init_4 5 rfl rfl)
theorem dX6_init_104 : decode cX6_init 104 = .ok (.aload_n 0, 1) := dk_42 (dk_at dksX6_init_4 8 rfl rfl)
theorem dX6_init_105 : decode cX6_init 105 = .ok (.bipush 12, 2) := dk_16 12 (dk_at dksX6_init_4 9 rfl rfl)
theorem dX6_init_107 : decode cX6_init 107 = .ok (.newarray .int, 2) := dk_188_10 (dk_at dksX6_init_4 11 rfl rfl)
theorem dX6_init_109 : decode cX6_init 109 = .ok (.putfield 56, 3) := dk_181 0 56 (dk_at dksX6_init_4 13 rfl rfl)
theorem dX6_init_112 : decode cX6_init 112 = .ok (.aload_n 0, 1) := dk_42 (dk_at dksX6_init_4 16 rfl rfl)
theorem dX6_init_113 : decode cX6_init 113 = .ok (.bipush 12, 2) := dk_16 12 (dk_at dksX6_init_4 17 rfl rfl)
theorem dX6_init_115 : decode cX6_init 115 = .ok (.newarray .int, 2) := dk_188_10 (dk_at dksX6_init_4 19 rfl rfl)
theorem dX6_init_117 : decode cX6_init 117 = .ok (.putfield 59, 3) := dk_181 0 59 (dk_at dksX6_init_4 21 rfl rfl)
theorem dX6_init_120 : decode cX6_init 120 = .ok (.aload_n 0, 1) := dk_42 (dk_at dksX6_init_5 0 rfl rfl)
theorem dX6_init_121 : decode cX6_init 121 = .ok (.bipush 12, 2) := dk_16 12 (dk_at dksX6_init_5 1 rfl rfl)
theorem dX6_init_123 : decode cX6_init 123 = .ok (.newarray .int, 2) := dk_188_10 (dk_at dksX6_init_5 3 rfl rfl)
theorem dX6_init_125 : decode cX6_init 125 = .ok (.putfield 62, 3) := dk_181 0 62 (dk_at dksX6_init_5 5 rfl rfl)
theorem dX6_init_128 : decode cX6_init 128 = .ok (.aload_n 0, 1) := dk_42 (dk_at dksX6_init_5 8 rfl rfl)
theorem dX6_init_129 : decode cX6_init 129 = .ok (.bipush 12, 2) := dk_16 12 (dk_at dksX6_init_5 9 rfl rfl)
theorem dX6_init_131 : decode cX6_init 131 = .ok (.newarray .int, 2) := dk_188_10 (dk_at dksX6_init_5 11 rfl rfl)
theorem dX6_init_133 : decode cX6_init 133 = .ok (.putfield 65, 3) := dk_181 0 65 (dk_at dksX6_init_5 13 rfl rfl)
theorem dX6_init_136 : decode cX6_init 136 = .ok (.aload_n 0, 1) := dk_42 (dk_at dksX6_init_5 16 rfl rfl)
theorem dX6_init_137 : decode cX6_init 137 = .ok (.bipush 12, 2) := dk_16 12 (dk_at dksX6_init_5 17 rfl rfl)
theorem dX6_init_139 : decode cX6_init 139 = .ok (.newarray .boolean, 2) := dk_188_4 (dk_at dksX6_init_5 19 rfl rfl)
theorem dX6_init_141 : decode cX6_init 141 = .ok (.putfield 68, 3) := dk_181 0 68 (dk_at dksX6_init_5 21 rfl rfl)
theorem dX6_init_144 : decode cX6_init 144 = .ok (.aload_n 0, 1) := dk_42 (dk_at dksX6_init_6 0 rfl rfl)
theorem dX6_init_145 : decode cX6_init 145 = .ok (.bipush 8, 2) := dk_16 8 (dk_at dksX6_init_6 1 rfl rfl)
theorem dX6_init_147 : decode cX6_init 147 = .ok (.newarray .long, 2) := dk_188_11 (dk_at dksX6_init_6 3 rfl rfl)
theorem dX6_init_149 : decode cX6_init 149 = .ok (.putfield 72, 3) := dk_181 0 72 (dk_at dksX6_init_6 5 rfl rfl)
theorem dX6_init_152 : decode cX6_init 152 = .ok (.aload_n 0, 1) := dk_42 (dk_at dksX6_init_6 8 rfl rfl)
theorem dX6_init_153 : decode cX6_init 153 = .ok (.bipush 12, 2) := dk_16 12 (dk_at dksX6_init_6 9 rfl rfl)
theorem dX6_init_155 : decode cX6_init 155 = .ok (.newarray .int, 2) := dk_188_10 (dk_at dksX6_init_6 11 rfl rfl)
theorem dX6_init_157 : decode cX6_init 157 = .ok (.putfield 75, 3) := dk_181 0 75 (dk_at dksX6_init_6 13 rfl rfl)
theorem dX6_init_160 : decode cX6_init 160 = .ok (.aload_n 0, 1) := dk_42 (dk_at dksX6_init_6 16 rfl rfl)
theorem dX6_init_161 : decode cX6_init 161 = .ok (.sipush 288, 3) := dk_17 1 32 (dk_at dksX6_init_6 17 rfl rfl)
theorem dX6_init_164 : decode cX6_init 164 = .ok (.newarray .int, 2) := dk_188_10 (dk_at dksX6_init_6 20 rfl rfl)
theorem dX6_init_166 : decode cX6_init 166 = .ok (.putfield 78, 3) := dk_181 0 78 (dk_at dksX6_init_7 0 rfl rfl)
theorem dX6_init_169 : decode cX6_init 169 = .ok (.aload_n 0, 1) := dk_42 (dk_at dksX6_init_7 3 rfl rfl)
theorem dX6_init_170 : decode cX6_init 170 = .ok (.bipush 12, 2) := dk_16 12 (dk_at dksX6_init_7 4 rfl rfl)
theorem dX6_init_172 : decode cX6_init 172 = .ok (.newarray .boolean, 2) := dk_188_4 (dk_at dksX6_init_7 6 rfl rfl)
theorem dX6_init_174 : decode cX6_init 174 = .ok (.putfield 81, 3) := dk_181 0 81 (dk_at dksX6_init_7 8 rfl rfl)
theorem dX6_init_177 : decode cX6_init 177 = .ok (.aload_n 0, 1) := dk_42 (dk_at dksX6_init_7 11 rfl rfl)
theorem dX6_init_178 : decode cX6_init 178 = .ok (.iconst 3, 1) := dk_6 (dk_at dksX6_init_7 12 rfl rfl)
theorem dX6_init_179 : decode cX6_init 179 = .ok (.newarray .int, 2) := dk_188_10 (dk_at dksX6_init_7 13 rfl rfl)
theorem dX6_init_181 : decode cX6_init 181 = .ok (.putfield 84, 3) := dk_181 0 84 (dk_at dksX6_init_7 15 rfl rfl)
theorem dX6_init_184 : decode cX6_init 184 = .ok (.aload_n 0, 1) := dk_42 (dk_at dksX6_init_7 18 rfl rfl)
theorem dX6_init_185 : decode cX6_init 185 = .ok (.iconst 3, 1) := dk_6 (dk_at dksX6_init_7 19 rfl rfl)
theorem dX6_init_186 : decode cX6_init 186 = .ok (.newarray .int, 2) := dk_188_10 (dk_at dksX6_init_7 20 rfl rfl)
theorem dX6_init_188 : decode cX6_init 188 = .ok (.putfield 87, 3) := dk_181 0 87 (dk_at dksX6_init_8 0 rfl rfl)
theorem dX6_init_191 : decode cX6_init 191 = .ok (.aload_n 0, 1) := dk_42 (dk_at dksX6_init_8 3 rfl rfl)
theorem dX6_init_192 : decode cX6_init 192 = .ok (.iconst 3, 1) := dk_6 (dk_at dksX6_init_8 4 rfl rfl)
theorem dX6_init_193 : decode cX6_init 193 = .ok (.newarray .int, 2) := dk_188_10 (dk_at dksX6_init_8 5 rfl rfl)
theorem dX6_init_195 : decode cX6_init 195 = .ok (.putfield 90, 3) := dk_181 0 90 (dk_at dksX6_init_8 7 rfl rfl)
theorem dX6_init_198 : decode cX6_init 198 = .ok (.aload_n 0, 1) := dk_42 (dk_at dksX6_init_8 10 rfl rfl)
theorem dX6_init_199 : decode cX6_init 199 = .ok (.bipush 8, 2) := dk_16 8 (dk_at dksX6_init_8 11 rfl rfl)
theorem dX6_init_201 : decode cX6_init 201 = .ok (.newarray .int, 2) := dk_188_10 (dk_at dksX6_init_8 13 rfl rfl)
theorem dX6_init_203 : decode cX6_init 203 = .ok (.putfield 93, 3) := dk_181 0 93 (dk_at dksX6_init_8 15 rfl rfl)
theorem dX6_init_206 : decode cX6_init 206 = .ok (.aload_n 0, 1) := dk_42 (dk_at dksX6_init_8 18 rfl rfl)
theorem dX6_init_207 : decode cX6_init 207 = .ok (.bipush 8, 2) := dk_16 8 (dk_at dksX6_init_8 19 rfl rfl)
theorem dX6_init_209 : decode cX6_init 209 = .ok (.newarray .int, 2) := dk_188_10 (dk_at dksX6_init_8 21 rfl rfl)
theorem dX6_init_211 : decode cX6_init 211 = .ok (.putfield 96, 3) := dk_181 0 96 (dk_at dksX6_init_9 0 rfl rfl)
theorem dX6_init_214 : decode cX6_init 214 = .ok (.aload_n 0, 1) := dk_42 (dk_at dksX6_init_9 3 rfl rfl)
theorem dX6_init_215 : decode cX6_init 215 = .ok (.bipush 6, 2) := dk_16 6 (dk_at dksX6_init_9 4 rfl rfl)
theorem dX6_init_217 : decode cX6_init 217 = .ok (.newarray .int, 2) := dk_188_10 (dk_at dksX6_init_9 6 rfl rfl)
theorem dX6_init_219 : decode cX6_init 219 = .ok (.putfield 99, 3) := dk_181 0 99 (dk_at dksX6_init_9 8 rfl rfl)
theorem dX6_init_222 : decode cX6_init 222 = .ok (.aload_n 0, 1) := dk_42 (dk_at dksX6_init_9 11 rfl rfl)
theorem dX6_init_223 : decode cX6_init 223 = .ok (.iconst 5, 1) := dk_8 (dk_at dksX6_init_9 12 rfl rfl)
theorem dX6_init_224 : decode cX6_init 224 = .ok (.newarray .int, 2) := dk_188_10 (dk_at dksX6_init_9 13 rfl rfl)
theorem dX6_init_226 : decode cX6_init 226 = .ok (.putfield 102, 3) := dk_181 0 102 (dk_at dksX6_init_9 15 rfl rfl)
theorem dX6_init_229 : decode cX6_init 229 = .ok (.aload_n 0, 1) := dk_42 (dk_at dksX6_init_9 18 rfl rfl)
theorem dX6_init_230 : decode cX6_init 230 = .ok (.bipush 6, 2) := dk_16 6 (dk_at dksX6_init_9 19 rfl rfl)
theorem dX6_init_232 : decode cX6_init 232 = .ok (.newarray .int, 2) := dk_188_10 (dk_at dksX6_init_9 21 rfl rfl)
theorem dX6_init_234 : decode cX6_init 234 = .ok (.putfield 105, 3) := dk_181 0 105 (dk_at dksX6_init_10 0 rfl rfl)
theorem dX6_init_237 : decode cX6_init 237 = .ok (.aload_n 0, 1) := dk_42 (dk_at dksX6_init_10 3 rfl rfl)
theorem dX6_init_238 : decode cX6_init 238 = .ok (.iconst 3, 1) := dk_6 (dk_at dksX6_init_10 4 rfl rfl)
theorem dX6_init_239 : decode cX6_init 239 = .ok (.newarray .long, 2) := dk_188_11 (dk_at dksX6_init_10 5 rfl rfl)
theorem dX6_init_241 : decode cX6_init 241 = .ok (.putfield 108, 3) := dk_181 0 108 (dk_at dksX6_init_10 7 rfl rfl)
theorem dX6_init_244 : decode cX6_init 244 = .ok (.aload_n 0, 1) := dk_42 (dk_at dksX6_init_10 10 rfl rfl)
theorem dX6_init_245 : decode cX6_init 245 = .ok (.lconst 1, 1) := dk_10 (dk_at dksX6_init_10 11 rfl rfl)
theorem dX6_init_246 : decode cX6_init 246 = .ok (.putfield 111, 3) := dk_181 0 111 (dk_at dksX6_init_10 12 rfl rfl)
theorem dX6_init_249 : decode cX6_init 249 = .ok (.aload_n 0, 1) := dk_42 (dk_at dksX6_init_10 15 rfl rfl)
theorem dX6_init_250 : decode cX6_init 250 = .ok (.bipush 64, 2) := dk_16 64 (dk_at dksX6_init_10 16 rfl rfl)
theorem dX6_init_252 : decode cX6_init 252 = .ok (.newarray .boolean, 2) := dk_188_4 (dk_at dksX6_init_10 18 rfl rfl)
theorem dX6_init_254 : decode cX6_init 254 = .ok (.putfield 114, 3) := dk_181 0 114 (dk_at dksX6_init_10 20 rfl rfl)
theorem dX6_init_257 : decode cX6_init 257 = .ok (.aload_n 0, 1) := dk_42 (dk_at dksX6_init_10 23 rfl rfl)
theorem dX6_init_258 : decode cX6_init 258 = .ok (.bipush 64, 2) := dk_16 64 (dk_at dksX6_init_11 0 rfl rfl)
theorem dX6_init_260 : decode cX6_init 260 = .ok (.newarray .boolean, 2) := dk_188_4 (dk_at dksX6_init_11 2 rfl rfl)
theorem dX6_init_262 : decode cX6_init 262 = .ok (.putfield 117, 3) := dk_181 0 117 (dk_at dksX6_init_11 4 rfl rfl)
theorem dX6_init_265 : decode cX6_init 265 = .ok (.aload_n 0, 1) := dk_42 (dk_at dksX6_init_11 7 rfl rfl)
theorem dX6_init_266 : decode cX6_init 266 = .ok (.bipush 8, 2) := dk_16 8 (dk_at dksX6_init_11 8 rfl rfl)
theorem dX6_init_268 : decode cX6_init 268 = .ok (.newarray .int, 2) := dk_188_10 (dk_at dksX6_init_11 10 rfl rfl)
theorem dX6_init_270 : decode cX6_init 270 = .ok (.putfield 120, 3) := dk_181 0 120 (dk_at dksX6_init_11 12 rfl rfl)
theorem dX6_init_273 : decode cX6_init 273 = .ok (.aload_n 0, 1) := dk_42 (dk_at dksX6_init_11 15 rfl rfl)
theorem dX6_init_274 : decode cX6_init 274 = .ok (.bipush 64, 2) := dk_16 64 (dk_at dksX6_init_11 16 rfl rfl)
theorem dX6_init_276 : decode cX6_init 276 = .ok (.newarray .long, 2) := dk_188_11 (dk_at dksX6_init_11 18 rfl rfl)
theorem dX6_init_278 : decode cX6_init 278 = .ok (.putfield 123, 3) := dk_181 0 123 (dk_at dksX6_init_11 20 rfl rfl)
theorem dX6_init_281 : decode cX6_init 281 = .ok (.aload_n 0, 1) := dk_42 (dk_at dksX6_init_11 23 rfl rfl)
theorem dX6_init_282 : decode cX6_init 282 = .ok (.bipush 64, 2) := dk_16 64 (dk_at dksX6_init_12 0 rfl rfl)
theorem dX6_init_284 : decode cX6_init 284 = .ok (.newarray .long, 2) := dk_188_11 (dk_at dksX6_init_12 2 rfl rfl)
theorem dX6_init_286 : decode cX6_init 286 = .ok (.putfield 126, 3) := dk_181 0 126 (dk_at dksX6_init_12 4 rfl rfl)
theorem dX6_init_289 : decode cX6_init 289 = .ok (.aload_n 0, 1) := dk_42 (dk_at dksX6_init_12 7 rfl rfl)
theorem dX6_init_290 : decode cX6_init 290 = .ok (.iconst 3, 1) := dk_6 (dk_at dksX6_init_12 8 rfl rfl)
theorem dX6_init_291 : decode cX6_init 291 = .ok (.newarray .int, 2) := dk_188_10 (dk_at dksX6_init_12 9 rfl rfl)
theorem dX6_init_293 : decode cX6_init 293 = .ok (.putfield 129, 3) := dk_181 0 129 (dk_at dksX6_init_12 11 rfl rfl)
theorem dX6_init_296 : decode cX6_init 296 = .ok (.aload_n 0, 1) := dk_42 (dk_at dksX6_init_12 14 rfl rfl)
theorem dX6_init_297 : decode cX6_init 297 = .ok (.iconst 3, 1) := dk_6 (dk_at dksX6_init_12 15 rfl rfl)
theorem dX6_init_298 : decode cX6_init 298 = .ok (.newarray .int, 2) := dk_188_10 (dk_at dksX6_init_12 16 rfl rfl)
theorem dX6_init_300 : decode cX6_init 300 = .ok (.putfield 132, 3) := dk_181 0 132 (dk_at dksX6_init_12 18 rfl rfl)
theorem dX6_init_303 : decode cX6_init 303 = .ok (.aload_n 0, 1) := dk_42 (dk_at dksX6_init_12 21 rfl rfl)
theorem dX6_init_304 : decode cX6_init 304 = .ok (.bipush 9, 2) := dk_16 9 (dk_at dksX6_init_12 22 rfl rfl)
theorem dX6_init_306 : decode cX6_init 306 = .ok (.newarray .int, 2) := dk_188_10 (dk_at dksX6_init_13 0 rfl rfl)
theorem dX6_init_308 : decode cX6_init 308 = .ok (.putfield 135, 3) := dk_181 0 135 (dk_at dksX6_init_13 2 rfl rfl)
theorem dX6_init_311 : decode cX6_init 311 = .ok (.aload_n 0, 1) := dk_42 (dk_at dksX6_init_13 5 rfl rfl)
theorem dX6_init_312 : decode cX6_init 312 = .ok (.iconst 3, 1) := dk_6 (dk_at dksX6_init_13 6 rfl rfl)
theorem dX6_init_313 : decode cX6_init 313 = .ok (.newarray .long, 2) := dk_188_11 (dk_at dksX6_init_13 7 rfl rfl)
theorem dX6_init_315 : decode cX6_init 315 = .ok (.putfield 138, 3) := dk_181 0 138 (dk_at dksX6_init_13 9 rfl rfl)
theorem dX6_init_318 : decode cX6_init 318 = .ok (.aload_n 0, 1) := dk_42 (dk_at dksX6_init_13 12 rfl rfl)
theorem dX6_init_319 : decode cX6_init 319 = .ok (.bipush 6, 2) := dk_16 6 (dk_at dksX6_init_13 13 rfl rfl)
theorem dX6_init_321 : decode cX6_init 321 = .ok (.newarray .long, 2) := dk_188_11 (dk_at dksX6_init_13 15 rfl rfl)
theorem dX6_init_323 : decode cX6_init 323 = .ok (.putfield 141, 3) := dk_181 0 141 (dk_at dksX6_init_13 17 rfl rfl)
theorem dX6_init_326 : decode cX6_init 326 = .ok (.iconst 0, 1) := dk_3 (dk_at dksX6_init_13 20 rfl rfl)
theorem dX6_init_327 : decode cX6_init 327 = .ok (.istore_n 1, 1) := dk_60 (dk_at dksX6_init_13 21 rfl rfl)
theorem dX6_init_328 : decode cX6_init 328 = .ok (.iload_n 1, 1) := dk_27 (dk_at dksX6_init_13 22 rfl rfl)
theorem dX6_init_329 : decode cX6_init 329 = .ok (.iconst 4, 1) := dk_7 (dk_at dksX6_init_13 23 rfl rfl)
theorem dX6_init_330 : decode cX6_init 330 = .ok (.if_icmp .ge 16, 3) := dk_162 0 16 (dk_at dksX6_init_14 0 rfl rfl)
theorem dX6_init_333 : decode cX6_init 333 = .ok (.aload_n 0, 1) := dk_42 (dk_at dksX6_init_14 3 rfl rfl)
theorem dX6_init_334 : decode cX6_init 334 = .ok (.getfield 17, 3) := dk_180 0 17 (dk_at dksX6_init_14 4 rfl rfl)
theorem dX6_init_337 : decode cX6_init 337 = .ok (.iload_n 1, 1) := dk_27 (dk_at dksX6_init_14 7 rfl rfl)
theorem dX6_init_338 : decode cX6_init 338 = .ok (.iconst (-1), 1) := dk_2 (dk_at dksX6_init_14 8 rfl rfl)
theorem dX6_init_339 : decode cX6_init 339 = .ok (.iastore, 1) := dk_79 (dk_at dksX6_init_14 9 rfl rfl)
theorem dX6_init_340 : decode cX6_init 340 = .ok (.iinc 1 1, 3) := dk_132 1 1 (dk_at dksX6_init_14 10 rfl rfl)
theorem dX6_init_343 : decode cX6_init 343 = .ok (.goto (-15), 3) := dk_167 255 241 (dk_at dksX6_init_14 13 rfl rfl)
theorem dX6_init_346 : decode cX6_init 346 = .ok (.return_, 1) := dk_177 (dk_at dksX6_init_14 16 rfl rfl)
abbrev cX6_status : ByteArray := prog_15_method_3_code
def yX6_status : MethodName := ⟨RX6, "status", "()I"⟩
def dkwX6_status_0 : List UInt8 := [42, 3, 181, 0, 144, 42, 180, 0, 147, 172]
abbrev dktX6_status_0 : List UInt8 := dkwX6_status_0 ++ []
theorem dksX6_status_0 : cX6_status.data.toList.drop 0 = dktX6_status_0 := by decide +kernel
theorem dX6_status_0 : decode cX6_status 0 = .ok (.aload_n 0, 1) := dk_42 (dk_at dksX6_status_0 0 rfl rfl)
theorem dX6_status_1 : decode cX6_status 1 = .ok (.iconst 0, 1) := dk_3 (dk_at dksX6_status_0 1 rfl rfl)
theorem dX6_status_2 : decode cX6_status 2 = .ok (.putfield 144, 3) := dk_181 0 144 (dk_at dksX6_status_0 2 rfl rfl)
theorem dX6_status_5 : decode cX6_status 5 = .ok (.aload_n 0, 1) := dk_42 (dk_at dksX6_status_0 5 rfl rfl)
theorem dX6_status_6 : decode cX6_status 6 = .ok (.getfield 147, 3) := dk_180 0 147 (dk_at dksX6_status_0 6 rfl rfl)
theorem dX6_status_9 : decode cX6_status 9 = .ok (.ireturn, 1) := dk_172 (dk_at dksX6_status_0 9 rfl rfl)
abbrev cX6_top : ByteArray := prog_15_method_4_code
def yX6_top : MethodName := ⟨RX6, "top", "()J"⟩
def dkwX6_top_0 : List UInt8 := [42, 3, 181, 0, 144, 42, 180, 0, 150, 173]
abbrev dktX6_top_0 : List UInt8 := dkwX6_top_0 ++ []
theorem dksX6_top_0 : cX6_top.data.toList.drop 0 = dktX6_top_0 := by decide +kernel
theorem dX6_top_0 : decode cX6_top 0 = .ok (.aload_n 0, 1) := dk_42 (dk_at dksX6_top_0 0 rfl rfl)
theorem dX6_top_1 : decode cX6_top 1 = .ok (.iconst 0, 1) := dk_3 (dk_at dksX6_top_0 1 rfl rfl)
theorem dX6_top_2 : decode cX6_top 2 = .ok (.putfield 144, 3) := dk_181 0 144 (dk_at dksX6_top_0 2 rfl rfl)
theorem dX6_top_5 : decode cX6_top 5 = .ok (.aload_n 0, 1) := dk_42 (dk_at dksX6_top_0 5 rfl rfl)
theorem dX6_top_6 : decode cX6_top 6 = .ok (.getfield 150, 3) := dk_180 0 150 (dk_at dksX6_top_0 6 rfl rfl)
theorem dX6_top_9 : decode cX6_top 9 = .ok (.lreturn, 1) := dk_173 (dk_at dksX6_top_0 9 rfl rfl)
abbrev cX6_bottom : ByteArray := prog_15_method_5_code
def yX6_bottom : MethodName := ⟨RX6, "bottom", "()J"⟩
def dkwX6_bottom_0 : List UInt8 := [42, 3, 181, 0, 144, 42, 180, 0, 7, 173]
abbrev dktX6_bottom_0 : List UInt8 := dkwX6_bottom_0 ++ []
theorem dksX6_bottom_0 : cX6_bottom.data.toList.drop 0 = dktX6_bottom_0 := by decide +kernel
theorem dX6_bottom_0 : decode cX6_bottom 0 = .ok (.aload_n 0, 1) := dk_42 (dk_at dksX6_bottom_0 0 rfl rfl)
theorem dX6_bottom_1 : decode cX6_bottom 1 = .ok (.iconst 0, 1) := dk_3 (dk_at dksX6_bottom_0 1 rfl rfl)
theorem dX6_bottom_2 : decode cX6_bottom 2 = .ok (.putfield 144, 3) := dk_181 0 144 (dk_at dksX6_bottom_0 2 rfl rfl)
theorem dX6_bottom_5 : decode cX6_bottom 5 = .ok (.aload_n 0, 1) := dk_42 (dk_at dksX6_bottom_0 5 rfl rfl)
theorem dX6_bottom_6 : decode cX6_bottom 6 = .ok (.getfield 7, 3) := dk_180 0 7 (dk_at dksX6_bottom_0 6 rfl rfl)
theorem dX6_bottom_9 : decode cX6_bottom 9 = .ok (.lreturn, 1) := dk_173 (dk_at dksX6_bottom_0 9 rfl rfl)
abbrev cX6_tray : ByteArray := prog_15_method_12_code
def yX6_tray : MethodName := ⟨RX6, "tray", "(III)Z"⟩
def dkwX6_tray_4 : List UInt8 := [132, 4, 1, 167, 255, 234, 4, 172]
abbrev dktX6_tray_4 : List UInt8 := dkwX6_tray_4 ++ []
def dkwX6_tray_3 : List UInt8 := [3, 54, 4, 21, 4, 29, 162, 0, 22, 42, 180, 0, 20, 16, 64, 27, 104, 21, 4, 96, 9, 80]
abbrev dktX6_tray_3 : List UInt8 := dkwX6_tray_3 ++ dktX6_tray_4
def dkwX6_tray_2 : List UInt8 := [156, 0, 10, 42, 16, 6, 182, 0, 163, 172, 42, 180, 0, 13, 27, 28, 79, 42, 180, 0, 17, 27, 29, 79]
abbrev dktX6_tray_2 : List UInt8 := dkwX6_tray_2 ++ dktX6_tray_3
def dkwX6_tray_1 : List UInt8 := [6, 164, 0, 9, 42, 4, 182, 0, 163, 172, 29, 16, 64, 164, 0, 9, 42, 8, 182, 0, 163, 172, 29]
abbrev dktX6_tray_1 : List UInt8 := dkwX6_tray_1 ++ dktX6_tray_2
def dkwX6_tray_0 : List UInt8 := [42, 3, 181, 0, 144, 42, 3, 181, 0, 147, 27, 155, 0, 17, 27, 7, 162, 0, 12, 28, 155, 0, 8, 28]
abbrev dktX6_tray_0 : List UInt8 := dkwX6_tray_0 ++ dktX6_tray_1
theorem dksX6_tray_0 : cX6_tray.data.toList.drop 0 = dktX6_tray_0 := by decide +kernel
theorem dksX6_tray_1 : cX6_tray.data.toList.drop 24 = dktX6_tray_1 := dk_seg dksX6_tray_0 24 rfl rfl
theorem dksX6_tray_2 : cX6_tray.data.toList.drop 47 = dktX6_tray_2 := dk_seg dksX6_tray_1 23 rfl rfl
theorem dksX6_tray_3 : cX6_tray.data.toList.drop 71 = dktX6_tray_3 := dk_seg dksX6_tray_2 24 rfl rfl
theorem dksX6_tray_4 : cX6_tray.data.toList.drop 93 = dktX6_tray_4 := dk_seg dksX6_tray_3 22 rfl rfl
theorem dX6_tray_0 : decode cX6_tray 0 = .ok (.aload_n 0, 1) := dk_42 (dk_at dksX6_tray_0 0 rfl rfl)
theorem dX6_tray_1 : decode cX6_tray 1 = .ok (.iconst 0, 1) := dk_3 (dk_at dksX6_tray_0 1 rfl rfl)
theorem dX6_tray_2 : decode cX6_tray 2 = .ok (.putfield 144, 3) := dk_181 0 144 (dk_at dksX6_tray_0 2 rfl rfl)
theorem dX6_tray_5 : decode cX6_tray 5 = .ok (.aload_n 0, 1) := dk_42 (dk_at dksX6_tray_0 5 rfl rfl)
theorem dX6_tray_6 : decode cX6_tray 6 = .ok (.iconst 0, 1) := dk_3 (dk_at dksX6_tray_0 6 rfl rfl)
theorem dX6_tray_7 : decode cX6_tray 7 = .ok (.putfield 147, 3) := dk_181 0 147 (dk_at dksX6_tray_0 7 rfl rfl)
theorem dX6_tray_10 : decode cX6_tray 10 = .ok (.iload_n 1, 1) := dk_27 (dk_at dksX6_tray_0 10 rfl rfl)
theorem dX6_tray_11 : decode cX6_tray 11 = .ok (.ifCond .lt 17, 3) := dk_155 0 17 (dk_at dksX6_tray_0 11 rfl rfl)
theorem dX6_tray_14 : decode cX6_tray 14 = .ok (.iload_n 1, 1) := dk_27 (dk_at dksX6_tray_0 14 rfl rfl)
theorem dX6_tray_15 : decode cX6_tray 15 = .ok (.iconst 4, 1) := dk_7 (dk_at dksX6_tray_0 15 rfl rfl)
theorem dX6_tray_16 : decode cX6_tray 16 = .ok (.if_icmp .ge 12, 3) := dk_162 0 12 (dk_at dksX6_tray_0 16 rfl rfl)
theorem dX6_tray_19 : decode cX6_tray 19 = .ok (.iload_n 2, 1) := dk_28 (dk_at dksX6_tray_0 19 rfl rfl)
theorem dX6_tray_20 : decode cX6_tray 20 = .ok (.ifCond .lt 8, 3) := dk_155 0 8 (dk_at dksX6_tray_0 20 rfl rfl)
theorem dX6_tray_23 : decode cX6_tray 23 = .ok (.iload_n 2, 1) := dk_28 (dk_at dksX6_tray_0 23 rfl rfl)
theorem dX6_tray_24 : decode cX6_tray 24 = .ok (.iconst 3, 1) := dk_6 (dk_at dksX6_tray_1 0 rfl rfl)
theorem dX6_tray_25 : decode cX6_tray 25 = .ok (.if_icmp .le 9, 3) := dk_164 0 9 (dk_at dksX6_tray_1 1 rfl rfl)
theorem dX6_tray_28 : decode cX6_tray 28 = .ok (.aload_n 0, 1) := dk_42 (dk_at dksX6_tray_1 4 rfl rfl)
theorem dX6_tray_29 : decode cX6_tray 29 = .ok (.iconst 1, 1) := dk_4 (dk_at dksX6_tray_1 5 rfl rfl)
theorem dX6_tray_30 : decode cX6_tray 30 = .ok (.invokevirtual 163, 3) := dk_182 0 163 (dk_at dksX6_tray_1 6 rfl rfl)
theorem dX6_tray_33 : decode cX6_tray 33 = .ok (.ireturn, 1) := dk_172 (dk_at dksX6_tray_1 9 rfl rfl)
theorem dX6_tray_34 : decode cX6_tray 34 = .ok (.iload_n 3, 1) := dk_29 (dk_at dksX6_tray_1 10 rfl rfl)
theorem dX6_tray_35 : decode cX6_tray 35 = .ok (.bipush 64, 2) := dk_16 64 (dk_at dksX6_tray_1 11 rfl rfl)
theorem dX6_tray_37 : decode cX6_tray 37 = .ok (.if_icmp .le 9, 3) := dk_164 0 9 (dk_at dksX6_tray_1 13 rfl rfl)
theorem dX6_tray_40 : decode cX6_tray 40 = .ok (.aload_n 0, 1) := dk_42 (dk_at dksX6_tray_1 16 rfl rfl)
theorem dX6_tray_41 : decode cX6_tray 41 = .ok (.iconst 5, 1) := dk_8 (dk_at dksX6_tray_1 17 rfl rfl)
theorem dX6_tray_42 : decode cX6_tray 42 = .ok (.invokevirtual 163, 3) := dk_182 0 163 (dk_at dksX6_tray_1 18 rfl rfl)
theorem dX6_tray_45 : decode cX6_tray 45 = .ok (.ireturn, 1) := dk_172 (dk_at dksX6_tray_1 21 rfl rfl)
theorem dX6_tray_46 : decode cX6_tray 46 = .ok (.iload_n 3, 1) := dk_29 (dk_at dksX6_tray_1 22 rfl rfl)
theorem dX6_tray_47 : decode cX6_tray 47 = .ok (.ifCond .ge 10, 3) := dk_156 0 10 (dk_at dksX6_tray_2 0 rfl rfl)
theorem dX6_tray_50 : decode cX6_tray 50 = .ok (.aload_n 0, 1) := dk_42 (dk_at dksX6_tray_2 3 rfl rfl)
theorem dX6_tray_51 : decode cX6_tray 51 = .ok (.bipush 6, 2) := dk_16 6 (dk_at dksX6_tray_2 4 rfl rfl)
theorem dX6_tray_53 : decode cX6_tray 53 = .ok (.invokevirtual 163, 3) := dk_182 0 163 (dk_at dksX6_tray_2 6 rfl rfl)
theorem dX6_tray_56 : decode cX6_tray 56 = .ok (.ireturn, 1) := dk_172 (dk_at dksX6_tray_2 9 rfl rfl)
theorem dX6_tray_57 : decode cX6_tray 57 = .ok (.aload_n 0, 1) := dk_42 (dk_at dksX6_tray_2 10 rfl rfl)
theorem dX6_tray_58 : decode cX6_tray 58 = .ok (.getfield 13, 3) := dk_180 0 13 (dk_at dksX6_tray_2 11 rfl rfl)
theorem dX6_tray_61 : decode cX6_tray 61 = .ok (.iload_n 1, 1) := dk_27 (dk_at dksX6_tray_2 14 rfl rfl)
theorem dX6_tray_62 : decode cX6_tray 62 = .ok (.iload_n 2, 1) := dk_28 (dk_at dksX6_tray_2 15 rfl rfl)
theorem dX6_tray_63 : decode cX6_tray 63 = .ok (.iastore, 1) := dk_79 (dk_at dksX6_tray_2 16 rfl rfl)
theorem dX6_tray_64 : decode cX6_tray 64 = .ok (.aload_n 0, 1) := dk_42 (dk_at dksX6_tray_2 17 rfl rfl)
theorem dX6_tray_65 : decode cX6_tray 65 = .ok (.getfield 17, 3) := dk_180 0 17 (dk_at dksX6_tray_2 18 rfl rfl)
theorem dX6_tray_68 : decode cX6_tray 68 = .ok (.iload_n 1, 1) := dk_27 (dk_at dksX6_tray_2 21 rfl rfl)
theorem dX6_tray_69 : decode cX6_tray 69 = .ok (.iload_n 3, 1) := dk_29 (dk_at dksX6_tray_2 22 rfl rfl)
theorem dX6_tray_70 : decode cX6_tray 70 = .ok (.iastore, 1) := dk_79 (dk_at dksX6_tray_2 23 rfl rfl)
theorem dX6_tray_71 : decode cX6_tray 71 = .ok (.iconst 0, 1) := dk_3 (dk_at dksX6_tray_3 0 rfl rfl)
theorem dX6_tray_72 : decode cX6_tray 72 = .ok (.istore 4, 2) := dk_54 4 (dk_at dksX6_tray_3 1 rfl rfl)
theorem dX6_tray_74 : decode cX6_tray 74 = .ok (.iload 4, 2) := dk_21 4 (dk_at dksX6_tray_3 3 rfl rfl)
theorem dX6_tray_76 : decode cX6_tray 76 = .ok (.iload_n 3, 1) := dk_29 (dk_at dksX6_tray_3 5 rfl rfl)
theorem dX6_tray_77 : decode cX6_tray 77 = .ok (.if_icmp .ge 22, 3) := dk_162 0 22 (dk_at dksX6_tray_3 6 rfl rfl)
theorem dX6_tray_80 : decode cX6_tray 80 = .ok (.aload_n 0, 1) := dk_42 (dk_at dksX6_tray_3 9 rfl rfl)
theorem dX6_tray_81 : decode cX6_tray 81 = .ok (.getfield 20, 3) := dk_180 0 20 (dk_at dksX6_tray_3 10 rfl rfl)
theorem dX6_tray_84 : decode cX6_tray 84 = .ok (.bipush 64, 2) := dk_16 64 (dk_at dksX6_tray_3 13 rfl rfl)
theorem dX6_tray_86 : decode cX6_tray 86 = .ok (.iload_n 1, 1) := dk_27 (dk_at dksX6_tray_3 15 rfl rfl)
theorem dX6_tray_87 : decode cX6_tray 87 = .ok (.imul, 1) := dk_104 (dk_at dksX6_tray_3 16 rfl rfl)
theorem dX6_tray_88 : decode cX6_tray 88 = .ok (.iload 4, 2) := dk_21 4 (dk_at dksX6_tray_3 17 rfl rfl)
theorem dX6_tray_90 : decode cX6_tray 90 = .ok (.iadd, 1) := dk_96 (dk_at dksX6_tray_3 19 rfl rfl)
theorem dX6_tray_91 : decode cX6_tray 91 = .ok (.lconst 0, 1) := dk_9 (dk_at dksX6_tray_3 20 rfl rfl)
theorem dX6_tray_92 : decode cX6_tray 92 = .ok (.lastore, 1) := dk_80 (dk_at dksX6_tray_3 21 rfl rfl)
theorem dX6_tray_93 : decode cX6_tray 93 = .ok (.iinc 4 1, 3) := dk_132 4 1 (dk_at dksX6_tray_4 0 rfl rfl)
theorem dX6_tray_96 : decode cX6_tray 96 = .ok (.goto (-22), 3) := dk_167 255 234 (dk_at dksX6_tray_4 3 rfl rfl)
theorem dX6_tray_99 : decode cX6_tray 99 = .ok (.iconst 1, 1) := dk_4 (dk_at dksX6_tray_4 6 rfl rfl)
theorem dX6_tray_100 : decode cX6_tray 100 = .ok (.ireturn, 1) := dk_172 (dk_at dksX6_tray_4 7 rfl rfl)
abbrev cX6_no : ByteArray := prog_15_method_7_code
def yX6_no : MethodName := ⟨RX6, "no", "(I)Z"⟩
def dkwX6_no_0 : List UInt8 := [42, 27, 181, 0, 147, 3, 172]
abbrev dktX6_no_0 : List UInt8 := dkwX6_no_0 ++ []
theorem dksX6_no_0 : cX6_no.data.toList.drop 0 = dktX6_no_0 := by decide +kernel
theorem dX6_no_0 : decode cX6_no 0 = .ok (.aload_n 0, 1) := dk_42 (dk_at dksX6_no_0 0 rfl rfl)
theorem dX6_no_1 : decode cX6_no 1 = .ok (.iload_n 1, 1) := dk_27 (dk_at dksX6_no_0 1 rfl rfl)
theorem dX6_no_2 : decode cX6_no 2 = .ok (.putfield 147, 3) := dk_181 0 147 (dk_at dksX6_no_0 2 rfl rfl)
theorem dX6_no_5 : decode cX6_no 5 = .ok (.iconst 0, 1) := dk_3 (dk_at dksX6_no_0 5 rfl rfl)
theorem dX6_no_6 : decode cX6_no 6 = .ok (.ireturn, 1) := dk_172 (dk_at dksX6_no_0 6 rfl rfl)
abbrev cX6_write : ByteArray := prog_15_method_15_code
def yX6_write : MethodName := ⟨RX6, "write", "(IIJ)Z"⟩
def dkwX6_write_1 : List UInt8 := [42, 180, 0, 20, 16, 64, 27, 104, 28, 96, 42, 180, 0, 13, 27, 46, 33, 184, 0, 175, 80, 4, 172]
abbrev dktX6_write_1 : List UInt8 := dkwX6_write_1 ++ []
def dkwX6_write_0 : List UInt8 := [42, 3, 181, 0, 144, 42, 42, 27, 28, 182, 0, 171, 181, 0, 147, 42, 180, 0, 147, 158, 0, 5, 3, 172]
abbrev dktX6_write_0 : List UInt8 := dkwX6_write_0 ++ dktX6_write_1
theorem dksX6_write_0 : cX6_write.data.toList.drop 0 = dktX6_write_0 := by decide +kernel
theorem dksX6_write_1 : cX6_write.data.toList.drop 24 = dktX6_write_1 := dk_seg dksX6_write_0 24 rfl rfl
theorem dX6_write_0 : decode cX6_write 0 = .ok (.aload_n 0, 1) := dk_42 (dk_at dksX6_write_0 0 rfl rfl)
theorem dX6_write_1 : decode cX6_write 1 = .ok (.iconst 0, 1) := dk_3 (dk_at dksX6_write_0 1 rfl rfl)
theorem dX6_write_2 : decode cX6_write 2 = .ok (.putfield 144, 3) := dk_181 0 144 (dk_at dksX6_write_0 2 rfl rfl)
theorem dX6_write_5 : decode cX6_write 5 = .ok (.aload_n 0, 1) := dk_42 (dk_at dksX6_write_0 5 rfl rfl)
theorem dX6_write_6 : decode cX6_write 6 = .ok (.aload_n 0, 1) := dk_42 (dk_at dksX6_write_0 6 rfl rfl)
theorem dX6_write_7 : decode cX6_write 7 = .ok (.iload_n 1, 1) := dk_27 (dk_at dksX6_write_0 7 rfl rfl)
theorem dX6_write_8 : decode cX6_write 8 = .ok (.iload_n 2, 1) := dk_28 (dk_at dksX6_write_0 8 rfl rfl)
theorem dX6_write_9 : decode cX6_write 9 = .ok (.invokevirtual 171, 3) := dk_182 0 171 (dk_at dksX6_write_0 9 rfl rfl)
theorem dX6_write_12 : decode cX6_write 12 = .ok (.putfield 147, 3) := dk_181 0 147 (dk_at dksX6_write_0 12 rfl rfl)
theorem dX6_write_15 : decode cX6_write 15 = .ok (.aload_n 0, 1) := dk_42 (dk_at dksX6_write_0 15 rfl rfl)
theorem dX6_write_16 : decode cX6_write 16 = .ok (.getfield 147, 3) := dk_180 0 147 (dk_at dksX6_write_0 16 rfl rfl)
theorem dX6_write_19 : decode cX6_write 19 = .ok (.ifCond .le 5, 3) := dk_158 0 5 (dk_at dksX6_write_0 19 rfl rfl)
theorem dX6_write_22 : decode cX6_write 22 = .ok (.iconst 0, 1) := dk_3 (dk_at dksX6_write_0 22 rfl rfl)
theorem dX6_write_23 : decode cX6_write 23 = .ok (.ireturn, 1) := dk_172 (dk_at dksX6_write_0 23 rfl rfl)
theorem dX6_write_24 : decode cX6_write 24 = .ok (.aload_n 0, 1) := dk_42 (dk_at dksX6_write_1 0 rfl rfl)
theorem dX6_write_25 : decode cX6_write 25 = .ok (.getfield 20, 3) := dk_180 0 20 (dk_at dksX6_write_1 1 rfl rfl)
theorem dX6_write_28 : decode cX6_write 28 = .ok (.bipush 64, 2) := dk_16 64 (dk_at dksX6_write_1 4 rfl rfl)
theorem dX6_write_30 : decode cX6_write 30 = .ok (.iload_n 1, 1) := dk_27 (dk_at dksX6_write_1 6 rfl rfl)
theorem dX6_write_31 : decode cX6_write 31 = .ok (.imul, 1) := dk_104 (dk_at dksX6_write_1 7 rfl rfl)
theorem dX6_write_32 : decode cX6_write 32 = .ok (.iload_n 2, 1) := dk_28 (dk_at dksX6_write_1 8 rfl rfl)
theorem dX6_write_33 : decode cX6_write 33 = .ok (.iadd, 1) := dk_96 (dk_at dksX6_write_1 9 rfl rfl)
theorem dX6_write_34 : decode cX6_write 34 = .ok (.aload_n 0, 1) := dk_42 (dk_at dksX6_write_1 10 rfl rfl)
theorem dX6_write_35 : decode cX6_write 35 = .ok (.getfield 13, 3) := dk_180 0 13 (dk_at dksX6_write_1 11 rfl rfl)
theorem dX6_write_38 : decode cX6_write 38 = .ok (.iload_n 1, 1) := dk_27 (dk_at dksX6_write_1 14 rfl rfl)
theorem dX6_write_39 : decode cX6_write 39 = .ok (.iaload, 1) := dk_46 (dk_at dksX6_write_1 15 rfl rfl)
theorem dX6_write_40 : decode cX6_write 40 = .ok (.lload_n 3, 1) := dk_33 (dk_at dksX6_write_1 16 rfl rfl)
theorem dX6_write_41 : decode cX6_write 41 = .ok (.invokestatic 175, 3) := dk_184 0 175 (dk_at dksX6_write_1 17 rfl rfl)
theorem dX6_write_44 : decode cX6_write 44 = .ok (.lastore, 1) := dk_80 (dk_at dksX6_write_1 20 rfl rfl)
theorem dX6_write_45 : decode cX6_write 45 = .ok (.iconst 1, 1) := dk_4 (dk_at dksX6_write_1 21 rfl rfl)
theorem dX6_write_46 : decode cX6_write 46 = .ok (.ireturn, 1) := dk_172 (dk_at dksX6_write_1 22 rfl rfl)
abbrev cX6_placed : ByteArray := prog_15_method_14_code
def yX6_placed : MethodName := ⟨RX6, "placed", "(II)I"⟩
def dkwX6_placed_1 : List UInt8 := [46, 161, 0, 7, 7, 167, 0, 4, 3, 172]
abbrev dktX6_placed_1 : List UInt8 := dkwX6_placed_1 ++ []
def dkwX6_placed_0 : List UInt8 := [42, 27, 182, 0, 167, 62, 29, 158, 0, 7, 29, 167, 0, 22, 28, 155, 0, 13, 28, 42, 180, 0, 17, 27]
abbrev dktX6_placed_0 : List UInt8 := dkwX6_placed_0 ++ dktX6_placed_1
theorem dksX6_placed_0 : cX6_placed.data.toList.drop 0 = dktX6_placed_0 := by decide +kernel
theorem dksX6_placed_1 : cX6_placed.data.toList.drop 24 = dktX6_placed_1 := dk_seg dksX6_placed_0 24 rfl rfl
theorem dX6_placed_0 : decode cX6_placed 0 = .ok (.aload_n 0, 1) := dk_42 (dk_at dksX6_placed_0 0 rfl rfl)
theorem dX6_placed_1 : decode cX6_placed 1 = .ok (.iload_n 1, 1) := dk_27 (dk_at dksX6_placed_0 1 rfl rfl)
theorem dX6_placed_2 : decode cX6_placed 2 = .ok (.invokevirtual 167, 3) := dk_182 0 167 (dk_at dksX6_placed_0 2 rfl rfl)
theorem dX6_placed_5 : decode cX6_placed 5 = .ok (.istore_n 3, 1) := dk_62 (dk_at dksX6_placed_0 5 rfl rfl)
theorem dX6_placed_6 : decode cX6_placed 6 = .ok (.iload_n 3, 1) := dk_29 (dk_at dksX6_placed_0 6 rfl rfl)
theorem dX6_placed_7 : decode cX6_placed 7 = .ok (.ifCond .le 7, 3) := dk_158 0 7 (dk_at dksX6_placed_0 7 rfl rfl)
theorem dX6_placed_10 : decode cX6_placed 10 = .ok (.iload_n 3, 1) := dk_29 (dk_at dksX6_placed_0 10 rfl rfl)
theorem dX6_placed_11 : decode cX6_placed 11 = .ok (.goto 22, 3) := dk_167 0 22 (dk_at dksX6_placed_0 11 rfl rfl)
theorem dX6_placed_14 : decode cX6_placed 14 = .ok (.iload_n 2, 1) := dk_28 (dk_at dksX6_placed_0 14 rfl rfl)
theorem dX6_placed_15 : decode cX6_placed 15 = .ok (.ifCond .lt 13, 3) := dk_155 0 13 (dk_at dksX6_placed_0 15 rfl rfl)
theorem dX6_placed_18 : decode cX6_placed 18 = .ok (.iload_n 2, 1) := dk_28 (dk_at dksX6_placed_0 18 rfl rfl)
theorem dX6_placed_19 : decode cX6_placed 19 = .ok (.aload_n 0, 1) := dk_42 (dk_at dksX6_placed_0 19 rfl rfl)
theorem dX6_placed_20 : decode cX6_placed 20 = .ok (.getfield 17, 3) := dk_180 0 17 (dk_at dksX6_placed_0 20 rfl rfl)
theorem dX6_placed_23 : decode cX6_placed 23 = .ok (.iload_n 1, 1) := dk_27 (dk_at dksX6_placed_0 23 rfl rfl)
theorem dX6_placed_24 : decode cX6_placed 24 = .ok (.iaload, 1) := dk_46 (dk_at dksX6_placed_1 0 rfl rfl)
theorem dX6_placed_25 : decode cX6_placed 25 = .ok (.if_icmp .lt 7, 3) := dk_161 0 7 (dk_at dksX6_placed_1 1 rfl rfl)
theorem dX6_placed_28 : decode cX6_placed 28 = .ok (.iconst 4, 1) := dk_7 (dk_at dksX6_placed_1 4 rfl rfl)
theorem dX6_placed_29 : decode cX6_placed 29 = .ok (.goto 4, 3) := dk_167 0 4 (dk_at dksX6_placed_1 5 rfl rfl)
theorem dX6_placed_32 : decode cX6_placed 32 = .ok (.iconst 0, 1) := dk_3 (dk_at dksX6_placed_1 8 rfl rfl)
theorem dX6_placed_33 : decode cX6_placed 33 = .ok (.ireturn, 1) := dk_172 (dk_at dksX6_placed_1 9 rfl rfl)
abbrev cX6_trayed : ByteArray := prog_15_method_13_code
def yX6_trayed : MethodName := ⟨RX6, "trayed", "(I)I"⟩
def dkwX6_trayed_1 : List UInt8 := [167, 0, 4, 3, 172]
abbrev dktX6_trayed_1 : List UInt8 := dkwX6_trayed_1 ++ []
def dkwX6_trayed_0 : List UInt8 := [27, 155, 0, 8, 27, 7, 161, 0, 7, 4, 167, 0, 17, 42, 180, 0, 17, 27, 46, 156, 0, 7, 6]
abbrev dktX6_trayed_0 : List UInt8 := dkwX6_trayed_0 ++ dktX6_trayed_1
theorem dksX6_trayed_0 : cX6_trayed.data.toList.drop 0 = dktX6_trayed_0 := by decide +kernel
theorem dksX6_trayed_1 : cX6_trayed.data.toList.drop 23 = dktX6_trayed_1 := dk_seg dksX6_trayed_0 23 rfl rfl
theorem dX6_trayed_0 : decode cX6_trayed 0 = .ok (.iload_n 1, 1) := dk_27 (dk_at dksX6_trayed_0 0 rfl rfl)
theorem dX6_trayed_1 : decode cX6_trayed 1 = .ok (.ifCond .lt 8, 3) := dk_155 0 8 (dk_at dksX6_trayed_0 1 rfl rfl)
theorem dX6_trayed_4 : decode cX6_trayed 4 = .ok (.iload_n 1, 1) := dk_27 (dk_at dksX6_trayed_0 4 rfl rfl)
theorem dX6_trayed_5 : decode cX6_trayed 5 = .ok (.iconst 4, 1) := dk_7 (dk_at dksX6_trayed_0 5 rfl rfl)
theorem dX6_trayed_6 : decode cX6_trayed 6 = .ok (.if_icmp .lt 7, 3) := dk_161 0 7 (dk_at dksX6_trayed_0 6 rfl rfl)
theorem dX6_trayed_9 : decode cX6_trayed 9 = .ok (.iconst 1, 1) := dk_4 (dk_at dksX6_trayed_0 9 rfl rfl)
theorem dX6_trayed_10 : decode cX6_trayed 10 = .ok (.goto 17, 3) := dk_167 0 17 (dk_at dksX6_trayed_0 10 rfl rfl)
theorem dX6_trayed_13 : decode cX6_trayed 13 = .ok (.aload_n 0, 1) := dk_42 (dk_at dksX6_trayed_0 13 rfl rfl)
theorem dX6_trayed_14 : decode cX6_trayed 14 = .ok (.getfield 17, 3) := dk_180 0 17 (dk_at dksX6_trayed_0 14 rfl rfl)
theorem dX6_trayed_17 : decode cX6_trayed 17 = .ok (.iload_n 1, 1) := dk_27 (dk_at dksX6_trayed_0 17 rfl rfl)
theorem dX6_trayed_18 : decode cX6_trayed 18 = .ok (.iaload, 1) := dk_46 (dk_at dksX6_trayed_0 18 rfl rfl)
theorem dX6_trayed_19 : decode cX6_trayed 19 = .ok (.ifCond .ge 7, 3) := dk_156 0 7 (dk_at dksX6_trayed_0 19 rfl rfl)
theorem dX6_trayed_22 : decode cX6_trayed 22 = .ok (.iconst 3, 1) := dk_6 (dk_at dksX6_trayed_0 22 rfl rfl)
theorem dX6_trayed_23 : decode cX6_trayed 23 = .ok (.goto 4, 3) := dk_167 0 4 (dk_at dksX6_trayed_1 0 rfl rfl)
theorem dX6_trayed_26 : decode cX6_trayed 26 = .ok (.iconst 0, 1) := dk_3 (dk_at dksX6_trayed_1 3 rfl rfl)
theorem dX6_trayed_27 : decode cX6_trayed 27 = .ok (.ireturn, 1) := dk_172 (dk_at dksX6_trayed_1 4 rfl rfl)
abbrev cX6_cut : ByteArray := prog_15_method_11_code
def yX6_cut : MethodName := ⟨RX6, "cut", "(IJ)J"⟩
def dkwX6_cut_1 : List UInt8 := [5, 160, 0, 9, 31, 136, 133, 167, 0, 4, 31, 173]
abbrev dktX6_cut_1 : List UInt8 := dkwX6_cut_1 ++ []
def dkwX6_cut_0 : List UInt8 := [26, 154, 0, 10, 31, 136, 145, 133, 167, 0, 27, 26, 4, 160, 0, 10, 31, 136, 147, 133, 167, 0, 15, 26]
abbrev dktX6_cut_0 : List UInt8 := dkwX6_cut_0 ++ dktX6_cut_1
theorem dksX6_cut_0 : cX6_cut.data.toList.drop 0 = dktX6_cut_0 := by decide +kernel
theorem dksX6_cut_1 : cX6_cut.data.toList.drop 24 = dktX6_cut_1 := dk_seg dksX6_cut_0 24 rfl rfl
theorem dX6_cut_0 : decode cX6_cut 0 = .ok (.iload_n 0, 1) := dk_26 (dk_at dksX6_cut_0 0 rfl rfl)
theorem dX6_cut_1 : decode cX6_cut 1 = .ok (.ifCond .ne 10, 3) := dk_154 0 10 (dk_at dksX6_cut_0 1 rfl rfl)
theorem dX6_cut_4 : decode cX6_cut 4 = .ok (.lload_n 1, 1) := dk_31 (dk_at dksX6_cut_0 4 rfl rfl)
theorem dX6_cut_5 : decode cX6_cut 5 = .ok (.l2i, 1) := dk_136 (dk_at dksX6_cut_0 5 rfl rfl)
theorem dX6_cut_6 : decode cX6_cut 6 = .ok (.i2b, 1) := dk_145 (dk_at dksX6_cut_0 6 rfl rfl)
theorem dX6_cut_7 : decode cX6_cut 7 = .ok (.i2l, 1) := dk_133 (dk_at dksX6_cut_0 7 rfl rfl)
theorem dX6_cut_8 : decode cX6_cut 8 = .ok (.goto 27, 3) := dk_167 0 27 (dk_at dksX6_cut_0 8 rfl rfl)
theorem dX6_cut_11 : decode cX6_cut 11 = .ok (.iload_n 0, 1) := dk_26 (dk_at dksX6_cut_0 11 rfl rfl)
theorem dX6_cut_12 : decode cX6_cut 12 = .ok (.iconst 1, 1) := dk_4 (dk_at dksX6_cut_0 12 rfl rfl)
theorem dX6_cut_13 : decode cX6_cut 13 = .ok (.if_icmp .ne 10, 3) := dk_160 0 10 (dk_at dksX6_cut_0 13 rfl rfl)
theorem dX6_cut_16 : decode cX6_cut 16 = .ok (.lload_n 1, 1) := dk_31 (dk_at dksX6_cut_0 16 rfl rfl)
theorem dX6_cut_17 : decode cX6_cut 17 = .ok (.l2i, 1) := dk_136 (dk_at dksX6_cut_0 17 rfl rfl)
theorem dX6_cut_18 : decode cX6_cut 18 = .ok (.i2s, 1) := dk_147 (dk_at dksX6_cut_0 18 rfl rfl)
theorem dX6_cut_19 : decode cX6_cut 19 = .ok (.i2l, 1) := dk_133 (dk_at dksX6_cut_0 19 rfl rfl)
theorem dX6_cut_20 : decode cX6_cut 20 = .ok (.goto 15, 3) := dk_167 0 15 (dk_at dksX6_cut_0 20 rfl rfl)
theorem dX6_cut_23 : decode cX6_cut 23 = .ok (.iload_n 0, 1) := dk_26 (dk_at dksX6_cut_0 23 rfl rfl)
theorem dX6_cut_24 : decode cX6_cut 24 = .ok (.iconst 2, 1) := dk_5 (dk_at dksX6_cut_1 0 rfl rfl)
theorem dX6_cut_25 : decode cX6_cut 25 = .ok (.if_icmp .ne 9, 3) := dk_160 0 9 (dk_at dksX6_cut_1 1 rfl rfl)
theorem dX6_cut_28 : decode cX6_cut 28 = .ok (.lload_n 1, 1) := dk_31 (dk_at dksX6_cut_1 4 rfl rfl)
theorem dX6_cut_29 : decode cX6_cut 29 = .ok (.l2i, 1) := dk_136 (dk_at dksX6_cut_1 5 rfl rfl)
theorem dX6_cut_30 : decode cX6_cut 30 = .ok (.i2l, 1) := dk_133 (dk_at dksX6_cut_1 6 rfl rfl)
theorem dX6_cut_31 : decode cX6_cut 31 = .ok (.goto 4, 3) := dk_167 0 4 (dk_at dksX6_cut_1 7 rfl rfl)
theorem dX6_cut_34 : decode cX6_cut 34 = .ok (.lload_n 1, 1) := dk_31 (dk_at dksX6_cut_1 10 rfl rfl)
theorem dX6_cut_35 : decode cX6_cut 35 = .ok (.lreturn, 1) := dk_173 (dk_at dksX6_cut_1 11 rfl rfl)
abbrev cX6_read : ByteArray := prog_15_method_16_code
def yX6_read : MethodName := ⟨RX6, "read", "(II)J"⟩
def dkwX6_read_1 : List UInt8 := [20, 0, 179, 167, 0, 14, 42, 180, 0, 20, 16, 64, 27, 104, 28, 96, 47, 173]
abbrev dktX6_read_1 : List UInt8 := dkwX6_read_1 ++ []
def dkwX6_read_0 : List UInt8 := [42, 3, 181, 0, 144, 42, 42, 27, 28, 182, 0, 171, 181, 0, 147, 42, 180, 0, 147, 158, 0, 9]
abbrev dktX6_read_0 : List UInt8 := dkwX6_read_0 ++ dktX6_read_1
theorem dksX6_read_0 : cX6_read.data.toList.drop 0 = dktX6_read_0 := by decide +kernel
theorem dksX6_read_1 : cX6_read.data.toList.drop 22 = dktX6_read_1 := dk_seg dksX6_read_0 22 rfl rfl
theorem dX6_read_0 : decode cX6_read 0 = .ok (.aload_n 0, 1) := dk_42 (dk_at dksX6_read_0 0 rfl rfl)
theorem dX6_read_1 : decode cX6_read 1 = .ok (.iconst 0, 1) := dk_3 (dk_at dksX6_read_0 1 rfl rfl)
theorem dX6_read_2 : decode cX6_read 2 = .ok (.putfield 144, 3) := dk_181 0 144 (dk_at dksX6_read_0 2 rfl rfl)
theorem dX6_read_5 : decode cX6_read 5 = .ok (.aload_n 0, 1) := dk_42 (dk_at dksX6_read_0 5 rfl rfl)
theorem dX6_read_6 : decode cX6_read 6 = .ok (.aload_n 0, 1) := dk_42 (dk_at dksX6_read_0 6 rfl rfl)
theorem dX6_read_7 : decode cX6_read 7 = .ok (.iload_n 1, 1) := dk_27 (dk_at dksX6_read_0 7 rfl rfl)
theorem dX6_read_8 : decode cX6_read 8 = .ok (.iload_n 2, 1) := dk_28 (dk_at dksX6_read_0 8 rfl rfl)
theorem dX6_read_9 : decode cX6_read 9 = .ok (.invokevirtual 171, 3) := dk_182 0 171 (dk_at dksX6_read_0 9 rfl rfl)
theorem dX6_read_12 : decode cX6_read 12 = .ok (.putfield 147, 3) := dk_181 0 147 (dk_at dksX6_read_0 12 rfl rfl)
theorem dX6_read_15 : decode cX6_read 15 = .ok (.aload_n 0, 1) := dk_42 (dk_at dksX6_read_0 15 rfl rfl)
theorem dX6_read_16 : decode cX6_read 16 = .ok (.getfield 147, 3) := dk_180 0 147 (dk_at dksX6_read_0 16 rfl rfl)
theorem dX6_read_19 : decode cX6_read 19 = .ok (.ifCond .le 9, 3) := dk_158 0 9 (dk_at dksX6_read_0 19 rfl rfl)
theorem dX6_read_22 : decode cX6_read 22 = .ok (.ldc2_w 179, 3) := dk_20 0 179 (dk_at dksX6_read_1 0 rfl rfl)
theorem dX6_read_25 : decode cX6_read 25 = .ok (.goto 14, 3) := dk_167 0 14 (dk_at dksX6_read_1 3 rfl rfl)
theorem dX6_read_28 : decode cX6_read 28 = .ok (.aload_n 0, 1) := dk_42 (dk_at dksX6_read_1 6 rfl rfl)
theorem dX6_read_29 : decode cX6_read 29 = .ok (.getfield 20, 3) := dk_180 0 20 (dk_at dksX6_read_1 7 rfl rfl)
theorem dX6_read_32 : decode cX6_read 32 = .ok (.bipush 64, 2) := dk_16 64 (dk_at dksX6_read_1 10 rfl rfl)
theorem dX6_read_34 : decode cX6_read 34 = .ok (.iload_n 1, 1) := dk_27 (dk_at dksX6_read_1 12 rfl rfl)
theorem dX6_read_35 : decode cX6_read 35 = .ok (.imul, 1) := dk_104 (dk_at dksX6_read_1 13 rfl rfl)
theorem dX6_read_36 : decode cX6_read 36 = .ok (.iload_n 2, 1) := dk_28 (dk_at dksX6_read_1 14 rfl rfl)
theorem dX6_read_37 : decode cX6_read 37 = .ok (.iadd, 1) := dk_96 (dk_at dksX6_read_1 15 rfl rfl)
theorem dX6_read_38 : decode cX6_read 38 = .ok (.laload, 1) := dk_47 (dk_at dksX6_read_1 16 rfl rfl)
theorem dX6_read_39 : decode cX6_read 39 = .ok (.lreturn, 1) := dk_173 (dk_at dksX6_read_1 17 rfl rfl)
abbrev cX6_pour : ByteArray := prog_15_method_17_code
def yX6_pour : MethodName := ⟨RX6, "pour", "(IIIII)Z"⟩
def dkwX6_pour_9 : List UInt8 := [21, 8, 96, 47, 80, 132, 7, 1, 167, 255, 198, 4, 172]
abbrev dktX6_pour_9 : List UInt8 := dkwX6_pour_9 ++ []
def dkwX6_pour_8 : List UInt8 := [180, 0, 20, 16, 64, 29, 104, 21, 4, 96, 21, 8, 96, 42, 180, 0, 20, 16, 64, 27, 104, 28, 96]
abbrev dktX6_pour_8 : List UInt8 := dkwX6_pour_8 ++ dktX6_pour_9
def dkwX6_pour_7 : List UInt8 := [162, 0, 57, 21, 6, 153, 0, 13, 21, 5, 4, 100, 21, 7, 100, 167, 0, 5, 21, 7, 54, 8, 42]
abbrev dktX6_pour_7 : List UInt8 := dkwX6_pour_7 ++ dktX6_pour_8
def dkwX6_pour_6 : List UInt8 := [182, 0, 163, 172, 28, 21, 4, 162, 0, 7, 4, 167, 0, 4, 3, 54, 6, 3, 54, 7, 21, 7, 21, 5]
abbrev dktX6_pour_6 : List UInt8 := dkwX6_pour_6 ++ dktX6_pour_7
def dkwX6_pour_5 : List UInt8 := [157, 0, 21, 21, 4, 133, 21, 5, 133, 97, 42, 180, 0, 17, 29, 46, 133, 148, 158, 0, 9, 42, 7]
abbrev dktX6_pour_5 : List UInt8 := dkwX6_pour_5 ++ dktX6_pour_6
def dkwX6_pour_4 : List UInt8 := [155, 0, 43, 21, 4, 155, 0, 38, 28, 133, 21, 5, 133, 97, 42, 180, 0, 17, 27, 46, 133, 148]
abbrev dktX6_pour_4 : List UInt8 := dkwX6_pour_4 ++ dktX6_pour_5
def dkwX6_pour_3 : List UInt8 := [159, 0, 10, 42, 16, 11, 182, 0, 163, 172, 21, 5, 156, 0, 10, 42, 16, 6, 182, 0, 163, 172, 28]
abbrev dktX6_pour_3 : List UInt8 := dkwX6_pour_3 ++ dktX6_pour_4
def dkwX6_pour_2 : List UInt8 := [46, 156, 0, 9, 42, 6, 182, 0, 163, 172, 42, 180, 0, 13, 27, 46, 42, 180, 0, 13, 29, 46]
abbrev dktX6_pour_2 : List UInt8 := dkwX6_pour_2 ++ dktX6_pour_3
def dkwX6_pour_1 : List UInt8 := [7, 161, 0, 9, 42, 4, 182, 0, 163, 172, 42, 180, 0, 17, 27, 46, 155, 0, 12, 42, 180, 0, 17, 29]
abbrev dktX6_pour_1 : List UInt8 := dkwX6_pour_1 ++ dktX6_pour_2
def dkwX6_pour_0 : List UInt8 := [42, 3, 181, 0, 144, 42, 3, 181, 0, 147, 27, 155, 0, 17, 27, 7, 162, 0, 12, 29, 155, 0, 8, 29]
abbrev dktX6_pour_0 : List UInt8 := dkwX6_pour_0 ++ dktX6_pour_1
theorem dksX6_pour_0 : cX6_pour.data.toList.drop 0 = dktX6_pour_0 := by decide +kernel
theorem dksX6_pour_1 : cX6_pour.data.toList.drop 24 = dktX6_pour_1 := dk_seg dksX6_pour_0 24 rfl rfl
theorem dksX6_pour_2 : cX6_pour.data.toList.drop 48 = dktX6_pour_2 := dk_seg dksX6_pour_1 24 rfl rfl
theorem dksX6_pour_3 : cX6_pour.data.toList.drop 70 = dktX6_pour_3 := dk_seg dksX6_pour_2 22 rfl rfl
theorem dksX6_pour_4 : cX6_pour.data.toList.drop 93 = dktX6_pour_4 := dk_seg dksX6_pour_3 23 rfl rfl
theorem dksX6_pour_5 : cX6_pour.data.toList.drop 115 = dktX6_pour_5 := dk_seg dksX6_pour_4 22 rfl rfl
theorem dksX6_pour_6 : cX6_pour.data.toList.drop 138 = dktX6_pour_6 := dk_seg dksX6_pour_5 23 rfl rfl
theorem dksX6_pour_7 : cX6_pour.data.toList.drop 162 = dktX6_pour_7 := dk_seg dksX6_pour_6 24 rfl rfl
theorem dksX6_pour_8 : cX6_pour.data.toList.drop 185 = dktX6_pour_8 := dk_seg dksX6_pour_7 23 rfl rfl
theorem dksX6_pour_9 : cX6_pour.data.toList.drop 208 = dktX6_pour_9 := dk_seg dksX6_pour_8 23 rfl rfl
theorem dX6_pour_0 : decode cX6_pour 0 = .ok (.aload_n 0, 1) := dk_42 (dk_at dksX6_pour_0 0 rfl rfl)
theorem dX6_pour_1 : decode cX6_pour 1 = .ok (.iconst 0, 1) := dk_3 (dk_at dksX6_pour_0 1 rfl rfl)
theorem dX6_pour_2 : decode cX6_pour 2 = .ok (.putfield 144, 3) := dk_181 0 144 (dk_at dksX6_pour_0 2 rfl rfl)
theorem dX6_pour_5 : decode cX6_pour 5 = .ok (.aload_n 0, 1) := dk_42 (dk_at dksX6_pour_0 5 rfl rfl)
theorem dX6_pour_6 : decode cX6_pour 6 = .ok (.iconst 0, 1) := dk_3 (dk_at dksX6_pour_0 6 rfl rfl)
theorem dX6_pour_7 : decode cX6_pour 7 = .ok (.putfield 147, 3) := dk_181 0 147 (dk_at dksX6_pour_0 7 rfl rfl)
theorem dX6_pour_10 : decode cX6_pour 10 = .ok (.iload_n 1, 1) := dk_27 (dk_at dksX6_pour_0 10 rfl rfl)
theorem dX6_pour_11 : decode cX6_pour 11 = .ok (.ifCond .lt 17, 3) := dk_155 0 17 (dk_at dksX6_pour_0 11 rfl rfl)
theorem dX6_pour_14 : decode cX6_pour 14 = .ok (.iload_n 1, 1) := dk_27 (dk_at dksX6_pour_0 14 rfl rfl)
theorem dX6_pour_15 : decode cX6_pour 15 = .ok (.iconst 4, 1) := dk_7 (dk_at dksX6_pour_0 15 rfl rfl)
theorem dX6_pour_16 : decode cX6_pour 16 = .ok (.if_icmp .ge 12, 3) := dk_162 0 12 (dk_at dksX6_pour_0 16 rfl rfl)
theorem dX6_pour_19 : decode cX6_pour 19 = .ok (.iload_n 3, 1) := dk_29 (dk_at dksX6_pour_0 19 rfl rfl)
theorem dX6_pour_20 : decode cX6_pour 20 = .ok (.ifCond .lt 8, 3) := dk_155 0 8 (dk_at dksX6_pour_0 20 rfl rfl)
theorem dX6_pour_23 : decode cX6_pour 23 = .ok (.iload_n 3, 1) := dk_29 (dk_at dksX6_pour_0 23 rfl rfl)
theorem dX6_pour_24 : decode cX6_pour 24 = .ok (.iconst 4, 1) := dk_7 (dk_at dksX6_pour_1 0 rfl rfl)
theorem dX6_pour_25 : decode cX6_pour 25 = .ok (.if_icmp .lt 9, 3) := dk_161 0 9 (dk_at dksX6_pour_1 1 rfl rfl)
theorem dX6_pour_28 : decode cX6_pour 28 = .ok (.aload_n 0, 1) := dk_42 (dk_at dksX6_pour_1 4 rfl rfl)
theorem dX6_pour_29 : decode cX6_pour 29 = .ok (.iconst 1, 1) := dk_4 (dk_at dksX6_pour_1 5 rfl rfl)
theorem dX6_pour_30 : decode cX6_pour 30 = .ok (.invokevirtual 163, 3) := dk_182 0 163 (dk_at dksX6_pour_1 6 rfl rfl)
theorem dX6_pour_33 : decode cX6_pour 33 = .ok (.ireturn, 1) := dk_172 (dk_at dksX6_pour_1 9 rfl rfl)
theorem dX6_pour_34 : decode cX6_pour 34 = .ok (.aload_n 0, 1) := dk_42 (dk_at dksX6_pour_1 10 rfl rfl)
theorem dX6_pour_35 : decode cX6_pour 35 = .ok (.getfield 17, 3) := dk_180 0 17 (dk_at dksX6_pour_1 11 rfl rfl)
theorem dX6_pour_38 : decode cX6_pour 38 = .ok (.iload_n 1, 1) := dk_27 (dk_at dksX6_pour_1 14 rfl rfl)
theorem dX6_pour_39 : decode cX6_pour 39 = .ok (.iaload, 1) := dk_46 (dk_at dksX6_pour_1 15 rfl rfl)
theorem dX6_pour_40 : decode cX6_pour 40 = .ok (.ifCond .lt 12, 3) := dk_155 0 12 (dk_at dksX6_pour_1 16 rfl rfl)
theorem dX6_pour_43 : decode cX6_pour 43 = .ok (.aload_n 0, 1) := dk_42 (dk_at dksX6_pour_1 19 rfl rfl)
theorem dX6_pour_44 : decode cX6_pour 44 = .ok (.getfield 17, 3) := dk_180 0 17 (dk_at dksX6_pour_1 20 rfl rfl)
theorem dX6_pour_47 : decode cX6_pour 47 = .ok (.iload_n 3, 1) := dk_29 (dk_at dksX6_pour_1 23 rfl rfl)
theorem dX6_pour_48 : decode cX6_pour 48 = .ok (.iaload, 1) := dk_46 (dk_at dksX6_pour_2 0 rfl rfl)
theorem dX6_pour_49 : decode cX6_pour 49 = .ok (.ifCond .ge 9, 3) := dk_156 0 9 (dk_at dksX6_pour_2 1 rfl rfl)
theorem dX6_pour_52 : decode cX6_pour 52 = .ok (.aload_n 0, 1) := dk_42 (dk_at dksX6_pour_2 4 rfl rfl)
theorem dX6_pour_53 : decode cX6_pour 53 = .ok (.iconst 3, 1) := dk_6 (dk_at dksX6_pour_2 5 rfl rfl)
theorem dX6_pour_54 : decode cX6_pour 54 = .ok (.invokevirtual 163, 3) := dk_182 0 163 (dk_at dksX6_pour_2 6 rfl rfl)
theorem dX6_pour_57 : decode cX6_pour 57 = .ok (.ireturn, 1) := dk_172 (dk_at dksX6_pour_2 9 rfl rfl)
theorem dX6_pour_58 : decode cX6_pour 58 = .ok (.aload_n 0, 1) := dk_42 (dk_at dksX6_pour_2 10 rfl rfl)
theorem dX6_pour_59 : decode cX6_pour 59 = .ok (.getfield 13, 3) := dk_180 0 13 (dk_at dksX6_pour_2 11 rfl rfl)
theorem dX6_pour_62 : decode cX6_pour 62 = .ok (.iload_n 1, 1) := dk_27 (dk_at dksX6_pour_2 14 rfl rfl)
theorem dX6_pour_63 : decode cX6_pour 63 = .ok (.iaload, 1) := dk_46 (dk_at dksX6_pour_2 15 rfl rfl)
theorem dX6_pour_64 : decode cX6_pour 64 = .ok (.aload_n 0, 1) := dk_42 (dk_at dksX6_pour_2 16 rfl rfl)
theorem dX6_pour_65 : decode cX6_pour 65 = .ok (.getfield 13, 3) := dk_180 0 13 (dk_at dksX6_pour_2 17 rfl rfl)
theorem dX6_pour_68 : decode cX6_pour 68 = .ok (.iload_n 3, 1) := dk_29 (dk_at dksX6_pour_2 20 rfl rfl)
theorem dX6_pour_69 : decode cX6_pour 69 = .ok (.iaload, 1) := dk_46 (dk_at dksX6_pour_2 21 rfl rfl)
theorem dX6_pour_70 : decode cX6_pour 70 = .ok (.if_icmp .eq 10, 3) := dk_159 0 10 (dk_at dksX6_pour_3 0 rfl rfl)
theorem dX6_pour_73 : decode cX6_pour 73 = .ok (.aload_n 0, 1) := dk_42 (dk_at dksX6_pour_3 3 rfl rfl)
theorem dX6_pour_74 : decode cX6_pour 74 = .ok (.bipush 11, 2) := dk_16 11 (dk_at dksX6_pour_3 4 rfl rfl)
theorem dX6_pour_76 : decode cX6_pour 76 = .ok (.invokevirtual 163, 3) := dk_182 0 163 (dk_at dksX6_pour_3 6 rfl rfl)
theorem dX6_pour_79 : decode cX6_pour 79 = .ok (.ireturn, 1) := dk_172 (dk_at dksX6_pour_3 9 rfl rfl)
theorem dX6_pour_80 : decode cX6_pour 80 = .ok (.iload 5, 2) := dk_21 5 (dk_at dksX6_pour_3 10 rfl rfl)
theorem dX6_pour_82 : decode cX6_pour 82 = .ok (.ifCond .ge 10, 3) := dk_156 0 10 (dk_at dksX6_pour_3 12 rfl rfl)
theorem dX6_pour_85 : decode cX6_pour 85 = .ok (.aload_n 0, 1) := dk_42 (dk_at dksX6_pour_3 15 rfl rfl)
theorem dX6_pour_86 : decode cX6_pour 86 = .ok (.bipush 6, 2) := dk_16 6 (dk_at dksX6_pour_3 16 rfl rfl)
theorem dX6_pour_88 : decode cX6_pour 88 = .ok (.invokevirtual 163, 3) := dk_182 0 163 (dk_at dksX6_pour_3 18 rfl rfl)
theorem dX6_pour_91 : decode cX6_pour 91 = .ok (.ireturn, 1) := dk_172 (dk_at dksX6_pour_3 21 rfl rfl)
theorem dX6_pour_92 : decode cX6_pour 92 = .ok (.iload_n 2, 1) := dk_28 (dk_at dksX6_pour_3 22 rfl rfl)
theorem dX6_pour_93 : decode cX6_pour 93 = .ok (.ifCond .lt 43, 3) := dk_155 0 43 (dk_at dksX6_pour_4 0 rfl rfl)
theorem dX6_pour_96 : decode cX6_pour 96 = .ok (.iload 4, 2) := dk_21 4 (dk_at dksX6_pour_4 3 rfl rfl)
theorem dX6_pour_98 : decode cX6_pour 98 = .ok (.ifCond .lt 38, 3) := dk_155 0 38 (dk_at dksX6_pour_4 5 rfl rfl)
theorem dX6_pour_101 : decode cX6_pour 101 = .ok (.iload_n 2, 1) := dk_28 (dk_at dksX6_pour_4 8 rfl rfl)
theorem dX6_pour_102 : decode cX6_pour 102 = .ok (.i2l, 1) := dk_133 (dk_at dksX6_pour_4 9 rfl rfl)
theorem dX6_pour_103 : decode cX6_pour 103 = .ok (.iload 5, 2) := dk_21 5 (dk_at dksX6_pour_4 10 rfl rfl)
theorem dX6_pour_105 : decode cX6_pour 105 = .ok (.i2l, 1) := dk_133 (dk_at dksX6_pour_4 12 rfl rfl)
theorem dX6_pour_106 : decode cX6_pour 106 = .ok (.ladd, 1) := dk_97 (dk_at dksX6_pour_4 13 rfl rfl)
theorem dX6_pour_107 : decode cX6_pour 107 = .ok (.aload_n 0, 1) := dk_42 (dk_at dksX6_pour_4 14 rfl rfl)
theorem dX6_pour_108 : decode cX6_pour 108 = .ok (.getfield 17, 3) := dk_180 0 17 (dk_at dksX6_pour_4 15 rfl rfl)
theorem dX6_pour_111 : decode cX6_pour 111 = .ok (.iload_n 1, 1) := dk_27 (dk_at dksX6_pour_4 18 rfl rfl)
theorem dX6_pour_112 : decode cX6_pour 112 = .ok (.iaload, 1) := dk_46 (dk_at dksX6_pour_4 19 rfl rfl)
theorem dX6_pour_113 : decode cX6_pour 113 = .ok (.i2l, 1) := dk_133 (dk_at dksX6_pour_4 20 rfl rfl)
theorem dX6_pour_114 : decode cX6_pour 114 = .ok (.lcmp, 1) := dk_148 (dk_at dksX6_pour_4 21 rfl rfl)
theorem dX6_pour_115 : decode cX6_pour 115 = .ok (.ifCond .gt 21, 3) := dk_157 0 21 (dk_at dksX6_pour_5 0 rfl rfl)
theorem dX6_pour_118 : decode cX6_pour 118 = .ok (.iload 4, 2) := dk_21 4 (dk_at dksX6_pour_5 3 rfl rfl)
theorem dX6_pour_120 : decode cX6_pour 120 = .ok (.i2l, 1) := dk_133 (dk_at dksX6_pour_5 5 rfl rfl)
theorem dX6_pour_121 : decode cX6_pour 121 = .ok (.iload 5, 2) := dk_21 5 (dk_at dksX6_pour_5 6 rfl rfl)
theorem dX6_pour_123 : decode cX6_pour 123 = .ok (.i2l, 1) := dk_133 (dk_at dksX6_pour_5 8 rfl rfl)
theorem dX6_pour_124 : decode cX6_pour 124 = .ok (.ladd, 1) := dk_97 (dk_at dksX6_pour_5 9 rfl rfl)
theorem dX6_pour_125 : decode cX6_pour 125 = .ok (.aload_n 0, 1) := dk_42 (dk_at dksX6_pour_5 10 rfl rfl)
theorem dX6_pour_126 : decode cX6_pour 126 = .ok (.getfield 17, 3) := dk_180 0 17 (dk_at dksX6_pour_5 11 rfl rfl)
theorem dX6_pour_129 : decode cX6_pour 129 = .ok (.iload_n 3, 1) := dk_29 (dk_at dksX6_pour_5 14 rfl rfl)
theorem dX6_pour_130 : decode cX6_pour 130 = .ok (.iaload, 1) := dk_46 (dk_at dksX6_pour_5 15 rfl rfl)
theorem dX6_pour_131 : decode cX6_pour 131 = .ok (.i2l, 1) := dk_133 (dk_at dksX6_pour_5 16 rfl rfl)
theorem dX6_pour_132 : decode cX6_pour 132 = .ok (.lcmp, 1) := dk_148 (dk_at dksX6_pour_5 17 rfl rfl)
theorem dX6_pour_133 : decode cX6_pour 133 = .ok (.ifCond .le 9, 3) := dk_158 0 9 (dk_at dksX6_pour_5 18 rfl rfl)
theorem dX6_pour_136 : decode cX6_pour 136 = .ok (.aload_n 0, 1) := dk_42 (dk_at dksX6_pour_5 21 rfl rfl)
theorem dX6_pour_137 : decode cX6_pour 137 = .ok (.iconst 4, 1) := dk_7 (dk_at dksX6_pour_5 22 rfl rfl)
theorem dX6_pour_138 : decode cX6_pour 138 = .ok (.invokevirtual 163, 3) := dk_182 0 163 (dk_at dksX6_pour_6 0 rfl rfl)
theorem dX6_pour_141 : decode cX6_pour 141 = .ok (.ireturn, 1) := dk_172 (dk_at dksX6_pour_6 3 rfl rfl)
theorem dX6_pour_142 : decode cX6_pour 142 = .ok (.iload_n 2, 1) := dk_28 (dk_at dksX6_pour_6 4 rfl rfl)
theorem dX6_pour_143 : decode cX6_pour 143 = .ok (.iload 4, 2) := dk_21 4 (dk_at dksX6_pour_6 5 rfl rfl)
theorem dX6_pour_145 : decode cX6_pour 145 = .ok (.if_icmp .ge 7, 3) := dk_162 0 7 (dk_at dksX6_pour_6 7 rfl rfl)
theorem dX6_pour_148 : decode cX6_pour 148 = .ok (.iconst 1, 1) := dk_4 (dk_at dksX6_pour_6 10 rfl rfl)
theorem dX6_pour_149 : decode cX6_pour 149 = .ok (.goto 4, 3) := dk_167 0 4 (dk_at dksX6_pour_6 11 rfl rfl)
theorem dX6_pour_152 : decode cX6_pour 152 = .ok (.iconst 0, 1) := dk_3 (dk_at dksX6_pour_6 14 rfl rfl)
theorem dX6_pour_153 : decode cX6_pour 153 = .ok (.istore 6, 2) := dk_54 6 (dk_at dksX6_pour_6 15 rfl rfl)
theorem dX6_pour_155 : decode cX6_pour 155 = .ok (.iconst 0, 1) := dk_3 (dk_at dksX6_pour_6 17 rfl rfl)
theorem dX6_pour_156 : decode cX6_pour 156 = .ok (.istore 7, 2) := dk_54 7 (dk_at dksX6_pour_6 18 rfl rfl)
theorem dX6_pour_158 : decode cX6_pour 158 = .ok (.iload 7, 2) := dk_21 7 (dk_at dksX6_pour_6 20 rfl rfl)
theorem dX6_pour_160 : decode cX6_pour 160 = .ok (.iload 5, 2) := dk_21 5 (dk_at dksX6_pour_6 22 rfl rfl)
theorem dX6_pour_162 : decode cX6_pour 162 = .ok (.if_icmp .ge 57, 3) := dk_162 0 57 (dk_at dksX6_pour_7 0 rfl rfl)
theorem dX6_pour_165 : decode cX6_pour 165 = .ok (.iload 6, 2) := dk_21 6 (dk_at dksX6_pour_7 3 rfl rfl)
theorem dX6_pour_167 : decode cX6_pour 167 = .ok (.ifCond .eq 13, 3) := dk_153 0 13 (dk_at dksX6_pour_7 5 rfl rfl)
theorem dX6_pour_170 : decode cX6_pour 170 = .ok (.iload 5, 2) := dk_21 5 (dk_at dksX6_pour_7 8 rfl rfl)
theorem dX6_pour_172 : decode cX6_pour 172 = .ok (.iconst 1, 1) := dk_4 (dk_at dksX6_pour_7 10 rfl rfl)
theorem dX6_pour_173 : decode cX6_pour 173 = .ok (.isub, 1) := dk_100 (dk_at dksX6_pour_7 11 rfl rfl)
theorem dX6_pour_174 : decode cX6_pour 174 = .ok (.iload 7, 2) := dk_21 7 (dk_at dksX6_pour_7 12 rfl rfl)
theorem dX6_pour_176 : decode cX6_pour 176 = .ok (.isub, 1) := dk_100 (dk_at dksX6_pour_7 14 rfl rfl)
theorem dX6_pour_177 : decode cX6_pour 177 = .ok (.goto 5, 3) := dk_167 0 5 (dk_at dksX6_pour_7 15 rfl rfl)
theorem dX6_pour_180 : decode cX6_pour 180 = .ok (.iload 7, 2) := dk_21 7 (dk_at dksX6_pour_7 18 rfl rfl)
theorem dX6_pour_182 : decode cX6_pour 182 = .ok (.istore 8, 2) := dk_54 8 (dk_at dksX6_pour_7 20 rfl rfl)
theorem dX6_pour_184 : decode cX6_pour 184 = .ok (.aload_n 0, 1) := dk_42 (dk_at dksX6_pour_7 22 rfl rfl)
theorem dX6_pour_185 : decode cX6_pour 185 = .ok (.getfield 20, 3) := dk_180 0 20 (dk_at dksX6_pour_8 0 rfl rfl)
theorem dX6_pour_188 : decode cX6_pour 188 = .ok (.bipush 64, 2) := dk_16 64 (dk_at dksX6_pour_8 3 rfl rfl)
theorem dX6_pour_190 : decode cX6_pour 190 = .ok (.iload_n 3, 1) := dk_29 (dk_at dksX6_pour_8 5 rfl rfl)
theorem dX6_pour_191 : decode cX6_pour 191 = .ok (.imul, 1) := dk_104 (dk_at dksX6_pour_8 6 rfl rfl)
theorem dX6_pour_192 : decode cX6_pour 192 = .ok (.iload 4, 2) := dk_21 4 (dk_at dksX6_pour_8 7 rfl rfl)
theorem dX6_pour_194 : decode cX6_pour 194 = .ok (.iadd, 1) := dk_96 (dk_at dksX6_pour_8 9 rfl rfl)
theorem dX6_pour_195 : decode cX6_pour 195 = .ok (.iload 8, 2) := dk_21 8 (dk_at dksX6_pour_8 10 rfl rfl)
theorem dX6_pour_197 : decode cX6_pour 197 = .ok (.iadd, 1) := dk_96 (dk_at dksX6_pour_8 12 rfl rfl)
theorem dX6_pour_198 : decode cX6_pour 198 = .ok (.aload_n 0, 1) := dk_42 (dk_at dksX6_pour_8 13 rfl rfl)
theorem dX6_pour_199 : decode cX6_pour 199 = .ok (.getfield 20, 3) := dk_180 0 20 (dk_at dksX6_pour_8 14 rfl rfl)
theorem dX6_pour_202 : decode cX6_pour 202 = .ok (.bipush 64, 2) := dk_16 64 (dk_at dksX6_pour_8 17 rfl rfl)
theorem dX6_pour_204 : decode cX6_pour 204 = .ok (.iload_n 1, 1) := dk_27 (dk_at dksX6_pour_8 19 rfl rfl)
theorem dX6_pour_205 : decode cX6_pour 205 = .ok (.imul, 1) := dk_104 (dk_at dksX6_pour_8 20 rfl rfl)
theorem dX6_pour_206 : decode cX6_pour 206 = .ok (.iload_n 2, 1) := dk_28 (dk_at dksX6_pour_8 21 rfl rfl)
theorem dX6_pour_207 : decode cX6_pour 207 = .ok (.iadd, 1) := dk_96 (dk_at dksX6_pour_8 22 rfl rfl)
theorem dX6_pour_208 : decode cX6_pour 208 = .ok (.iload 8, 2) := dk_21 8 (dk_at dksX6_pour_9 0 rfl rfl)
theorem dX6_pour_210 : decode cX6_pour 210 = .ok (.iadd, 1) := dk_96 (dk_at dksX6_pour_9 2 rfl rfl)
theorem dX6_pour_211 : decode cX6_pour 211 = .ok (.laload, 1) := dk_47 (dk_at dksX6_pour_9 3 rfl rfl)
theorem dX6_pour_212 : decode cX6_pour 212 = .ok (.lastore, 1) := dk_80 (dk_at dksX6_pour_9 4 rfl rfl)
theorem dX6_pour_213 : decode cX6_pour 213 = .ok (.iinc 7 1, 3) := dk_132 7 1 (dk_at dksX6_pour_9 5 rfl rfl)
theorem dX6_pour_216 : decode cX6_pour 216 = .ok (.goto (-58), 3) := dk_167 255 198 (dk_at dksX6_pour_9 8 rfl rfl)
theorem dX6_pour_219 : decode cX6_pour 219 = .ok (.iconst 1, 1) := dk_4 (dk_at dksX6_pour_9 11 rfl rfl)
theorem dX6_pour_220 : decode cX6_pour 220 = .ok (.ireturn, 1) := dk_172 (dk_at dksX6_pour_9 12 rfl rfl)
abbrev cX6_feed : ByteArray := prog_15_method_42_code
def yX6_feed : MethodName := ⟨RX6, "feed", "(IIIII)I"⟩
def dkwX6_feed_2 : List UInt8 := [182, 1, 51, 42, 180, 1, 48, 172]
abbrev dktX6_feed_2 : List UInt8 := dkwX6_feed_2 ++ []
def dkwX6_feed_1 : List UInt8 := [182, 1, 51, 42, 28, 182, 1, 51, 42, 29, 182, 1, 51, 42, 21, 4, 182, 1, 51, 42, 21, 5]
abbrev dktX6_feed_1 : List UInt8 := dkwX6_feed_1 ++ dktX6_feed_2
def dkwX6_feed_0 : List UInt8 := [42, 3, 181, 0, 144, 42, 180, 1, 48, 16, 20, 96, 17, 1, 244, 164, 0, 5, 2, 172, 42, 27]
abbrev dktX6_feed_0 : List UInt8 := dkwX6_feed_0 ++ dktX6_feed_1
theorem dksX6_feed_0 : cX6_feed.data.toList.drop 0 = dktX6_feed_0 := by decide +kernel
theorem dksX6_feed_1 : cX6_feed.data.toList.drop 22 = dktX6_feed_1 := dk_seg dksX6_feed_0 22 rfl rfl
theorem dksX6_feed_2 : cX6_feed.data.toList.drop 44 = dktX6_feed_2 := dk_seg dksX6_feed_1 22 rfl rfl
theorem dX6_feed_0 : decode cX6_feed 0 = .ok (.aload_n 0, 1) := dk_42 (dk_at dksX6_feed_0 0 rfl rfl)
theorem dX6_feed_1 : decode cX6_feed 1 = .ok (.iconst 0, 1) := dk_3 (dk_at dksX6_feed_0 1 rfl rfl)
theorem dX6_feed_2 : decode cX6_feed 2 = .ok (.putfield 144, 3) := dk_181 0 144 (dk_at dksX6_feed_0 2 rfl rfl)
theorem dX6_feed_5 : decode cX6_feed 5 = .ok (.aload_n 0, 1) := dk_42 (dk_at dksX6_feed_0 5 rfl rfl)
theorem dX6_feed_6 : decode cX6_feed 6 = .ok (.getfield 304, 3) := dk_180 1 48 (dk_at dksX6_feed_0 6 rfl rfl)
theorem dX6_feed_9 : decode cX6_feed 9 = .ok (.bipush 20, 2) := dk_16 20 (dk_at dksX6_feed_0 9 rfl rfl)
theorem dX6_feed_11 : decode cX6_feed 11 = .ok (.iadd, 1) := dk_96 (dk_at dksX6_feed_0 11 rfl rfl)
theorem dX6_feed_12 : decode cX6_feed 12 = .ok (.sipush 500, 3) := dk_17 1 244 (dk_at dksX6_feed_0 12 rfl rfl)
theorem dX6_feed_15 : decode cX6_feed 15 = .ok (.if_icmp .le 5, 3) := dk_164 0 5 (dk_at dksX6_feed_0 15 rfl rfl)
theorem dX6_feed_18 : decode cX6_feed 18 = .ok (.iconst (-1), 1) := dk_2 (dk_at dksX6_feed_0 18 rfl rfl)
theorem dX6_feed_19 : decode cX6_feed 19 = .ok (.ireturn, 1) := dk_172 (dk_at dksX6_feed_0 19 rfl rfl)
theorem dX6_feed_20 : decode cX6_feed 20 = .ok (.aload_n 0, 1) := dk_42 (dk_at dksX6_feed_0 20 rfl rfl)
theorem dX6_feed_21 : decode cX6_feed 21 = .ok (.iload_n 1, 1) := dk_27 (dk_at dksX6_feed_0 21 rfl rfl)
theorem dX6_feed_22 : decode cX6_feed 22 = .ok (.invokevirtual 307, 3) := dk_182 1 51 (dk_at dksX6_feed_1 0 rfl rfl)
theorem dX6_feed_25 : decode cX6_feed 25 = .ok (.aload_n 0, 1) := dk_42 (dk_at dksX6_feed_1 3 rfl rfl)
theorem dX6_feed_26 : decode cX6_feed 26 = .ok (.iload_n 2, 1) := dk_28 (dk_at dksX6_feed_1 4 rfl rfl)
theorem dX6_feed_27 : decode cX6_feed 27 = .ok (.invokevirtual 307, 3) := dk_182 1 51 (dk_at dksX6_feed_1 5 rfl rfl)
theorem dX6_feed_30 : decode cX6_feed 30 = .ok (.aload_n 0, 1) := dk_42 (dk_at dksX6_feed_1 8 rfl rfl)
theorem dX6_feed_31 : decode cX6_feed 31 = .ok (.iload_n 3, 1) := dk_29 (dk_at dksX6_feed_1 9 rfl rfl)
theorem dX6_feed_32 : decode cX6_feed 32 = .ok (.invokevirtual 307, 3) := dk_182 1 51 (dk_at dksX6_feed_1 10 rfl rfl)
theorem dX6_feed_35 : decode cX6_feed 35 = .ok (.aload_n 0, 1) := dk_42 (dk_at dksX6_feed_1 13 rfl rfl)
theorem dX6_feed_36 : decode cX6_feed 36 = .ok (.iload 4, 2) := dk_21 4 (dk_at dksX6_feed_1 14 rfl rfl)
theorem dX6_feed_38 : decode cX6_feed 38 = .ok (.invokevirtual 307, 3) := dk_182 1 51 (dk_at dksX6_feed_1 16 rfl rfl)
theorem dX6_feed_41 : decode cX6_feed 41 = .ok (.aload_n 0, 1) := dk_42 (dk_at dksX6_feed_1 19 rfl rfl)
theorem dX6_feed_42 : decode cX6_feed 42 = .ok (.iload 5, 2) := dk_21 5 (dk_at dksX6_feed_1 20 rfl rfl)
theorem dX6_feed_44 : decode cX6_feed 44 = .ok (.invokevirtual 307, 3) := dk_182 1 51 (dk_at dksX6_feed_2 0 rfl rfl)
theorem dX6_feed_47 : decode cX6_feed 47 = .ok (.aload_n 0, 1) := dk_42 (dk_at dksX6_feed_2 3 rfl rfl)
theorem dX6_feed_48 : decode cX6_feed 48 = .ok (.getfield 304, 3) := dk_180 1 48 (dk_at dksX6_feed_2 4 rfl rfl)
theorem dX6_feed_51 : decode cX6_feed 51 = .ok (.ireturn, 1) := dk_172 (dk_at dksX6_feed_2 7 rfl rfl)
abbrev cX6_lay : ByteArray := prog_15_method_43_code
def yX6_lay : MethodName := ⟨RX6, "lay", "(I)V"⟩
def dkwX6_lay_1 : List UInt8 := [180, 1, 48, 4, 96, 181, 1, 48, 132, 2, 255, 167, 255, 223, 177]
abbrev dktX6_lay_1 : List UInt8 := dkwX6_lay_1 ++ []
def dkwX6_lay_0 : List UInt8 := [6, 61, 28, 155, 0, 35, 42, 180, 0, 24, 42, 180, 1, 48, 27, 16, 8, 28, 104, 122, 145, 84, 42, 89]
abbrev dktX6_lay_0 : List UInt8 := dkwX6_lay_0 ++ dktX6_lay_1
theorem dksX6_lay_0 : cX6_lay.data.toList.drop 0 = dktX6_lay_0 := by decide +kernel
theorem dksX6_lay_1 : cX6_lay.data.toList.drop 24 = dktX6_lay_1 := dk_seg dksX6_lay_0 24 rfl rfl
theorem dX6_lay_0 : decode cX6_lay 0 = .ok (.iconst 3, 1) := dk_6 (dk_at dksX6_lay_0 0 rfl rfl)
theorem dX6_lay_1 : decode cX6_lay 1 = .ok (.istore_n 2, 1) := dk_61 (dk_at dksX6_lay_0 1 rfl rfl)
theorem dX6_lay_2 : decode cX6_lay 2 = .ok (.iload_n 2, 1) := dk_28 (dk_at dksX6_lay_0 2 rfl rfl)
theorem dX6_lay_3 : decode cX6_lay 3 = .ok (.ifCond .lt 35, 3) := dk_155 0 35 (dk_at dksX6_lay_0 3 rfl rfl)
theorem dX6_lay_6 : decode cX6_lay 6 = .ok (.aload_n 0, 1) := dk_42 (dk_at dksX6_lay_0 6 rfl rfl)
theorem dX6_lay_7 : decode cX6_lay 7 = .ok (.getfield 24, 3) := dk_180 0 24 (dk_at dksX6_lay_0 7 rfl rfl)
theorem dX6_lay_10 : decode cX6_lay 10 = .ok (.aload_n 0, 1) := dk_42 (dk_at dksX6_lay_0 10 rfl rfl)
theorem dX6_lay_11 : decode cX6_lay 11 = .ok (.getfield 304, 3) := dk_180 1 48 (dk_at dksX6_lay_0 11 rfl rfl)
theorem dX6_lay_14 : decode cX6_lay 14 = .ok (.iload_n 1, 1) := dk_27 (dk_at dksX6_lay_0 14 rfl rfl)
theorem dX6_lay_15 : decode cX6_lay 15 = .ok (.bipush 8, 2) := dk_16 8 (dk_at dksX6_lay_0 15 rfl rfl)
theorem dX6_lay_17 : decode cX6_lay 17 = .ok (.iload_n 2, 1) := dk_28 (dk_at dksX6_lay_0 17 rfl rfl)
theorem dX6_lay_18 : decode cX6_lay 18 = .ok (.imul, 1) := dk_104 (dk_at dksX6_lay_0 18 rfl rfl)
theorem dX6_lay_19 : decode cX6_lay 19 = .ok (.ishr, 1) := dk_122 (dk_at dksX6_lay_0 19 rfl rfl)
theorem dX6_lay_20 : decode cX6_lay 20 = .ok (.i2b, 1) := dk_145 (dk_at dksX6_lay_0 20 rfl rfl)
theorem dX6_lay_21 : decode cX6_lay 21 = .ok (.bastore, 1) := dk_84 (dk_at dksX6_lay_0 21 rfl rfl)
theorem dX6_lay_22 : decode cX6_lay 22 = .ok (.aload_n 0, 1) := dk_42 (dk_at dksX6_lay_0 22 rfl rfl)
theorem dX6_lay_23 : decode cX6_lay 23 = .ok (.dup, 1) := dk_89 (dk_at dksX6_lay_0 23 rfl rfl)
theorem dX6_lay_24 : decode cX6_lay 24 = .ok (.getfield 304, 3) := dk_180 1 48 (dk_at dksX6_lay_1 0 rfl rfl)
theorem dX6_lay_27 : decode cX6_lay 27 = .ok (.iconst 1, 1) := dk_4 (dk_at dksX6_lay_1 3 rfl rfl)
theorem dX6_lay_28 : decode cX6_lay 28 = .ok (.iadd, 1) := dk_96 (dk_at dksX6_lay_1 4 rfl rfl)
theorem dX6_lay_29 : decode cX6_lay 29 = .ok (.putfield 304, 3) := dk_181 1 48 (dk_at dksX6_lay_1 5 rfl rfl)
theorem dX6_lay_32 : decode cX6_lay 32 = .ok (.iinc 2 (-1), 3) := dk_132 2 255 (dk_at dksX6_lay_1 8 rfl rfl)
theorem dX6_lay_35 : decode cX6_lay 35 = .ok (.goto (-33), 3) := dk_167 255 223 (dk_at dksX6_lay_1 11 rfl rfl)
theorem dX6_lay_38 : decode cX6_lay 38 = .ok (.return_, 1) := dk_177 (dk_at dksX6_lay_1 14 rfl rfl)
abbrev cX6_town : ByteArray := prog_15_method_44_code
def yX6_town : MethodName := ⟨RX6, "town", "(I)I"⟩
def dkwX6_town_7 : List UInt8 := [181, 0, 32, 42, 180, 0, 246, 158, 0, 12, 42, 16, 10, 182, 1, 55, 167, 0, 7, 42, 182, 1, 67, 172]
abbrev dktX6_town_7 : List UInt8 := dkwX6_town_7 ++ []
def dkwX6_town_6 : List UInt8 := [180, 0, 246, 181, 0, 28, 42, 42, 180, 0, 246, 154, 0, 7, 2, 167, 0, 7, 42, 180, 0, 249]
abbrev dktX6_town_6 : List UInt8 := dkwX6_town_6 ++ dktX6_town_7
def dkwX6_town_5 : List UInt8 := [182, 0, 231, 153, 0, 10, 42, 182, 1, 61, 167, 255, 217, 42, 182, 1, 64, 167, 255, 210, 42, 42]
abbrev dktX6_town_5 : List UInt8 := dkwX6_town_5 ++ dktX6_town_6
def dkwX6_town_4 : List UInt8 := [42, 180, 0, 193, 153, 0, 38, 42, 182, 0, 227, 153, 0, 10, 42, 182, 1, 58, 167, 255, 231, 42]
abbrev dktX6_town_4 : List UInt8 := dkwX6_town_4 ++ dktX6_town_5
def dkwX6_town_3 : List UInt8 := [181, 1, 36, 42, 4, 181, 1, 42, 42, 3, 181, 1, 45, 42, 182, 1, 0, 42, 180, 0, 246, 154, 0, 45]
abbrev dktX6_town_3 : List UInt8 := dkwX6_town_3 ++ dktX6_town_4
def dkwX6_town_2 : List UInt8 := [42, 3, 181, 1, 10, 42, 3, 181, 1, 26, 42, 3, 181, 1, 39, 42, 3, 181, 1, 32, 42, 3]
abbrev dktX6_town_2 : List UInt8 := dkwX6_town_2 ++ dktX6_town_3
def dkwX6_town_1 : List UInt8 := [182, 1, 55, 172, 42, 27, 181, 0, 181, 42, 3, 181, 1, 48, 42, 3, 181, 0, 184, 42, 3, 181, 0, 246]
abbrev dktX6_town_1 : List UInt8 := dkwX6_town_1 ++ dktX6_town_2
def dkwX6_town_0 : List UInt8 := [42, 3, 181, 0, 144, 42, 3, 181, 0, 147, 27, 155, 0, 11, 27, 42, 180, 1, 48, 164, 0, 9, 42, 8]
abbrev dktX6_town_0 : List UInt8 := dkwX6_town_0 ++ dktX6_town_1
theorem dksX6_town_0 : cX6_town.data.toList.drop 0 = dktX6_town_0 := by decide +kernel
theorem dksX6_town_1 : cX6_town.data.toList.drop 24 = dktX6_town_1 := dk_seg dksX6_town_0 24 rfl rfl
theorem dksX6_town_2 : cX6_town.data.toList.drop 48 = dktX6_town_2 := dk_seg dksX6_town_1 24 rfl rfl
theorem dksX6_town_3 : cX6_town.data.toList.drop 70 = dktX6_town_3 := dk_seg dksX6_town_2 22 rfl rfl
theorem dksX6_town_4 : cX6_town.data.toList.drop 94 = dktX6_town_4 := dk_seg dksX6_town_3 24 rfl rfl
theorem dksX6_town_5 : cX6_town.data.toList.drop 116 = dktX6_town_5 := dk_seg dksX6_town_4 22 rfl rfl
theorem dksX6_town_6 : cX6_town.data.toList.drop 138 = dktX6_town_6 := dk_seg dksX6_town_5 22 rfl rfl
theorem dksX6_town_7 : cX6_town.data.toList.drop 160 = dktX6_town_7 := dk_seg dksX6_town_6 22 rfl rfl
theorem dX6_town_0 : decode cX6_town 0 = .ok (.aload_n 0, 1) := dk_42 (dk_at dksX6_town_0 0 rfl rfl)
theorem dX6_town_1 : decode cX6_town 1 = .ok (.iconst 0, 1) := dk_3 (dk_at dksX6_town_0 1 rfl rfl)
theorem dX6_town_2 : decode cX6_town 2 = .ok (.putfield 144, 3) := dk_181 0 144 (dk_at dksX6_town_0 2 rfl rfl)
theorem dX6_town_5 : decode cX6_town 5 = .ok (.aload_n 0, 1) := dk_42 (dk_at dksX6_town_0 5 rfl rfl)
theorem dX6_town_6 : decode cX6_town 6 = .ok (.iconst 0, 1) := dk_3 (dk_at dksX6_town_0 6 rfl rfl)
theorem dX6_town_7 : decode cX6_town 7 = .ok (.putfield 147, 3) := dk_181 0 147 (dk_at dksX6_town_0 7 rfl rfl)
theorem dX6_town_10 : decode cX6_town 10 = .ok (.iload_n 1, 1) := dk_27 (dk_at dksX6_town_0 10 rfl rfl)
theorem dX6_town_11 : decode cX6_town 11 = .ok (.ifCond .lt 11, 3) := dk_155 0 11 (dk_at dksX6_town_0 11 rfl rfl)
theorem dX6_town_14 : decode cX6_town 14 = .ok (.iload_n 1, 1) := dk_27 (dk_at dksX6_town_0 14 rfl rfl)
theorem dX6_town_15 : decode cX6_town 15 = .ok (.aload_n 0, 1) := dk_42 (dk_at dksX6_town_0 15 rfl rfl)
theorem dX6_town_16 : decode cX6_town 16 = .ok (.getfield 304, 3) := dk_180 1 48 (dk_at dksX6_town_0 16 rfl rfl)
theorem dX6_town_19 : decode cX6_town 19 = .ok (.if_icmp .le 9, 3) := dk_164 0 9 (dk_at dksX6_town_0 19 rfl rfl)
theorem dX6_town_22 : decode cX6_town 22 = .ok (.aload_n 0, 1) := dk_42 (dk_at dksX6_town_0 22 rfl rfl)
theorem dX6_town_23 : decode cX6_town 23 = .ok (.iconst 5, 1) := dk_8 (dk_at dksX6_town_0 23 rfl rfl)
theorem dX6_town_24 : decode cX6_town 24 = .ok (.invokevirtual 311, 3) := dk_182 1 55 (dk_at dksX6_town_1 0 rfl rfl)
theorem dX6_town_27 : decode cX6_town 27 = .ok (.ireturn, 1) := dk_172 (dk_at dksX6_town_1 3 rfl rfl)
theorem dX6_town_28 : decode cX6_town 28 = .ok (.aload_n 0, 1) := dk_42 (dk_at dksX6_town_1 4 rfl rfl)
theorem dX6_town_29 : decode cX6_town 29 = .ok (.iload_n 1, 1) := dk_27 (dk_at dksX6_town_1 5 rfl rfl)
theorem dX6_town_30 : decode cX6_town 30 = .ok (.putfield 181, 3) := dk_181 0 181 (dk_at dksX6_town_1 6 rfl rfl)
theorem dX6_town_33 : decode cX6_town 33 = .ok (.aload_n 0, 1) := dk_42 (dk_at dksX6_town_1 9 rfl rfl)
theorem dX6_town_34 : decode cX6_town 34 = .ok (.iconst 0, 1) := dk_3 (dk_at dksX6_town_1 10 rfl rfl)
theorem dX6_town_35 : decode cX6_town 35 = .ok (.putfield 304, 3) := dk_181 1 48 (dk_at dksX6_town_1 11 rfl rfl)
theorem dX6_town_38 : decode cX6_town 38 = .ok (.aload_n 0, 1) := dk_42 (dk_at dksX6_town_1 14 rfl rfl)
theorem dX6_town_39 : decode cX6_town 39 = .ok (.iconst 0, 1) := dk_3 (dk_at dksX6_town_1 15 rfl rfl)
theorem dX6_town_40 : decode cX6_town 40 = .ok (.putfield 184, 3) := dk_181 0 184 (dk_at dksX6_town_1 16 rfl rfl)
theorem dX6_town_43 : decode cX6_town 43 = .ok (.aload_n 0, 1) := dk_42 (dk_at dksX6_town_1 19 rfl rfl)
theorem dX6_town_44 : decode cX6_town 44 = .ok (.iconst 0, 1) := dk_3 (dk_at dksX6_town_1 20 rfl rfl)
theorem dX6_town_45 : decode cX6_town 45 = .ok (.putfield 246, 3) := dk_181 0 246 (dk_at dksX6_town_1 21 rfl rfl)
theorem dX6_town_48 : decode cX6_town 48 = .ok (.aload_n 0, 1) := dk_42 (dk_at dksX6_town_2 0 rfl rfl)
theorem dX6_town_49 : decode cX6_town 49 = .ok (.iconst 0, 1) := dk_3 (dk_at dksX6_town_2 1 rfl rfl)
theorem dX6_town_50 : decode cX6_town 50 = .ok (.putfield 266, 3) := dk_181 1 10 (dk_at dksX6_town_2 2 rfl rfl)
theorem dX6_town_53 : decode cX6_town 53 = .ok (.aload_n 0, 1) := dk_42 (dk_at dksX6_town_2 5 rfl rfl)
theorem dX6_town_54 : decode cX6_town 54 = .ok (.iconst 0, 1) := dk_3 (dk_at dksX6_town_2 6 rfl rfl)
theorem dX6_town_55 : decode cX6_town 55 = .ok (.putfield 282, 3) := dk_181 1 26 (dk_at dksX6_town_2 7 rfl rfl)
theorem dX6_town_58 : decode cX6_town 58 = .ok (.aload_n 0, 1) := dk_42 (dk_at dksX6_town_2 10 rfl rfl)
theorem dX6_town_59 : decode cX6_town 59 = .ok (.iconst 0, 1) := dk_3 (dk_at dksX6_town_2 11 rfl rfl)
theorem dX6_town_60 : decode cX6_town 60 = .ok (.putfield 295, 3) := dk_181 1 39 (dk_at dksX6_town_2 12 rfl rfl)
theorem dX6_town_63 : decode cX6_town 63 = .ok (.aload_n 0, 1) := dk_42 (dk_at dksX6_town_2 15 rfl rfl)
theorem dX6_town_64 : decode cX6_town 64 = .ok (.iconst 0, 1) := dk_3 (dk_at dksX6_town_2 16 rfl rfl)
theorem dX6_town_65 : decode cX6_town 65 = .ok (.putfield 288, 3) := dk_181 1 32 (dk_at dksX6_town_2 17 rfl rfl)
theorem dX6_town_68 : decode cX6_town 68 = .ok (.aload_n 0, 1) := dk_42 (dk_at dksX6_town_2 20 rfl rfl)
theorem dX6_town_69 : decode cX6_town 69 = .ok (.iconst 0, 1) := dk_3 (dk_at dksX6_town_2 21 rfl rfl)
theorem dX6_town_70 : decode cX6_town 70 = .ok (.putfield 292, 3) := dk_181 1 36 (dk_at dksX6_town_3 0 rfl rfl)
theorem dX6_town_73 : decode cX6_town 73 = .ok (.aload_n 0, 1) := dk_42 (dk_at dksX6_town_3 3 rfl rfl)
theorem dX6_town_74 : decode cX6_town 74 = .ok (.iconst 1, 1) := dk_4 (dk_at dksX6_town_3 4 rfl rfl)
theorem dX6_town_75 : decode cX6_town 75 = .ok (.putfield 298, 3) := dk_181 1 42 (dk_at dksX6_town_3 5 rfl rfl)
theorem dX6_town_78 : decode cX6_town 78 = .ok (.aload_n 0, 1) := dk_42 (dk_at dksX6_town_3 8 rfl rfl)
theorem dX6_town_79 : decode cX6_town 79 = .ok (.iconst 0, 1) := dk_3 (dk_at dksX6_town_3 9 rfl rfl)
theorem dX6_town_80 : decode cX6_town 80 = .ok (.putfield 301, 3) := dk_181 1 45 (dk_at dksX6_town_3 10 rfl rfl)
theorem dX6_town_83 : decode cX6_town 83 = .ok (.aload_n 0, 1) := dk_42 (dk_at dksX6_town_3 13 rfl rfl)
theorem dX6_town_84 : decode cX6_town 84 = .ok (.invokevirtual 256, 3) := dk_182 1 0 (dk_at dksX6_town_3 14 rfl rfl)
theorem dX6_town_87 : decode cX6_town 87 = .ok (.aload_n 0, 1) := dk_42 (dk_at dksX6_town_3 17 rfl rfl)
theorem dX6_town_88 : decode cX6_town 88 = .ok (.getfield 246, 3) := dk_180 0 246 (dk_at dksX6_town_3 18 rfl rfl)
theorem dX6_town_91 : decode cX6_town 91 = .ok (.ifCond .ne 45, 3) := dk_154 0 45 (dk_at dksX6_town_3 21 rfl rfl)
theorem dX6_town_94 : decode cX6_town 94 = .ok (.aload_n 0, 1) := dk_42 (dk_at dksX6_town_4 0 rfl rfl)
theorem dX6_town_95 : decode cX6_town 95 = .ok (.getfield 193, 3) := dk_180 0 193 (dk_at dksX6_town_4 1 rfl rfl)
theorem dX6_town_98 : decode cX6_town 98 = .ok (.ifCond .eq 38, 3) := dk_153 0 38 (dk_at dksX6_town_4 4 rfl rfl)
theorem dX6_town_101 : decode cX6_town 101 = .ok (.aload_n 0, 1) := dk_42 (dk_at dksX6_town_4 7 rfl rfl)
theorem dX6_town_102 : decode cX6_town 102 = .ok (.invokevirtual 227, 3) := dk_182 0 227 (dk_at dksX6_town_4 8 rfl rfl)
theorem dX6_town_105 : decode cX6_town 105 = .ok (.ifCond .eq 10, 3) := dk_153 0 10 (dk_at dksX6_town_4 11 rfl rfl)
theorem dX6_town_108 : decode cX6_town 108 = .ok (.aload_n 0, 1) := dk_42 (dk_at dksX6_town_4 14 rfl rfl)
theorem dX6_town_109 : decode cX6_town 109 = .ok (.invokevirtual 314, 3) := dk_182 1 58 (dk_at dksX6_town_4 15 rfl rfl)
theorem dX6_town_112 : decode cX6_town 112 = .ok (.goto (-25), 3) := dk_167 255 231 (dk_at dksX6_town_4 18 rfl rfl)
theorem dX6_town_115 : decode cX6_town 115 = .ok (.aload_n 0, 1) := dk_42 (dk_at dksX6_town_4 21 rfl rfl)
theorem dX6_town_116 : decode cX6_town 116 = .ok (.invokevirtual 231, 3) := dk_182 0 231 (dk_at dksX6_town_5 0 rfl rfl)
theorem dX6_town_119 : decode cX6_town 119 = .ok (.ifCond .eq 10, 3) := dk_153 0 10 (dk_at dksX6_town_5 3 rfl rfl)
theorem dX6_town_122 : decode cX6_town 122 = .ok (.aload_n 0, 1) := dk_42 (dk_at dksX6_town_5 6 rfl rfl)
theorem dX6_town_123 : decode cX6_town 123 = .ok (.invokevirtual 317, 3) := dk_182 1 61 (dk_at dksX6_town_5 7 rfl rfl)
theorem dX6_town_126 : decode cX6_town 126 = .ok (.goto (-39), 3) := dk_167 255 217 (dk_at dksX6_town_5 10 rfl rfl)
theorem dX6_town_129 : decode cX6_town 129 = .ok (.aload_n 0, 1) := dk_42 (dk_at dksX6_town_5 13 rfl rfl)
theorem dX6_town_130 : decode cX6_town 130 = .ok (.invokevirtual 320, 3) := dk_182 1 64 (dk_at dksX6_town_5 14 rfl rfl)
theorem dX6_town_133 : decode cX6_town 133 = .ok (.goto (-46), 3) := dk_167 255 210 (dk_at dksX6_town_5 17 rfl rfl)
theorem dX6_town_136 : decode cX6_town 136 = .ok (.aload_n 0, 1) := dk_42 (dk_at dksX6_town_5 20 rfl rfl)
theorem dX6_town_137 : decode cX6_town 137 = .ok (.aload_n 0, 1) := dk_42 (dk_at dksX6_town_5 21 rfl rfl)
theorem dX6_town_138 : decode cX6_town 138 = .ok (.getfield 246, 3) := dk_180 0 246 (dk_at dksX6_town_6 0 rfl rfl)
theorem dX6_town_141 : decode cX6_town 141 = .ok (.putfield 28, 3) := dk_181 0 28 (dk_at dksX6_town_6 3 rfl rfl)
theorem dX6_town_144 : decode cX6_town 144 = .ok (.aload_n 0, 1) := dk_42 (dk_at dksX6_town_6 6 rfl rfl)
theorem dX6_town_145 : decode cX6_town 145 = .ok (.aload_n 0, 1) := dk_42 (dk_at dksX6_town_6 7 rfl rfl)
theorem dX6_town_146 : decode cX6_town 146 = .ok (.getfield 246, 3) := dk_180 0 246 (dk_at dksX6_town_6 8 rfl rfl)
theorem dX6_town_149 : decode cX6_town 149 = .ok (.ifCond .ne 7, 3) := dk_154 0 7 (dk_at dksX6_town_6 11 rfl rfl)
theorem dX6_town_152 : decode cX6_town 152 = .ok (.iconst (-1), 1) := dk_2 (dk_at dksX6_town_6 14 rfl rfl)
theorem dX6_town_153 : decode cX6_town 153 = .ok (.goto 7, 3) := dk_167 0 7 (dk_at dksX6_town_6 15 rfl rfl)
theorem dX6_town_156 : decode cX6_town 156 = .ok (.aload_n 0, 1) := dk_42 (dk_at dksX6_town_6 18 rfl rfl)
theorem dX6_town_157 : decode cX6_town 157 = .ok (.getfield 249, 3) := dk_180 0 249 (dk_at dksX6_town_6 19 rfl rfl)
theorem dX6_town_160 : decode cX6_town 160 = .ok (.putfield 32, 3) := dk_181 0 32 (dk_at dksX6_town_7 0 rfl rfl)
theorem dX6_town_163 : decode cX6_town 163 = .ok (.aload_n 0, 1) := dk_42 (dk_at dksX6_town_7 3 rfl rfl)
theorem dX6_town_164 : decode cX6_town 164 = .ok (.getfield 246, 3) := dk_180 0 246 (dk_at dksX6_town_7 4 rfl rfl)
theorem dX6_town_167 : decode cX6_town 167 = .ok (.ifCond .le 12, 3) := dk_158 0 12 (dk_at dksX6_town_7 7 rfl rfl)
theorem dX6_town_170 : decode cX6_town 170 = .ok (.aload_n 0, 1) := dk_42 (dk_at dksX6_town_7 10 rfl rfl)
theorem dX6_town_171 : decode cX6_town 171 = .ok (.bipush 10, 2) := dk_16 10 (dk_at dksX6_town_7 11 rfl rfl)
theorem dX6_town_173 : decode cX6_town 173 = .ok (.invokevirtual 311, 3) := dk_182 1 55 (dk_at dksX6_town_7 13 rfl rfl)
theorem dX6_town_176 : decode cX6_town 176 = .ok (.goto 7, 3) := dk_167 0 7 (dk_at dksX6_town_7 16 rfl rfl)
theorem dX6_town_179 : decode cX6_town 179 = .ok (.aload_n 0, 1) := dk_42 (dk_at dksX6_town_7 19 rfl rfl)
theorem dX6_town_180 : decode cX6_town 180 = .ok (.invokevirtual 323, 3) := dk_182 1 67 (dk_at dksX6_town_7 20 rfl rfl)
theorem dX6_town_183 : decode cX6_town 183 = .ok (.ireturn, 1) := dk_172 (dk_at dksX6_town_7 23 rfl rfl)
abbrev cX6_refuse : ByteArray := prog_15_method_6_code
def yX6_refuse : MethodName := ⟨RX6, "refuse", "(I)I"⟩
def dkwX6_refuse_0 : List UInt8 := [42, 27, 181, 0, 147, 2, 172]
abbrev dktX6_refuse_0 : List UInt8 := dkwX6_refuse_0 ++ []
theorem dksX6_refuse_0 : cX6_refuse.data.toList.drop 0 = dktX6_refuse_0 := by decide +kernel
theorem dX6_refuse_0 : decode cX6_refuse 0 = .ok (.aload_n 0, 1) := dk_42 (dk_at dksX6_refuse_0 0 rfl rfl)
theorem dX6_refuse_1 : decode cX6_refuse 1 = .ok (.iload_n 1, 1) := dk_27 (dk_at dksX6_refuse_0 1 rfl rfl)
theorem dX6_refuse_2 : decode cX6_refuse 2 = .ok (.putfield 147, 3) := dk_181 0 147 (dk_at dksX6_refuse_0 2 rfl rfl)
theorem dX6_refuse_5 : decode cX6_refuse 5 = .ok (.iconst (-1), 1) := dk_2 (dk_at dksX6_refuse_0 5 rfl rfl)
theorem dX6_refuse_6 : decode cX6_refuse 6 = .ok (.ireturn, 1) := dk_172 (dk_at dksX6_refuse_0 6 rfl rfl)
abbrev cX6_next : ByteArray := prog_15_method_22_code
def yX6_next : MethodName := ⟨RX6, "next", "()V"⟩
def dkwX6_next_14 : List UInt8 := [181, 0, 193, 177]
abbrev dktX6_next_14 : List UInt8 := dkwX6_next_14 ++ []
def dkwX6_next_13 : List UInt8 := [4, 96, 181, 0, 184, 42, 27, 181, 0, 212, 42, 27, 16, 59, 160, 0, 7, 6, 167, 0, 4, 7]
abbrev dktX6_next_13 : List UInt8 := dkwX6_next_13 ++ dktX6_next_14
def dkwX6_next_12 : List UInt8 := [180, 0, 187, 100, 5, 164, 0, 7, 7, 167, 0, 4, 5, 181, 0, 193, 167, 0, 33, 42, 42, 180, 0, 187]
abbrev dktX6_next_12 : List UInt8 := dkwX6_next_12 ++ dktX6_next_13
def dkwX6_next_11 : List UInt8 := [181, 0, 212, 42, 89, 180, 0, 184, 4, 96, 181, 0, 184, 167, 255, 196, 42, 42, 180, 0, 184, 42]
abbrev dktX6_next_11 : List UInt8 := dkwX6_next_11 ++ dktX6_next_12
def dkwX6_next_10 : List UInt8 := [162, 0, 26, 42, 16, 10, 42, 180, 0, 212, 104, 42, 42, 180, 0, 184, 182, 0, 190, 96, 16, 48, 100]
abbrev dktX6_next_10 : List UInt8 := dkwX6_next_10 ++ dktX6_next_11
def dkwX6_next_9 : List UInt8 := [42, 180, 0, 184, 182, 0, 190, 184, 0, 209, 153, 0, 52, 42, 180, 0, 184, 42, 180, 0, 187, 100, 5]
abbrev dktX6_next_9 : List UInt8 := dkwX6_next_9 ++ dktX6_next_10
def dkwX6_next_8 : List UInt8 := [42, 180, 0, 187, 100, 181, 0, 206, 167, 0, 133, 27, 184, 0, 209, 153, 0, 96, 42, 3, 181, 0, 212, 42]
abbrev dktX6_next_8 : List UInt8 := dkwX6_next_8 ++ dktX6_next_9
def dkwX6_next_7 : List UInt8 := [20, 0, 179, 181, 0, 199, 42, 89, 180, 0, 184, 4, 96, 181, 0, 184, 167, 255, 186, 42, 42, 180, 0, 184]
abbrev dktX6_next_7 : List UInt8 := dkwX6_next_7 ++ dktX6_next_8
def dkwX6_next_6 : List UInt8 := [180, 0, 199, 20, 0, 202, 105, 42, 42, 180, 0, 184, 182, 0, 190, 133, 97, 20, 0, 204, 101, 167, 0, 6]
abbrev dktX6_next_6 : List UInt8 := dkwX6_next_6 ++ dktX6_next_7
def dkwX6_next_5 : List UInt8 := [184, 0, 196, 153, 0, 62, 42, 42, 180, 0, 184, 42, 180, 0, 187, 100, 16, 8, 162, 0, 28, 42]
abbrev dktX6_next_5 : List UInt8 := dkwX6_next_5 ++ dktX6_next_6
def dkwX6_next_4 : List UInt8 := [184, 0, 196, 153, 0, 102, 42, 4, 181, 0, 193, 42, 9, 181, 0, 199, 42, 42, 180, 0, 184, 182, 0, 190]
abbrev dktX6_next_4 : List UInt8 := dkwX6_next_4 ++ dktX6_next_5
def dkwX6_next_3 : List UInt8 := [180, 0, 181, 161, 0, 9, 42, 3, 181, 0, 193, 177, 42, 42, 180, 0, 187, 182, 0, 190, 60, 27]
abbrev dktX6_next_3 : List UInt8 := dkwX6_next_3 ++ dktX6_next_4
def dkwX6_next_2 : List UInt8 := [180, 0, 187, 4, 96, 181, 0, 187, 167, 255, 209, 42, 42, 180, 0, 187, 181, 0, 184, 42, 180, 0, 187, 42]
abbrev dktX6_next_2 : List UInt8 := dkwX6_next_2 ++ dktX6_next_3
def dkwX6_next_1 : List UInt8 := [182, 0, 190, 16, 10, 159, 0, 16, 42, 42, 180, 0, 187, 182, 0, 190, 16, 32, 160, 0, 16, 42, 89]
abbrev dktX6_next_1 : List UInt8 := dkwX6_next_1 ++ dktX6_next_2
def dkwX6_next_0 : List UInt8 := [42, 42, 180, 0, 184, 181, 0, 187, 42, 180, 0, 187, 42, 180, 0, 181, 162, 0, 42, 42, 42, 180, 0, 187]
abbrev dktX6_next_0 : List UInt8 := dkwX6_next_0 ++ dktX6_next_1
theorem dksX6_next_0 : cX6_next.data.toList.drop 0 = dktX6_next_0 := by decide +kernel
theorem dksX6_next_1 : cX6_next.data.toList.drop 24 = dktX6_next_1 := dk_seg dksX6_next_0 24 rfl rfl
theorem dksX6_next_2 : cX6_next.data.toList.drop 47 = dktX6_next_2 := dk_seg dksX6_next_1 23 rfl rfl
theorem dksX6_next_3 : cX6_next.data.toList.drop 71 = dktX6_next_3 := dk_seg dksX6_next_2 24 rfl rfl
theorem dksX6_next_4 : cX6_next.data.toList.drop 93 = dktX6_next_4 := dk_seg dksX6_next_3 22 rfl rfl
theorem dksX6_next_5 : cX6_next.data.toList.drop 117 = dktX6_next_5 := dk_seg dksX6_next_4 24 rfl rfl
theorem dksX6_next_6 : cX6_next.data.toList.drop 139 = dktX6_next_6 := dk_seg dksX6_next_5 22 rfl rfl
theorem dksX6_next_7 : cX6_next.data.toList.drop 163 = dktX6_next_7 := dk_seg dksX6_next_6 24 rfl rfl
theorem dksX6_next_8 : cX6_next.data.toList.drop 187 = dktX6_next_8 := dk_seg dksX6_next_7 24 rfl rfl
theorem dksX6_next_9 : cX6_next.data.toList.drop 211 = dktX6_next_9 := dk_seg dksX6_next_8 24 rfl rfl
theorem dksX6_next_10 : cX6_next.data.toList.drop 234 = dktX6_next_10 := dk_seg dksX6_next_9 23 rfl rfl
theorem dksX6_next_11 : cX6_next.data.toList.drop 257 = dktX6_next_11 := dk_seg dksX6_next_10 23 rfl rfl
theorem dksX6_next_12 : cX6_next.data.toList.drop 279 = dktX6_next_12 := dk_seg dksX6_next_11 22 rfl rfl
theorem dksX6_next_13 : cX6_next.data.toList.drop 303 = dktX6_next_13 := dk_seg dksX6_next_12 24 rfl rfl
theorem dksX6_next_14 : cX6_next.data.toList.drop 325 = dktX6_next_14 := dk_seg dksX6_next_13 22 rfl rfl
theorem dX6_next_0 : decode cX6_next 0 = .ok (.aload_n 0, 1) := dk_42 (dk_at dksX6_next_0 0 rfl rfl)
theorem dX6_next_1 : decode cX6_next 1 = .ok (.aload_n 0, 1) := dk_42 (dk_at dksX6_next_0 1 rfl rfl)
theorem dX6_next_2 : decode cX6_next 2 = .ok (.getfield 184, 3) := dk_180 0 184 (dk_at dksX6_next_0 2 rfl rfl)
theorem dX6_next_5 : decode cX6_next 5 = .ok (.putfield 187, 3) := dk_181 0 187 (dk_at dksX6_next_0 5 rfl rfl)
theorem dX6_next_8 : decode cX6_next 8 = .ok (.aload_n 0, 1) := dk_42 (dk_at dksX6_next_0 8 rfl rfl)
theorem dX6_next_9 : decode cX6_next 9 = .ok (.getfield 187, 3) := dk_180 0 187 (dk_at dksX6_next_0 9 rfl rfl)
theorem dX6_next_12 : decode cX6_next 12 = .ok (.aload_n 0, 1) := dk_42 (dk_at dksX6_next_0 12 rfl rfl)
theorem dX6_next_13 : decode cX6_next 13 = .ok (.getfield 181, 3) := dk_180 0 181 (dk_at dksX6_next_0 13 rfl rfl)
theorem dX6_next_16 : decode cX6_next 16 = .ok (.if_icmp .ge 42, 3) := dk_162 0 42 (dk_at dksX6_next_0 16 rfl rfl)
theorem dX6_next_19 : decode cX6_next 19 = .ok (.aload_n 0, 1) := dk_42 (dk_at dksX6_next_0 19 rfl rfl)
theorem dX6_next_20 : decode cX6_next 20 = .ok (.aload_n 0, 1) := dk_42 (dk_at dksX6_next_0 20 rfl rfl)
theorem dX6_next_21 : decode cX6_next 21 = .ok (.getfield 187, 3) := dk_180 0 187 (dk_at dksX6_next_0 21 rfl rfl)
theorem dX6_next_24 : decode cX6_next 24 = .ok (.invokevirtual 190, 3) := dk_182 0 190 (dk_at dksX6_next_1 0 rfl rfl)
theorem dX6_next_27 : decode cX6_next 27 = .ok (.bipush 10, 2) := dk_16 10 (dk_at dksX6_next_1 3 rfl rfl)
theorem dX6_next_29 : decode cX6_next 29 = .ok (.if_icmp .eq 16, 3) := dk_159 0 16 (dk_at dksX6_next_1 5 rfl rfl)
theorem dX6_next_32 : decode cX6_next 32 = .ok (.aload_n 0, 1) := dk_42 (dk_at dksX6_next_1 8 rfl rfl)
theorem dX6_next_33 : decode cX6_next 33 = .ok (.aload_n 0, 1) := dk_42 (dk_at dksX6_next_1 9 rfl rfl)
theorem dX6_next_34 : decode cX6_next 34 = .ok (.getfield 187, 3) := dk_180 0 187 (dk_at dksX6_next_1 10 rfl rfl)
theorem dX6_next_37 : decode cX6_next 37 = .ok (.invokevirtual 190, 3) := dk_182 0 190 (dk_at dksX6_next_1 13 rfl rfl)
theorem dX6_next_40 : decode cX6_next 40 = .ok (.bipush 32, 2) := dk_16 32 (dk_at dksX6_next_1 16 rfl rfl)
theorem dX6_next_42 : decode cX6_next 42 = .ok (.if_icmp .ne 16, 3) := dk_160 0 16 (dk_at dksX6_next_1 18 rfl rfl)
theorem dX6_next_45 : decode cX6_next 45 = .ok (.aload_n 0, 1) := dk_42 (dk_at dksX6_next_1 21 rfl rfl)
theorem dX6_next_46 : decode cX6_next 46 = .ok (.dup, 1) := dk_89 (dk_at dksX6_next_1 22 rfl rfl)
theorem dX6_next_47 : decode cX6_next 47 = .ok (.getfield 187, 3) := dk_180 0 187 (dk_at dksX6_next_2 0 rfl rfl)
theorem dX6_next_50 : decode cX6_next 50 = .ok (.iconst 1, 1) := dk_4 (dk_at dksX6_next_2 3 rfl rfl)
theorem dX6_next_51 : decode cX6_next 51 = .ok (.iadd, 1) := dk_96 (dk_at dksX6_next_2 4 rfl rfl)
theorem dX6_next_52 : decode cX6_next 52 = .ok (.putfield 187, 3) := dk_181 0 187 (dk_at dksX6_next_2 5 rfl rfl)
theorem dX6_next_55 : decode cX6_next 55 = .ok (.goto (-47), 3) := dk_167 255 209 (dk_at dksX6_next_2 8 rfl rfl)
theorem dX6_next_58 : decode cX6_next 58 = .ok (.aload_n 0, 1) := dk_42 (dk_at dksX6_next_2 11 rfl rfl)
theorem dX6_next_59 : decode cX6_next 59 = .ok (.aload_n 0, 1) := dk_42 (dk_at dksX6_next_2 12 rfl rfl)
theorem dX6_next_60 : decode cX6_next 60 = .ok (.getfield 187, 3) := dk_180 0 187 (dk_at dksX6_next_2 13 rfl rfl)
theorem dX6_next_63 : decode cX6_next 63 = .ok (.putfield 184, 3) := dk_181 0 184 (dk_at dksX6_next_2 16 rfl rfl)
theorem dX6_next_66 : decode cX6_next 66 = .ok (.aload_n 0, 1) := dk_42 (dk_at dksX6_next_2 19 rfl rfl)
theorem dX6_next_67 : decode cX6_next 67 = .ok (.getfield 187, 3) := dk_180 0 187 (dk_at dksX6_next_2 20 rfl rfl)
theorem dX6_next_70 : decode cX6_next 70 = .ok (.aload_n 0, 1) := dk_42 (dk_at dksX6_next_2 23 rfl rfl)
theorem dX6_next_71 : decode cX6_next 71 = .ok (.getfield 181, 3) := dk_180 0 181 (dk_at dksX6_next_3 0 rfl rfl)
theorem dX6_next_74 : decode cX6_next 74 = .ok (.if_icmp .lt 9, 3) := dk_161 0 9 (dk_at dksX6_next_3 3 rfl rfl)
theorem dX6_next_77 : decode cX6_next 77 = .ok (.aload_n 0, 1) := dk_42 (dk_at dksX6_next_3 6 rfl rfl)
theorem dX6_next_78 : decode cX6_next 78 = .ok (.iconst 0, 1) := dk_3 (dk_at dksX6_next_3 7 rfl rfl)
theorem dX6_next_79 : decode cX6_next 79 = .ok (.putfield 193, 3) := dk_181 0 193 (dk_at dksX6_next_3 8 rfl rfl)
theorem dX6_next_82 : decode cX6_next 82 = .ok (.return_, 1) := dk_177 (dk_at dksX6_next_3 11 rfl rfl)
theorem dX6_next_83 : decode cX6_next 83 = .ok (.aload_n 0, 1) := dk_42 (dk_at dksX6_next_3 12 rfl rfl)
theorem dX6_next_84 : decode cX6_next 84 = .ok (.aload_n 0, 1) := dk_42 (dk_at dksX6_next_3 13 rfl rfl)
theorem dX6_next_85 : decode cX6_next 85 = .ok (.getfield 187, 3) := dk_180 0 187 (dk_at dksX6_next_3 14 rfl rfl)
theorem dX6_next_88 : decode cX6_next 88 = .ok (.invokevirtual 190, 3) := dk_182 0 190 (dk_at dksX6_next_3 17 rfl rfl)
theorem dX6_next_91 : decode cX6_next 91 = .ok (.istore_n 1, 1) := dk_60 (dk_at dksX6_next_3 20 rfl rfl)
theorem dX6_next_92 : decode cX6_next 92 = .ok (.iload_n 1, 1) := dk_27 (dk_at dksX6_next_3 21 rfl rfl)
theorem dX6_next_93 : decode cX6_next 93 = .ok (.invokestatic 196, 3) := dk_184 0 196 (dk_at dksX6_next_4 0 rfl rfl)
theorem dX6_next_96 : decode cX6_next 96 = .ok (.ifCond .eq 102, 3) := dk_153 0 102 (dk_at dksX6_next_4 3 rfl rfl)
theorem dX6_next_99 : decode cX6_next 99 = .ok (.aload_n 0, 1) := dk_42 (dk_at dksX6_next_4 6 rfl rfl)
theorem dX6_next_100 : decode cX6_next 100 = .ok (.iconst 1, 1) := dk_4 (dk_at dksX6_next_4 7 rfl rfl)
theorem dX6_next_101 : decode cX6_next 101 = .ok (.putfield 193, 3) := dk_181 0 193 (dk_at dksX6_next_4 8 rfl rfl)
theorem dX6_next_104 : decode cX6_next 104 = .ok (.aload_n 0, 1) := dk_42 (dk_at dksX6_next_4 11 rfl rfl)
theorem dX6_next_105 : decode cX6_next 105 = .ok (.lconst 0, 1) := dk_9 (dk_at dksX6_next_4 12 rfl rfl)
theorem dX6_next_106 : decode cX6_next 106 = .ok (.putfield 199, 3) := dk_181 0 199 (dk_at dksX6_next_4 13 rfl rfl)
theorem dX6_next_109 : decode cX6_next 109 = .ok (.aload_n 0, 1) := dk_42 (dk_at dksX6_next_4 16 rfl rfl)
theorem dX6_next_110 : decode cX6_next 110 = .ok (.aload_n 0, 1) := dk_42 (dk_at dksX6_next_4 17 rfl rfl)
theorem dX6_next_111 : decode cX6_next 111 = .ok (.getfield 184, 3) := dk_180 0 184 (dk_at dksX6_next_4 18 rfl rfl)
theorem dX6_next_114 : decode cX6_next 114 = .ok (.invokevirtual 190, 3) := dk_182 0 190 (dk_at dksX6_next_4 21 rfl rfl)
theorem dX6_next_117 : decode cX6_next 117 = .ok (.invokestatic 196, 3) := dk_184 0 196 (dk_at dksX6_next_5 0 rfl rfl)
theorem dX6_next_120 : decode cX6_next 120 = .ok (.ifCond .eq 62, 3) := dk_153 0 62 (dk_at dksX6_next_5 3 rfl rfl)
theorem dX6_next_123 : decode cX6_next 123 = .ok (.aload_n 0, 1) := dk_42 (dk_at dksX6_next_5 6 rfl rfl)
theorem dX6_next_124 : decode cX6_next 124 = .ok (.aload_n 0, 1) := dk_42 (dk_at dksX6_next_5 7 rfl rfl)
theorem dX6_next_125 : decode cX6_next 125 = .ok (.getfield 184, 3) := dk_180 0 184 (dk_at dksX6_next_5 8 rfl rfl)
theorem dX6_next_128 : decode cX6_next 128 = .ok (.aload_n 0, 1) := dk_42 (dk_at dksX6_next_5 11 rfl rfl)
theorem dX6_next_129 : decode cX6_next 129 = .ok (.getfield 187, 3) := dk_180 0 187 (dk_at dksX6_next_5 12 rfl rfl)
theorem dX6_next_132 : decode cX6_next 132 = .ok (.isub, 1) := dk_100 (dk_at dksX6_next_5 15 rfl rfl)
theorem dX6_next_133 : decode cX6_next 133 = .ok (.bipush 8, 2) := dk_16 8 (dk_at dksX6_next_5 16 rfl rfl)
theorem dX6_next_135 : decode cX6_next 135 = .ok (.if_icmp .ge 28, 3) := dk_162 0 28 (dk_at dksX6_next_5 18 rfl rfl)
theorem dX6_next_138 : decode cX6_next 138 = .ok (.aload_n 0, 1) := dk_42 (dk_at dksX6_next_5 21 rfl rfl)
theorem dX6_next_139 : decode cX6_next 139 = .ok (.getfield 199, 3) := dk_180 0 199 (dk_at dksX6_next_6 0 rfl rfl)
theorem dX6_next_142 : decode cX6_next 142 = .ok (.ldc2_w 202, 3) := dk_20 0 202 (dk_at dksX6_next_6 3 rfl rfl)
theorem dX6_next_145 : decode cX6_next 145 = .ok (.lmul, 1) := dk_105 (dk_at dksX6_next_6 6 rfl rfl)
theorem dX6_next_146 : decode cX6_next 146 = .ok (.aload_n 0, 1) := dk_42 (dk_at dksX6_next_6 7 rfl rfl)
theorem dX6_next_147 : decode cX6_next 147 = .ok (.aload_n 0, 1) := dk_42 (dk_at dksX6_next_6 8 rfl rfl)
theorem dX6_next_148 : decode cX6_next 148 = .ok (.getfield 184, 3) := dk_180 0 184 (dk_at dksX6_next_6 9 rfl rfl)
theorem dX6_next_151 : decode cX6_next 151 = .ok (.invokevirtual 190, 3) := dk_182 0 190 (dk_at dksX6_next_6 12 rfl rfl)
theorem dX6_next_154 : decode cX6_next 154 = .ok (.i2l, 1) := dk_133 (dk_at dksX6_next_6 15 rfl rfl)
theorem dX6_next_155 : decode cX6_next 155 = .ok (.ladd, 1) := dk_97 (dk_at dksX6_next_6 16 rfl rfl)
theorem dX6_next_156 : decode cX6_next 156 = .ok (.ldc2_w 204, 3) := dk_20 0 204 (dk_at dksX6_next_6 17 rfl rfl)
theorem dX6_next_159 : decode cX6_next 159 = .ok (.lsub, 1) := dk_101 (dk_at dksX6_next_6 20 rfl rfl)
theorem dX6_next_160 : decode cX6_next 160 = .ok (.goto 6, 3) := dk_167 0 6 (dk_at dksX6_next_6 21 rfl rfl)
theorem dX6_next_163 : decode cX6_next 163 = .ok (.ldc2_w 179, 3) := dk_20 0 179 (dk_at dksX6_next_7 0 rfl rfl)
theorem dX6_next_166 : decode cX6_next 166 = .ok (.putfield 199, 3) := dk_181 0 199 (dk_at dksX6_next_7 3 rfl rfl)
theorem dX6_next_169 : decode cX6_next 169 = .ok (.aload_n 0, 1) := dk_42 (dk_at dksX6_next_7 6 rfl rfl)
theorem dX6_next_170 : decode cX6_next 170 = .ok (.dup, 1) := dk_89 (dk_at dksX6_next_7 7 rfl rfl)
theorem dX6_next_171 : decode cX6_next 171 = .ok (.getfield 184, 3) := dk_180 0 184 (dk_at dksX6_next_7 8 rfl rfl)
theorem dX6_next_174 : decode cX6_next 174 = .ok (.iconst 1, 1) := dk_4 (dk_at dksX6_next_7 11 rfl rfl)
theorem dX6_next_175 : decode cX6_next 175 = .ok (.iadd, 1) := dk_96 (dk_at dksX6_next_7 12 rfl rfl)
theorem dX6_next_176 : decode cX6_next 176 = .ok (.putfield 184, 3) := dk_181 0 184 (dk_at dksX6_next_7 13 rfl rfl)
theorem dX6_next_179 : decode cX6_next 179 = .ok (.goto (-70), 3) := dk_167 255 186 (dk_at dksX6_next_7 16 rfl rfl)
theorem dX6_next_182 : decode cX6_next 182 = .ok (.aload_n 0, 1) := dk_42 (dk_at dksX6_next_7 19 rfl rfl)
theorem dX6_next_183 : decode cX6_next 183 = .ok (.aload_n 0, 1) := dk_42 (dk_at dksX6_next_7 20 rfl rfl)
theorem dX6_next_184 : decode cX6_next 184 = .ok (.getfield 184, 3) := dk_180 0 184 (dk_at dksX6_next_7 21 rfl rfl)
theorem dX6_next_187 : decode cX6_next 187 = .ok (.aload_n 0, 1) := dk_42 (dk_at dksX6_next_8 0 rfl rfl)
theorem dX6_next_188 : decode cX6_next 188 = .ok (.getfield 187, 3) := dk_180 0 187 (dk_at dksX6_next_8 1 rfl rfl)
theorem dX6_next_191 : decode cX6_next 191 = .ok (.isub, 1) := dk_100 (dk_at dksX6_next_8 4 rfl rfl)
theorem dX6_next_192 : decode cX6_next 192 = .ok (.putfield 206, 3) := dk_181 0 206 (dk_at dksX6_next_8 5 rfl rfl)
theorem dX6_next_195 : decode cX6_next 195 = .ok (.goto 133, 3) := dk_167 0 133 (dk_at dksX6_next_8 8 rfl rfl)
theorem dX6_next_198 : decode cX6_next 198 = .ok (.iload_n 1, 1) := dk_27 (dk_at dksX6_next_8 11 rfl rfl)
theorem dX6_next_199 : decode cX6_next 199 = .ok (.invokestatic 209, 3) := dk_184 0 209 (dk_at dksX6_next_8 12 rfl rfl)
theorem dX6_next_202 : decode cX6_next 202 = .ok (.ifCond .eq 96, 3) := dk_153 0 96 (dk_at dksX6_next_8 15 rfl rfl)
theorem dX6_next_205 : decode cX6_next 205 = .ok (.aload_n 0, 1) := dk_42 (dk_at dksX6_next_8 18 rfl rfl)
theorem dX6_next_206 : decode cX6_next 206 = .ok (.iconst 0, 1) := dk_3 (dk_at dksX6_next_8 19 rfl rfl)
theorem dX6_next_207 : decode cX6_next 207 = .ok (.putfield 212, 3) := dk_181 0 212 (dk_at dksX6_next_8 20 rfl rfl)
theorem dX6_next_210 : decode cX6_next 210 = .ok (.aload_n 0, 1) := dk_42 (dk_at dksX6_next_8 23 rfl rfl)
theorem dX6_next_211 : decode cX6_next 211 = .ok (.aload_n 0, 1) := dk_42 (dk_at dksX6_next_9 0 rfl rfl)
theorem dX6_next_212 : decode cX6_next 212 = .ok (.getfield 184, 3) := dk_180 0 184 (dk_at dksX6_next_9 1 rfl rfl)
theorem dX6_next_215 : decode cX6_next 215 = .ok (.invokevirtual 190, 3) := dk_182 0 190 (dk_at dksX6_next_9 4 rfl rfl)
theorem dX6_next_218 : decode cX6_next 218 = .ok (.invokestatic 209, 3) := dk_184 0 209 (dk_at dksX6_next_9 7 rfl rfl)
theorem dX6_next_221 : decode cX6_next 221 = .ok (.ifCond .eq 52, 3) := dk_153 0 52 (dk_at dksX6_next_9 10 rfl rfl)
theorem dX6_next_224 : decode cX6_next 224 = .ok (.aload_n 0, 1) := dk_42 (dk_at dksX6_next_9 13 rfl rfl)
theorem dX6_next_225 : decode cX6_next 225 = .ok (.getfield 184, 3) := dk_180 0 184 (dk_at dksX6_next_9 14 rfl rfl)
theorem dX6_next_228 : decode cX6_next 228 = .ok (.aload_n 0, 1) := dk_42 (dk_at dksX6_next_9 17 rfl rfl)
theorem dX6_next_229 : decode cX6_next 229 = .ok (.getfield 187, 3) := dk_180 0 187 (dk_at dksX6_next_9 18 rfl rfl)
theorem dX6_next_232 : decode cX6_next 232 = .ok (.isub, 1) := dk_100 (dk_at dksX6_next_9 21 rfl rfl)
theorem dX6_next_233 : decode cX6_next 233 = .ok (.iconst 2, 1) := dk_5 (dk_at dksX6_next_9 22 rfl rfl)
theorem dX6_next_234 : decode cX6_next 234 = .ok (.if_icmp .ge 26, 3) := dk_162 0 26 (dk_at dksX6_next_10 0 rfl rfl)
theorem dX6_next_237 : decode cX6_next 237 = .ok (.aload_n 0, 1) := dk_42 (dk_at dksX6_next_10 3 rfl rfl)
theorem dX6_next_238 : decode cX6_next 238 = .ok (.bipush 10, 2) := dk_16 10 (dk_at dksX6_next_10 4 rfl rfl)
theorem dX6_next_240 : decode cX6_next 240 = .ok (.aload_n 0, 1) := dk_42 (dk_at dksX6_next_10 6 rfl rfl)
theorem dX6_next_241 : decode cX6_next 241 = .ok (.getfield 212, 3) := dk_180 0 212 (dk_at dksX6_next_10 7 rfl rfl)
theorem dX6_next_244 : decode cX6_next 244 = .ok (.imul, 1) := dk_104 (dk_at dksX6_next_10 10 rfl rfl)
theorem dX6_next_245 : decode cX6_next 245 = .ok (.aload_n 0, 1) := dk_42 (dk_at dksX6_next_10 11 rfl rfl)
theorem dX6_next_246 : decode cX6_next 246 = .ok (.aload_n 0, 1) := dk_42 (dk_at dksX6_next_10 12 rfl rfl)
theorem dX6_next_247 : decode cX6_next 247 = .ok (.getfield 184, 3) := dk_180 0 184 (dk_at dksX6_next_10 13 rfl rfl)
theorem dX6_next_250 : decode cX6_next 250 = .ok (.invokevirtual 190, 3) := dk_182 0 190 (dk_at dksX6_next_10 16 rfl rfl)
theorem dX6_next_253 : decode cX6_next 253 = .ok (.iadd, 1) := dk_96 (dk_at dksX6_next_10 19 rfl rfl)
theorem dX6_next_254 : decode cX6_next 254 = .ok (.bipush 48, 2) := dk_16 48 (dk_at dksX6_next_10 20 rfl rfl)
theorem dX6_next_256 : decode cX6_next 256 = .ok (.isub, 1) := dk_100 (dk_at dksX6_next_10 22 rfl rfl)
theorem dX6_next_257 : decode cX6_next 257 = .ok (.putfield 212, 3) := dk_181 0 212 (dk_at dksX6_next_11 0 rfl rfl)
theorem dX6_next_260 : decode cX6_next 260 = .ok (.aload_n 0, 1) := dk_42 (dk_at dksX6_next_11 3 rfl rfl)
theorem dX6_next_261 : decode cX6_next 261 = .ok (.dup, 1) := dk_89 (dk_at dksX6_next_11 4 rfl rfl)
theorem dX6_next_262 : decode cX6_next 262 = .ok (.getfield 184, 3) := dk_180 0 184 (dk_at dksX6_next_11 5 rfl rfl)
theorem dX6_next_265 : decode cX6_next 265 = .ok (.iconst 1, 1) := dk_4 (dk_at dksX6_next_11 8 rfl rfl)
theorem dX6_next_266 : decode cX6_next 266 = .ok (.iadd, 1) := dk_96 (dk_at dksX6_next_11 9 rfl rfl)
theorem dX6_next_267 : decode cX6_next 267 = .ok (.putfield 184, 3) := dk_181 0 184 (dk_at dksX6_next_11 10 rfl rfl)
theorem dX6_next_270 : decode cX6_next 270 = .ok (.goto (-60), 3) := dk_167 255 196 (dk_at dksX6_next_11 13 rfl rfl)
theorem dX6_next_273 : decode cX6_next 273 = .ok (.aload_n 0, 1) := dk_42 (dk_at dksX6_next_11 16 rfl rfl)
theorem dX6_next_274 : decode cX6_next 274 = .ok (.aload_n 0, 1) := dk_42 (dk_at dksX6_next_11 17 rfl rfl)
theorem dX6_next_275 : decode cX6_next 275 = .ok (.getfield 184, 3) := dk_180 0 184 (dk_at dksX6_next_11 18 rfl rfl)
theorem dX6_next_278 : decode cX6_next 278 = .ok (.aload_n 0, 1) := dk_42 (dk_at dksX6_next_11 21 rfl rfl)
theorem dX6_next_279 : decode cX6_next 279 = .ok (.getfield 187, 3) := dk_180 0 187 (dk_at dksX6_next_12 0 rfl rfl)
theorem dX6_next_282 : decode cX6_next 282 = .ok (.isub, 1) := dk_100 (dk_at dksX6_next_12 3 rfl rfl)
theorem dX6_next_283 : decode cX6_next 283 = .ok (.iconst 2, 1) := dk_5 (dk_at dksX6_next_12 4 rfl rfl)
theorem dX6_next_284 : decode cX6_next 284 = .ok (.if_icmp .le 7, 3) := dk_164 0 7 (dk_at dksX6_next_12 5 rfl rfl)
theorem dX6_next_287 : decode cX6_next 287 = .ok (.iconst 4, 1) := dk_7 (dk_at dksX6_next_12 8 rfl rfl)
theorem dX6_next_288 : decode cX6_next 288 = .ok (.goto 4, 3) := dk_167 0 4 (dk_at dksX6_next_12 9 rfl rfl)
theorem dX6_next_291 : decode cX6_next 291 = .ok (.iconst 2, 1) := dk_5 (dk_at dksX6_next_12 12 rfl rfl)
theorem dX6_next_292 : decode cX6_next 292 = .ok (.putfield 193, 3) := dk_181 0 193 (dk_at dksX6_next_12 13 rfl rfl)
theorem dX6_next_295 : decode cX6_next 295 = .ok (.goto 33, 3) := dk_167 0 33 (dk_at dksX6_next_12 16 rfl rfl)
theorem dX6_next_298 : decode cX6_next 298 = .ok (.aload_n 0, 1) := dk_42 (dk_at dksX6_next_12 19 rfl rfl)
theorem dX6_next_299 : decode cX6_next 299 = .ok (.aload_n 0, 1) := dk_42 (dk_at dksX6_next_12 20 rfl rfl)
theorem dX6_next_300 : decode cX6_next 300 = .ok (.getfield 187, 3) := dk_180 0 187 (dk_at dksX6_next_12 21 rfl rfl)
theorem dX6_next_303 : decode cX6_next 303 = .ok (.iconst 1, 1) := dk_4 (dk_at dksX6_next_13 0 rfl rfl)
theorem dX6_next_304 : decode cX6_next 304 = .ok (.iadd, 1) := dk_96 (dk_at dksX6_next_13 1 rfl rfl)
theorem dX6_next_305 : decode cX6_next 305 = .ok (.putfield 184, 3) := dk_181 0 184 (dk_at dksX6_next_13 2 rfl rfl)
theorem dX6_next_308 : decode cX6_next 308 = .ok (.aload_n 0, 1) := dk_42 (dk_at dksX6_next_13 5 rfl rfl)
theorem dX6_next_309 : decode cX6_next 309 = .ok (.iload_n 1, 1) := dk_27 (dk_at dksX6_next_13 6 rfl rfl)
theorem dX6_next_310 : decode cX6_next 310 = .ok (.putfield 212, 3) := dk_181 0 212 (dk_at dksX6_next_13 7 rfl rfl)
theorem dX6_next_313 : decode cX6_next 313 = .ok (.aload_n 0, 1) := dk_42 (dk_at dksX6_next_13 10 rfl rfl)
theorem dX6_next_314 : decode cX6_next 314 = .ok (.iload_n 1, 1) := dk_27 (dk_at dksX6_next_13 11 rfl rfl)
theorem dX6_next_315 : decode cX6_next 315 = .ok (.bipush 59, 2) := dk_16 59 (dk_at dksX6_next_13 12 rfl rfl)
theorem dX6_next_317 : decode cX6_next 317 = .ok (.if_icmp .ne 7, 3) := dk_160 0 7 (dk_at dksX6_next_13 14 rfl rfl)
theorem dX6_next_320 : decode cX6_next 320 = .ok (.iconst 3, 1) := dk_6 (dk_at dksX6_next_13 17 rfl rfl)
theorem dX6_next_321 : decode cX6_next 321 = .ok (.goto 4, 3) := dk_167 0 4 (dk_at dksX6_next_13 18 rfl rfl)
theorem dX6_next_324 : decode cX6_next 324 = .ok (.iconst 4, 1) := dk_7 (dk_at dksX6_next_13 21 rfl rfl)
theorem dX6_next_325 : decode cX6_next 325 = .ok (.putfield 193, 3) := dk_181 0 193 (dk_at dksX6_next_14 0 rfl rfl)
theorem dX6_next_328 : decode cX6_next 328 = .ok (.return_, 1) := dk_177 (dk_at dksX6_next_14 3 rfl rfl)
abbrev cX6_look : ByteArray := prog_15_method_19_code
def yX6_look : MethodName := ⟨RX6, "look", "(I)I"⟩
def dkwX6_look_0 : List UInt8 := [27, 42, 180, 0, 181, 162, 0, 16, 42, 180, 0, 24, 27, 51, 17, 0, 255, 126, 167, 0, 4, 3, 172]
abbrev dktX6_look_0 : List UInt8 := dkwX6_look_0 ++ []
theorem dksX6_look_0 : cX6_look.data.toList.drop 0 = dktX6_look_0 := by decide +kernel
theorem dX6_look_0 : decode cX6_look 0 = .ok (.iload_n 1, 1) := dk_27 (dk_at dksX6_look_0 0 rfl rfl)
theorem dX6_look_1 : decode cX6_look 1 = .ok (.aload_n 0, 1) := dk_42 (dk_at dksX6_look_0 1 rfl rfl)
theorem dX6_look_2 : decode cX6_look 2 = .ok (.getfield 181, 3) := dk_180 0 181 (dk_at dksX6_look_0 2 rfl rfl)
theorem dX6_look_5 : decode cX6_look 5 = .ok (.if_icmp .ge 16, 3) := dk_162 0 16 (dk_at dksX6_look_0 5 rfl rfl)
theorem dX6_look_8 : decode cX6_look 8 = .ok (.aload_n 0, 1) := dk_42 (dk_at dksX6_look_0 8 rfl rfl)
theorem dX6_look_9 : decode cX6_look 9 = .ok (.getfield 24, 3) := dk_180 0 24 (dk_at dksX6_look_0 9 rfl rfl)
theorem dX6_look_12 : decode cX6_look 12 = .ok (.iload_n 1, 1) := dk_27 (dk_at dksX6_look_0 12 rfl rfl)
theorem dX6_look_13 : decode cX6_look 13 = .ok (.baload, 1) := dk_51 (dk_at dksX6_look_0 13 rfl rfl)
theorem dX6_look_14 : decode cX6_look 14 = .ok (.sipush 255, 3) := dk_17 0 255 (dk_at dksX6_look_0 14 rfl rfl)
theorem dX6_look_17 : decode cX6_look 17 = .ok (.iand, 1) := dk_126 (dk_at dksX6_look_0 17 rfl rfl)
theorem dX6_look_18 : decode cX6_look 18 = .ok (.goto 4, 3) := dk_167 0 4 (dk_at dksX6_look_0 18 rfl rfl)
theorem dX6_look_21 : decode cX6_look 21 = .ok (.iconst 0, 1) := dk_3 (dk_at dksX6_look_0 21 rfl rfl)
theorem dX6_look_22 : decode cX6_look 22 = .ok (.ireturn, 1) := dk_172 (dk_at dksX6_look_0 22 rfl rfl)
abbrev cX6_isLetter : ByteArray := prog_15_method_20_code
def yX6_isLetter : MethodName := ⟨RX6, "isLetter", "(I)Z"⟩
def dkwX6_isLetter_0 : List UInt8 := [26, 16, 97, 161, 0, 13, 26, 16, 122, 163, 0, 7, 4, 167, 0, 4, 3, 172]
abbrev dktX6_isLetter_0 : List UInt8 := dkwX6_isLetter_0 ++ []
theorem dksX6_isLetter_0 : cX6_isLetter.data.toList.drop 0 = dktX6_isLetter_0 := by decide +kernel
theorem dX6_isLetter_0 : decode cX6_isLetter 0 = .ok (.iload_n 0, 1) := dk_26 (dk_at dksX6_isLetter_0 0 rfl rfl)
theorem dX6_isLetter_1 : decode cX6_isLetter 1 = .ok (.bipush 97, 2) := dk_16 97 (dk_at dksX6_isLetter_0 1 rfl rfl)
theorem dX6_isLetter_3 : decode cX6_isLetter 3 = .ok (.if_icmp .lt 13, 3) := dk_161 0 13 (dk_at dksX6_isLetter_0 3 rfl rfl)
theorem dX6_isLetter_6 : decode cX6_isLetter 6 = .ok (.iload_n 0, 1) := dk_26 (dk_at dksX6_isLetter_0 6 rfl rfl)
theorem dX6_isLetter_7 : decode cX6_isLetter 7 = .ok (.bipush 122, 2) := dk_16 122 (dk_at dksX6_isLetter_0 7 rfl rfl)
theorem dX6_isLetter_9 : decode cX6_isLetter 9 = .ok (.if_icmp .gt 7, 3) := dk_163 0 7 (dk_at dksX6_isLetter_0 9 rfl rfl)
theorem dX6_isLetter_12 : decode cX6_isLetter 12 = .ok (.iconst 1, 1) := dk_4 (dk_at dksX6_isLetter_0 12 rfl rfl)
theorem dX6_isLetter_13 : decode cX6_isLetter 13 = .ok (.goto 4, 3) := dk_167 0 4 (dk_at dksX6_isLetter_0 13 rfl rfl)
theorem dX6_isLetter_16 : decode cX6_isLetter 16 = .ok (.iconst 0, 1) := dk_3 (dk_at dksX6_isLetter_0 16 rfl rfl)
theorem dX6_isLetter_17 : decode cX6_isLetter 17 = .ok (.ireturn, 1) := dk_172 (dk_at dksX6_isLetter_0 17 rfl rfl)
abbrev cX6_isDigit : ByteArray := prog_15_method_21_code
def yX6_isDigit : MethodName := ⟨RX6, "isDigit", "(I)Z"⟩
def dkwX6_isDigit_0 : List UInt8 := [26, 16, 48, 161, 0, 13, 26, 16, 57, 163, 0, 7, 4, 167, 0, 4, 3, 172]
abbrev dktX6_isDigit_0 : List UInt8 := dkwX6_isDigit_0 ++ []
theorem dksX6_isDigit_0 : cX6_isDigit.data.toList.drop 0 = dktX6_isDigit_0 := by decide +kernel
theorem dX6_isDigit_0 : decode cX6_isDigit 0 = .ok (.iload_n 0, 1) := dk_26 (dk_at dksX6_isDigit_0 0 rfl rfl)
theorem dX6_isDigit_1 : decode cX6_isDigit 1 = .ok (.bipush 48, 2) := dk_16 48 (dk_at dksX6_isDigit_0 1 rfl rfl)
theorem dX6_isDigit_3 : decode cX6_isDigit 3 = .ok (.if_icmp .lt 13, 3) := dk_161 0 13 (dk_at dksX6_isDigit_0 3 rfl rfl)
theorem dX6_isDigit_6 : decode cX6_isDigit 6 = .ok (.iload_n 0, 1) := dk_26 (dk_at dksX6_isDigit_0 6 rfl rfl)
theorem dX6_isDigit_7 : decode cX6_isDigit 7 = .ok (.bipush 57, 2) := dk_16 57 (dk_at dksX6_isDigit_0 7 rfl rfl)
theorem dX6_isDigit_9 : decode cX6_isDigit 9 = .ok (.if_icmp .gt 7, 3) := dk_163 0 7 (dk_at dksX6_isDigit_0 9 rfl rfl)
theorem dX6_isDigit_12 : decode cX6_isDigit 12 = .ok (.iconst 1, 1) := dk_4 (dk_at dksX6_isDigit_0 12 rfl rfl)
theorem dX6_isDigit_13 : decode cX6_isDigit 13 = .ok (.goto 4, 3) := dk_167 0 4 (dk_at dksX6_isDigit_0 13 rfl rfl)
theorem dX6_isDigit_16 : decode cX6_isDigit 16 = .ok (.iconst 0, 1) := dk_3 (dk_at dksX6_isDigit_0 16 rfl rfl)
theorem dX6_isDigit_17 : decode cX6_isDigit 17 = .ok (.ireturn, 1) := dk_172 (dk_at dksX6_isDigit_0 17 rfl rfl)
abbrev cX6_isPlaceWord : ByteArray := prog_15_method_25_code
def yX6_isPlaceWord : MethodName := ⟨RX6, "isPlaceWord", "()Z"⟩
def dkwX6_isPlaceWord_0 : List UInt8 := [42, 16, 112, 16, 108, 16, 97, 16, 99, 16, 101, 3, 184, 0, 215, 182, 0, 219, 172]
abbrev dktX6_isPlaceWord_0 : List UInt8 := dkwX6_isPlaceWord_0 ++ []
theorem dksX6_isPlaceWord_0 : cX6_isPlaceWord.data.toList.drop 0 = dktX6_isPlaceWord_0 := by decide +kernel
theorem dX6_isPlaceWord_0 : decode cX6_isPlaceWord 0 = .ok (.aload_n 0, 1) := dk_42 (dk_at dksX6_isPlaceWord_0 0 rfl rfl)
theorem dX6_isPlaceWord_1 : decode cX6_isPlaceWord 1 = .ok (.bipush 112, 2) := dk_16 112 (dk_at dksX6_isPlaceWord_0 1 rfl rfl)
theorem dX6_isPlaceWord_3 : decode cX6_isPlaceWord 3 = .ok (.bipush 108, 2) := dk_16 108 (dk_at dksX6_isPlaceWord_0 3 rfl rfl)
theorem dX6_isPlaceWord_5 : decode cX6_isPlaceWord 5 = .ok (.bipush 97, 2) := dk_16 97 (dk_at dksX6_isPlaceWord_0 5 rfl rfl)
theorem dX6_isPlaceWord_7 : decode cX6_isPlaceWord 7 = .ok (.bipush 99, 2) := dk_16 99 (dk_at dksX6_isPlaceWord_0 7 rfl rfl)
theorem dX6_isPlaceWord_9 : decode cX6_isPlaceWord 9 = .ok (.bipush 101, 2) := dk_16 101 (dk_at dksX6_isPlaceWord_0 9 rfl rfl)
theorem dX6_isPlaceWord_11 : decode cX6_isPlaceWord 11 = .ok (.iconst 0, 1) := dk_3 (dk_at dksX6_isPlaceWord_0 11 rfl rfl)
theorem dX6_isPlaceWord_12 : decode cX6_isPlaceWord 12 = .ok (.invokestatic 215, 3) := dk_184 0 215 (dk_at dksX6_isPlaceWord_0 12 rfl rfl)
theorem dX6_isPlaceWord_15 : decode cX6_isPlaceWord 15 = .ok (.invokevirtual 219, 3) := dk_182 0 219 (dk_at dksX6_isPlaceWord_0 15 rfl rfl)
theorem dX6_isPlaceWord_18 : decode cX6_isPlaceWord 18 = .ok (.ireturn, 1) := dk_172 (dk_at dksX6_isPlaceWord_0 18 rfl rfl)
abbrev cX6_spelled : ByteArray := prog_15_method_23_code
def yX6_spelled : MethodName := ⟨RX6, "spelled", "(IIIIII)J"⟩
def dkwX6_spelled_5 : List UInt8 := [22, 6, 173]
abbrev dktX6_spelled_5 : List UInt8 := dkwX6_spelled_5 ++ []
def dkwX6_spelled_4 : List UInt8 := [55, 6, 21, 5, 158, 0, 20, 22, 6, 20, 0, 202, 105, 21, 5, 133, 97, 20, 0, 204, 101, 167, 0, 5]
abbrev dktX6_spelled_4 : List UInt8 := dkwX6_spelled_4 ++ dktX6_spelled_5
def dkwX6_spelled_3 : List UInt8 := [21, 4, 158, 0, 20, 22, 6, 20, 0, 202, 105, 21, 4, 133, 97, 20, 0, 204, 101, 167, 0, 5, 22, 6]
abbrev dktX6_spelled_3 : List UInt8 := dkwX6_spelled_3 ++ dktX6_spelled_4
def dkwX6_spelled_2 : List UInt8 := [158, 0, 19, 22, 6, 20, 0, 202, 105, 29, 133, 97, 20, 0, 204, 101, 167, 0, 5, 22, 6, 55, 6]
abbrev dktX6_spelled_2 : List UInt8 := dkwX6_spelled_2 ++ dktX6_spelled_3
def dkwX6_spelled_1 : List UInt8 := [158, 0, 19, 22, 6, 20, 0, 202, 105, 28, 133, 97, 20, 0, 204, 101, 167, 0, 5, 22, 6, 55, 6, 29]
abbrev dktX6_spelled_1 : List UInt8 := dkwX6_spelled_1 ++ dktX6_spelled_2
def dkwX6_spelled_0 : List UInt8 := [26, 133, 20, 0, 204, 101, 55, 6, 22, 6, 20, 0, 202, 105, 27, 133, 97, 20, 0, 204, 101, 55, 6, 28]
abbrev dktX6_spelled_0 : List UInt8 := dkwX6_spelled_0 ++ dktX6_spelled_1
theorem dksX6_spelled_0 : cX6_spelled.data.toList.drop 0 = dktX6_spelled_0 := by decide +kernel
theorem dksX6_spelled_1 : cX6_spelled.data.toList.drop 24 = dktX6_spelled_1 := dk_seg dksX6_spelled_0 24 rfl rfl
theorem dksX6_spelled_2 : cX6_spelled.data.toList.drop 48 = dktX6_spelled_2 := dk_seg dksX6_spelled_1 24 rfl rfl
theorem dksX6_spelled_3 : cX6_spelled.data.toList.drop 71 = dktX6_spelled_3 := dk_seg dksX6_spelled_2 23 rfl rfl
theorem dksX6_spelled_4 : cX6_spelled.data.toList.drop 95 = dktX6_spelled_4 := dk_seg dksX6_spelled_3 24 rfl rfl
theorem dksX6_spelled_5 : cX6_spelled.data.toList.drop 119 = dktX6_spelled_5 := dk_seg dksX6_spelled_4 24 rfl rfl
theorem dX6_spelled_0 : decode cX6_spelled 0 = .ok (.iload_n 0, 1) := dk_26 (dk_at dksX6_spelled_0 0 rfl rfl)
theorem dX6_spelled_1 : decode cX6_spelled 1 = .ok (.i2l, 1) := dk_133 (dk_at dksX6_spelled_0 1 rfl rfl)
theorem dX6_spelled_2 : decode cX6_spelled 2 = .ok (.ldc2_w 204, 3) := dk_20 0 204 (dk_at dksX6_spelled_0 2 rfl rfl)
theorem dX6_spelled_5 : decode cX6_spelled 5 = .ok (.lsub, 1) := dk_101 (dk_at dksX6_spelled_0 5 rfl rfl)
theorem dX6_spelled_6 : decode cX6_spelled 6 = .ok (.lstore 6, 2) := dk_55 6 (dk_at dksX6_spelled_0 6 rfl rfl)
theorem dX6_spelled_8 : decode cX6_spelled 8 = .ok (.lload 6, 2) := dk_22 6 (dk_at dksX6_spelled_0 8 rfl rfl)
theorem dX6_spelled_10 : decode cX6_spelled 10 = .ok (.ldc2_w 202, 3) := dk_20 0 202 (dk_at dksX6_spelled_0 10 rfl rfl)
theorem dX6_spelled_13 : decode cX6_spelled 13 = .ok (.lmul, 1) := dk_105 (dk_at dksX6_spelled_0 13 rfl rfl)
theorem dX6_spelled_14 : decode cX6_spelled 14 = .ok (.iload_n 1, 1) := dk_27 (dk_at dksX6_spelled_0 14 rfl rfl)
theorem dX6_spelled_15 : decode cX6_spelled 15 = .ok (.i2l, 1) := dk_133 (dk_at dksX6_spelled_0 15 rfl rfl)
theorem dX6_spelled_16 : decode cX6_spelled 16 = .ok (.ladd, 1) := dk_97 (dk_at dksX6_spelled_0 16 rfl rfl)
theorem dX6_spelled_17 : decode cX6_spelled 17 = .ok (.ldc2_w 204, 3) := dk_20 0 204 (dk_at dksX6_spelled_0 17 rfl rfl)
theorem dX6_spelled_20 : decode cX6_spelled 20 = .ok (.lsub, 1) := dk_101 (dk_at dksX6_spelled_0 20 rfl rfl)
theorem dX6_spelled_21 : decode cX6_spelled 21 = .ok (.lstore 6, 2) := dk_55 6 (dk_at dksX6_spelled_0 21 rfl rfl)
theorem dX6_spelled_23 : decode cX6_spelled 23 = .ok (.iload_n 2, 1) := dk_28 (dk_at dksX6_spelled_0 23 rfl rfl)
theorem dX6_spelled_24 : decode cX6_spelled 24 = .ok (.ifCond .le 19, 3) := dk_158 0 19 (dk_at dksX6_spelled_1 0 rfl rfl)
theorem dX6_spelled_27 : decode cX6_spelled 27 = .ok (.lload 6, 2) := dk_22 6 (dk_at dksX6_spelled_1 3 rfl rfl)
theorem dX6_spelled_29 : decode cX6_spelled 29 = .ok (.ldc2_w 202, 3) := dk_20 0 202 (dk_at dksX6_spelled_1 5 rfl rfl)
theorem dX6_spelled_32 : decode cX6_spelled 32 = .ok (.lmul, 1) := dk_105 (dk_at dksX6_spelled_1 8 rfl rfl)
theorem dX6_spelled_33 : decode cX6_spelled 33 = .ok (.iload_n 2, 1) := dk_28 (dk_at dksX6_spelled_1 9 rfl rfl)
theorem dX6_spelled_34 : decode cX6_spelled 34 = .ok (.i2l, 1) := dk_133 (dk_at dksX6_spelled_1 10 rfl rfl)
theorem dX6_spelled_35 : decode cX6_spelled 35 = .ok (.ladd, 1) := dk_97 (dk_at dksX6_spelled_1 11 rfl rfl)
theorem dX6_spelled_36 : decode cX6_spelled 36 = .ok (.ldc2_w 204, 3) := dk_20 0 204 (dk_at dksX6_spelled_1 12 rfl rfl)
theorem dX6_spelled_39 : decode cX6_spelled 39 = .ok (.lsub, 1) := dk_101 (dk_at dksX6_spelled_1 15 rfl rfl)
theorem dX6_spelled_40 : decode cX6_spelled 40 = .ok (.goto 5, 3) := dk_167 0 5 (dk_at dksX6_spelled_1 16 rfl rfl)
theorem dX6_spelled_43 : decode cX6_spelled 43 = .ok (.lload 6, 2) := dk_22 6 (dk_at dksX6_spelled_1 19 rfl rfl)
theorem dX6_spelled_45 : decode cX6_spelled 45 = .ok (.lstore 6, 2) := dk_55 6 (dk_at dksX6_spelled_1 21 rfl rfl)
theorem dX6_spelled_47 : decode cX6_spelled 47 = .ok (.iload_n 3, 1) := dk_29 (dk_at dksX6_spelled_1 23 rfl rfl)
theorem dX6_spelled_48 : decode cX6_spelled 48 = .ok (.ifCond .le 19, 3) := dk_158 0 19 (dk_at dksX6_spelled_2 0 rfl rfl)
theorem dX6_spelled_51 : decode cX6_spelled 51 = .ok (.lload 6, 2) := dk_22 6 (dk_at dksX6_spelled_2 3 rfl rfl)
theorem dX6_spelled_53 : decode cX6_spelled 53 = .ok (.ldc2_w 202, 3) := dk_20 0 202 (dk_at dksX6_spelled_2 5 rfl rfl)
theorem dX6_spelled_56 : decode cX6_spelled 56 = .ok (.lmul, 1) := dk_105 (dk_at dksX6_spelled_2 8 rfl rfl)
theorem dX6_spelled_57 : decode cX6_spelled 57 = .ok (.iload_n 3, 1) := dk_29 (dk_at dksX6_spelled_2 9 rfl rfl)
theorem dX6_spelled_58 : decode cX6_spelled 58 = .ok (.i2l, 1) := dk_133 (dk_at dksX6_spelled_2 10 rfl rfl)
theorem dX6_spelled_59 : decode cX6_spelled 59 = .ok (.ladd, 1) := dk_97 (dk_at dksX6_spelled_2 11 rfl rfl)
theorem dX6_spelled_60 : decode cX6_spelled 60 = .ok (.ldc2_w 204, 3) := dk_20 0 204 (dk_at dksX6_spelled_2 12 rfl rfl)
theorem dX6_spelled_63 : decode cX6_spelled 63 = .ok (.lsub, 1) := dk_101 (dk_at dksX6_spelled_2 15 rfl rfl)
theorem dX6_spelled_64 : decode cX6_spelled 64 = .ok (.goto 5, 3) := dk_167 0 5 (dk_at dksX6_spelled_2 16 rfl rfl)
theorem dX6_spelled_67 : decode cX6_spelled 67 = .ok (.lload 6, 2) := dk_22 6 (dk_at dksX6_spelled_2 19 rfl rfl)
theorem dX6_spelled_69 : decode cX6_spelled 69 = .ok (.lstore 6, 2) := dk_55 6 (dk_at dksX6_spelled_2 21 rfl rfl)
theorem dX6_spelled_71 : decode cX6_spelled 71 = .ok (.iload 4, 2) := dk_21 4 (dk_at dksX6_spelled_3 0 rfl rfl)
theorem dX6_spelled_73 : decode cX6_spelled 73 = .ok (.ifCond .le 20, 3) := dk_158 0 20 (dk_at dksX6_spelled_3 2 rfl rfl)
theorem dX6_spelled_76 : decode cX6_spelled 76 = .ok (.lload 6, 2) := dk_22 6 (dk_at dksX6_spelled_3 5 rfl rfl)
theorem dX6_spelled_78 : decode cX6_spelled 78 = .ok (.ldc2_w 202, 3) := dk_20 0 202 (dk_at dksX6_spelled_3 7 rfl rfl)
theorem dX6_spelled_81 : decode cX6_spelled 81 = .ok (.lmul, 1) := dk_105 (dk_at dksX6_spelled_3 10 rfl rfl)
theorem dX6_spelled_82 : decode cX6_spelled 82 = .ok (.iload 4, 2) := dk_21 4 (dk_at dksX6_spelled_3 11 rfl rfl)
theorem dX6_spelled_84 : decode cX6_spelled 84 = .ok (.i2l, 1) := dk_133 (dk_at dksX6_spelled_3 13 rfl rfl)
theorem dX6_spelled_85 : decode cX6_spelled 85 = .ok (.ladd, 1) := dk_97 (dk_at dksX6_spelled_3 14 rfl rfl)
theorem dX6_spelled_86 : decode cX6_spelled 86 = .ok (.ldc2_w 204, 3) := dk_20 0 204 (dk_at dksX6_spelled_3 15 rfl rfl)
theorem dX6_spelled_89 : decode cX6_spelled 89 = .ok (.lsub, 1) := dk_101 (dk_at dksX6_spelled_3 18 rfl rfl)
theorem dX6_spelled_90 : decode cX6_spelled 90 = .ok (.goto 5, 3) := dk_167 0 5 (dk_at dksX6_spelled_3 19 rfl rfl)
theorem dX6_spelled_93 : decode cX6_spelled 93 = .ok (.lload 6, 2) := dk_22 6 (dk_at dksX6_spelled_3 22 rfl rfl)
theorem dX6_spelled_95 : decode cX6_spelled 95 = .ok (.lstore 6, 2) := dk_55 6 (dk_at dksX6_spelled_4 0 rfl rfl)
theorem dX6_spelled_97 : decode cX6_spelled 97 = .ok (.iload 5, 2) := dk_21 5 (dk_at dksX6_spelled_4 2 rfl rfl)
theorem dX6_spelled_99 : decode cX6_spelled 99 = .ok (.ifCond .le 20, 3) := dk_158 0 20 (dk_at dksX6_spelled_4 4 rfl rfl)
theorem dX6_spelled_102 : decode cX6_spelled 102 = .ok (.lload 6, 2) := dk_22 6 (dk_at dksX6_spelled_4 7 rfl rfl)
theorem dX6_spelled_104 : decode cX6_spelled 104 = .ok (.ldc2_w 202, 3) := dk_20 0 202 (dk_at dksX6_spelled_4 9 rfl rfl)
theorem dX6_spelled_107 : decode cX6_spelled 107 = .ok (.lmul, 1) := dk_105 (dk_at dksX6_spelled_4 12 rfl rfl)
theorem dX6_spelled_108 : decode cX6_spelled 108 = .ok (.iload 5, 2) := dk_21 5 (dk_at dksX6_spelled_4 13 rfl rfl)
theorem dX6_spelled_110 : decode cX6_spelled 110 = .ok (.i2l, 1) := dk_133 (dk_at dksX6_spelled_4 15 rfl rfl)
theorem dX6_spelled_111 : decode cX6_spelled 111 = .ok (.ladd, 1) := dk_97 (dk_at dksX6_spelled_4 16 rfl rfl)
theorem dX6_spelled_112 : decode cX6_spelled 112 = .ok (.ldc2_w 204, 3) := dk_20 0 204 (dk_at dksX6_spelled_4 17 rfl rfl)
theorem dX6_spelled_115 : decode cX6_spelled 115 = .ok (.lsub, 1) := dk_101 (dk_at dksX6_spelled_4 20 rfl rfl)
theorem dX6_spelled_116 : decode cX6_spelled 116 = .ok (.goto 5, 3) := dk_167 0 5 (dk_at dksX6_spelled_4 21 rfl rfl)
theorem dX6_spelled_119 : decode cX6_spelled 119 = .ok (.lload 6, 2) := dk_22 6 (dk_at dksX6_spelled_5 0 rfl rfl)
theorem dX6_spelled_121 : decode cX6_spelled 121 = .ok (.lreturn, 1) := dk_173 (dk_at dksX6_spelled_5 2 rfl rfl)
abbrev cX6_isWord : ByteArray := prog_15_method_24_code
def yX6_isWord : MethodName := ⟨RX6, "isWord", "(J)Z"⟩
def dkwX6_isWord_0 : List UInt8 := [42, 180, 0, 193, 4, 160, 0, 16, 42, 180, 0, 199, 31, 148, 154, 0, 7, 4, 167, 0, 4, 3, 172]
abbrev dktX6_isWord_0 : List UInt8 := dkwX6_isWord_0 ++ []
theorem dksX6_isWord_0 : cX6_isWord.data.toList.drop 0 = dktX6_isWord_0 := by decide +kernel
theorem dX6_isWord_0 : decode cX6_isWord 0 = .ok (.aload_n 0, 1) := dk_42 (dk_at dksX6_isWord_0 0 rfl rfl)
theorem dX6_isWord_1 : decode cX6_isWord 1 = .ok (.getfield 193, 3) := dk_180 0 193 (dk_at dksX6_isWord_0 1 rfl rfl)
theorem dX6_isWord_4 : decode cX6_isWord 4 = .ok (.iconst 1, 1) := dk_4 (dk_at dksX6_isWord_0 4 rfl rfl)
theorem dX6_isWord_5 : decode cX6_isWord 5 = .ok (.if_icmp .ne 16, 3) := dk_160 0 16 (dk_at dksX6_isWord_0 5 rfl rfl)
theorem dX6_isWord_8 : decode cX6_isWord 8 = .ok (.aload_n 0, 1) := dk_42 (dk_at dksX6_isWord_0 8 rfl rfl)
theorem dX6_isWord_9 : decode cX6_isWord 9 = .ok (.getfield 199, 3) := dk_180 0 199 (dk_at dksX6_isWord_0 9 rfl rfl)
theorem dX6_isWord_12 : decode cX6_isWord 12 = .ok (.lload_n 1, 1) := dk_31 (dk_at dksX6_isWord_0 12 rfl rfl)
theorem dX6_isWord_13 : decode cX6_isWord 13 = .ok (.lcmp, 1) := dk_148 (dk_at dksX6_isWord_0 13 rfl rfl)
theorem dX6_isWord_14 : decode cX6_isWord 14 = .ok (.ifCond .ne 7, 3) := dk_154 0 7 (dk_at dksX6_isWord_0 14 rfl rfl)
theorem dX6_isWord_17 : decode cX6_isWord 17 = .ok (.iconst 1, 1) := dk_4 (dk_at dksX6_isWord_0 17 rfl rfl)
theorem dX6_isWord_18 : decode cX6_isWord 18 = .ok (.goto 4, 3) := dk_167 0 4 (dk_at dksX6_isWord_0 18 rfl rfl)
theorem dX6_isWord_21 : decode cX6_isWord 21 = .ok (.iconst 0, 1) := dk_3 (dk_at dksX6_isWord_0 21 rfl rfl)
theorem dX6_isWord_22 : decode cX6_isWord 22 = .ok (.ireturn, 1) := dk_172 (dk_at dksX6_isWord_0 22 rfl rfl)
abbrev cX6_readPlace : ByteArray := prog_15_method_38_code
def yX6_readPlace : MethodName := ⟨RX6, "readPlace", "()V"⟩
def dkwX6_readPlace_10 : List UInt8 := [180, 0, 246, 154, 0, 13, 42, 89, 180, 1, 10, 4, 96, 181, 1, 10, 177]
abbrev dktX6_readPlace_10 : List UInt8 := dkwX6_readPlace_10 ++ []
def dkwX6_readPlace_9 : List UInt8 := [79, 167, 255, 176, 42, 42, 180, 0, 193, 6, 160, 0, 7, 4, 167, 0, 4, 3, 182, 1, 22, 42]
abbrev dktX6_readPlace_9 : List UInt8 := dkwX6_readPlace_9 ++ dktX6_readPlace_10
def dkwX6_readPlace_8 : List UInt8 := [42, 180, 0, 41, 6, 27, 104, 29, 96, 42, 3, 29, 154, 0, 7, 8, 167, 0, 5, 16, 9, 182, 1, 19]
abbrev dktX6_readPlace_8 : List UInt8 := dkwX6_readPlace_8 ++ dktX6_readPlace_9
def dkwX6_readPlace_7 : List UInt8 := [180, 0, 187, 182, 0, 252, 42, 180, 0, 246, 158, 0, 4, 177, 28, 4, 29, 120, 128, 61, 42, 182, 1, 0]
abbrev dktX6_readPlace_7 : List UInt8 := dkwX6_readPlace_7 ++ dktX6_readPlace_8
def dkwX6_readPlace_6 : List UInt8 := [182, 0, 223, 155, 0, 72, 42, 182, 0, 223, 62, 28, 29, 122, 4, 126, 4, 160, 0, 12, 42, 8, 42]
abbrev dktX6_readPlace_6 : List UInt8 := dkwX6_readPlace_6 ++ dktX6_readPlace_7
def dkwX6_readPlace_5 : List UInt8 := [4, 79, 42, 180, 0, 47, 27, 3, 79, 42, 182, 1, 0, 3, 61, 42, 180, 0, 246, 154, 0, 79, 42]
abbrev dktX6_readPlace_5 : List UInt8 := dkwX6_readPlace_5 ++ dktX6_readPlace_6
def dkwX6_readPlace_4 : List UInt8 := [27, 104, 3, 79, 42, 180, 0, 41, 6, 27, 104, 4, 96, 4, 79, 42, 180, 0, 41, 6, 27, 104, 5, 96]
abbrev dktX6_readPlace_4 : List UInt8 := dkwX6_readPlace_4 ++ dktX6_readPlace_5
def dkwX6_readPlace_3 : List UInt8 := [158, 0, 4, 177, 42, 180, 1, 10, 60, 42, 180, 0, 72, 27, 42, 180, 0, 199, 80, 42, 180, 0, 41, 6]
abbrev dktX6_readPlace_3 : List UInt8 := dkwX6_readPlace_3 ++ dktX6_readPlace_4
def dkwX6_readPlace_2 : List UInt8 := [180, 1, 10, 16, 8, 160, 0, 13, 42, 16, 6, 42, 180, 0, 187, 182, 0, 252, 42, 180, 0, 246]
abbrev dktX6_readPlace_2 : List UInt8 := dkwX6_readPlace_2 ++ dktX6_readPlace_3
def dkwX6_readPlace_1 : List UInt8 := [182, 1, 16, 155, 0, 12, 42, 6, 42, 180, 0, 187, 182, 0, 252, 42, 180, 0, 246, 154, 0, 22, 42]
abbrev dktX6_readPlace_1 : List UInt8 := dkwX6_readPlace_1 ++ dktX6_readPlace_2
def dkwX6_readPlace_0 : List UInt8 := [42, 182, 1, 0, 42, 182, 1, 13, 154, 0, 7, 42, 182, 1, 3, 42, 180, 0, 246, 154, 0, 19, 42]
abbrev dktX6_readPlace_0 : List UInt8 := dkwX6_readPlace_0 ++ dktX6_readPlace_1
theorem dksX6_readPlace_0 : cX6_readPlace.data.toList.drop 0 = dktX6_readPlace_0 := by decide +kernel
theorem dksX6_readPlace_1 : cX6_readPlace.data.toList.drop 23 = dktX6_readPlace_1 := dk_seg dksX6_readPlace_0 23 rfl rfl
theorem dksX6_readPlace_2 : cX6_readPlace.data.toList.drop 46 = dktX6_readPlace_2 := dk_seg dksX6_readPlace_1 23 rfl rfl
theorem dksX6_readPlace_3 : cX6_readPlace.data.toList.drop 68 = dktX6_readPlace_3 := dk_seg dksX6_readPlace_2 22 rfl rfl
theorem dksX6_readPlace_4 : cX6_readPlace.data.toList.drop 92 = dktX6_readPlace_4 := dk_seg dksX6_readPlace_3 24 rfl rfl
theorem dksX6_readPlace_5 : cX6_readPlace.data.toList.drop 116 = dktX6_readPlace_5 := dk_seg dksX6_readPlace_4 24 rfl rfl
theorem dksX6_readPlace_6 : cX6_readPlace.data.toList.drop 139 = dktX6_readPlace_6 := dk_seg dksX6_readPlace_5 23 rfl rfl
theorem dksX6_readPlace_7 : cX6_readPlace.data.toList.drop 162 = dktX6_readPlace_7 := dk_seg dksX6_readPlace_6 23 rfl rfl
theorem dksX6_readPlace_8 : cX6_readPlace.data.toList.drop 186 = dktX6_readPlace_8 := dk_seg dksX6_readPlace_7 24 rfl rfl
theorem dksX6_readPlace_9 : cX6_readPlace.data.toList.drop 210 = dktX6_readPlace_9 := dk_seg dksX6_readPlace_8 24 rfl rfl
theorem dksX6_readPlace_10 : cX6_readPlace.data.toList.drop 232 = dktX6_readPlace_10 := dk_seg dksX6_readPlace_9 22 rfl rfl
theorem dX6_readPlace_0 : decode cX6_readPlace 0 = .ok (.aload_n 0, 1) := dk_42 (dk_at dksX6_readPlace_0 0 rfl rfl)
theorem dX6_readPlace_1 : decode cX6_readPlace 1 = .ok (.invokevirtual 256, 3) := dk_182 1 0 (dk_at dksX6_readPlace_0 1 rfl rfl)
theorem dX6_readPlace_4 : decode cX6_readPlace 4 = .ok (.aload_n 0, 1) := dk_42 (dk_at dksX6_readPlace_0 4 rfl rfl)
theorem dX6_readPlace_5 : decode cX6_readPlace 5 = .ok (.invokevirtual 269, 3) := dk_182 1 13 (dk_at dksX6_readPlace_0 5 rfl rfl)
theorem dX6_readPlace_8 : decode cX6_readPlace 8 = .ok (.ifCond .ne 7, 3) := dk_154 0 7 (dk_at dksX6_readPlace_0 8 rfl rfl)
theorem dX6_readPlace_11 : decode cX6_readPlace 11 = .ok (.aload_n 0, 1) := dk_42 (dk_at dksX6_readPlace_0 11 rfl rfl)
theorem dX6_readPlace_12 : decode cX6_readPlace 12 = .ok (.invokevirtual 259, 3) := dk_182 1 3 (dk_at dksX6_readPlace_0 12 rfl rfl)
theorem dX6_readPlace_15 : decode cX6_readPlace 15 = .ok (.aload_n 0, 1) := dk_42 (dk_at dksX6_readPlace_0 15 rfl rfl)
theorem dX6_readPlace_16 : decode cX6_readPlace 16 = .ok (.getfield 246, 3) := dk_180 0 246 (dk_at dksX6_readPlace_0 16 rfl rfl)
theorem dX6_readPlace_19 : decode cX6_readPlace 19 = .ok (.ifCond .ne 19, 3) := dk_154 0 19 (dk_at dksX6_readPlace_0 19 rfl rfl)
theorem dX6_readPlace_22 : decode cX6_readPlace 22 = .ok (.aload_n 0, 1) := dk_42 (dk_at dksX6_readPlace_0 22 rfl rfl)
theorem dX6_readPlace_23 : decode cX6_readPlace 23 = .ok (.invokevirtual 272, 3) := dk_182 1 16 (dk_at dksX6_readPlace_1 0 rfl rfl)
theorem dX6_readPlace_26 : decode cX6_readPlace 26 = .ok (.ifCond .lt 12, 3) := dk_155 0 12 (dk_at dksX6_readPlace_1 3 rfl rfl)
theorem dX6_readPlace_29 : decode cX6_readPlace 29 = .ok (.aload_n 0, 1) := dk_42 (dk_at dksX6_readPlace_1 6 rfl rfl)
theorem dX6_readPlace_30 : decode cX6_readPlace 30 = .ok (.iconst 3, 1) := dk_6 (dk_at dksX6_readPlace_1 7 rfl rfl)
theorem dX6_readPlace_31 : decode cX6_readPlace 31 = .ok (.aload_n 0, 1) := dk_42 (dk_at dksX6_readPlace_1 8 rfl rfl)
theorem dX6_readPlace_32 : decode cX6_readPlace 32 = .ok (.getfield 187, 3) := dk_180 0 187 (dk_at dksX6_readPlace_1 9 rfl rfl)
theorem dX6_readPlace_35 : decode cX6_readPlace 35 = .ok (.invokevirtual 252, 3) := dk_182 0 252 (dk_at dksX6_readPlace_1 12 rfl rfl)
theorem dX6_readPlace_38 : decode cX6_readPlace 38 = .ok (.aload_n 0, 1) := dk_42 (dk_at dksX6_readPlace_1 15 rfl rfl)
theorem dX6_readPlace_39 : decode cX6_readPlace 39 = .ok (.getfield 246, 3) := dk_180 0 246 (dk_at dksX6_readPlace_1 16 rfl rfl)
theorem dX6_readPlace_42 : decode cX6_readPlace 42 = .ok (.ifCond .ne 22, 3) := dk_154 0 22 (dk_at dksX6_readPlace_1 19 rfl rfl)
theorem dX6_readPlace_45 : decode cX6_readPlace 45 = .ok (.aload_n 0, 1) := dk_42 (dk_at dksX6_readPlace_1 22 rfl rfl)
theorem dX6_readPlace_46 : decode cX6_readPlace 46 = .ok (.getfield 266, 3) := dk_180 1 10 (dk_at dksX6_readPlace_2 0 rfl rfl)
theorem dX6_readPlace_49 : decode cX6_readPlace 49 = .ok (.bipush 8, 2) := dk_16 8 (dk_at dksX6_readPlace_2 3 rfl rfl)
theorem dX6_readPlace_51 : decode cX6_readPlace 51 = .ok (.if_icmp .ne 13, 3) := dk_160 0 13 (dk_at dksX6_readPlace_2 5 rfl rfl)
theorem dX6_readPlace_54 : decode cX6_readPlace 54 = .ok (.aload_n 0, 1) := dk_42 (dk_at dksX6_readPlace_2 8 rfl rfl)
theorem dX6_readPlace_55 : decode cX6_readPlace 55 = .ok (.bipush 6, 2) := dk_16 6 (dk_at dksX6_readPlace_2 9 rfl rfl)
theorem dX6_readPlace_57 : decode cX6_readPlace 57 = .ok (.aload_n 0, 1) := dk_42 (dk_at dksX6_readPlace_2 11 rfl rfl)
theorem dX6_readPlace_58 : decode cX6_readPlace 58 = .ok (.getfield 187, 3) := dk_180 0 187 (dk_at dksX6_readPlace_2 12 rfl rfl)
theorem dX6_readPlace_61 : decode cX6_readPlace 61 = .ok (.invokevirtual 252, 3) := dk_182 0 252 (dk_at dksX6_readPlace_2 15 rfl rfl)
theorem dX6_readPlace_64 : decode cX6_readPlace 64 = .ok (.aload_n 0, 1) := dk_42 (dk_at dksX6_readPlace_2 18 rfl rfl)
theorem dX6_readPlace_65 : decode cX6_readPlace 65 = .ok (.getfield 246, 3) := dk_180 0 246 (dk_at dksX6_readPlace_2 19 rfl rfl)
theorem dX6_readPlace_68 : decode cX6_readPlace 68 = .ok (.ifCond .le 4, 3) := dk_158 0 4 (dk_at dksX6_readPlace_3 0 rfl rfl)
theorem dX6_readPlace_71 : decode cX6_readPlace 71 = .ok (.return_, 1) := dk_177 (dk_at dksX6_readPlace_3 3 rfl rfl)
theorem dX6_readPlace_72 : decode cX6_readPlace 72 = .ok (.aload_n 0, 1) := dk_42 (dk_at dksX6_readPlace_3 4 rfl rfl)
theorem dX6_readPlace_73 : decode cX6_readPlace 73 = .ok (.getfield 266, 3) := dk_180 1 10 (dk_at dksX6_readPlace_3 5 rfl rfl)
theorem dX6_readPlace_76 : decode cX6_readPlace 76 = .ok (.istore_n 1, 1) := dk_60 (dk_at dksX6_readPlace_3 8 rfl rfl)
theorem dX6_readPlace_77 : decode cX6_readPlace 77 = .ok (.aload_n 0, 1) := dk_42 (dk_at dksX6_readPlace_3 9 rfl rfl)
theorem dX6_readPlace_78 : decode cX6_readPlace 78 = .ok (.getfield 72, 3) := dk_180 0 72 (dk_at dksX6_readPlace_3 10 rfl rfl)
theorem dX6_readPlace_81 : decode cX6_readPlace 81 = .ok (.iload_n 1, 1) := dk_27 (dk_at dksX6_readPlace_3 13 rfl rfl)
theorem dX6_readPlace_82 : decode cX6_readPlace 82 = .ok (.aload_n 0, 1) := dk_42 (dk_at dksX6_readPlace_3 14 rfl rfl)
theorem dX6_readPlace_83 : decode cX6_readPlace 83 = .ok (.getfield 199, 3) := dk_180 0 199 (dk_at dksX6_readPlace_3 15 rfl rfl)
theorem dX6_readPlace_86 : decode cX6_readPlace 86 = .ok (.lastore, 1) := dk_80 (dk_at dksX6_readPlace_3 18 rfl rfl)
theorem dX6_readPlace_87 : decode cX6_readPlace 87 = .ok (.aload_n 0, 1) := dk_42 (dk_at dksX6_readPlace_3 19 rfl rfl)
theorem dX6_readPlace_88 : decode cX6_readPlace 88 = .ok (.getfield 41, 3) := dk_180 0 41 (dk_at dksX6_readPlace_3 20 rfl rfl)
theorem dX6_readPlace_91 : decode cX6_readPlace 91 = .ok (.iconst 3, 1) := dk_6 (dk_at dksX6_readPlace_3 23 rfl rfl)
theorem dX6_readPlace_92 : decode cX6_readPlace 92 = .ok (.iload_n 1, 1) := dk_27 (dk_at dksX6_readPlace_4 0 rfl rfl)
theorem dX6_readPlace_93 : decode cX6_readPlace 93 = .ok (.imul, 1) := dk_104 (dk_at dksX6_readPlace_4 1 rfl rfl)
theorem dX6_readPlace_94 : decode cX6_readPlace 94 = .ok (.iconst 0, 1) := dk_3 (dk_at dksX6_readPlace_4 2 rfl rfl)
theorem dX6_readPlace_95 : decode cX6_readPlace 95 = .ok (.iastore, 1) := dk_79 (dk_at dksX6_readPlace_4 3 rfl rfl)
theorem dX6_readPlace_96 : decode cX6_readPlace 96 = .ok (.aload_n 0, 1) := dk_42 (dk_at dksX6_readPlace_4 4 rfl rfl)
theorem dX6_readPlace_97 : decode cX6_readPlace 97 = .ok (.getfield 41, 3) := dk_180 0 41 (dk_at dksX6_readPlace_4 5 rfl rfl)
theorem dX6_readPlace_100 : decode cX6_readPlace 100 = .ok (.iconst 3, 1) := dk_6 (dk_at dksX6_readPlace_4 8 rfl rfl)
theorem dX6_readPlace_101 : decode cX6_readPlace 101 = .ok (.iload_n 1, 1) := dk_27 (dk_at dksX6_readPlace_4 9 rfl rfl)
theorem dX6_readPlace_102 : decode cX6_readPlace 102 = .ok (.imul, 1) := dk_104 (dk_at dksX6_readPlace_4 10 rfl rfl)
theorem dX6_readPlace_103 : decode cX6_readPlace 103 = .ok (.iconst 1, 1) := dk_4 (dk_at dksX6_readPlace_4 11 rfl rfl)
theorem dX6_readPlace_104 : decode cX6_readPlace 104 = .ok (.iadd, 1) := dk_96 (dk_at dksX6_readPlace_4 12 rfl rfl)
theorem dX6_readPlace_105 : decode cX6_readPlace 105 = .ok (.iconst 1, 1) := dk_4 (dk_at dksX6_readPlace_4 13 rfl rfl)
theorem dX6_readPlace_106 : decode cX6_readPlace 106 = .ok (.iastore, 1) := dk_79 (dk_at dksX6_readPlace_4 14 rfl rfl)
theorem dX6_readPlace_107 : decode cX6_readPlace 107 = .ok (.aload_n 0, 1) := dk_42 (dk_at dksX6_readPlace_4 15 rfl rfl)
theorem dX6_readPlace_108 : decode cX6_readPlace 108 = .ok (.getfield 41, 3) := dk_180 0 41 (dk_at dksX6_readPlace_4 16 rfl rfl)
theorem dX6_readPlace_111 : decode cX6_readPlace 111 = .ok (.iconst 3, 1) := dk_6 (dk_at dksX6_readPlace_4 19 rfl rfl)
theorem dX6_readPlace_112 : decode cX6_readPlace 112 = .ok (.iload_n 1, 1) := dk_27 (dk_at dksX6_readPlace_4 20 rfl rfl)
theorem dX6_readPlace_113 : decode cX6_readPlace 113 = .ok (.imul, 1) := dk_104 (dk_at dksX6_readPlace_4 21 rfl rfl)
theorem dX6_readPlace_114 : decode cX6_readPlace 114 = .ok (.iconst 2, 1) := dk_5 (dk_at dksX6_readPlace_4 22 rfl rfl)
theorem dX6_readPlace_115 : decode cX6_readPlace 115 = .ok (.iadd, 1) := dk_96 (dk_at dksX6_readPlace_4 23 rfl rfl)
theorem dX6_readPlace_116 : decode cX6_readPlace 116 = .ok (.iconst 1, 1) := dk_4 (dk_at dksX6_readPlace_5 0 rfl rfl)
theorem dX6_readPlace_117 : decode cX6_readPlace 117 = .ok (.iastore, 1) := dk_79 (dk_at dksX6_readPlace_5 1 rfl rfl)
theorem dX6_readPlace_118 : decode cX6_readPlace 118 = .ok (.aload_n 0, 1) := dk_42 (dk_at dksX6_readPlace_5 2 rfl rfl)
theorem dX6_readPlace_119 : decode cX6_readPlace 119 = .ok (.getfield 47, 3) := dk_180 0 47 (dk_at dksX6_readPlace_5 3 rfl rfl)
theorem dX6_readPlace_122 : decode cX6_readPlace 122 = .ok (.iload_n 1, 1) := dk_27 (dk_at dksX6_readPlace_5 6 rfl rfl)
theorem dX6_readPlace_123 : decode cX6_readPlace 123 = .ok (.iconst 0, 1) := dk_3 (dk_at dksX6_readPlace_5 7 rfl rfl)
theorem dX6_readPlace_124 : decode cX6_readPlace 124 = .ok (.iastore, 1) := dk_79 (dk_at dksX6_readPlace_5 8 rfl rfl)
theorem dX6_readPlace_125 : decode cX6_readPlace 125 = .ok (.aload_n 0, 1) := dk_42 (dk_at dksX6_readPlace_5 9 rfl rfl)
theorem dX6_readPlace_126 : decode cX6_readPlace 126 = .ok (.invokevirtual 256, 3) := dk_182 1 0 (dk_at dksX6_readPlace_5 10 rfl rfl)
theorem dX6_readPlace_129 : decode cX6_readPlace 129 = .ok (.iconst 0, 1) := dk_3 (dk_at dksX6_readPlace_5 13 rfl rfl)
theorem dX6_readPlace_130 : decode cX6_readPlace 130 = .ok (.istore_n 2, 1) := dk_61 (dk_at dksX6_readPlace_5 14 rfl rfl)
theorem dX6_readPlace_131 : decode cX6_readPlace 131 = .ok (.aload_n 0, 1) := dk_42 (dk_at dksX6_readPlace_5 15 rfl rfl)
theorem dX6_readPlace_132 : decode cX6_readPlace 132 = .ok (.getfield 246, 3) := dk_180 0 246 (dk_at dksX6_readPlace_5 16 rfl rfl)
theorem dX6_readPlace_135 : decode cX6_readPlace 135 = .ok (.ifCond .ne 79, 3) := dk_154 0 79 (dk_at dksX6_readPlace_5 19 rfl rfl)
theorem dX6_readPlace_138 : decode cX6_readPlace 138 = .ok (.aload_n 0, 1) := dk_42 (dk_at dksX6_readPlace_5 22 rfl rfl)
theorem dX6_readPlace_139 : decode cX6_readPlace 139 = .ok (.invokevirtual 223, 3) := dk_182 0 223 (dk_at dksX6_readPlace_6 0 rfl rfl)
theorem dX6_readPlace_142 : decode cX6_readPlace 142 = .ok (.ifCond .lt 72, 3) := dk_155 0 72 (dk_at dksX6_readPlace_6 3 rfl rfl)
theorem dX6_readPlace_145 : decode cX6_readPlace 145 = .ok (.aload_n 0, 1) := dk_42 (dk_at dksX6_readPlace_6 6 rfl rfl)
theorem dX6_readPlace_146 : decode cX6_readPlace 146 = .ok (.invokevirtual 223, 3) := dk_182 0 223 (dk_at dksX6_readPlace_6 7 rfl rfl)
theorem dX6_readPlace_149 : decode cX6_readPlace 149 = .ok (.istore_n 3, 1) := dk_62 (dk_at dksX6_readPlace_6 10 rfl rfl)
theorem dX6_readPlace_150 : decode cX6_readPlace 150 = .ok (.iload_n 2, 1) := dk_28 (dk_at dksX6_readPlace_6 11 rfl rfl)
theorem dX6_readPlace_151 : decode cX6_readPlace 151 = .ok (.iload_n 3, 1) := dk_29 (dk_at dksX6_readPlace_6 12 rfl rfl)
theorem dX6_readPlace_152 : decode cX6_readPlace 152 = .ok (.ishr, 1) := dk_122 (dk_at dksX6_readPlace_6 13 rfl rfl)
theorem dX6_readPlace_153 : decode cX6_readPlace 153 = .ok (.iconst 1, 1) := dk_4 (dk_at dksX6_readPlace_6 14 rfl rfl)
theorem dX6_readPlace_154 : decode cX6_readPlace 154 = .ok (.iand, 1) := dk_126 (dk_at dksX6_readPlace_6 15 rfl rfl)
theorem dX6_readPlace_155 : decode cX6_readPlace 155 = .ok (.iconst 1, 1) := dk_4 (dk_at dksX6_readPlace_6 16 rfl rfl)
theorem dX6_readPlace_156 : decode cX6_readPlace 156 = .ok (.if_icmp .ne 12, 3) := dk_160 0 12 (dk_at dksX6_readPlace_6 17 rfl rfl)
theorem dX6_readPlace_159 : decode cX6_readPlace 159 = .ok (.aload_n 0, 1) := dk_42 (dk_at dksX6_readPlace_6 20 rfl rfl)
theorem dX6_readPlace_160 : decode cX6_readPlace 160 = .ok (.iconst 5, 1) := dk_8 (dk_at dksX6_readPlace_6 21 rfl rfl)
theorem dX6_readPlace_161 : decode cX6_readPlace 161 = .ok (.aload_n 0, 1) := dk_42 (dk_at dksX6_readPlace_6 22 rfl rfl)
theorem dX6_readPlace_162 : decode cX6_readPlace 162 = .ok (.getfield 187, 3) := dk_180 0 187 (dk_at dksX6_readPlace_7 0 rfl rfl)
theorem dX6_readPlace_165 : decode cX6_readPlace 165 = .ok (.invokevirtual 252, 3) := dk_182 0 252 (dk_at dksX6_readPlace_7 3 rfl rfl)
theorem dX6_readPlace_168 : decode cX6_readPlace 168 = .ok (.aload_n 0, 1) := dk_42 (dk_at dksX6_readPlace_7 6 rfl rfl)
theorem dX6_readPlace_169 : decode cX6_readPlace 169 = .ok (.getfield 246, 3) := dk_180 0 246 (dk_at dksX6_readPlace_7 7 rfl rfl)
theorem dX6_readPlace_172 : decode cX6_readPlace 172 = .ok (.ifCond .le 4, 3) := dk_158 0 4 (dk_at dksX6_readPlace_7 10 rfl rfl)
theorem dX6_readPlace_175 : decode cX6_readPlace 175 = .ok (.return_, 1) := dk_177 (dk_at dksX6_readPlace_7 13 rfl rfl)
theorem dX6_readPlace_176 : decode cX6_readPlace 176 = .ok (.iload_n 2, 1) := dk_28 (dk_at dksX6_readPlace_7 14 rfl rfl)
theorem dX6_readPlace_177 : decode cX6_readPlace 177 = .ok (.iconst 1, 1) := dk_4 (dk_at dksX6_readPlace_7 15 rfl rfl)
theorem dX6_readPlace_178 : decode cX6_readPlace 178 = .ok (.iload_n 3, 1) := dk_29 (dk_at dksX6_readPlace_7 16 rfl rfl)
theorem dX6_readPlace_179 : decode cX6_readPlace 179 = .ok (.ishl, 1) := dk_120 (dk_at dksX6_readPlace_7 17 rfl rfl)
theorem dX6_readPlace_180 : decode cX6_readPlace 180 = .ok (.ior, 1) := dk_128 (dk_at dksX6_readPlace_7 18 rfl rfl)
theorem dX6_readPlace_181 : decode cX6_readPlace 181 = .ok (.istore_n 2, 1) := dk_61 (dk_at dksX6_readPlace_7 19 rfl rfl)
theorem dX6_readPlace_182 : decode cX6_readPlace 182 = .ok (.aload_n 0, 1) := dk_42 (dk_at dksX6_readPlace_7 20 rfl rfl)
theorem dX6_readPlace_183 : decode cX6_readPlace 183 = .ok (.invokevirtual 256, 3) := dk_182 1 0 (dk_at dksX6_readPlace_7 21 rfl rfl)
theorem dX6_readPlace_186 : decode cX6_readPlace 186 = .ok (.aload_n 0, 1) := dk_42 (dk_at dksX6_readPlace_8 0 rfl rfl)
theorem dX6_readPlace_187 : decode cX6_readPlace 187 = .ok (.getfield 41, 3) := dk_180 0 41 (dk_at dksX6_readPlace_8 1 rfl rfl)
theorem dX6_readPlace_190 : decode cX6_readPlace 190 = .ok (.iconst 3, 1) := dk_6 (dk_at dksX6_readPlace_8 4 rfl rfl)
theorem dX6_readPlace_191 : decode cX6_readPlace 191 = .ok (.iload_n 1, 1) := dk_27 (dk_at dksX6_readPlace_8 5 rfl rfl)
theorem dX6_readPlace_192 : decode cX6_readPlace 192 = .ok (.imul, 1) := dk_104 (dk_at dksX6_readPlace_8 6 rfl rfl)
theorem dX6_readPlace_193 : decode cX6_readPlace 193 = .ok (.iload_n 3, 1) := dk_29 (dk_at dksX6_readPlace_8 7 rfl rfl)
theorem dX6_readPlace_194 : decode cX6_readPlace 194 = .ok (.iadd, 1) := dk_96 (dk_at dksX6_readPlace_8 8 rfl rfl)
theorem dX6_readPlace_195 : decode cX6_readPlace 195 = .ok (.aload_n 0, 1) := dk_42 (dk_at dksX6_readPlace_8 9 rfl rfl)
theorem dX6_readPlace_196 : decode cX6_readPlace 196 = .ok (.iconst 0, 1) := dk_3 (dk_at dksX6_readPlace_8 10 rfl rfl)
theorem dX6_readPlace_197 : decode cX6_readPlace 197 = .ok (.iload_n 3, 1) := dk_29 (dk_at dksX6_readPlace_8 11 rfl rfl)
theorem dX6_readPlace_198 : decode cX6_readPlace 198 = .ok (.ifCond .ne 7, 3) := dk_154 0 7 (dk_at dksX6_readPlace_8 12 rfl rfl)
theorem dX6_readPlace_201 : decode cX6_readPlace 201 = .ok (.iconst 5, 1) := dk_8 (dk_at dksX6_readPlace_8 15 rfl rfl)
theorem dX6_readPlace_202 : decode cX6_readPlace 202 = .ok (.goto 5, 3) := dk_167 0 5 (dk_at dksX6_readPlace_8 16 rfl rfl)
theorem dX6_readPlace_205 : decode cX6_readPlace 205 = .ok (.bipush 9, 2) := dk_16 9 (dk_at dksX6_readPlace_8 19 rfl rfl)
theorem dX6_readPlace_207 : decode cX6_readPlace 207 = .ok (.invokevirtual 275, 3) := dk_182 1 19 (dk_at dksX6_readPlace_8 21 rfl rfl)
theorem dX6_readPlace_210 : decode cX6_readPlace 210 = .ok (.iastore, 1) := dk_79 (dk_at dksX6_readPlace_9 0 rfl rfl)
theorem dX6_readPlace_211 : decode cX6_readPlace 211 = .ok (.goto (-80), 3) := dk_167 255 176 (dk_at dksX6_readPlace_9 1 rfl rfl)
theorem dX6_readPlace_214 : decode cX6_readPlace 214 = .ok (.aload_n 0, 1) := dk_42 (dk_at dksX6_readPlace_9 4 rfl rfl)
theorem dX6_readPlace_215 : decode cX6_readPlace 215 = .ok (.aload_n 0, 1) := dk_42 (dk_at dksX6_readPlace_9 5 rfl rfl)
theorem dX6_readPlace_216 : decode cX6_readPlace 216 = .ok (.getfield 193, 3) := dk_180 0 193 (dk_at dksX6_readPlace_9 6 rfl rfl)
theorem dX6_readPlace_219 : decode cX6_readPlace 219 = .ok (.iconst 3, 1) := dk_6 (dk_at dksX6_readPlace_9 9 rfl rfl)
theorem dX6_readPlace_220 : decode cX6_readPlace 220 = .ok (.if_icmp .ne 7, 3) := dk_160 0 7 (dk_at dksX6_readPlace_9 10 rfl rfl)
theorem dX6_readPlace_223 : decode cX6_readPlace 223 = .ok (.iconst 1, 1) := dk_4 (dk_at dksX6_readPlace_9 13 rfl rfl)
theorem dX6_readPlace_224 : decode cX6_readPlace 224 = .ok (.goto 4, 3) := dk_167 0 4 (dk_at dksX6_readPlace_9 14 rfl rfl)
theorem dX6_readPlace_227 : decode cX6_readPlace 227 = .ok (.iconst 0, 1) := dk_3 (dk_at dksX6_readPlace_9 17 rfl rfl)
theorem dX6_readPlace_228 : decode cX6_readPlace 228 = .ok (.invokevirtual 278, 3) := dk_182 1 22 (dk_at dksX6_readPlace_9 18 rfl rfl)
theorem dX6_readPlace_231 : decode cX6_readPlace 231 = .ok (.aload_n 0, 1) := dk_42 (dk_at dksX6_readPlace_9 21 rfl rfl)
theorem dX6_readPlace_232 : decode cX6_readPlace 232 = .ok (.getfield 246, 3) := dk_180 0 246 (dk_at dksX6_readPlace_10 0 rfl rfl)
theorem dX6_readPlace_235 : decode cX6_readPlace 235 = .ok (.ifCond .ne 13, 3) := dk_154 0 13 (dk_at dksX6_readPlace_10 3 rfl rfl)
theorem dX6_readPlace_238 : decode cX6_readPlace 238 = .ok (.aload_n 0, 1) := dk_42 (dk_at dksX6_readPlace_10 6 rfl rfl)
theorem dX6_readPlace_239 : decode cX6_readPlace 239 = .ok (.dup, 1) := dk_89 (dk_at dksX6_readPlace_10 7 rfl rfl)
theorem dX6_readPlace_240 : decode cX6_readPlace 240 = .ok (.getfield 266, 3) := dk_180 1 10 (dk_at dksX6_readPlace_10 8 rfl rfl)
theorem dX6_readPlace_243 : decode cX6_readPlace 243 = .ok (.iconst 1, 1) := dk_4 (dk_at dksX6_readPlace_10 11 rfl rfl)
theorem dX6_readPlace_244 : decode cX6_readPlace 244 = .ok (.iadd, 1) := dk_96 (dk_at dksX6_readPlace_10 12 rfl rfl)
theorem dX6_readPlace_245 : decode cX6_readPlace 245 = .ok (.putfield 266, 3) := dk_181 1 10 (dk_at dksX6_readPlace_10 13 rfl rfl)
theorem dX6_readPlace_248 : decode cX6_readPlace 248 = .ok (.return_, 1) := dk_177 (dk_at dksX6_readPlace_10 16 rfl rfl)
abbrev cX6_isName : ByteArray := prog_15_method_32_code
def yX6_isName : MethodName := ⟨RX6, "isName", "()Z"⟩
def dkwX6_isName_3 : List UInt8 := [3, 172]
abbrev dktX6_isName_3 : List UInt8 := dkwX6_isName_3 ++ []
def dkwX6_isName_2 : List UInt8 := [182, 0, 237, 154, 0, 21, 42, 182, 0, 240, 154, 0, 14, 42, 182, 0, 243, 154, 0, 7, 4, 167, 0, 4]
abbrev dktX6_isName_2 : List UInt8 := dkwX6_isName_2 ++ dktX6_isName_3
def dkwX6_isName_1 : List UInt8 := [42, 182, 0, 227, 154, 0, 42, 42, 182, 0, 231, 154, 0, 35, 42, 182, 0, 234, 154, 0, 28, 42]
abbrev dktX6_isName_1 : List UInt8 := dkwX6_isName_1 ++ dktX6_isName_2
def dkwX6_isName_0 : List UInt8 := [42, 180, 0, 193, 4, 160, 0, 65, 42, 180, 0, 206, 16, 8, 163, 0, 56, 42, 182, 0, 223, 156, 0, 49]
abbrev dktX6_isName_0 : List UInt8 := dkwX6_isName_0 ++ dktX6_isName_1
theorem dksX6_isName_0 : cX6_isName.data.toList.drop 0 = dktX6_isName_0 := by decide +kernel
theorem dksX6_isName_1 : cX6_isName.data.toList.drop 24 = dktX6_isName_1 := dk_seg dksX6_isName_0 24 rfl rfl
theorem dksX6_isName_2 : cX6_isName.data.toList.drop 46 = dktX6_isName_2 := dk_seg dksX6_isName_1 22 rfl rfl
theorem dksX6_isName_3 : cX6_isName.data.toList.drop 70 = dktX6_isName_3 := dk_seg dksX6_isName_2 24 rfl rfl
theorem dX6_isName_0 : decode cX6_isName 0 = .ok (.aload_n 0, 1) := dk_42 (dk_at dksX6_isName_0 0 rfl rfl)
theorem dX6_isName_1 : decode cX6_isName 1 = .ok (.getfield 193, 3) := dk_180 0 193 (dk_at dksX6_isName_0 1 rfl rfl)
theorem dX6_isName_4 : decode cX6_isName 4 = .ok (.iconst 1, 1) := dk_4 (dk_at dksX6_isName_0 4 rfl rfl)
theorem dX6_isName_5 : decode cX6_isName 5 = .ok (.if_icmp .ne 65, 3) := dk_160 0 65 (dk_at dksX6_isName_0 5 rfl rfl)
theorem dX6_isName_8 : decode cX6_isName 8 = .ok (.aload_n 0, 1) := dk_42 (dk_at dksX6_isName_0 8 rfl rfl)
theorem dX6_isName_9 : decode cX6_isName 9 = .ok (.getfield 206, 3) := dk_180 0 206 (dk_at dksX6_isName_0 9 rfl rfl)
theorem dX6_isName_12 : decode cX6_isName 12 = .ok (.bipush 8, 2) := dk_16 8 (dk_at dksX6_isName_0 12 rfl rfl)
theorem dX6_isName_14 : decode cX6_isName 14 = .ok (.if_icmp .gt 56, 3) := dk_163 0 56 (dk_at dksX6_isName_0 14 rfl rfl)
theorem dX6_isName_17 : decode cX6_isName 17 = .ok (.aload_n 0, 1) := dk_42 (dk_at dksX6_isName_0 17 rfl rfl)
theorem dX6_isName_18 : decode cX6_isName 18 = .ok (.invokevirtual 223, 3) := dk_182 0 223 (dk_at dksX6_isName_0 18 rfl rfl)
theorem dX6_isName_21 : decode cX6_isName 21 = .ok (.ifCond .ge 49, 3) := dk_156 0 49 (dk_at dksX6_isName_0 21 rfl rfl)
theorem dX6_isName_24 : decode cX6_isName 24 = .ok (.aload_n 0, 1) := dk_42 (dk_at dksX6_isName_1 0 rfl rfl)
theorem dX6_isName_25 : decode cX6_isName 25 = .ok (.invokevirtual 227, 3) := dk_182 0 227 (dk_at dksX6_isName_1 1 rfl rfl)
theorem dX6_isName_28 : decode cX6_isName 28 = .ok (.ifCond .ne 42, 3) := dk_154 0 42 (dk_at dksX6_isName_1 4 rfl rfl)
theorem dX6_isName_31 : decode cX6_isName 31 = .ok (.aload_n 0, 1) := dk_42 (dk_at dksX6_isName_1 7 rfl rfl)
theorem dX6_isName_32 : decode cX6_isName 32 = .ok (.invokevirtual 231, 3) := dk_182 0 231 (dk_at dksX6_isName_1 8 rfl rfl)
theorem dX6_isName_35 : decode cX6_isName 35 = .ok (.ifCond .ne 35, 3) := dk_154 0 35 (dk_at dksX6_isName_1 11 rfl rfl)
theorem dX6_isName_38 : decode cX6_isName 38 = .ok (.aload_n 0, 1) := dk_42 (dk_at dksX6_isName_1 14 rfl rfl)
theorem dX6_isName_39 : decode cX6_isName 39 = .ok (.invokevirtual 234, 3) := dk_182 0 234 (dk_at dksX6_isName_1 15 rfl rfl)
theorem dX6_isName_42 : decode cX6_isName 42 = .ok (.ifCond .ne 28, 3) := dk_154 0 28 (dk_at dksX6_isName_1 18 rfl rfl)
theorem dX6_isName_45 : decode cX6_isName 45 = .ok (.aload_n 0, 1) := dk_42 (dk_at dksX6_isName_1 21 rfl rfl)
theorem dX6_isName_46 : decode cX6_isName 46 = .ok (.invokevirtual 237, 3) := dk_182 0 237 (dk_at dksX6_isName_2 0 rfl rfl)
theorem dX6_isName_49 : decode cX6_isName 49 = .ok (.ifCond .ne 21, 3) := dk_154 0 21 (dk_at dksX6_isName_2 3 rfl rfl)
theorem dX6_isName_52 : decode cX6_isName 52 = .ok (.aload_n 0, 1) := dk_42 (dk_at dksX6_isName_2 6 rfl rfl)
theorem dX6_isName_53 : decode cX6_isName 53 = .ok (.invokevirtual 240, 3) := dk_182 0 240 (dk_at dksX6_isName_2 7 rfl rfl)
theorem dX6_isName_56 : decode cX6_isName 56 = .ok (.ifCond .ne 14, 3) := dk_154 0 14 (dk_at dksX6_isName_2 10 rfl rfl)
theorem dX6_isName_59 : decode cX6_isName 59 = .ok (.aload_n 0, 1) := dk_42 (dk_at dksX6_isName_2 13 rfl rfl)
theorem dX6_isName_60 : decode cX6_isName 60 = .ok (.invokevirtual 243, 3) := dk_182 0 243 (dk_at dksX6_isName_2 14 rfl rfl)
theorem dX6_isName_63 : decode cX6_isName 63 = .ok (.ifCond .ne 7, 3) := dk_154 0 7 (dk_at dksX6_isName_2 17 rfl rfl)
theorem dX6_isName_66 : decode cX6_isName 66 = .ok (.iconst 1, 1) := dk_4 (dk_at dksX6_isName_2 20 rfl rfl)
theorem dX6_isName_67 : decode cX6_isName 67 = .ok (.goto 4, 3) := dk_167 0 4 (dk_at dksX6_isName_2 21 rfl rfl)
theorem dX6_isName_70 : decode cX6_isName 70 = .ok (.iconst 0, 1) := dk_3 (dk_at dksX6_isName_3 0 rfl rfl)
theorem dX6_isName_71 : decode cX6_isName 71 = .ok (.ireturn, 1) := dk_172 (dk_at dksX6_isName_3 1 rfl rfl)
abbrev cX6_feature : ByteArray := prog_15_method_31_code
def yX6_feature : MethodName := ⟨RX6, "feature", "()I"⟩
def dkwX6_feature_3 : List UInt8 := [167, 0, 4, 2, 172]
abbrev dktX6_feature_3 : List UInt8 := dkwX6_feature_3 ++ []
def dkwX6_feature_2 : List UInt8 := [16, 115, 16, 101, 16, 99, 16, 111, 16, 110, 16, 100, 184, 0, 215, 182, 0, 219, 153, 0, 7, 5]
abbrev dktX6_feature_2 : List UInt8 := dkwX6_feature_2 ++ dktX6_feature_3
def dkwX6_feature_1 : List UInt8 := [16, 102, 16, 105, 16, 114, 16, 115, 16, 116, 3, 184, 0, 215, 182, 0, 219, 153, 0, 5, 4, 172, 42]
abbrev dktX6_feature_1 : List UInt8 := dkwX6_feature_1 ++ dktX6_feature_2
def dkwX6_feature_0 : List UInt8 := [42, 16, 115, 16, 101, 16, 101, 16, 115, 3, 3, 184, 0, 215, 182, 0, 219, 153, 0, 5, 3, 172, 42]
abbrev dktX6_feature_0 : List UInt8 := dkwX6_feature_0 ++ dktX6_feature_1
theorem dksX6_feature_0 : cX6_feature.data.toList.drop 0 = dktX6_feature_0 := by decide +kernel
theorem dksX6_feature_1 : cX6_feature.data.toList.drop 23 = dktX6_feature_1 := dk_seg dksX6_feature_0 23 rfl rfl
theorem dksX6_feature_2 : cX6_feature.data.toList.drop 46 = dktX6_feature_2 := dk_seg dksX6_feature_1 23 rfl rfl
theorem dksX6_feature_3 : cX6_feature.data.toList.drop 68 = dktX6_feature_3 := dk_seg dksX6_feature_2 22 rfl rfl
theorem dX6_feature_0 : decode cX6_feature 0 = .ok (.aload_n 0, 1) := dk_42 (dk_at dksX6_feature_0 0 rfl rfl)
theorem dX6_feature_1 : decode cX6_feature 1 = .ok (.bipush 115, 2) := dk_16 115 (dk_at dksX6_feature_0 1 rfl rfl)
theorem dX6_feature_3 : decode cX6_feature 3 = .ok (.bipush 101, 2) := dk_16 101 (dk_at dksX6_feature_0 3 rfl rfl)
theorem dX6_feature_5 : decode cX6_feature 5 = .ok (.bipush 101, 2) := dk_16 101 (dk_at dksX6_feature_0 5 rfl rfl)
theorem dX6_feature_7 : decode cX6_feature 7 = .ok (.bipush 115, 2) := dk_16 115 (dk_at dksX6_feature_0 7 rfl rfl)
theorem dX6_feature_9 : decode cX6_feature 9 = .ok (.iconst 0, 1) := dk_3 (dk_at dksX6_feature_0 9 rfl rfl)
theorem dX6_feature_10 : decode cX6_feature 10 = .ok (.iconst 0, 1) := dk_3 (dk_at dksX6_feature_0 10 rfl rfl)
theorem dX6_feature_11 : decode cX6_feature 11 = .ok (.invokestatic 215, 3) := dk_184 0 215 (dk_at dksX6_feature_0 11 rfl rfl)
theorem dX6_feature_14 : decode cX6_feature 14 = .ok (.invokevirtual 219, 3) := dk_182 0 219 (dk_at dksX6_feature_0 14 rfl rfl)
theorem dX6_feature_17 : decode cX6_feature 17 = .ok (.ifCond .eq 5, 3) := dk_153 0 5 (dk_at dksX6_feature_0 17 rfl rfl)
theorem dX6_feature_20 : decode cX6_feature 20 = .ok (.iconst 0, 1) := dk_3 (dk_at dksX6_feature_0 20 rfl rfl)
theorem dX6_feature_21 : decode cX6_feature 21 = .ok (.ireturn, 1) := dk_172 (dk_at dksX6_feature_0 21 rfl rfl)
theorem dX6_feature_22 : decode cX6_feature 22 = .ok (.aload_n 0, 1) := dk_42 (dk_at dksX6_feature_0 22 rfl rfl)
theorem dX6_feature_23 : decode cX6_feature 23 = .ok (.bipush 102, 2) := dk_16 102 (dk_at dksX6_feature_1 0 rfl rfl)
theorem dX6_feature_25 : decode cX6_feature 25 = .ok (.bipush 105, 2) := dk_16 105 (dk_at dksX6_feature_1 2 rfl rfl)
theorem dX6_feature_27 : decode cX6_feature 27 = .ok (.bipush 114, 2) := dk_16 114 (dk_at dksX6_feature_1 4 rfl rfl)
theorem dX6_feature_29 : decode cX6_feature 29 = .ok (.bipush 115, 2) := dk_16 115 (dk_at dksX6_feature_1 6 rfl rfl)
theorem dX6_feature_31 : decode cX6_feature 31 = .ok (.bipush 116, 2) := dk_16 116 (dk_at dksX6_feature_1 8 rfl rfl)
theorem dX6_feature_33 : decode cX6_feature 33 = .ok (.iconst 0, 1) := dk_3 (dk_at dksX6_feature_1 10 rfl rfl)
theorem dX6_feature_34 : decode cX6_feature 34 = .ok (.invokestatic 215, 3) := dk_184 0 215 (dk_at dksX6_feature_1 11 rfl rfl)
theorem dX6_feature_37 : decode cX6_feature 37 = .ok (.invokevirtual 219, 3) := dk_182 0 219 (dk_at dksX6_feature_1 14 rfl rfl)
theorem dX6_feature_40 : decode cX6_feature 40 = .ok (.ifCond .eq 5, 3) := dk_153 0 5 (dk_at dksX6_feature_1 17 rfl rfl)
theorem dX6_feature_43 : decode cX6_feature 43 = .ok (.iconst 1, 1) := dk_4 (dk_at dksX6_feature_1 20 rfl rfl)
theorem dX6_feature_44 : decode cX6_feature 44 = .ok (.ireturn, 1) := dk_172 (dk_at dksX6_feature_1 21 rfl rfl)
theorem dX6_feature_45 : decode cX6_feature 45 = .ok (.aload_n 0, 1) := dk_42 (dk_at dksX6_feature_1 22 rfl rfl)
theorem dX6_feature_46 : decode cX6_feature 46 = .ok (.bipush 115, 2) := dk_16 115 (dk_at dksX6_feature_2 0 rfl rfl)
theorem dX6_feature_48 : decode cX6_feature 48 = .ok (.bipush 101, 2) := dk_16 101 (dk_at dksX6_feature_2 2 rfl rfl)
theorem dX6_feature_50 : decode cX6_feature 50 = .ok (.bipush 99, 2) := dk_16 99 (dk_at dksX6_feature_2 4 rfl rfl)
theorem dX6_feature_52 : decode cX6_feature 52 = .ok (.bipush 111, 2) := dk_16 111 (dk_at dksX6_feature_2 6 rfl rfl)
theorem dX6_feature_54 : decode cX6_feature 54 = .ok (.bipush 110, 2) := dk_16 110 (dk_at dksX6_feature_2 8 rfl rfl)
theorem dX6_feature_56 : decode cX6_feature 56 = .ok (.bipush 100, 2) := dk_16 100 (dk_at dksX6_feature_2 10 rfl rfl)
theorem dX6_feature_58 : decode cX6_feature 58 = .ok (.invokestatic 215, 3) := dk_184 0 215 (dk_at dksX6_feature_2 12 rfl rfl)
theorem dX6_feature_61 : decode cX6_feature 61 = .ok (.invokevirtual 219, 3) := dk_182 0 219 (dk_at dksX6_feature_2 15 rfl rfl)
theorem dX6_feature_64 : decode cX6_feature 64 = .ok (.ifCond .eq 7, 3) := dk_153 0 7 (dk_at dksX6_feature_2 18 rfl rfl)
theorem dX6_feature_67 : decode cX6_feature 67 = .ok (.iconst 2, 1) := dk_5 (dk_at dksX6_feature_2 21 rfl rfl)
theorem dX6_feature_68 : decode cX6_feature 68 = .ok (.goto 4, 3) := dk_167 0 4 (dk_at dksX6_feature_3 0 rfl rfl)
theorem dX6_feature_71 : decode cX6_feature 71 = .ok (.iconst (-1), 1) := dk_2 (dk_at dksX6_feature_3 3 rfl rfl)
theorem dX6_feature_72 : decode cX6_feature 72 = .ok (.ireturn, 1) := dk_172 (dk_at dksX6_feature_3 4 rfl rfl)
abbrev cX6_isLane : ByteArray := prog_15_method_26_code
def yX6_isLane : MethodName := ⟨RX6, "isLane", "()Z"⟩
def dkwX6_isLane_0 : List UInt8 := [42, 16, 108, 16, 97, 16, 110, 16, 101, 3, 3, 184, 0, 215, 182, 0, 219, 172]
abbrev dktX6_isLane_0 : List UInt8 := dkwX6_isLane_0 ++ []
theorem dksX6_isLane_0 : cX6_isLane.data.toList.drop 0 = dktX6_isLane_0 := by decide +kernel
theorem dX6_isLane_0 : decode cX6_isLane 0 = .ok (.aload_n 0, 1) := dk_42 (dk_at dksX6_isLane_0 0 rfl rfl)
theorem dX6_isLane_1 : decode cX6_isLane 1 = .ok (.bipush 108, 2) := dk_16 108 (dk_at dksX6_isLane_0 1 rfl rfl)
theorem dX6_isLane_3 : decode cX6_isLane 3 = .ok (.bipush 97, 2) := dk_16 97 (dk_at dksX6_isLane_0 3 rfl rfl)
theorem dX6_isLane_5 : decode cX6_isLane 5 = .ok (.bipush 110, 2) := dk_16 110 (dk_at dksX6_isLane_0 5 rfl rfl)
theorem dX6_isLane_7 : decode cX6_isLane 7 = .ok (.bipush 101, 2) := dk_16 101 (dk_at dksX6_isLane_0 7 rfl rfl)
theorem dX6_isLane_9 : decode cX6_isLane 9 = .ok (.iconst 0, 1) := dk_3 (dk_at dksX6_isLane_0 9 rfl rfl)
theorem dX6_isLane_10 : decode cX6_isLane 10 = .ok (.iconst 0, 1) := dk_3 (dk_at dksX6_isLane_0 10 rfl rfl)
theorem dX6_isLane_11 : decode cX6_isLane 11 = .ok (.invokestatic 215, 3) := dk_184 0 215 (dk_at dksX6_isLane_0 11 rfl rfl)
theorem dX6_isLane_14 : decode cX6_isLane 14 = .ok (.invokevirtual 219, 3) := dk_182 0 219 (dk_at dksX6_isLane_0 14 rfl rfl)
theorem dX6_isLane_17 : decode cX6_isLane 17 = .ok (.ireturn, 1) := dk_172 (dk_at dksX6_isLane_0 17 rfl rfl)
abbrev cX6_isTo : ByteArray := prog_15_method_27_code
def yX6_isTo : MethodName := ⟨RX6, "isTo", "()Z"⟩
def dkwX6_isTo_0 : List UInt8 := [42, 16, 116, 16, 111, 3, 3, 3, 3, 184, 0, 215, 182, 0, 219, 172]
abbrev dktX6_isTo_0 : List UInt8 := dkwX6_isTo_0 ++ []
theorem dksX6_isTo_0 : cX6_isTo.data.toList.drop 0 = dktX6_isTo_0 := by decide +kernel
theorem dX6_isTo_0 : decode cX6_isTo 0 = .ok (.aload_n 0, 1) := dk_42 (dk_at dksX6_isTo_0 0 rfl rfl)
theorem dX6_isTo_1 : decode cX6_isTo 1 = .ok (.bipush 116, 2) := dk_16 116 (dk_at dksX6_isTo_0 1 rfl rfl)
theorem dX6_isTo_3 : decode cX6_isTo 3 = .ok (.bipush 111, 2) := dk_16 111 (dk_at dksX6_isTo_0 3 rfl rfl)
theorem dX6_isTo_5 : decode cX6_isTo 5 = .ok (.iconst 0, 1) := dk_3 (dk_at dksX6_isTo_0 5 rfl rfl)
theorem dX6_isTo_6 : decode cX6_isTo 6 = .ok (.iconst 0, 1) := dk_3 (dk_at dksX6_isTo_0 6 rfl rfl)
theorem dX6_isTo_7 : decode cX6_isTo 7 = .ok (.iconst 0, 1) := dk_3 (dk_at dksX6_isTo_0 7 rfl rfl)
theorem dX6_isTo_8 : decode cX6_isTo 8 = .ok (.iconst 0, 1) := dk_3 (dk_at dksX6_isTo_0 8 rfl rfl)
theorem dX6_isTo_9 : decode cX6_isTo 9 = .ok (.invokestatic 215, 3) := dk_184 0 215 (dk_at dksX6_isTo_0 9 rfl rfl)
theorem dX6_isTo_12 : decode cX6_isTo 12 = .ok (.invokevirtual 219, 3) := dk_182 0 219 (dk_at dksX6_isTo_0 12 rfl rfl)
theorem dX6_isTo_15 : decode cX6_isTo 15 = .ok (.ireturn, 1) := dk_172 (dk_at dksX6_isTo_0 15 rfl rfl)
abbrev cX6_isCross : ByteArray := prog_15_method_28_code
def yX6_isCross : MethodName := ⟨RX6, "isCross", "()Z"⟩
def dkwX6_isCross_0 : List UInt8 := [42, 16, 99, 16, 114, 16, 111, 16, 115, 16, 115, 3, 184, 0, 215, 182, 0, 219, 172]
abbrev dktX6_isCross_0 : List UInt8 := dkwX6_isCross_0 ++ []
theorem dksX6_isCross_0 : cX6_isCross.data.toList.drop 0 = dktX6_isCross_0 := by decide +kernel
theorem dX6_isCross_0 : decode cX6_isCross 0 = .ok (.aload_n 0, 1) := dk_42 (dk_at dksX6_isCross_0 0 rfl rfl)
theorem dX6_isCross_1 : decode cX6_isCross 1 = .ok (.bipush 99, 2) := dk_16 99 (dk_at dksX6_isCross_0 1 rfl rfl)
theorem dX6_isCross_3 : decode cX6_isCross 3 = .ok (.bipush 114, 2) := dk_16 114 (dk_at dksX6_isCross_0 3 rfl rfl)
theorem dX6_isCross_5 : decode cX6_isCross 5 = .ok (.bipush 111, 2) := dk_16 111 (dk_at dksX6_isCross_0 5 rfl rfl)
theorem dX6_isCross_7 : decode cX6_isCross 7 = .ok (.bipush 115, 2) := dk_16 115 (dk_at dksX6_isCross_0 7 rfl rfl)
theorem dX6_isCross_9 : decode cX6_isCross 9 = .ok (.bipush 115, 2) := dk_16 115 (dk_at dksX6_isCross_0 9 rfl rfl)
theorem dX6_isCross_11 : decode cX6_isCross 11 = .ok (.iconst 0, 1) := dk_3 (dk_at dksX6_isCross_0 11 rfl rfl)
theorem dX6_isCross_12 : decode cX6_isCross 12 = .ok (.invokestatic 215, 3) := dk_184 0 215 (dk_at dksX6_isCross_0 12 rfl rfl)
theorem dX6_isCross_15 : decode cX6_isCross 15 = .ok (.invokevirtual 219, 3) := dk_182 0 219 (dk_at dksX6_isCross_0 15 rfl rfl)
theorem dX6_isCross_18 : decode cX6_isCross 18 = .ok (.ireturn, 1) := dk_172 (dk_at dksX6_isCross_0 18 rfl rfl)
abbrev cX6_isSlow : ByteArray := prog_15_method_29_code
def yX6_isSlow : MethodName := ⟨RX6, "isSlow", "()Z"⟩
def dkwX6_isSlow_0 : List UInt8 := [42, 16, 115, 16, 108, 16, 111, 16, 119, 3, 3, 184, 0, 215, 182, 0, 219, 172]
abbrev dktX6_isSlow_0 : List UInt8 := dkwX6_isSlow_0 ++ []
theorem dksX6_isSlow_0 : cX6_isSlow.data.toList.drop 0 = dktX6_isSlow_0 := by decide +kernel
theorem dX6_isSlow_0 : decode cX6_isSlow 0 = .ok (.aload_n 0, 1) := dk_42 (dk_at dksX6_isSlow_0 0 rfl rfl)
theorem dX6_isSlow_1 : decode cX6_isSlow 1 = .ok (.bipush 115, 2) := dk_16 115 (dk_at dksX6_isSlow_0 1 rfl rfl)
theorem dX6_isSlow_3 : decode cX6_isSlow 3 = .ok (.bipush 108, 2) := dk_16 108 (dk_at dksX6_isSlow_0 3 rfl rfl)
theorem dX6_isSlow_5 : decode cX6_isSlow 5 = .ok (.bipush 111, 2) := dk_16 111 (dk_at dksX6_isSlow_0 5 rfl rfl)
theorem dX6_isSlow_7 : decode cX6_isSlow 7 = .ok (.bipush 119, 2) := dk_16 119 (dk_at dksX6_isSlow_0 7 rfl rfl)
theorem dX6_isSlow_9 : decode cX6_isSlow 9 = .ok (.iconst 0, 1) := dk_3 (dk_at dksX6_isSlow_0 9 rfl rfl)
theorem dX6_isSlow_10 : decode cX6_isSlow 10 = .ok (.iconst 0, 1) := dk_3 (dk_at dksX6_isSlow_0 10 rfl rfl)
theorem dX6_isSlow_11 : decode cX6_isSlow 11 = .ok (.invokestatic 215, 3) := dk_184 0 215 (dk_at dksX6_isSlow_0 11 rfl rfl)
theorem dX6_isSlow_14 : decode cX6_isSlow 14 = .ok (.invokevirtual 219, 3) := dk_182 0 219 (dk_at dksX6_isSlow_0 14 rfl rfl)
theorem dX6_isSlow_17 : decode cX6_isSlow 17 = .ok (.ireturn, 1) := dk_172 (dk_at dksX6_isSlow_0 17 rfl rfl)
abbrev cX6_isHears : ByteArray := prog_15_method_30_code
def yX6_isHears : MethodName := ⟨RX6, "isHears", "()Z"⟩
def dkwX6_isHears_0 : List UInt8 := [42, 16, 104, 16, 101, 16, 97, 16, 114, 16, 115, 3, 184, 0, 215, 182, 0, 219, 172]
abbrev dktX6_isHears_0 : List UInt8 := dkwX6_isHears_0 ++ []
theorem dksX6_isHears_0 : cX6_isHears.data.toList.drop 0 = dktX6_isHears_0 := by decide +kernel
theorem dX6_isHears_0 : decode cX6_isHears 0 = .ok (.aload_n 0, 1) := dk_42 (dk_at dksX6_isHears_0 0 rfl rfl)
theorem dX6_isHears_1 : decode cX6_isHears 1 = .ok (.bipush 104, 2) := dk_16 104 (dk_at dksX6_isHears_0 1 rfl rfl)
theorem dX6_isHears_3 : decode cX6_isHears 3 = .ok (.bipush 101, 2) := dk_16 101 (dk_at dksX6_isHears_0 3 rfl rfl)
theorem dX6_isHears_5 : decode cX6_isHears 5 = .ok (.bipush 97, 2) := dk_16 97 (dk_at dksX6_isHears_0 5 rfl rfl)
theorem dX6_isHears_7 : decode cX6_isHears 7 = .ok (.bipush 114, 2) := dk_16 114 (dk_at dksX6_isHears_0 7 rfl rfl)
theorem dX6_isHears_9 : decode cX6_isHears 9 = .ok (.bipush 115, 2) := dk_16 115 (dk_at dksX6_isHears_0 9 rfl rfl)
theorem dX6_isHears_11 : decode cX6_isHears 11 = .ok (.iconst 0, 1) := dk_3 (dk_at dksX6_isHears_0 11 rfl rfl)
theorem dX6_isHears_12 : decode cX6_isHears 12 = .ok (.invokestatic 215, 3) := dk_184 0 215 (dk_at dksX6_isHears_0 12 rfl rfl)
theorem dX6_isHears_15 : decode cX6_isHears 15 = .ok (.invokevirtual 219, 3) := dk_182 0 219 (dk_at dksX6_isHears_0 15 rfl rfl)
theorem dX6_isHears_18 : decode cX6_isHears 18 = .ok (.ireturn, 1) := dk_172 (dk_at dksX6_isHears_0 18 rfl rfl)
abbrev cX6_wrong : ByteArray := prog_15_method_34_code
def yX6_wrong : MethodName := ⟨RX6, "wrong", "()V"⟩
def dkwX6_wrong_0 : List UInt8 := [42, 42, 180, 0, 193, 7, 160, 0, 7, 4, 167, 0, 4, 5, 42, 180, 0, 187, 182, 0, 252, 177]
abbrev dktX6_wrong_0 : List UInt8 := dkwX6_wrong_0 ++ []
theorem dksX6_wrong_0 : cX6_wrong.data.toList.drop 0 = dktX6_wrong_0 := by decide +kernel
theorem dX6_wrong_0 : decode cX6_wrong 0 = .ok (.aload_n 0, 1) := dk_42 (dk_at dksX6_wrong_0 0 rfl rfl)
theorem dX6_wrong_1 : decode cX6_wrong 1 = .ok (.aload_n 0, 1) := dk_42 (dk_at dksX6_wrong_0 1 rfl rfl)
theorem dX6_wrong_2 : decode cX6_wrong 2 = .ok (.getfield 193, 3) := dk_180 0 193 (dk_at dksX6_wrong_0 2 rfl rfl)
theorem dX6_wrong_5 : decode cX6_wrong 5 = .ok (.iconst 4, 1) := dk_7 (dk_at dksX6_wrong_0 5 rfl rfl)
theorem dX6_wrong_6 : decode cX6_wrong 6 = .ok (.if_icmp .ne 7, 3) := dk_160 0 7 (dk_at dksX6_wrong_0 6 rfl rfl)
theorem dX6_wrong_9 : decode cX6_wrong 9 = .ok (.iconst 1, 1) := dk_4 (dk_at dksX6_wrong_0 9 rfl rfl)
theorem dX6_wrong_10 : decode cX6_wrong 10 = .ok (.goto 4, 3) := dk_167 0 4 (dk_at dksX6_wrong_0 10 rfl rfl)
theorem dX6_wrong_13 : decode cX6_wrong 13 = .ok (.iconst 2, 1) := dk_5 (dk_at dksX6_wrong_0 13 rfl rfl)
theorem dX6_wrong_14 : decode cX6_wrong 14 = .ok (.aload_n 0, 1) := dk_42 (dk_at dksX6_wrong_0 14 rfl rfl)
theorem dX6_wrong_15 : decode cX6_wrong 15 = .ok (.getfield 187, 3) := dk_180 0 187 (dk_at dksX6_wrong_0 15 rfl rfl)
theorem dX6_wrong_18 : decode cX6_wrong 18 = .ok (.invokevirtual 252, 3) := dk_182 0 252 (dk_at dksX6_wrong_0 18 rfl rfl)
theorem dX6_wrong_21 : decode cX6_wrong 21 = .ok (.return_, 1) := dk_177 (dk_at dksX6_wrong_0 21 rfl rfl)
abbrev cX6_fail : ByteArray := prog_15_method_33_code
def yX6_fail : MethodName := ⟨RX6, "fail", "(II)V"⟩
def dkwX6_fail_0 : List UInt8 := [42, 180, 0, 246, 158, 0, 4, 177, 42, 27, 181, 0, 246, 42, 28, 181, 0, 249, 177]
abbrev dktX6_fail_0 : List UInt8 := dkwX6_fail_0 ++ []
theorem dksX6_fail_0 : cX6_fail.data.toList.drop 0 = dktX6_fail_0 := by decide +kernel
theorem dX6_fail_0 : decode cX6_fail 0 = .ok (.aload_n 0, 1) := dk_42 (dk_at dksX6_fail_0 0 rfl rfl)
theorem dX6_fail_1 : decode cX6_fail 1 = .ok (.getfield 246, 3) := dk_180 0 246 (dk_at dksX6_fail_0 1 rfl rfl)
theorem dX6_fail_4 : decode cX6_fail 4 = .ok (.ifCond .le 4, 3) := dk_158 0 4 (dk_at dksX6_fail_0 4 rfl rfl)
theorem dX6_fail_7 : decode cX6_fail 7 = .ok (.return_, 1) := dk_177 (dk_at dksX6_fail_0 7 rfl rfl)
theorem dX6_fail_8 : decode cX6_fail 8 = .ok (.aload_n 0, 1) := dk_42 (dk_at dksX6_fail_0 8 rfl rfl)
theorem dX6_fail_9 : decode cX6_fail 9 = .ok (.iload_n 1, 1) := dk_27 (dk_at dksX6_fail_0 9 rfl rfl)
theorem dX6_fail_10 : decode cX6_fail 10 = .ok (.putfield 246, 3) := dk_181 0 246 (dk_at dksX6_fail_0 10 rfl rfl)
theorem dX6_fail_13 : decode cX6_fail 13 = .ok (.aload_n 0, 1) := dk_42 (dk_at dksX6_fail_0 13 rfl rfl)
theorem dX6_fail_14 : decode cX6_fail 14 = .ok (.iload_n 2, 1) := dk_28 (dk_at dksX6_fail_0 14 rfl rfl)
theorem dX6_fail_15 : decode cX6_fail 15 = .ok (.putfield 249, 3) := dk_181 0 249 (dk_at dksX6_fail_0 15 rfl rfl)
theorem dX6_fail_18 : decode cX6_fail 18 = .ok (.return_, 1) := dk_177 (dk_at dksX6_fail_0 18 rfl rfl)
abbrev cX6_named : ByteArray := prog_15_method_37_code
def yX6_named : MethodName := ⟨RX6, "named", "()I"⟩
def dkwX6_named_1 : List UInt8 := [27, 172, 132, 1, 1, 167, 255, 229, 2, 172]
abbrev dktX6_named_1 : List UInt8 := dkwX6_named_1 ++ []
def dkwX6_named_0 : List UInt8 := [3, 60, 27, 42, 180, 1, 10, 162, 0, 25, 42, 180, 0, 72, 27, 47, 42, 180, 0, 199, 148, 154, 0, 5]
abbrev dktX6_named_0 : List UInt8 := dkwX6_named_0 ++ dktX6_named_1
theorem dksX6_named_0 : cX6_named.data.toList.drop 0 = dktX6_named_0 := by decide +kernel
theorem dksX6_named_1 : cX6_named.data.toList.drop 24 = dktX6_named_1 := dk_seg dksX6_named_0 24 rfl rfl
theorem dX6_named_0 : decode cX6_named 0 = .ok (.iconst 0, 1) := dk_3 (dk_at dksX6_named_0 0 rfl rfl)
theorem dX6_named_1 : decode cX6_named 1 = .ok (.istore_n 1, 1) := dk_60 (dk_at dksX6_named_0 1 rfl rfl)
theorem dX6_named_2 : decode cX6_named 2 = .ok (.iload_n 1, 1) := dk_27 (dk_at dksX6_named_0 2 rfl rfl)
theorem dX6_named_3 : decode cX6_named 3 = .ok (.aload_n 0, 1) := dk_42 (dk_at dksX6_named_0 3 rfl rfl)
theorem dX6_named_4 : decode cX6_named 4 = .ok (.getfield 266, 3) := dk_180 1 10 (dk_at dksX6_named_0 4 rfl rfl)
theorem dX6_named_7 : decode cX6_named 7 = .ok (.if_icmp .ge 25, 3) := dk_162 0 25 (dk_at dksX6_named_0 7 rfl rfl)
theorem dX6_named_10 : decode cX6_named 10 = .ok (.aload_n 0, 1) := dk_42 (dk_at dksX6_named_0 10 rfl rfl)
theorem dX6_named_11 : decode cX6_named 11 = .ok (.getfield 72, 3) := dk_180 0 72 (dk_at dksX6_named_0 11 rfl rfl)
theorem dX6_named_14 : decode cX6_named 14 = .ok (.iload_n 1, 1) := dk_27 (dk_at dksX6_named_0 14 rfl rfl)
theorem dX6_named_15 : decode cX6_named 15 = .ok (.laload, 1) := dk_47 (dk_at dksX6_named_0 15 rfl rfl)
theorem dX6_named_16 : decode cX6_named 16 = .ok (.aload_n 0, 1) := dk_42 (dk_at dksX6_named_0 16 rfl rfl)
theorem dX6_named_17 : decode cX6_named 17 = .ok (.getfield 199, 3) := dk_180 0 199 (dk_at dksX6_named_0 17 rfl rfl)
theorem dX6_named_20 : decode cX6_named 20 = .ok (.lcmp, 1) := dk_148 (dk_at dksX6_named_0 20 rfl rfl)
theorem dX6_named_21 : decode cX6_named 21 = .ok (.ifCond .ne 5, 3) := dk_154 0 5 (dk_at dksX6_named_0 21 rfl rfl)
theorem dX6_named_24 : decode cX6_named 24 = .ok (.iload_n 1, 1) := dk_27 (dk_at dksX6_named_1 0 rfl rfl)
theorem dX6_named_25 : decode cX6_named 25 = .ok (.ireturn, 1) := dk_172 (dk_at dksX6_named_1 1 rfl rfl)
theorem dX6_named_26 : decode cX6_named 26 = .ok (.iinc 1 1, 3) := dk_132 1 1 (dk_at dksX6_named_1 2 rfl rfl)
theorem dX6_named_29 : decode cX6_named 29 = .ok (.goto (-27), 3) := dk_167 255 229 (dk_at dksX6_named_1 5 rfl rfl)
theorem dX6_named_32 : decode cX6_named 32 = .ok (.iconst (-1), 1) := dk_2 (dk_at dksX6_named_1 8 rfl rfl)
theorem dX6_named_33 : decode cX6_named 33 = .ok (.ireturn, 1) := dk_172 (dk_at dksX6_named_1 9 rfl rfl)
abbrev cX6_count : ByteArray := prog_15_method_36_code
def yX6_count : MethodName := ⟨RX6, "count", "(II)I"⟩
def dkwX6_count_2 : List UInt8 := [182, 0, 252, 42, 180, 0, 246, 158, 0, 5, 3, 172, 42, 180, 0, 212, 62, 42, 182, 1, 0, 29, 172]
abbrev dktX6_count_2 : List UInt8 := dkwX6_count_2 ++ []
def dkwX6_count_1 : List UInt8 := [154, 0, 27, 42, 180, 0, 212, 133, 27, 133, 28, 133, 184, 1, 6, 154, 0, 12, 42, 7, 42, 180, 0, 187]
abbrev dktX6_count_1 : List UInt8 := dkwX6_count_1 ++ dktX6_count_2
def dkwX6_count_0 : List UInt8 := [42, 180, 0, 246, 154, 0, 15, 42, 180, 0, 193, 5, 159, 0, 7, 42, 182, 1, 3, 42, 180, 0, 246]
abbrev dktX6_count_0 : List UInt8 := dkwX6_count_0 ++ dktX6_count_1
theorem dksX6_count_0 : cX6_count.data.toList.drop 0 = dktX6_count_0 := by decide +kernel
theorem dksX6_count_1 : cX6_count.data.toList.drop 23 = dktX6_count_1 := dk_seg dksX6_count_0 23 rfl rfl
theorem dksX6_count_2 : cX6_count.data.toList.drop 47 = dktX6_count_2 := dk_seg dksX6_count_1 24 rfl rfl
theorem dX6_count_0 : decode cX6_count 0 = .ok (.aload_n 0, 1) := dk_42 (dk_at dksX6_count_0 0 rfl rfl)
theorem dX6_count_1 : decode cX6_count 1 = .ok (.getfield 246, 3) := dk_180 0 246 (dk_at dksX6_count_0 1 rfl rfl)
theorem dX6_count_4 : decode cX6_count 4 = .ok (.ifCond .ne 15, 3) := dk_154 0 15 (dk_at dksX6_count_0 4 rfl rfl)
theorem dX6_count_7 : decode cX6_count 7 = .ok (.aload_n 0, 1) := dk_42 (dk_at dksX6_count_0 7 rfl rfl)
theorem dX6_count_8 : decode cX6_count 8 = .ok (.getfield 193, 3) := dk_180 0 193 (dk_at dksX6_count_0 8 rfl rfl)
theorem dX6_count_11 : decode cX6_count 11 = .ok (.iconst 2, 1) := dk_5 (dk_at dksX6_count_0 11 rfl rfl)
theorem dX6_count_12 : decode cX6_count 12 = .ok (.if_icmp .eq 7, 3) := dk_159 0 7 (dk_at dksX6_count_0 12 rfl rfl)
theorem dX6_count_15 : decode cX6_count 15 = .ok (.aload_n 0, 1) := dk_42 (dk_at dksX6_count_0 15 rfl rfl)
theorem dX6_count_16 : decode cX6_count 16 = .ok (.invokevirtual 259, 3) := dk_182 1 3 (dk_at dksX6_count_0 16 rfl rfl)
theorem dX6_count_19 : decode cX6_count 19 = .ok (.aload_n 0, 1) := dk_42 (dk_at dksX6_count_0 19 rfl rfl)
theorem dX6_count_20 : decode cX6_count 20 = .ok (.getfield 246, 3) := dk_180 0 246 (dk_at dksX6_count_0 20 rfl rfl)
theorem dX6_count_23 : decode cX6_count 23 = .ok (.ifCond .ne 27, 3) := dk_154 0 27 (dk_at dksX6_count_1 0 rfl rfl)
theorem dX6_count_26 : decode cX6_count 26 = .ok (.aload_n 0, 1) := dk_42 (dk_at dksX6_count_1 3 rfl rfl)
theorem dX6_count_27 : decode cX6_count 27 = .ok (.getfield 212, 3) := dk_180 0 212 (dk_at dksX6_count_1 4 rfl rfl)
theorem dX6_count_30 : decode cX6_count 30 = .ok (.i2l, 1) := dk_133 (dk_at dksX6_count_1 7 rfl rfl)
theorem dX6_count_31 : decode cX6_count 31 = .ok (.iload_n 1, 1) := dk_27 (dk_at dksX6_count_1 8 rfl rfl)
theorem dX6_count_32 : decode cX6_count 32 = .ok (.i2l, 1) := dk_133 (dk_at dksX6_count_1 9 rfl rfl)
theorem dX6_count_33 : decode cX6_count 33 = .ok (.iload_n 2, 1) := dk_28 (dk_at dksX6_count_1 10 rfl rfl)
theorem dX6_count_34 : decode cX6_count 34 = .ok (.i2l, 1) := dk_133 (dk_at dksX6_count_1 11 rfl rfl)
theorem dX6_count_35 : decode cX6_count 35 = .ok (.invokestatic 262, 3) := dk_184 1 6 (dk_at dksX6_count_1 12 rfl rfl)
theorem dX6_count_38 : decode cX6_count 38 = .ok (.ifCond .ne 12, 3) := dk_154 0 12 (dk_at dksX6_count_1 15 rfl rfl)
theorem dX6_count_41 : decode cX6_count 41 = .ok (.aload_n 0, 1) := dk_42 (dk_at dksX6_count_1 18 rfl rfl)
theorem dX6_count_42 : decode cX6_count 42 = .ok (.iconst 4, 1) := dk_7 (dk_at dksX6_count_1 19 rfl rfl)
theorem dX6_count_43 : decode cX6_count 43 = .ok (.aload_n 0, 1) := dk_42 (dk_at dksX6_count_1 20 rfl rfl)
theorem dX6_count_44 : decode cX6_count 44 = .ok (.getfield 187, 3) := dk_180 0 187 (dk_at dksX6_count_1 21 rfl rfl)
theorem dX6_count_47 : decode cX6_count 47 = .ok (.invokevirtual 252, 3) := dk_182 0 252 (dk_at dksX6_count_2 0 rfl rfl)
theorem dX6_count_50 : decode cX6_count 50 = .ok (.aload_n 0, 1) := dk_42 (dk_at dksX6_count_2 3 rfl rfl)
theorem dX6_count_51 : decode cX6_count 51 = .ok (.getfield 246, 3) := dk_180 0 246 (dk_at dksX6_count_2 4 rfl rfl)
theorem dX6_count_54 : decode cX6_count 54 = .ok (.ifCond .le 5, 3) := dk_158 0 5 (dk_at dksX6_count_2 7 rfl rfl)
theorem dX6_count_57 : decode cX6_count 57 = .ok (.iconst 0, 1) := dk_3 (dk_at dksX6_count_2 10 rfl rfl)
theorem dX6_count_58 : decode cX6_count 58 = .ok (.ireturn, 1) := dk_172 (dk_at dksX6_count_2 11 rfl rfl)
theorem dX6_count_59 : decode cX6_count 59 = .ok (.aload_n 0, 1) := dk_42 (dk_at dksX6_count_2 12 rfl rfl)
theorem dX6_count_60 : decode cX6_count 60 = .ok (.getfield 212, 3) := dk_180 0 212 (dk_at dksX6_count_2 13 rfl rfl)
theorem dX6_count_63 : decode cX6_count 63 = .ok (.istore_n 3, 1) := dk_62 (dk_at dksX6_count_2 16 rfl rfl)
theorem dX6_count_64 : decode cX6_count 64 = .ok (.aload_n 0, 1) := dk_42 (dk_at dksX6_count_2 17 rfl rfl)
theorem dX6_count_65 : decode cX6_count 65 = .ok (.invokevirtual 256, 3) := dk_182 1 0 (dk_at dksX6_count_2 18 rfl rfl)
theorem dX6_count_68 : decode cX6_count 68 = .ok (.iload_n 3, 1) := dk_29 (dk_at dksX6_count_2 21 rfl rfl)
theorem dX6_count_69 : decode cX6_count 69 = .ok (.ireturn, 1) := dk_172 (dk_at dksX6_count_2 22 rfl rfl)
abbrev cX6_isIn : ByteArray := prog_15_method_8_code
def yX6_isIn : MethodName := ⟨RX6, "isIn", "(JJJ)Z"⟩
def dkwX6_isIn_0 : List UInt8 := [30, 32, 148, 155, 0, 14, 30, 22, 4, 148, 157, 0, 7, 4, 167, 0, 4, 3, 172]
abbrev dktX6_isIn_0 : List UInt8 := dkwX6_isIn_0 ++ []
theorem dksX6_isIn_0 : cX6_isIn.data.toList.drop 0 = dktX6_isIn_0 := by decide +kernel
theorem dX6_isIn_0 : decode cX6_isIn 0 = .ok (.lload_n 0, 1) := dk_30 (dk_at dksX6_isIn_0 0 rfl rfl)
theorem dX6_isIn_1 : decode cX6_isIn 1 = .ok (.lload_n 2, 1) := dk_32 (dk_at dksX6_isIn_0 1 rfl rfl)
theorem dX6_isIn_2 : decode cX6_isIn 2 = .ok (.lcmp, 1) := dk_148 (dk_at dksX6_isIn_0 2 rfl rfl)
theorem dX6_isIn_3 : decode cX6_isIn 3 = .ok (.ifCond .lt 14, 3) := dk_155 0 14 (dk_at dksX6_isIn_0 3 rfl rfl)
theorem dX6_isIn_6 : decode cX6_isIn 6 = .ok (.lload_n 0, 1) := dk_30 (dk_at dksX6_isIn_0 6 rfl rfl)
theorem dX6_isIn_7 : decode cX6_isIn 7 = .ok (.lload 4, 2) := dk_22 4 (dk_at dksX6_isIn_0 7 rfl rfl)
theorem dX6_isIn_9 : decode cX6_isIn 9 = .ok (.lcmp, 1) := dk_148 (dk_at dksX6_isIn_0 9 rfl rfl)
theorem dX6_isIn_10 : decode cX6_isIn 10 = .ok (.ifCond .gt 7, 3) := dk_157 0 7 (dk_at dksX6_isIn_0 10 rfl rfl)
theorem dX6_isIn_13 : decode cX6_isIn 13 = .ok (.iconst 1, 1) := dk_4 (dk_at dksX6_isIn_0 13 rfl rfl)
theorem dX6_isIn_14 : decode cX6_isIn 14 = .ok (.goto 4, 3) := dk_167 0 4 (dk_at dksX6_isIn_0 14 rfl rfl)
theorem dX6_isIn_17 : decode cX6_isIn 17 = .ok (.iconst 0, 1) := dk_3 (dk_at dksX6_isIn_0 17 rfl rfl)
theorem dX6_isIn_18 : decode cX6_isIn 18 = .ok (.ireturn, 1) := dk_172 (dk_at dksX6_isIn_0 18 rfl rfl)
abbrev cX6_must : ByteArray := prog_15_method_35_code
def yX6_must : MethodName := ⟨RX6, "must", "(Z)V"⟩
def dkwX6_must_0 : List UInt8 := [42, 180, 0, 246, 158, 0, 4, 177, 27, 153, 0, 10, 42, 182, 1, 0, 167, 0, 7, 42, 182, 1, 3, 177]
abbrev dktX6_must_0 : List UInt8 := dkwX6_must_0 ++ []
theorem dksX6_must_0 : cX6_must.data.toList.drop 0 = dktX6_must_0 := by decide +kernel
theorem dX6_must_0 : decode cX6_must 0 = .ok (.aload_n 0, 1) := dk_42 (dk_at dksX6_must_0 0 rfl rfl)
theorem dX6_must_1 : decode cX6_must 1 = .ok (.getfield 246, 3) := dk_180 0 246 (dk_at dksX6_must_0 1 rfl rfl)
theorem dX6_must_4 : decode cX6_must 4 = .ok (.ifCond .le 4, 3) := dk_158 0 4 (dk_at dksX6_must_0 4 rfl rfl)
theorem dX6_must_7 : decode cX6_must 7 = .ok (.return_, 1) := dk_177 (dk_at dksX6_must_0 7 rfl rfl)
theorem dX6_must_8 : decode cX6_must 8 = .ok (.iload_n 1, 1) := dk_27 (dk_at dksX6_must_0 8 rfl rfl)
theorem dX6_must_9 : decode cX6_must 9 = .ok (.ifCond .eq 10, 3) := dk_153 0 10 (dk_at dksX6_must_0 9 rfl rfl)
theorem dX6_must_12 : decode cX6_must 12 = .ok (.aload_n 0, 1) := dk_42 (dk_at dksX6_must_0 12 rfl rfl)
theorem dX6_must_13 : decode cX6_must 13 = .ok (.invokevirtual 256, 3) := dk_182 1 0 (dk_at dksX6_must_0 13 rfl rfl)
theorem dX6_must_16 : decode cX6_must 16 = .ok (.goto 7, 3) := dk_167 0 7 (dk_at dksX6_must_0 16 rfl rfl)
theorem dX6_must_19 : decode cX6_must 19 = .ok (.aload_n 0, 1) := dk_42 (dk_at dksX6_must_0 19 rfl rfl)
theorem dX6_must_20 : decode cX6_must 20 = .ok (.invokevirtual 259, 3) := dk_182 1 3 (dk_at dksX6_must_0 20 rfl rfl)
theorem dX6_must_23 : decode cX6_must 23 = .ok (.return_, 1) := dk_177 (dk_at dksX6_must_0 23 rfl rfl)
abbrev cX6_readLane : ByteArray := prog_15_method_40_code
def yX6_readLane : MethodName := ⟨RX6, "readLane", "()V"⟩
def dkwX6_readLane_14 : List UInt8 := [181, 1, 26, 177]
abbrev dktX6_readLane_14 : List UInt8 := dkwX6_readLane_14 ++ []
def dkwX6_readLane_13 : List UInt8 := [92, 46, 4, 96, 79, 42, 180, 0, 47, 28, 92, 46, 4, 96, 79, 42, 89, 180, 1, 26, 4, 96]
abbrev dktX6_readLane_13 : List UInt8 := dkwX6_readLane_13 ++ dktX6_readLane_14
def dkwX6_readLane_12 : List UInt8 := [42, 180, 0, 53, 7, 28, 104, 42, 180, 0, 47, 28, 46, 96, 42, 180, 1, 26, 79, 42, 180, 0, 47, 27]
abbrev dktX6_readLane_12 : List UInt8 := dkwX6_readLane_12 ++ dktX6_readLane_13
def dkwX6_readLane_11 : List UInt8 := [180, 1, 26, 28, 79, 42, 180, 0, 53, 7, 27, 104, 42, 180, 0, 47, 27, 46, 96, 42, 180, 1, 26, 79]
abbrev dktX6_readLane_11 : List UInt8 := dkwX6_readLane_11 ++ dktX6_readLane_12
def dkwX6_readLane_10 : List UInt8 := [42, 180, 0, 246, 158, 0, 4, 177, 42, 180, 0, 62, 42, 180, 1, 26, 27, 79, 42, 180, 0, 65, 42]
abbrev dktX6_readLane_10 : List UInt8 := dkwX6_readLane_10 ++ dktX6_readLane_11
def dkwX6_readLane_9 : List UInt8 := [154, 0, 7, 42, 182, 1, 0, 42, 42, 180, 0, 193, 6, 160, 0, 7, 4, 167, 0, 4, 3, 182, 1, 22]
abbrev dktX6_readLane_9 : List UInt8 := dkwX6_readLane_9 ++ dktX6_readLane_10
def dkwX6_readLane_8 : List UInt8 := [160, 0, 13, 42, 16, 6, 42, 180, 0, 187, 182, 0, 252, 132, 3, 1, 167, 255, 188, 42, 180, 0, 246]
abbrev dktX6_readLane_8 : List UInt8 := dkwX6_readLane_8 ++ dktX6_readLane_9
def dkwX6_readLane_7 : List UInt8 := [29, 46, 28, 159, 0, 23, 42, 180, 0, 62, 29, 46, 28, 160, 0, 23, 42, 180, 0, 65, 29, 46, 27]
abbrev dktX6_readLane_7 : List UInt8 := dkwX6_readLane_7 ++ dktX6_readLane_8
def dkwX6_readLane_6 : List UInt8 := [162, 0, 66, 42, 180, 0, 246, 154, 0, 59, 42, 180, 0, 62, 29, 46, 27, 160, 0, 13, 42, 180, 0, 65]
abbrev dktX6_readLane_6 : List UInt8 := dkwX6_readLane_6 ++ dktX6_readLane_7
def dkwX6_readLane_5 : List UInt8 := [28, 46, 7, 160, 0, 13, 42, 16, 6, 42, 180, 0, 187, 182, 0, 252, 3, 62, 29, 42, 180, 1, 26]
abbrev dktX6_readLane_5 : List UInt8 := dkwX6_readLane_5 ++ dktX6_readLane_6
def dkwX6_readLane_4 : List UInt8 := [28, 160, 0, 12, 42, 8, 42, 180, 0, 187, 182, 0, 252, 42, 180, 0, 246, 154, 0, 23, 42, 180, 0, 47]
abbrev dktX6_readLane_4 : List UInt8 := dkwX6_readLane_4 ++ dktX6_readLane_5
def dkwX6_readLane_3 : List UInt8 := [182, 1, 0, 42, 42, 182, 0, 234, 182, 1, 22, 42, 182, 1, 29, 61, 42, 180, 0, 246, 154, 0, 17, 27]
abbrev dktX6_readLane_3 : List UInt8 := dkwX6_readLane_3 ++ dktX6_readLane_4
def dkwX6_readLane_2 : List UInt8 := [27, 46, 7, 160, 0, 13, 42, 16, 6, 42, 180, 0, 187, 182, 0, 252, 42, 180, 0, 246, 154, 0, 7, 42]
abbrev dktX6_readLane_2 : List UInt8 := dkwX6_readLane_2 ++ dktX6_readLane_3
def dkwX6_readLane_1 : List UInt8 := [158, 0, 4, 177, 42, 182, 1, 0, 42, 182, 1, 29, 60, 42, 180, 0, 246, 154, 0, 23, 42, 180, 0, 47]
abbrev dktX6_readLane_1 : List UInt8 := dkwX6_readLane_1 ++ dktX6_readLane_2
def dkwX6_readLane_0 : List UInt8 := [42, 180, 1, 26, 16, 12, 160, 0, 13, 42, 16, 6, 42, 180, 0, 187, 182, 0, 252, 42, 180, 0, 246]
abbrev dktX6_readLane_0 : List UInt8 := dkwX6_readLane_0 ++ dktX6_readLane_1
theorem dksX6_readLane_0 : cX6_readLane.data.toList.drop 0 = dktX6_readLane_0 := by decide +kernel
theorem dksX6_readLane_1 : cX6_readLane.data.toList.drop 23 = dktX6_readLane_1 := dk_seg dksX6_readLane_0 23 rfl rfl
theorem dksX6_readLane_2 : cX6_readLane.data.toList.drop 47 = dktX6_readLane_2 := dk_seg dksX6_readLane_1 24 rfl rfl
theorem dksX6_readLane_3 : cX6_readLane.data.toList.drop 71 = dktX6_readLane_3 := dk_seg dksX6_readLane_2 24 rfl rfl
theorem dksX6_readLane_4 : cX6_readLane.data.toList.drop 95 = dktX6_readLane_4 := dk_seg dksX6_readLane_3 24 rfl rfl
theorem dksX6_readLane_5 : cX6_readLane.data.toList.drop 119 = dktX6_readLane_5 := dk_seg dksX6_readLane_4 24 rfl rfl
theorem dksX6_readLane_6 : cX6_readLane.data.toList.drop 142 = dktX6_readLane_6 := dk_seg dksX6_readLane_5 23 rfl rfl
theorem dksX6_readLane_7 : cX6_readLane.data.toList.drop 166 = dktX6_readLane_7 := dk_seg dksX6_readLane_6 24 rfl rfl
theorem dksX6_readLane_8 : cX6_readLane.data.toList.drop 189 = dktX6_readLane_8 := dk_seg dksX6_readLane_7 23 rfl rfl
theorem dksX6_readLane_9 : cX6_readLane.data.toList.drop 212 = dktX6_readLane_9 := dk_seg dksX6_readLane_8 23 rfl rfl
theorem dksX6_readLane_10 : cX6_readLane.data.toList.drop 236 = dktX6_readLane_10 := dk_seg dksX6_readLane_9 24 rfl rfl
theorem dksX6_readLane_11 : cX6_readLane.data.toList.drop 259 = dktX6_readLane_11 := dk_seg dksX6_readLane_10 23 rfl rfl
theorem dksX6_readLane_12 : cX6_readLane.data.toList.drop 283 = dktX6_readLane_12 := dk_seg dksX6_readLane_11 24 rfl rfl
theorem dksX6_readLane_13 : cX6_readLane.data.toList.drop 307 = dktX6_readLane_13 := dk_seg dksX6_readLane_12 24 rfl rfl
theorem dksX6_readLane_14 : cX6_readLane.data.toList.drop 329 = dktX6_readLane_14 := dk_seg dksX6_readLane_13 22 rfl rfl
theorem dX6_readLane_0 : decode cX6_readLane 0 = .ok (.aload_n 0, 1) := dk_42 (dk_at dksX6_readLane_0 0 rfl rfl)
theorem dX6_readLane_1 : decode cX6_readLane 1 = .ok (.getfield 282, 3) := dk_180 1 26 (dk_at dksX6_readLane_0 1 rfl rfl)
theorem dX6_readLane_4 : decode cX6_readLane 4 = .ok (.bipush 12, 2) := dk_16 12 (dk_at dksX6_readLane_0 4 rfl rfl)
theorem dX6_readLane_6 : decode cX6_readLane 6 = .ok (.if_icmp .ne 13, 3) := dk_160 0 13 (dk_at dksX6_readLane_0 6 rfl rfl)
theorem dX6_readLane_9 : decode cX6_readLane 9 = .ok (.aload_n 0, 1) := dk_42 (dk_at dksX6_readLane_0 9 rfl rfl)
theorem dX6_readLane_10 : decode cX6_readLane 10 = .ok (.bipush 6, 2) := dk_16 6 (dk_at dksX6_readLane_0 10 rfl rfl)
theorem dX6_readLane_12 : decode cX6_readLane 12 = .ok (.aload_n 0, 1) := dk_42 (dk_at dksX6_readLane_0 12 rfl rfl)
theorem dX6_readLane_13 : decode cX6_readLane 13 = .ok (.getfield 187, 3) := dk_180 0 187 (dk_at dksX6_readLane_0 13 rfl rfl)
theorem dX6_readLane_16 : decode cX6_readLane 16 = .ok (.invokevirtual 252, 3) := dk_182 0 252 (dk_at dksX6_readLane_0 16 rfl rfl)
theorem dX6_readLane_19 : decode cX6_readLane 19 = .ok (.aload_n 0, 1) := dk_42 (dk_at dksX6_readLane_0 19 rfl rfl)
theorem dX6_readLane_20 : decode cX6_readLane 20 = .ok (.getfield 246, 3) := dk_180 0 246 (dk_at dksX6_readLane_0 20 rfl rfl)
theorem dX6_readLane_23 : decode cX6_readLane 23 = .ok (.ifCond .le 4, 3) := dk_158 0 4 (dk_at dksX6_readLane_1 0 rfl rfl)
theorem dX6_readLane_26 : decode cX6_readLane 26 = .ok (.return_, 1) := dk_177 (dk_at dksX6_readLane_1 3 rfl rfl)
theorem dX6_readLane_27 : decode cX6_readLane 27 = .ok (.aload_n 0, 1) := dk_42 (dk_at dksX6_readLane_1 4 rfl rfl)
theorem dX6_readLane_28 : decode cX6_readLane 28 = .ok (.invokevirtual 256, 3) := dk_182 1 0 (dk_at dksX6_readLane_1 5 rfl rfl)
theorem dX6_readLane_31 : decode cX6_readLane 31 = .ok (.aload_n 0, 1) := dk_42 (dk_at dksX6_readLane_1 8 rfl rfl)
theorem dX6_readLane_32 : decode cX6_readLane 32 = .ok (.invokevirtual 285, 3) := dk_182 1 29 (dk_at dksX6_readLane_1 9 rfl rfl)
theorem dX6_readLane_35 : decode cX6_readLane 35 = .ok (.istore_n 1, 1) := dk_60 (dk_at dksX6_readLane_1 12 rfl rfl)
theorem dX6_readLane_36 : decode cX6_readLane 36 = .ok (.aload_n 0, 1) := dk_42 (dk_at dksX6_readLane_1 13 rfl rfl)
theorem dX6_readLane_37 : decode cX6_readLane 37 = .ok (.getfield 246, 3) := dk_180 0 246 (dk_at dksX6_readLane_1 14 rfl rfl)
theorem dX6_readLane_40 : decode cX6_readLane 40 = .ok (.ifCond .ne 23, 3) := dk_154 0 23 (dk_at dksX6_readLane_1 17 rfl rfl)
theorem dX6_readLane_43 : decode cX6_readLane 43 = .ok (.aload_n 0, 1) := dk_42 (dk_at dksX6_readLane_1 20 rfl rfl)
theorem dX6_readLane_44 : decode cX6_readLane 44 = .ok (.getfield 47, 3) := dk_180 0 47 (dk_at dksX6_readLane_1 21 rfl rfl)
theorem dX6_readLane_47 : decode cX6_readLane 47 = .ok (.iload_n 1, 1) := dk_27 (dk_at dksX6_readLane_2 0 rfl rfl)
theorem dX6_readLane_48 : decode cX6_readLane 48 = .ok (.iaload, 1) := dk_46 (dk_at dksX6_readLane_2 1 rfl rfl)
theorem dX6_readLane_49 : decode cX6_readLane 49 = .ok (.iconst 4, 1) := dk_7 (dk_at dksX6_readLane_2 2 rfl rfl)
theorem dX6_readLane_50 : decode cX6_readLane 50 = .ok (.if_icmp .ne 13, 3) := dk_160 0 13 (dk_at dksX6_readLane_2 3 rfl rfl)
theorem dX6_readLane_53 : decode cX6_readLane 53 = .ok (.aload_n 0, 1) := dk_42 (dk_at dksX6_readLane_2 6 rfl rfl)
theorem dX6_readLane_54 : decode cX6_readLane 54 = .ok (.bipush 6, 2) := dk_16 6 (dk_at dksX6_readLane_2 7 rfl rfl)
theorem dX6_readLane_56 : decode cX6_readLane 56 = .ok (.aload_n 0, 1) := dk_42 (dk_at dksX6_readLane_2 9 rfl rfl)
theorem dX6_readLane_57 : decode cX6_readLane 57 = .ok (.getfield 187, 3) := dk_180 0 187 (dk_at dksX6_readLane_2 10 rfl rfl)
theorem dX6_readLane_60 : decode cX6_readLane 60 = .ok (.invokevirtual 252, 3) := dk_182 0 252 (dk_at dksX6_readLane_2 13 rfl rfl)
theorem dX6_readLane_63 : decode cX6_readLane 63 = .ok (.aload_n 0, 1) := dk_42 (dk_at dksX6_readLane_2 16 rfl rfl)
theorem dX6_readLane_64 : decode cX6_readLane 64 = .ok (.getfield 246, 3) := dk_180 0 246 (dk_at dksX6_readLane_2 17 rfl rfl)
theorem dX6_readLane_67 : decode cX6_readLane 67 = .ok (.ifCond .ne 7, 3) := dk_154 0 7 (dk_at dksX6_readLane_2 20 rfl rfl)
theorem dX6_readLane_70 : decode cX6_readLane 70 = .ok (.aload_n 0, 1) := dk_42 (dk_at dksX6_readLane_2 23 rfl rfl)
theorem dX6_readLane_71 : decode cX6_readLane 71 = .ok (.invokevirtual 256, 3) := dk_182 1 0 (dk_at dksX6_readLane_3 0 rfl rfl)
theorem dX6_readLane_74 : decode cX6_readLane 74 = .ok (.aload_n 0, 1) := dk_42 (dk_at dksX6_readLane_3 3 rfl rfl)
theorem dX6_readLane_75 : decode cX6_readLane 75 = .ok (.aload_n 0, 1) := dk_42 (dk_at dksX6_readLane_3 4 rfl rfl)
theorem dX6_readLane_76 : decode cX6_readLane 76 = .ok (.invokevirtual 234, 3) := dk_182 0 234 (dk_at dksX6_readLane_3 5 rfl rfl)
theorem dX6_readLane_79 : decode cX6_readLane 79 = .ok (.invokevirtual 278, 3) := dk_182 1 22 (dk_at dksX6_readLane_3 8 rfl rfl)
theorem dX6_readLane_82 : decode cX6_readLane 82 = .ok (.aload_n 0, 1) := dk_42 (dk_at dksX6_readLane_3 11 rfl rfl)
theorem dX6_readLane_83 : decode cX6_readLane 83 = .ok (.invokevirtual 285, 3) := dk_182 1 29 (dk_at dksX6_readLane_3 12 rfl rfl)
theorem dX6_readLane_86 : decode cX6_readLane 86 = .ok (.istore_n 2, 1) := dk_61 (dk_at dksX6_readLane_3 15 rfl rfl)
theorem dX6_readLane_87 : decode cX6_readLane 87 = .ok (.aload_n 0, 1) := dk_42 (dk_at dksX6_readLane_3 16 rfl rfl)
theorem dX6_readLane_88 : decode cX6_readLane 88 = .ok (.getfield 246, 3) := dk_180 0 246 (dk_at dksX6_readLane_3 17 rfl rfl)
theorem dX6_readLane_91 : decode cX6_readLane 91 = .ok (.ifCond .ne 17, 3) := dk_154 0 17 (dk_at dksX6_readLane_3 20 rfl rfl)
theorem dX6_readLane_94 : decode cX6_readLane 94 = .ok (.iload_n 1, 1) := dk_27 (dk_at dksX6_readLane_3 23 rfl rfl)
theorem dX6_readLane_95 : decode cX6_readLane 95 = .ok (.iload_n 2, 1) := dk_28 (dk_at dksX6_readLane_4 0 rfl rfl)
theorem dX6_readLane_96 : decode cX6_readLane 96 = .ok (.if_icmp .ne 12, 3) := dk_160 0 12 (dk_at dksX6_readLane_4 1 rfl rfl)
theorem dX6_readLane_99 : decode cX6_readLane 99 = .ok (.aload_n 0, 1) := dk_42 (dk_at dksX6_readLane_4 4 rfl rfl)
theorem dX6_readLane_100 : decode cX6_readLane 100 = .ok (.iconst 5, 1) := dk_8 (dk_at dksX6_readLane_4 5 rfl rfl)
theorem dX6_readLane_101 : decode cX6_readLane 101 = .ok (.aload_n 0, 1) := dk_42 (dk_at dksX6_readLane_4 6 rfl rfl)
theorem dX6_readLane_102 : decode cX6_readLane 102 = .ok (.getfield 187, 3) := dk_180 0 187 (dk_at dksX6_readLane_4 7 rfl rfl)
theorem dX6_readLane_105 : decode cX6_readLane 105 = .ok (.invokevirtual 252, 3) := dk_182 0 252 (dk_at dksX6_readLane_4 10 rfl rfl)
theorem dX6_readLane_108 : decode cX6_readLane 108 = .ok (.aload_n 0, 1) := dk_42 (dk_at dksX6_readLane_4 13 rfl rfl)
theorem dX6_readLane_109 : decode cX6_readLane 109 = .ok (.getfield 246, 3) := dk_180 0 246 (dk_at dksX6_readLane_4 14 rfl rfl)
theorem dX6_readLane_112 : decode cX6_readLane 112 = .ok (.ifCond .ne 23, 3) := dk_154 0 23 (dk_at dksX6_readLane_4 17 rfl rfl)
theorem dX6_readLane_115 : decode cX6_readLane 115 = .ok (.aload_n 0, 1) := dk_42 (dk_at dksX6_readLane_4 20 rfl rfl)
theorem dX6_readLane_116 : decode cX6_readLane 116 = .ok (.getfield 47, 3) := dk_180 0 47 (dk_at dksX6_readLane_4 21 rfl rfl)
theorem dX6_readLane_119 : decode cX6_readLane 119 = .ok (.iload_n 2, 1) := dk_28 (dk_at dksX6_readLane_5 0 rfl rfl)
theorem dX6_readLane_120 : decode cX6_readLane 120 = .ok (.iaload, 1) := dk_46 (dk_at dksX6_readLane_5 1 rfl rfl)
theorem dX6_readLane_121 : decode cX6_readLane 121 = .ok (.iconst 4, 1) := dk_7 (dk_at dksX6_readLane_5 2 rfl rfl)
theorem dX6_readLane_122 : decode cX6_readLane 122 = .ok (.if_icmp .ne 13, 3) := dk_160 0 13 (dk_at dksX6_readLane_5 3 rfl rfl)
theorem dX6_readLane_125 : decode cX6_readLane 125 = .ok (.aload_n 0, 1) := dk_42 (dk_at dksX6_readLane_5 6 rfl rfl)
theorem dX6_readLane_126 : decode cX6_readLane 126 = .ok (.bipush 6, 2) := dk_16 6 (dk_at dksX6_readLane_5 7 rfl rfl)
theorem dX6_readLane_128 : decode cX6_readLane 128 = .ok (.aload_n 0, 1) := dk_42 (dk_at dksX6_readLane_5 9 rfl rfl)
theorem dX6_readLane_129 : decode cX6_readLane 129 = .ok (.getfield 187, 3) := dk_180 0 187 (dk_at dksX6_readLane_5 10 rfl rfl)
theorem dX6_readLane_132 : decode cX6_readLane 132 = .ok (.invokevirtual 252, 3) := dk_182 0 252 (dk_at dksX6_readLane_5 13 rfl rfl)
theorem dX6_readLane_135 : decode cX6_readLane 135 = .ok (.iconst 0, 1) := dk_3 (dk_at dksX6_readLane_5 16 rfl rfl)
theorem dX6_readLane_136 : decode cX6_readLane 136 = .ok (.istore_n 3, 1) := dk_62 (dk_at dksX6_readLane_5 17 rfl rfl)
theorem dX6_readLane_137 : decode cX6_readLane 137 = .ok (.iload_n 3, 1) := dk_29 (dk_at dksX6_readLane_5 18 rfl rfl)
theorem dX6_readLane_138 : decode cX6_readLane 138 = .ok (.aload_n 0, 1) := dk_42 (dk_at dksX6_readLane_5 19 rfl rfl)
theorem dX6_readLane_139 : decode cX6_readLane 139 = .ok (.getfield 282, 3) := dk_180 1 26 (dk_at dksX6_readLane_5 20 rfl rfl)
theorem dX6_readLane_142 : decode cX6_readLane 142 = .ok (.if_icmp .ge 66, 3) := dk_162 0 66 (dk_at dksX6_readLane_6 0 rfl rfl)
theorem dX6_readLane_145 : decode cX6_readLane 145 = .ok (.aload_n 0, 1) := dk_42 (dk_at dksX6_readLane_6 3 rfl rfl)
theorem dX6_readLane_146 : decode cX6_readLane 146 = .ok (.getfield 246, 3) := dk_180 0 246 (dk_at dksX6_readLane_6 4 rfl rfl)
theorem dX6_readLane_149 : decode cX6_readLane 149 = .ok (.ifCond .ne 59, 3) := dk_154 0 59 (dk_at dksX6_readLane_6 7 rfl rfl)
theorem dX6_readLane_152 : decode cX6_readLane 152 = .ok (.aload_n 0, 1) := dk_42 (dk_at dksX6_readLane_6 10 rfl rfl)
theorem dX6_readLane_153 : decode cX6_readLane 153 = .ok (.getfield 62, 3) := dk_180 0 62 (dk_at dksX6_readLane_6 11 rfl rfl)
theorem dX6_readLane_156 : decode cX6_readLane 156 = .ok (.iload_n 3, 1) := dk_29 (dk_at dksX6_readLane_6 14 rfl rfl)
theorem dX6_readLane_157 : decode cX6_readLane 157 = .ok (.iaload, 1) := dk_46 (dk_at dksX6_readLane_6 15 rfl rfl)
theorem dX6_readLane_158 : decode cX6_readLane 158 = .ok (.iload_n 1, 1) := dk_27 (dk_at dksX6_readLane_6 16 rfl rfl)
theorem dX6_readLane_159 : decode cX6_readLane 159 = .ok (.if_icmp .ne 13, 3) := dk_160 0 13 (dk_at dksX6_readLane_6 17 rfl rfl)
theorem dX6_readLane_162 : decode cX6_readLane 162 = .ok (.aload_n 0, 1) := dk_42 (dk_at dksX6_readLane_6 20 rfl rfl)
theorem dX6_readLane_163 : decode cX6_readLane 163 = .ok (.getfield 65, 3) := dk_180 0 65 (dk_at dksX6_readLane_6 21 rfl rfl)
theorem dX6_readLane_166 : decode cX6_readLane 166 = .ok (.iload_n 3, 1) := dk_29 (dk_at dksX6_readLane_7 0 rfl rfl)
theorem dX6_readLane_167 : decode cX6_readLane 167 = .ok (.iaload, 1) := dk_46 (dk_at dksX6_readLane_7 1 rfl rfl)
theorem dX6_readLane_168 : decode cX6_readLane 168 = .ok (.iload_n 2, 1) := dk_28 (dk_at dksX6_readLane_7 2 rfl rfl)
theorem dX6_readLane_169 : decode cX6_readLane 169 = .ok (.if_icmp .eq 23, 3) := dk_159 0 23 (dk_at dksX6_readLane_7 3 rfl rfl)
theorem dX6_readLane_172 : decode cX6_readLane 172 = .ok (.aload_n 0, 1) := dk_42 (dk_at dksX6_readLane_7 6 rfl rfl)
theorem dX6_readLane_173 : decode cX6_readLane 173 = .ok (.getfield 62, 3) := dk_180 0 62 (dk_at dksX6_readLane_7 7 rfl rfl)
theorem dX6_readLane_176 : decode cX6_readLane 176 = .ok (.iload_n 3, 1) := dk_29 (dk_at dksX6_readLane_7 10 rfl rfl)
theorem dX6_readLane_177 : decode cX6_readLane 177 = .ok (.iaload, 1) := dk_46 (dk_at dksX6_readLane_7 11 rfl rfl)
theorem dX6_readLane_178 : decode cX6_readLane 178 = .ok (.iload_n 2, 1) := dk_28 (dk_at dksX6_readLane_7 12 rfl rfl)
theorem dX6_readLane_179 : decode cX6_readLane 179 = .ok (.if_icmp .ne 23, 3) := dk_160 0 23 (dk_at dksX6_readLane_7 13 rfl rfl)
theorem dX6_readLane_182 : decode cX6_readLane 182 = .ok (.aload_n 0, 1) := dk_42 (dk_at dksX6_readLane_7 16 rfl rfl)
theorem dX6_readLane_183 : decode cX6_readLane 183 = .ok (.getfield 65, 3) := dk_180 0 65 (dk_at dksX6_readLane_7 17 rfl rfl)
theorem dX6_readLane_186 : decode cX6_readLane 186 = .ok (.iload_n 3, 1) := dk_29 (dk_at dksX6_readLane_7 20 rfl rfl)
theorem dX6_readLane_187 : decode cX6_readLane 187 = .ok (.iaload, 1) := dk_46 (dk_at dksX6_readLane_7 21 rfl rfl)
theorem dX6_readLane_188 : decode cX6_readLane 188 = .ok (.iload_n 1, 1) := dk_27 (dk_at dksX6_readLane_7 22 rfl rfl)
theorem dX6_readLane_189 : decode cX6_readLane 189 = .ok (.if_icmp .ne 13, 3) := dk_160 0 13 (dk_at dksX6_readLane_8 0 rfl rfl)
theorem dX6_readLane_192 : decode cX6_readLane 192 = .ok (.aload_n 0, 1) := dk_42 (dk_at dksX6_readLane_8 3 rfl rfl)
theorem dX6_readLane_193 : decode cX6_readLane 193 = .ok (.bipush 6, 2) := dk_16 6 (dk_at dksX6_readLane_8 4 rfl rfl)
theorem dX6_readLane_195 : decode cX6_readLane 195 = .ok (.aload_n 0, 1) := dk_42 (dk_at dksX6_readLane_8 6 rfl rfl)
theorem dX6_readLane_196 : decode cX6_readLane 196 = .ok (.getfield 187, 3) := dk_180 0 187 (dk_at dksX6_readLane_8 7 rfl rfl)
theorem dX6_readLane_199 : decode cX6_readLane 199 = .ok (.invokevirtual 252, 3) := dk_182 0 252 (dk_at dksX6_readLane_8 10 rfl rfl)
theorem dX6_readLane_202 : decode cX6_readLane 202 = .ok (.iinc 3 1, 3) := dk_132 3 1 (dk_at dksX6_readLane_8 13 rfl rfl)
theorem dX6_readLane_205 : decode cX6_readLane 205 = .ok (.goto (-68), 3) := dk_167 255 188 (dk_at dksX6_readLane_8 16 rfl rfl)
theorem dX6_readLane_208 : decode cX6_readLane 208 = .ok (.aload_n 0, 1) := dk_42 (dk_at dksX6_readLane_8 19 rfl rfl)
theorem dX6_readLane_209 : decode cX6_readLane 209 = .ok (.getfield 246, 3) := dk_180 0 246 (dk_at dksX6_readLane_8 20 rfl rfl)
theorem dX6_readLane_212 : decode cX6_readLane 212 = .ok (.ifCond .ne 7, 3) := dk_154 0 7 (dk_at dksX6_readLane_9 0 rfl rfl)
theorem dX6_readLane_215 : decode cX6_readLane 215 = .ok (.aload_n 0, 1) := dk_42 (dk_at dksX6_readLane_9 3 rfl rfl)
theorem dX6_readLane_216 : decode cX6_readLane 216 = .ok (.invokevirtual 256, 3) := dk_182 1 0 (dk_at dksX6_readLane_9 4 rfl rfl)
theorem dX6_readLane_219 : decode cX6_readLane 219 = .ok (.aload_n 0, 1) := dk_42 (dk_at dksX6_readLane_9 7 rfl rfl)
theorem dX6_readLane_220 : decode cX6_readLane 220 = .ok (.aload_n 0, 1) := dk_42 (dk_at dksX6_readLane_9 8 rfl rfl)
theorem dX6_readLane_221 : decode cX6_readLane 221 = .ok (.getfield 193, 3) := dk_180 0 193 (dk_at dksX6_readLane_9 9 rfl rfl)
theorem dX6_readLane_224 : decode cX6_readLane 224 = .ok (.iconst 3, 1) := dk_6 (dk_at dksX6_readLane_9 12 rfl rfl)
theorem dX6_readLane_225 : decode cX6_readLane 225 = .ok (.if_icmp .ne 7, 3) := dk_160 0 7 (dk_at dksX6_readLane_9 13 rfl rfl)
theorem dX6_readLane_228 : decode cX6_readLane 228 = .ok (.iconst 1, 1) := dk_4 (dk_at dksX6_readLane_9 16 rfl rfl)
theorem dX6_readLane_229 : decode cX6_readLane 229 = .ok (.goto 4, 3) := dk_167 0 4 (dk_at dksX6_readLane_9 17 rfl rfl)
theorem dX6_readLane_232 : decode cX6_readLane 232 = .ok (.iconst 0, 1) := dk_3 (dk_at dksX6_readLane_9 20 rfl rfl)
theorem dX6_readLane_233 : decode cX6_readLane 233 = .ok (.invokevirtual 278, 3) := dk_182 1 22 (dk_at dksX6_readLane_9 21 rfl rfl)
theorem dX6_readLane_236 : decode cX6_readLane 236 = .ok (.aload_n 0, 1) := dk_42 (dk_at dksX6_readLane_10 0 rfl rfl)
theorem dX6_readLane_237 : decode cX6_readLane 237 = .ok (.getfield 246, 3) := dk_180 0 246 (dk_at dksX6_readLane_10 1 rfl rfl)
theorem dX6_readLane_240 : decode cX6_readLane 240 = .ok (.ifCond .le 4, 3) := dk_158 0 4 (dk_at dksX6_readLane_10 4 rfl rfl)
theorem dX6_readLane_243 : decode cX6_readLane 243 = .ok (.return_, 1) := dk_177 (dk_at dksX6_readLane_10 7 rfl rfl)
theorem dX6_readLane_244 : decode cX6_readLane 244 = .ok (.aload_n 0, 1) := dk_42 (dk_at dksX6_readLane_10 8 rfl rfl)
theorem dX6_readLane_245 : decode cX6_readLane 245 = .ok (.getfield 62, 3) := dk_180 0 62 (dk_at dksX6_readLane_10 9 rfl rfl)
theorem dX6_readLane_248 : decode cX6_readLane 248 = .ok (.aload_n 0, 1) := dk_42 (dk_at dksX6_readLane_10 12 rfl rfl)
theorem dX6_readLane_249 : decode cX6_readLane 249 = .ok (.getfield 282, 3) := dk_180 1 26 (dk_at dksX6_readLane_10 13 rfl rfl)
theorem dX6_readLane_252 : decode cX6_readLane 252 = .ok (.iload_n 1, 1) := dk_27 (dk_at dksX6_readLane_10 16 rfl rfl)
theorem dX6_readLane_253 : decode cX6_readLane 253 = .ok (.iastore, 1) := dk_79 (dk_at dksX6_readLane_10 17 rfl rfl)
theorem dX6_readLane_254 : decode cX6_readLane 254 = .ok (.aload_n 0, 1) := dk_42 (dk_at dksX6_readLane_10 18 rfl rfl)
theorem dX6_readLane_255 : decode cX6_readLane 255 = .ok (.getfield 65, 3) := dk_180 0 65 (dk_at dksX6_readLane_10 19 rfl rfl)
theorem dX6_readLane_258 : decode cX6_readLane 258 = .ok (.aload_n 0, 1) := dk_42 (dk_at dksX6_readLane_10 22 rfl rfl)
theorem dX6_readLane_259 : decode cX6_readLane 259 = .ok (.getfield 282, 3) := dk_180 1 26 (dk_at dksX6_readLane_11 0 rfl rfl)
theorem dX6_readLane_262 : decode cX6_readLane 262 = .ok (.iload_n 2, 1) := dk_28 (dk_at dksX6_readLane_11 3 rfl rfl)
theorem dX6_readLane_263 : decode cX6_readLane 263 = .ok (.iastore, 1) := dk_79 (dk_at dksX6_readLane_11 4 rfl rfl)
theorem dX6_readLane_264 : decode cX6_readLane 264 = .ok (.aload_n 0, 1) := dk_42 (dk_at dksX6_readLane_11 5 rfl rfl)
theorem dX6_readLane_265 : decode cX6_readLane 265 = .ok (.getfield 53, 3) := dk_180 0 53 (dk_at dksX6_readLane_11 6 rfl rfl)
theorem dX6_readLane_268 : decode cX6_readLane 268 = .ok (.iconst 4, 1) := dk_7 (dk_at dksX6_readLane_11 9 rfl rfl)
theorem dX6_readLane_269 : decode cX6_readLane 269 = .ok (.iload_n 1, 1) := dk_27 (dk_at dksX6_readLane_11 10 rfl rfl)
theorem dX6_readLane_270 : decode cX6_readLane 270 = .ok (.imul, 1) := dk_104 (dk_at dksX6_readLane_11 11 rfl rfl)
theorem dX6_readLane_271 : decode cX6_readLane 271 = .ok (.aload_n 0, 1) := dk_42 (dk_at dksX6_readLane_11 12 rfl rfl)
theorem dX6_readLane_272 : decode cX6_readLane 272 = .ok (.getfield 47, 3) := dk_180 0 47 (dk_at dksX6_readLane_11 13 rfl rfl)
theorem dX6_readLane_275 : decode cX6_readLane 275 = .ok (.iload_n 1, 1) := dk_27 (dk_at dksX6_readLane_11 16 rfl rfl)
theorem dX6_readLane_276 : decode cX6_readLane 276 = .ok (.iaload, 1) := dk_46 (dk_at dksX6_readLane_11 17 rfl rfl)
theorem dX6_readLane_277 : decode cX6_readLane 277 = .ok (.iadd, 1) := dk_96 (dk_at dksX6_readLane_11 18 rfl rfl)
theorem dX6_readLane_278 : decode cX6_readLane 278 = .ok (.aload_n 0, 1) := dk_42 (dk_at dksX6_readLane_11 19 rfl rfl)
theorem dX6_readLane_279 : decode cX6_readLane 279 = .ok (.getfield 282, 3) := dk_180 1 26 (dk_at dksX6_readLane_11 20 rfl rfl)
theorem dX6_readLane_282 : decode cX6_readLane 282 = .ok (.iastore, 1) := dk_79 (dk_at dksX6_readLane_11 23 rfl rfl)
theorem dX6_readLane_283 : decode cX6_readLane 283 = .ok (.aload_n 0, 1) := dk_42 (dk_at dksX6_readLane_12 0 rfl rfl)
theorem dX6_readLane_284 : decode cX6_readLane 284 = .ok (.getfield 53, 3) := dk_180 0 53 (dk_at dksX6_readLane_12 1 rfl rfl)
theorem dX6_readLane_287 : decode cX6_readLane 287 = .ok (.iconst 4, 1) := dk_7 (dk_at dksX6_readLane_12 4 rfl rfl)
theorem dX6_readLane_288 : decode cX6_readLane 288 = .ok (.iload_n 2, 1) := dk_28 (dk_at dksX6_readLane_12 5 rfl rfl)
theorem dX6_readLane_289 : decode cX6_readLane 289 = .ok (.imul, 1) := dk_104 (dk_at dksX6_readLane_12 6 rfl rfl)
theorem dX6_readLane_290 : decode cX6_readLane 290 = .ok (.aload_n 0, 1) := dk_42 (dk_at dksX6_readLane_12 7 rfl rfl)
theorem dX6_readLane_291 : decode cX6_readLane 291 = .ok (.getfield 47, 3) := dk_180 0 47 (dk_at dksX6_readLane_12 8 rfl rfl)
theorem dX6_readLane_294 : decode cX6_readLane 294 = .ok (.iload_n 2, 1) := dk_28 (dk_at dksX6_readLane_12 11 rfl rfl)
theorem dX6_readLane_295 : decode cX6_readLane 295 = .ok (.iaload, 1) := dk_46 (dk_at dksX6_readLane_12 12 rfl rfl)
theorem dX6_readLane_296 : decode cX6_readLane 296 = .ok (.iadd, 1) := dk_96 (dk_at dksX6_readLane_12 13 rfl rfl)
theorem dX6_readLane_297 : decode cX6_readLane 297 = .ok (.aload_n 0, 1) := dk_42 (dk_at dksX6_readLane_12 14 rfl rfl)
theorem dX6_readLane_298 : decode cX6_readLane 298 = .ok (.getfield 282, 3) := dk_180 1 26 (dk_at dksX6_readLane_12 15 rfl rfl)
theorem dX6_readLane_301 : decode cX6_readLane 301 = .ok (.iastore, 1) := dk_79 (dk_at dksX6_readLane_12 18 rfl rfl)
theorem dX6_readLane_302 : decode cX6_readLane 302 = .ok (.aload_n 0, 1) := dk_42 (dk_at dksX6_readLane_12 19 rfl rfl)
theorem dX6_readLane_303 : decode cX6_readLane 303 = .ok (.getfield 47, 3) := dk_180 0 47 (dk_at dksX6_readLane_12 20 rfl rfl)
theorem dX6_readLane_306 : decode cX6_readLane 306 = .ok (.iload_n 1, 1) := dk_27 (dk_at dksX6_readLane_12 23 rfl rfl)
theorem dX6_readLane_307 : decode cX6_readLane 307 = .ok (.dup2, 1) := dk_92 (dk_at dksX6_readLane_13 0 rfl rfl)
theorem dX6_readLane_308 : decode cX6_readLane 308 = .ok (.iaload, 1) := dk_46 (dk_at dksX6_readLane_13 1 rfl rfl)
theorem dX6_readLane_309 : decode cX6_readLane 309 = .ok (.iconst 1, 1) := dk_4 (dk_at dksX6_readLane_13 2 rfl rfl)
theorem dX6_readLane_310 : decode cX6_readLane 310 = .ok (.iadd, 1) := dk_96 (dk_at dksX6_readLane_13 3 rfl rfl)
theorem dX6_readLane_311 : decode cX6_readLane 311 = .ok (.iastore, 1) := dk_79 (dk_at dksX6_readLane_13 4 rfl rfl)
theorem dX6_readLane_312 : decode cX6_readLane 312 = .ok (.aload_n 0, 1) := dk_42 (dk_at dksX6_readLane_13 5 rfl rfl)
theorem dX6_readLane_313 : decode cX6_readLane 313 = .ok (.getfield 47, 3) := dk_180 0 47 (dk_at dksX6_readLane_13 6 rfl rfl)
theorem dX6_readLane_316 : decode cX6_readLane 316 = .ok (.iload_n 2, 1) := dk_28 (dk_at dksX6_readLane_13 9 rfl rfl)
theorem dX6_readLane_317 : decode cX6_readLane 317 = .ok (.dup2, 1) := dk_92 (dk_at dksX6_readLane_13 10 rfl rfl)
theorem dX6_readLane_318 : decode cX6_readLane 318 = .ok (.iaload, 1) := dk_46 (dk_at dksX6_readLane_13 11 rfl rfl)
theorem dX6_readLane_319 : decode cX6_readLane 319 = .ok (.iconst 1, 1) := dk_4 (dk_at dksX6_readLane_13 12 rfl rfl)
theorem dX6_readLane_320 : decode cX6_readLane 320 = .ok (.iadd, 1) := dk_96 (dk_at dksX6_readLane_13 13 rfl rfl)
theorem dX6_readLane_321 : decode cX6_readLane 321 = .ok (.iastore, 1) := dk_79 (dk_at dksX6_readLane_13 14 rfl rfl)
theorem dX6_readLane_322 : decode cX6_readLane 322 = .ok (.aload_n 0, 1) := dk_42 (dk_at dksX6_readLane_13 15 rfl rfl)
theorem dX6_readLane_323 : decode cX6_readLane 323 = .ok (.dup, 1) := dk_89 (dk_at dksX6_readLane_13 16 rfl rfl)
theorem dX6_readLane_324 : decode cX6_readLane 324 = .ok (.getfield 282, 3) := dk_180 1 26 (dk_at dksX6_readLane_13 17 rfl rfl)
theorem dX6_readLane_327 : decode cX6_readLane 327 = .ok (.iconst 1, 1) := dk_4 (dk_at dksX6_readLane_13 20 rfl rfl)
theorem dX6_readLane_328 : decode cX6_readLane 328 = .ok (.iadd, 1) := dk_96 (dk_at dksX6_readLane_13 21 rfl rfl)
theorem dX6_readLane_329 : decode cX6_readLane 329 = .ok (.putfield 282, 3) := dk_181 1 26 (dk_at dksX6_readLane_14 0 rfl rfl)
theorem dX6_readLane_332 : decode cX6_readLane 332 = .ok (.return_, 1) := dk_177 (dk_at dksX6_readLane_14 3 rfl rfl)
abbrev cX6_told : ByteArray := prog_15_method_39_code
def yX6_told : MethodName := ⟨RX6, "told", "()I"⟩
def dkwX6_told_2 : List UInt8 := [154, 0, 10, 42, 182, 1, 16, 167, 0, 4, 3, 172]
abbrev dktX6_told_2 : List UInt8 := dkwX6_told_2 ++ []
def dkwX6_told_1 : List UInt8 := [154, 0, 19, 42, 182, 1, 16, 156, 0, 12, 42, 6, 42, 180, 0, 187, 182, 0, 252, 42, 180, 0, 246]
abbrev dktX6_told_1 : List UInt8 := dkwX6_told_1 ++ dktX6_told_2
def dkwX6_told_0 : List UInt8 := [42, 180, 0, 246, 154, 0, 14, 42, 182, 1, 13, 154, 0, 7, 42, 182, 1, 3, 42, 180, 0, 246]
abbrev dktX6_told_0 : List UInt8 := dkwX6_told_0 ++ dktX6_told_1
theorem dksX6_told_0 : cX6_told.data.toList.drop 0 = dktX6_told_0 := by decide +kernel
theorem dksX6_told_1 : cX6_told.data.toList.drop 22 = dktX6_told_1 := dk_seg dksX6_told_0 22 rfl rfl
theorem dksX6_told_2 : cX6_told.data.toList.drop 45 = dktX6_told_2 := dk_seg dksX6_told_1 23 rfl rfl
theorem dX6_told_0 : decode cX6_told 0 = .ok (.aload_n 0, 1) := dk_42 (dk_at dksX6_told_0 0 rfl rfl)
theorem dX6_told_1 : decode cX6_told 1 = .ok (.getfield 246, 3) := dk_180 0 246 (dk_at dksX6_told_0 1 rfl rfl)
theorem dX6_told_4 : decode cX6_told 4 = .ok (.ifCond .ne 14, 3) := dk_154 0 14 (dk_at dksX6_told_0 4 rfl rfl)
theorem dX6_told_7 : decode cX6_told 7 = .ok (.aload_n 0, 1) := dk_42 (dk_at dksX6_told_0 7 rfl rfl)
theorem dX6_told_8 : decode cX6_told 8 = .ok (.invokevirtual 269, 3) := dk_182 1 13 (dk_at dksX6_told_0 8 rfl rfl)
theorem dX6_told_11 : decode cX6_told 11 = .ok (.ifCond .ne 7, 3) := dk_154 0 7 (dk_at dksX6_told_0 11 rfl rfl)
theorem dX6_told_14 : decode cX6_told 14 = .ok (.aload_n 0, 1) := dk_42 (dk_at dksX6_told_0 14 rfl rfl)
theorem dX6_told_15 : decode cX6_told 15 = .ok (.invokevirtual 259, 3) := dk_182 1 3 (dk_at dksX6_told_0 15 rfl rfl)
theorem dX6_told_18 : decode cX6_told 18 = .ok (.aload_n 0, 1) := dk_42 (dk_at dksX6_told_0 18 rfl rfl)
theorem dX6_told_19 : decode cX6_told 19 = .ok (.getfield 246, 3) := dk_180 0 246 (dk_at dksX6_told_0 19 rfl rfl)
theorem dX6_told_22 : decode cX6_told 22 = .ok (.ifCond .ne 19, 3) := dk_154 0 19 (dk_at dksX6_told_1 0 rfl rfl)
theorem dX6_told_25 : decode cX6_told 25 = .ok (.aload_n 0, 1) := dk_42 (dk_at dksX6_told_1 3 rfl rfl)
theorem dX6_told_26 : decode cX6_told 26 = .ok (.invokevirtual 272, 3) := dk_182 1 16 (dk_at dksX6_told_1 4 rfl rfl)
theorem dX6_told_29 : decode cX6_told 29 = .ok (.ifCond .ge 12, 3) := dk_156 0 12 (dk_at dksX6_told_1 7 rfl rfl)
theorem dX6_told_32 : decode cX6_told 32 = .ok (.aload_n 0, 1) := dk_42 (dk_at dksX6_told_1 10 rfl rfl)
theorem dX6_told_33 : decode cX6_told 33 = .ok (.iconst 3, 1) := dk_6 (dk_at dksX6_told_1 11 rfl rfl)
theorem dX6_told_34 : decode cX6_told 34 = .ok (.aload_n 0, 1) := dk_42 (dk_at dksX6_told_1 12 rfl rfl)
theorem dX6_told_35 : decode cX6_told 35 = .ok (.getfield 187, 3) := dk_180 0 187 (dk_at dksX6_told_1 13 rfl rfl)
theorem dX6_told_38 : decode cX6_told 38 = .ok (.invokevirtual 252, 3) := dk_182 0 252 (dk_at dksX6_told_1 16 rfl rfl)
theorem dX6_told_41 : decode cX6_told 41 = .ok (.aload_n 0, 1) := dk_42 (dk_at dksX6_told_1 19 rfl rfl)
theorem dX6_told_42 : decode cX6_told 42 = .ok (.getfield 246, 3) := dk_180 0 246 (dk_at dksX6_told_1 20 rfl rfl)
theorem dX6_told_45 : decode cX6_told 45 = .ok (.ifCond .ne 10, 3) := dk_154 0 10 (dk_at dksX6_told_2 0 rfl rfl)
theorem dX6_told_48 : decode cX6_told 48 = .ok (.aload_n 0, 1) := dk_42 (dk_at dksX6_told_2 3 rfl rfl)
theorem dX6_told_49 : decode cX6_told 49 = .ok (.invokevirtual 272, 3) := dk_182 1 16 (dk_at dksX6_told_2 4 rfl rfl)
theorem dX6_told_52 : decode cX6_told 52 = .ok (.goto 4, 3) := dk_167 0 4 (dk_at dksX6_told_2 7 rfl rfl)
theorem dX6_told_55 : decode cX6_told 55 = .ok (.iconst 0, 1) := dk_3 (dk_at dksX6_told_2 10 rfl rfl)
theorem dX6_told_56 : decode cX6_told 56 = .ok (.ireturn, 1) := dk_172 (dk_at dksX6_told_2 11 rfl rfl)
abbrev cX6_readRest : ByteArray := prog_15_method_41_code
def yX6_readRest : MethodName := ⟨RX6, "readRest", "()V"⟩
def dkwX6_readRest_6 : List UInt8 := [181, 1, 39, 42, 42, 180, 0, 193, 6, 160, 0, 7, 4, 167, 0, 4, 3, 182, 1, 22, 177]
abbrev dktX6_readRest_6 : List UInt8 := dkwX6_readRest_6 ++ []
def dkwX6_readRest_5 : List UInt8 := [153, 0, 21, 42, 42, 3, 6, 182, 1, 19, 181, 1, 45, 42, 4, 181, 1, 36, 167, 0, 8, 42, 4]
abbrev dktX6_readRest_5 : List UInt8 := dkwX6_readRest_5 ++ dktX6_readRest_6
def dkwX6_readRest_4 : List UInt8 := [27, 153, 0, 21, 42, 42, 4, 7, 182, 1, 19, 181, 1, 42, 42, 4, 181, 1, 32, 167, 0, 30, 28]
abbrev dktX6_readRest_4 : List UInt8 := dkwX6_readRest_4 ++ dktX6_readRest_5
def dkwX6_readRest_3 : List UInt8 := [153, 0, 12, 42, 8, 42, 180, 0, 187, 182, 0, 252, 42, 180, 0, 246, 158, 0, 4, 177, 42, 182, 1, 0]
abbrev dktX6_readRest_3 : List UInt8 := dkwX6_readRest_3 ++ dktX6_readRest_4
def dkwX6_readRest_2 : List UInt8 := [153, 0, 36, 167, 0, 24, 28, 153, 0, 13, 42, 180, 1, 36, 153, 0, 22, 167, 0, 10, 42, 180, 1, 39]
abbrev dktX6_readRest_2 : List UInt8 := dkwX6_readRest_2 ++ dktX6_readRest_3
def dkwX6_readRest_1 : List UInt8 := [154, 0, 7, 42, 182, 1, 3, 42, 180, 0, 246, 154, 0, 47, 27, 153, 0, 13, 42, 180, 1, 32]
abbrev dktX6_readRest_1 : List UInt8 := dkwX6_readRest_1 ++ dktX6_readRest_2
def dkwX6_readRest_0 : List UInt8 := [42, 182, 0, 240, 60, 42, 182, 0, 243, 61, 27, 154, 0, 18, 28, 154, 0, 14, 42, 182, 0, 237]
abbrev dktX6_readRest_0 : List UInt8 := dkwX6_readRest_0 ++ dktX6_readRest_1
theorem dksX6_readRest_0 : cX6_readRest.data.toList.drop 0 = dktX6_readRest_0 := by decide +kernel
theorem dksX6_readRest_1 : cX6_readRest.data.toList.drop 22 = dktX6_readRest_1 := dk_seg dksX6_readRest_0 22 rfl rfl
theorem dksX6_readRest_2 : cX6_readRest.data.toList.drop 44 = dktX6_readRest_2 := dk_seg dksX6_readRest_1 22 rfl rfl
theorem dksX6_readRest_3 : cX6_readRest.data.toList.drop 68 = dktX6_readRest_3 := dk_seg dksX6_readRest_2 24 rfl rfl
theorem dksX6_readRest_4 : cX6_readRest.data.toList.drop 92 = dktX6_readRest_4 := dk_seg dksX6_readRest_3 24 rfl rfl
theorem dksX6_readRest_5 : cX6_readRest.data.toList.drop 115 = dktX6_readRest_5 := dk_seg dksX6_readRest_4 23 rfl rfl
theorem dksX6_readRest_6 : cX6_readRest.data.toList.drop 138 = dktX6_readRest_6 := dk_seg dksX6_readRest_5 23 rfl rfl
theorem dX6_readRest_0 : decode cX6_readRest 0 = .ok (.aload_n 0, 1) := dk_42 (dk_at dksX6_readRest_0 0 rfl rfl)
theorem dX6_readRest_1 : decode cX6_readRest 1 = .ok (.invokevirtual 240, 3) := dk_182 0 240 (dk_at dksX6_readRest_0 1 rfl rfl)
theorem dX6_readRest_4 : decode cX6_readRest 4 = .ok (.istore_n 1, 1) := dk_60 (dk_at dksX6_readRest_0 4 rfl rfl)
theorem dX6_readRest_5 : decode cX6_readRest 5 = .ok (.aload_n 0, 1) := dk_42 (dk_at dksX6_readRest_0 5 rfl rfl)
theorem dX6_readRest_6 : decode cX6_readRest 6 = .ok (.invokevirtual 243, 3) := dk_182 0 243 (dk_at dksX6_readRest_0 6 rfl rfl)
theorem dX6_readRest_9 : decode cX6_readRest 9 = .ok (.istore_n 2, 1) := dk_61 (dk_at dksX6_readRest_0 9 rfl rfl)
theorem dX6_readRest_10 : decode cX6_readRest 10 = .ok (.iload_n 1, 1) := dk_27 (dk_at dksX6_readRest_0 10 rfl rfl)
theorem dX6_readRest_11 : decode cX6_readRest 11 = .ok (.ifCond .ne 18, 3) := dk_154 0 18 (dk_at dksX6_readRest_0 11 rfl rfl)
theorem dX6_readRest_14 : decode cX6_readRest 14 = .ok (.iload_n 2, 1) := dk_28 (dk_at dksX6_readRest_0 14 rfl rfl)
theorem dX6_readRest_15 : decode cX6_readRest 15 = .ok (.ifCond .ne 14, 3) := dk_154 0 14 (dk_at dksX6_readRest_0 15 rfl rfl)
theorem dX6_readRest_18 : decode cX6_readRest 18 = .ok (.aload_n 0, 1) := dk_42 (dk_at dksX6_readRest_0 18 rfl rfl)
theorem dX6_readRest_19 : decode cX6_readRest 19 = .ok (.invokevirtual 237, 3) := dk_182 0 237 (dk_at dksX6_readRest_0 19 rfl rfl)
theorem dX6_readRest_22 : decode cX6_readRest 22 = .ok (.ifCond .ne 7, 3) := dk_154 0 7 (dk_at dksX6_readRest_1 0 rfl rfl)
theorem dX6_readRest_25 : decode cX6_readRest 25 = .ok (.aload_n 0, 1) := dk_42 (dk_at dksX6_readRest_1 3 rfl rfl)
theorem dX6_readRest_26 : decode cX6_readRest 26 = .ok (.invokevirtual 259, 3) := dk_182 1 3 (dk_at dksX6_readRest_1 4 rfl rfl)
theorem dX6_readRest_29 : decode cX6_readRest 29 = .ok (.aload_n 0, 1) := dk_42 (dk_at dksX6_readRest_1 7 rfl rfl)
theorem dX6_readRest_30 : decode cX6_readRest 30 = .ok (.getfield 246, 3) := dk_180 0 246 (dk_at dksX6_readRest_1 8 rfl rfl)
theorem dX6_readRest_33 : decode cX6_readRest 33 = .ok (.ifCond .ne 47, 3) := dk_154 0 47 (dk_at dksX6_readRest_1 11 rfl rfl)
theorem dX6_readRest_36 : decode cX6_readRest 36 = .ok (.iload_n 1, 1) := dk_27 (dk_at dksX6_readRest_1 14 rfl rfl)
theorem dX6_readRest_37 : decode cX6_readRest 37 = .ok (.ifCond .eq 13, 3) := dk_153 0 13 (dk_at dksX6_readRest_1 15 rfl rfl)
theorem dX6_readRest_40 : decode cX6_readRest 40 = .ok (.aload_n 0, 1) := dk_42 (dk_at dksX6_readRest_1 18 rfl rfl)
theorem dX6_readRest_41 : decode cX6_readRest 41 = .ok (.getfield 288, 3) := dk_180 1 32 (dk_at dksX6_readRest_1 19 rfl rfl)
theorem dX6_readRest_44 : decode cX6_readRest 44 = .ok (.ifCond .eq 36, 3) := dk_153 0 36 (dk_at dksX6_readRest_2 0 rfl rfl)
theorem dX6_readRest_47 : decode cX6_readRest 47 = .ok (.goto 24, 3) := dk_167 0 24 (dk_at dksX6_readRest_2 3 rfl rfl)
theorem dX6_readRest_50 : decode cX6_readRest 50 = .ok (.iload_n 2, 1) := dk_28 (dk_at dksX6_readRest_2 6 rfl rfl)
theorem dX6_readRest_51 : decode cX6_readRest 51 = .ok (.ifCond .eq 13, 3) := dk_153 0 13 (dk_at dksX6_readRest_2 7 rfl rfl)
theorem dX6_readRest_54 : decode cX6_readRest 54 = .ok (.aload_n 0, 1) := dk_42 (dk_at dksX6_readRest_2 10 rfl rfl)
theorem dX6_readRest_55 : decode cX6_readRest 55 = .ok (.getfield 292, 3) := dk_180 1 36 (dk_at dksX6_readRest_2 11 rfl rfl)
theorem dX6_readRest_58 : decode cX6_readRest 58 = .ok (.ifCond .eq 22, 3) := dk_153 0 22 (dk_at dksX6_readRest_2 14 rfl rfl)
theorem dX6_readRest_61 : decode cX6_readRest 61 = .ok (.goto 10, 3) := dk_167 0 10 (dk_at dksX6_readRest_2 17 rfl rfl)
theorem dX6_readRest_64 : decode cX6_readRest 64 = .ok (.aload_n 0, 1) := dk_42 (dk_at dksX6_readRest_2 20 rfl rfl)
theorem dX6_readRest_65 : decode cX6_readRest 65 = .ok (.getfield 295, 3) := dk_180 1 39 (dk_at dksX6_readRest_2 21 rfl rfl)
theorem dX6_readRest_68 : decode cX6_readRest 68 = .ok (.ifCond .eq 12, 3) := dk_153 0 12 (dk_at dksX6_readRest_3 0 rfl rfl)
theorem dX6_readRest_71 : decode cX6_readRest 71 = .ok (.aload_n 0, 1) := dk_42 (dk_at dksX6_readRest_3 3 rfl rfl)
theorem dX6_readRest_72 : decode cX6_readRest 72 = .ok (.iconst 5, 1) := dk_8 (dk_at dksX6_readRest_3 4 rfl rfl)
theorem dX6_readRest_73 : decode cX6_readRest 73 = .ok (.aload_n 0, 1) := dk_42 (dk_at dksX6_readRest_3 5 rfl rfl)
theorem dX6_readRest_74 : decode cX6_readRest 74 = .ok (.getfield 187, 3) := dk_180 0 187 (dk_at dksX6_readRest_3 6 rfl rfl)
theorem dX6_readRest_77 : decode cX6_readRest 77 = .ok (.invokevirtual 252, 3) := dk_182 0 252 (dk_at dksX6_readRest_3 9 rfl rfl)
theorem dX6_readRest_80 : decode cX6_readRest 80 = .ok (.aload_n 0, 1) := dk_42 (dk_at dksX6_readRest_3 12 rfl rfl)
theorem dX6_readRest_81 : decode cX6_readRest 81 = .ok (.getfield 246, 3) := dk_180 0 246 (dk_at dksX6_readRest_3 13 rfl rfl)
theorem dX6_readRest_84 : decode cX6_readRest 84 = .ok (.ifCond .le 4, 3) := dk_158 0 4 (dk_at dksX6_readRest_3 16 rfl rfl)
theorem dX6_readRest_87 : decode cX6_readRest 87 = .ok (.return_, 1) := dk_177 (dk_at dksX6_readRest_3 19 rfl rfl)
theorem dX6_readRest_88 : decode cX6_readRest 88 = .ok (.aload_n 0, 1) := dk_42 (dk_at dksX6_readRest_3 20 rfl rfl)
theorem dX6_readRest_89 : decode cX6_readRest 89 = .ok (.invokevirtual 256, 3) := dk_182 1 0 (dk_at dksX6_readRest_3 21 rfl rfl)
theorem dX6_readRest_92 : decode cX6_readRest 92 = .ok (.iload_n 1, 1) := dk_27 (dk_at dksX6_readRest_4 0 rfl rfl)
theorem dX6_readRest_93 : decode cX6_readRest 93 = .ok (.ifCond .eq 21, 3) := dk_153 0 21 (dk_at dksX6_readRest_4 1 rfl rfl)
theorem dX6_readRest_96 : decode cX6_readRest 96 = .ok (.aload_n 0, 1) := dk_42 (dk_at dksX6_readRest_4 4 rfl rfl)
theorem dX6_readRest_97 : decode cX6_readRest 97 = .ok (.aload_n 0, 1) := dk_42 (dk_at dksX6_readRest_4 5 rfl rfl)
theorem dX6_readRest_98 : decode cX6_readRest 98 = .ok (.iconst 1, 1) := dk_4 (dk_at dksX6_readRest_4 6 rfl rfl)
theorem dX6_readRest_99 : decode cX6_readRest 99 = .ok (.iconst 4, 1) := dk_7 (dk_at dksX6_readRest_4 7 rfl rfl)
theorem dX6_readRest_100 : decode cX6_readRest 100 = .ok (.invokevirtual 275, 3) := dk_182 1 19 (dk_at dksX6_readRest_4 8 rfl rfl)
theorem dX6_readRest_103 : decode cX6_readRest 103 = .ok (.putfield 298, 3) := dk_181 1 42 (dk_at dksX6_readRest_4 11 rfl rfl)
theorem dX6_readRest_106 : decode cX6_readRest 106 = .ok (.aload_n 0, 1) := dk_42 (dk_at dksX6_readRest_4 14 rfl rfl)
theorem dX6_readRest_107 : decode cX6_readRest 107 = .ok (.iconst 1, 1) := dk_4 (dk_at dksX6_readRest_4 15 rfl rfl)
theorem dX6_readRest_108 : decode cX6_readRest 108 = .ok (.putfield 288, 3) := dk_181 1 32 (dk_at dksX6_readRest_4 16 rfl rfl)
theorem dX6_readRest_111 : decode cX6_readRest 111 = .ok (.goto 30, 3) := dk_167 0 30 (dk_at dksX6_readRest_4 19 rfl rfl)
theorem dX6_readRest_114 : decode cX6_readRest 114 = .ok (.iload_n 2, 1) := dk_28 (dk_at dksX6_readRest_4 22 rfl rfl)
theorem dX6_readRest_115 : decode cX6_readRest 115 = .ok (.ifCond .eq 21, 3) := dk_153 0 21 (dk_at dksX6_readRest_5 0 rfl rfl)
theorem dX6_readRest_118 : decode cX6_readRest 118 = .ok (.aload_n 0, 1) := dk_42 (dk_at dksX6_readRest_5 3 rfl rfl)
theorem dX6_readRest_119 : decode cX6_readRest 119 = .ok (.aload_n 0, 1) := dk_42 (dk_at dksX6_readRest_5 4 rfl rfl)
theorem dX6_readRest_120 : decode cX6_readRest 120 = .ok (.iconst 0, 1) := dk_3 (dk_at dksX6_readRest_5 5 rfl rfl)
theorem dX6_readRest_121 : decode cX6_readRest 121 = .ok (.iconst 3, 1) := dk_6 (dk_at dksX6_readRest_5 6 rfl rfl)
theorem dX6_readRest_122 : decode cX6_readRest 122 = .ok (.invokevirtual 275, 3) := dk_182 1 19 (dk_at dksX6_readRest_5 7 rfl rfl)
theorem dX6_readRest_125 : decode cX6_readRest 125 = .ok (.putfield 301, 3) := dk_181 1 45 (dk_at dksX6_readRest_5 10 rfl rfl)
theorem dX6_readRest_128 : decode cX6_readRest 128 = .ok (.aload_n 0, 1) := dk_42 (dk_at dksX6_readRest_5 13 rfl rfl)
theorem dX6_readRest_129 : decode cX6_readRest 129 = .ok (.iconst 1, 1) := dk_4 (dk_at dksX6_readRest_5 14 rfl rfl)
theorem dX6_readRest_130 : decode cX6_readRest 130 = .ok (.putfield 292, 3) := dk_181 1 36 (dk_at dksX6_readRest_5 15 rfl rfl)
theorem dX6_readRest_133 : decode cX6_readRest 133 = .ok (.goto 8, 3) := dk_167 0 8 (dk_at dksX6_readRest_5 18 rfl rfl)
theorem dX6_readRest_136 : decode cX6_readRest 136 = .ok (.aload_n 0, 1) := dk_42 (dk_at dksX6_readRest_5 21 rfl rfl)
theorem dX6_readRest_137 : decode cX6_readRest 137 = .ok (.iconst 1, 1) := dk_4 (dk_at dksX6_readRest_5 22 rfl rfl)
theorem dX6_readRest_138 : decode cX6_readRest 138 = .ok (.putfield 295, 3) := dk_181 1 39 (dk_at dksX6_readRest_6 0 rfl rfl)
theorem dX6_readRest_141 : decode cX6_readRest 141 = .ok (.aload_n 0, 1) := dk_42 (dk_at dksX6_readRest_6 3 rfl rfl)
theorem dX6_readRest_142 : decode cX6_readRest 142 = .ok (.aload_n 0, 1) := dk_42 (dk_at dksX6_readRest_6 4 rfl rfl)
theorem dX6_readRest_143 : decode cX6_readRest 143 = .ok (.getfield 193, 3) := dk_180 0 193 (dk_at dksX6_readRest_6 5 rfl rfl)
theorem dX6_readRest_146 : decode cX6_readRest 146 = .ok (.iconst 3, 1) := dk_6 (dk_at dksX6_readRest_6 8 rfl rfl)
theorem dX6_readRest_147 : decode cX6_readRest 147 = .ok (.if_icmp .ne 7, 3) := dk_160 0 7 (dk_at dksX6_readRest_6 9 rfl rfl)
theorem dX6_readRest_150 : decode cX6_readRest 150 = .ok (.iconst 1, 1) := dk_4 (dk_at dksX6_readRest_6 12 rfl rfl)
theorem dX6_readRest_151 : decode cX6_readRest 151 = .ok (.goto 4, 3) := dk_167 0 4 (dk_at dksX6_readRest_6 13 rfl rfl)
theorem dX6_readRest_154 : decode cX6_readRest 154 = .ok (.iconst 0, 1) := dk_3 (dk_at dksX6_readRest_6 16 rfl rfl)
theorem dX6_readRest_155 : decode cX6_readRest 155 = .ok (.invokevirtual 278, 3) := dk_182 1 22 (dk_at dksX6_readRest_6 17 rfl rfl)
theorem dX6_readRest_158 : decode cX6_readRest 158 = .ok (.return_, 1) := dk_177 (dk_at dksX6_readRest_6 20 rfl rfl)
abbrev cX6_taken : ByteArray := prog_15_method_45_code
def yX6_taken : MethodName := ⟨RX6, "taken", "()I"⟩
def dkwX6_taken_7 : List UInt8 := [167, 255, 216, 42, 180, 1, 70, 172]
abbrev dktX6_taken_7 : List UInt8 := dkwX6_taken_7 ++ []
def dkwX6_taken_6 : List UInt8 := [46, 79, 42, 180, 0, 59, 27, 42, 180, 0, 65, 27, 46, 79, 42, 180, 0, 68, 27, 3, 84, 132, 1, 1]
abbrev dktX6_taken_6 : List UInt8 := dkwX6_taken_6 ++ dktX6_taken_7
def dkwX6_taken_5 : List UInt8 := [132, 1, 1, 167, 255, 235, 3, 60, 27, 16, 12, 162, 0, 40, 42, 180, 0, 56, 27, 42, 180, 0, 62, 27]
abbrev dktX6_taken_5 : List UInt8 := dkwX6_taken_5 ++ dktX6_taken_6
def dkwX6_taken_4 : List UInt8 := [167, 255, 235, 3, 60, 27, 16, 32, 162, 0, 21, 42, 180, 0, 50, 27, 42, 180, 0, 53, 27, 46, 79]
abbrev dktX6_taken_4 : List UInt8 := dkwX6_taken_4 ++ dktX6_taken_5
def dkwX6_taken_3 : List UInt8 := [60, 27, 16, 8, 162, 0, 21, 42, 180, 0, 44, 27, 42, 180, 0, 47, 27, 46, 79, 132, 1, 1]
abbrev dktX6_taken_3 : List UInt8 := dkwX6_taken_3 ++ dktX6_taken_4
def dkwX6_taken_2 : List UInt8 := [16, 24, 162, 0, 21, 42, 180, 0, 38, 27, 42, 180, 0, 41, 27, 46, 79, 132, 1, 1, 167, 255, 235, 3]
abbrev dktX6_taken_2 : List UInt8 := dkwX6_taken_2 ++ dktX6_taken_3
def dkwX6_taken_1 : List UInt8 := [42, 42, 180, 1, 42, 181, 0, 35, 42, 42, 180, 1, 45, 181, 1, 79, 42, 3, 181, 1, 82, 3, 60, 27]
abbrev dktX6_taken_1 : List UInt8 := dkwX6_taken_1 ++ dktX6_taken_2
def dkwX6_taken_0 : List UInt8 := [42, 42, 180, 1, 10, 181, 1, 70, 42, 42, 180, 1, 26, 181, 1, 73, 42, 42, 180, 1, 39, 181, 1, 76]
abbrev dktX6_taken_0 : List UInt8 := dkwX6_taken_0 ++ dktX6_taken_1
theorem dksX6_taken_0 : cX6_taken.data.toList.drop 0 = dktX6_taken_0 := by decide +kernel
theorem dksX6_taken_1 : cX6_taken.data.toList.drop 24 = dktX6_taken_1 := dk_seg dksX6_taken_0 24 rfl rfl
theorem dksX6_taken_2 : cX6_taken.data.toList.drop 48 = dktX6_taken_2 := dk_seg dksX6_taken_1 24 rfl rfl
theorem dksX6_taken_3 : cX6_taken.data.toList.drop 72 = dktX6_taken_3 := dk_seg dksX6_taken_2 24 rfl rfl
theorem dksX6_taken_4 : cX6_taken.data.toList.drop 94 = dktX6_taken_4 := dk_seg dksX6_taken_3 22 rfl rfl
theorem dksX6_taken_5 : cX6_taken.data.toList.drop 117 = dktX6_taken_5 := dk_seg dksX6_taken_4 23 rfl rfl
theorem dksX6_taken_6 : cX6_taken.data.toList.drop 141 = dktX6_taken_6 := dk_seg dksX6_taken_5 24 rfl rfl
theorem dksX6_taken_7 : cX6_taken.data.toList.drop 165 = dktX6_taken_7 := dk_seg dksX6_taken_6 24 rfl rfl
theorem dX6_taken_0 : decode cX6_taken 0 = .ok (.aload_n 0, 1) := dk_42 (dk_at dksX6_taken_0 0 rfl rfl)
theorem dX6_taken_1 : decode cX6_taken 1 = .ok (.aload_n 0, 1) := dk_42 (dk_at dksX6_taken_0 1 rfl rfl)
theorem dX6_taken_2 : decode cX6_taken 2 = .ok (.getfield 266, 3) := dk_180 1 10 (dk_at dksX6_taken_0 2 rfl rfl)
theorem dX6_taken_5 : decode cX6_taken 5 = .ok (.putfield 326, 3) := dk_181 1 70 (dk_at dksX6_taken_0 5 rfl rfl)
theorem dX6_taken_8 : decode cX6_taken 8 = .ok (.aload_n 0, 1) := dk_42 (dk_at dksX6_taken_0 8 rfl rfl)
theorem dX6_taken_9 : decode cX6_taken 9 = .ok (.aload_n 0, 1) := dk_42 (dk_at dksX6_taken_0 9 rfl rfl)
theorem dX6_taken_10 : decode cX6_taken 10 = .ok (.getfield 282, 3) := dk_180 1 26 (dk_at dksX6_taken_0 10 rfl rfl)
theorem dX6_taken_13 : decode cX6_taken 13 = .ok (.putfield 329, 3) := dk_181 1 73 (dk_at dksX6_taken_0 13 rfl rfl)
theorem dX6_taken_16 : decode cX6_taken 16 = .ok (.aload_n 0, 1) := dk_42 (dk_at dksX6_taken_0 16 rfl rfl)
theorem dX6_taken_17 : decode cX6_taken 17 = .ok (.aload_n 0, 1) := dk_42 (dk_at dksX6_taken_0 17 rfl rfl)
theorem dX6_taken_18 : decode cX6_taken 18 = .ok (.getfield 295, 3) := dk_180 1 39 (dk_at dksX6_taken_0 18 rfl rfl)
theorem dX6_taken_21 : decode cX6_taken 21 = .ok (.putfield 332, 3) := dk_181 1 76 (dk_at dksX6_taken_0 21 rfl rfl)
theorem dX6_taken_24 : decode cX6_taken 24 = .ok (.aload_n 0, 1) := dk_42 (dk_at dksX6_taken_1 0 rfl rfl)
theorem dX6_taken_25 : decode cX6_taken 25 = .ok (.aload_n 0, 1) := dk_42 (dk_at dksX6_taken_1 1 rfl rfl)
theorem dX6_taken_26 : decode cX6_taken 26 = .ok (.getfield 298, 3) := dk_180 1 42 (dk_at dksX6_taken_1 2 rfl rfl)
theorem dX6_taken_29 : decode cX6_taken 29 = .ok (.putfield 35, 3) := dk_181 0 35 (dk_at dksX6_taken_1 5 rfl rfl)
theorem dX6_taken_32 : decode cX6_taken 32 = .ok (.aload_n 0, 1) := dk_42 (dk_at dksX6_taken_1 8 rfl rfl)
theorem dX6_taken_33 : decode cX6_taken 33 = .ok (.aload_n 0, 1) := dk_42 (dk_at dksX6_taken_1 9 rfl rfl)
theorem dX6_taken_34 : decode cX6_taken 34 = .ok (.getfield 301, 3) := dk_180 1 45 (dk_at dksX6_taken_1 10 rfl rfl)
theorem dX6_taken_37 : decode cX6_taken 37 = .ok (.putfield 335, 3) := dk_181 1 79 (dk_at dksX6_taken_1 13 rfl rfl)
theorem dX6_taken_40 : decode cX6_taken 40 = .ok (.aload_n 0, 1) := dk_42 (dk_at dksX6_taken_1 16 rfl rfl)
theorem dX6_taken_41 : decode cX6_taken 41 = .ok (.iconst 0, 1) := dk_3 (dk_at dksX6_taken_1 17 rfl rfl)
theorem dX6_taken_42 : decode cX6_taken 42 = .ok (.putfield 338, 3) := dk_181 1 82 (dk_at dksX6_taken_1 18 rfl rfl)
theorem dX6_taken_45 : decode cX6_taken 45 = .ok (.iconst 0, 1) := dk_3 (dk_at dksX6_taken_1 21 rfl rfl)
theorem dX6_taken_46 : decode cX6_taken 46 = .ok (.istore_n 1, 1) := dk_60 (dk_at dksX6_taken_1 22 rfl rfl)
theorem dX6_taken_47 : decode cX6_taken 47 = .ok (.iload_n 1, 1) := dk_27 (dk_at dksX6_taken_1 23 rfl rfl)
theorem dX6_taken_48 : decode cX6_taken 48 = .ok (.bipush 24, 2) := dk_16 24 (dk_at dksX6_taken_2 0 rfl rfl)
theorem dX6_taken_50 : decode cX6_taken 50 = .ok (.if_icmp .ge 21, 3) := dk_162 0 21 (dk_at dksX6_taken_2 2 rfl rfl)
theorem dX6_taken_53 : decode cX6_taken 53 = .ok (.aload_n 0, 1) := dk_42 (dk_at dksX6_taken_2 5 rfl rfl)
theorem dX6_taken_54 : decode cX6_taken 54 = .ok (.getfield 38, 3) := dk_180 0 38 (dk_at dksX6_taken_2 6 rfl rfl)
theorem dX6_taken_57 : decode cX6_taken 57 = .ok (.iload_n 1, 1) := dk_27 (dk_at dksX6_taken_2 9 rfl rfl)
theorem dX6_taken_58 : decode cX6_taken 58 = .ok (.aload_n 0, 1) := dk_42 (dk_at dksX6_taken_2 10 rfl rfl)
theorem dX6_taken_59 : decode cX6_taken 59 = .ok (.getfield 41, 3) := dk_180 0 41 (dk_at dksX6_taken_2 11 rfl rfl)
theorem dX6_taken_62 : decode cX6_taken 62 = .ok (.iload_n 1, 1) := dk_27 (dk_at dksX6_taken_2 14 rfl rfl)
theorem dX6_taken_63 : decode cX6_taken 63 = .ok (.iaload, 1) := dk_46 (dk_at dksX6_taken_2 15 rfl rfl)
theorem dX6_taken_64 : decode cX6_taken 64 = .ok (.iastore, 1) := dk_79 (dk_at dksX6_taken_2 16 rfl rfl)
theorem dX6_taken_65 : decode cX6_taken 65 = .ok (.iinc 1 1, 3) := dk_132 1 1 (dk_at dksX6_taken_2 17 rfl rfl)
theorem dX6_taken_68 : decode cX6_taken 68 = .ok (.goto (-21), 3) := dk_167 255 235 (dk_at dksX6_taken_2 20 rfl rfl)
theorem dX6_taken_71 : decode cX6_taken 71 = .ok (.iconst 0, 1) := dk_3 (dk_at dksX6_taken_2 23 rfl rfl)
theorem dX6_taken_72 : decode cX6_taken 72 = .ok (.istore_n 1, 1) := dk_60 (dk_at dksX6_taken_3 0 rfl rfl)
theorem dX6_taken_73 : decode cX6_taken 73 = .ok (.iload_n 1, 1) := dk_27 (dk_at dksX6_taken_3 1 rfl rfl)
theorem dX6_taken_74 : decode cX6_taken 74 = .ok (.bipush 8, 2) := dk_16 8 (dk_at dksX6_taken_3 2 rfl rfl)
theorem dX6_taken_76 : decode cX6_taken 76 = .ok (.if_icmp .ge 21, 3) := dk_162 0 21 (dk_at dksX6_taken_3 4 rfl rfl)
theorem dX6_taken_79 : decode cX6_taken 79 = .ok (.aload_n 0, 1) := dk_42 (dk_at dksX6_taken_3 7 rfl rfl)
theorem dX6_taken_80 : decode cX6_taken 80 = .ok (.getfield 44, 3) := dk_180 0 44 (dk_at dksX6_taken_3 8 rfl rfl)
theorem dX6_taken_83 : decode cX6_taken 83 = .ok (.iload_n 1, 1) := dk_27 (dk_at dksX6_taken_3 11 rfl rfl)
theorem dX6_taken_84 : decode cX6_taken 84 = .ok (.aload_n 0, 1) := dk_42 (dk_at dksX6_taken_3 12 rfl rfl)
theorem dX6_taken_85 : decode cX6_taken 85 = .ok (.getfield 47, 3) := dk_180 0 47 (dk_at dksX6_taken_3 13 rfl rfl)
theorem dX6_taken_88 : decode cX6_taken 88 = .ok (.iload_n 1, 1) := dk_27 (dk_at dksX6_taken_3 16 rfl rfl)
theorem dX6_taken_89 : decode cX6_taken 89 = .ok (.iaload, 1) := dk_46 (dk_at dksX6_taken_3 17 rfl rfl)
theorem dX6_taken_90 : decode cX6_taken 90 = .ok (.iastore, 1) := dk_79 (dk_at dksX6_taken_3 18 rfl rfl)
theorem dX6_taken_91 : decode cX6_taken 91 = .ok (.iinc 1 1, 3) := dk_132 1 1 (dk_at dksX6_taken_3 19 rfl rfl)
theorem dX6_taken_94 : decode cX6_taken 94 = .ok (.goto (-21), 3) := dk_167 255 235 (dk_at dksX6_taken_4 0 rfl rfl)
theorem dX6_taken_97 : decode cX6_taken 97 = .ok (.iconst 0, 1) := dk_3 (dk_at dksX6_taken_4 3 rfl rfl)
theorem dX6_taken_98 : decode cX6_taken 98 = .ok (.istore_n 1, 1) := dk_60 (dk_at dksX6_taken_4 4 rfl rfl)
theorem dX6_taken_99 : decode cX6_taken 99 = .ok (.iload_n 1, 1) := dk_27 (dk_at dksX6_taken_4 5 rfl rfl)
theorem dX6_taken_100 : decode cX6_taken 100 = .ok (.bipush 32, 2) := dk_16 32 (dk_at dksX6_taken_4 6 rfl rfl)
theorem dX6_taken_102 : decode cX6_taken 102 = .ok (.if_icmp .ge 21, 3) := dk_162 0 21 (dk_at dksX6_taken_4 8 rfl rfl)
theorem dX6_taken_105 : decode cX6_taken 105 = .ok (.aload_n 0, 1) := dk_42 (dk_at dksX6_taken_4 11 rfl rfl)
theorem dX6_taken_106 : decode cX6_taken 106 = .ok (.getfield 50, 3) := dk_180 0 50 (dk_at dksX6_taken_4 12 rfl rfl)
theorem dX6_taken_109 : decode cX6_taken 109 = .ok (.iload_n 1, 1) := dk_27 (dk_at dksX6_taken_4 15 rfl rfl)
theorem dX6_taken_110 : decode cX6_taken 110 = .ok (.aload_n 0, 1) := dk_42 (dk_at dksX6_taken_4 16 rfl rfl)
theorem dX6_taken_111 : decode cX6_taken 111 = .ok (.getfield 53, 3) := dk_180 0 53 (dk_at dksX6_taken_4 17 rfl rfl)
theorem dX6_taken_114 : decode cX6_taken 114 = .ok (.iload_n 1, 1) := dk_27 (dk_at dksX6_taken_4 20 rfl rfl)
theorem dX6_taken_115 : decode cX6_taken 115 = .ok (.iaload, 1) := dk_46 (dk_at dksX6_taken_4 21 rfl rfl)
theorem dX6_taken_116 : decode cX6_taken 116 = .ok (.iastore, 1) := dk_79 (dk_at dksX6_taken_4 22 rfl rfl)
theorem dX6_taken_117 : decode cX6_taken 117 = .ok (.iinc 1 1, 3) := dk_132 1 1 (dk_at dksX6_taken_5 0 rfl rfl)
theorem dX6_taken_120 : decode cX6_taken 120 = .ok (.goto (-21), 3) := dk_167 255 235 (dk_at dksX6_taken_5 3 rfl rfl)
theorem dX6_taken_123 : decode cX6_taken 123 = .ok (.iconst 0, 1) := dk_3 (dk_at dksX6_taken_5 6 rfl rfl)
theorem dX6_taken_124 : decode cX6_taken 124 = .ok (.istore_n 1, 1) := dk_60 (dk_at dksX6_taken_5 7 rfl rfl)
theorem dX6_taken_125 : decode cX6_taken 125 = .ok (.iload_n 1, 1) := dk_27 (dk_at dksX6_taken_5 8 rfl rfl)
theorem dX6_taken_126 : decode cX6_taken 126 = .ok (.bipush 12, 2) := dk_16 12 (dk_at dksX6_taken_5 9 rfl rfl)
theorem dX6_taken_128 : decode cX6_taken 128 = .ok (.if_icmp .ge 40, 3) := dk_162 0 40 (dk_at dksX6_taken_5 11 rfl rfl)
theorem dX6_taken_131 : decode cX6_taken 131 = .ok (.aload_n 0, 1) := dk_42 (dk_at dksX6_taken_5 14 rfl rfl)
theorem dX6_taken_132 : decode cX6_taken 132 = .ok (.getfield 56, 3) := dk_180 0 56 (dk_at dksX6_taken_5 15 rfl rfl)
theorem dX6_taken_135 : decode cX6_taken 135 = .ok (.iload_n 1, 1) := dk_27 (dk_at dksX6_taken_5 18 rfl rfl)
theorem dX6_taken_136 : decode cX6_taken 136 = .ok (.aload_n 0, 1) := dk_42 (dk_at dksX6_taken_5 19 rfl rfl)
theorem dX6_taken_137 : decode cX6_taken 137 = .ok (.getfield 62, 3) := dk_180 0 62 (dk_at dksX6_taken_5 20 rfl rfl)
theorem dX6_taken_140 : decode cX6_taken 140 = .ok (.iload_n 1, 1) := dk_27 (dk_at dksX6_taken_5 23 rfl rfl)
theorem dX6_taken_141 : decode cX6_taken 141 = .ok (.iaload, 1) := dk_46 (dk_at dksX6_taken_6 0 rfl rfl)
theorem dX6_taken_142 : decode cX6_taken 142 = .ok (.iastore, 1) := dk_79 (dk_at dksX6_taken_6 1 rfl rfl)
theorem dX6_taken_143 : decode cX6_taken 143 = .ok (.aload_n 0, 1) := dk_42 (dk_at dksX6_taken_6 2 rfl rfl)
theorem dX6_taken_144 : decode cX6_taken 144 = .ok (.getfield 59, 3) := dk_180 0 59 (dk_at dksX6_taken_6 3 rfl rfl)
theorem dX6_taken_147 : decode cX6_taken 147 = .ok (.iload_n 1, 1) := dk_27 (dk_at dksX6_taken_6 6 rfl rfl)
theorem dX6_taken_148 : decode cX6_taken 148 = .ok (.aload_n 0, 1) := dk_42 (dk_at dksX6_taken_6 7 rfl rfl)
theorem dX6_taken_149 : decode cX6_taken 149 = .ok (.getfield 65, 3) := dk_180 0 65 (dk_at dksX6_taken_6 8 rfl rfl)
theorem dX6_taken_152 : decode cX6_taken 152 = .ok (.iload_n 1, 1) := dk_27 (dk_at dksX6_taken_6 11 rfl rfl)
theorem dX6_taken_153 : decode cX6_taken 153 = .ok (.iaload, 1) := dk_46 (dk_at dksX6_taken_6 12 rfl rfl)
theorem dX6_taken_154 : decode cX6_taken 154 = .ok (.iastore, 1) := dk_79 (dk_at dksX6_taken_6 13 rfl rfl)
theorem dX6_taken_155 : decode cX6_taken 155 = .ok (.aload_n 0, 1) := dk_42 (dk_at dksX6_taken_6 14 rfl rfl)
theorem dX6_taken_156 : decode cX6_taken 156 = .ok (.getfield 68, 3) := dk_180 0 68 (dk_at dksX6_taken_6 15 rfl rfl)
theorem dX6_taken_159 : decode cX6_taken 159 = .ok (.iload_n 1, 1) := dk_27 (dk_at dksX6_taken_6 18 rfl rfl)
theorem dX6_taken_160 : decode cX6_taken 160 = .ok (.iconst 0, 1) := dk_3 (dk_at dksX6_taken_6 19 rfl rfl)
theorem dX6_taken_161 : decode cX6_taken 161 = .ok (.bastore, 1) := dk_84 (dk_at dksX6_taken_6 20 rfl rfl)
theorem dX6_taken_162 : decode cX6_taken 162 = .ok (.iinc 1 1, 3) := dk_132 1 1 (dk_at dksX6_taken_6 21 rfl rfl)
theorem dX6_taken_165 : decode cX6_taken 165 = .ok (.goto (-40), 3) := dk_167 255 216 (dk_at dksX6_taken_7 0 rfl rfl)
theorem dX6_taken_168 : decode cX6_taken 168 = .ok (.aload_n 0, 1) := dk_42 (dk_at dksX6_taken_7 3 rfl rfl)
theorem dX6_taken_169 : decode cX6_taken 169 = .ok (.getfield 326, 3) := dk_180 1 70 (dk_at dksX6_taken_7 4 rfl rfl)
theorem dX6_taken_172 : decode cX6_taken 172 = .ok (.ireturn, 1) := dk_172 (dk_at dksX6_taken_7 7 rfl rfl)
abbrev cX6_fault : ByteArray := prog_15_method_46_code
def yX6_fault : MethodName := ⟨RX6, "fault", "(I)I"⟩
def dkwX6_fault_1 : List UInt8 := [180, 0, 32, 167, 0, 4, 2, 172]
abbrev dktX6_fault_1 : List UInt8 := dkwX6_fault_1 ++ []
def dkwX6_fault_0 : List UInt8 := [42, 3, 181, 0, 144, 27, 154, 0, 10, 42, 180, 0, 28, 167, 0, 16, 27, 4, 160, 0, 10, 42]
abbrev dktX6_fault_0 : List UInt8 := dkwX6_fault_0 ++ dktX6_fault_1
theorem dksX6_fault_0 : cX6_fault.data.toList.drop 0 = dktX6_fault_0 := by decide +kernel
theorem dksX6_fault_1 : cX6_fault.data.toList.drop 22 = dktX6_fault_1 := dk_seg dksX6_fault_0 22 rfl rfl
theorem dX6_fault_0 : decode cX6_fault 0 = .ok (.aload_n 0, 1) := dk_42 (dk_at dksX6_fault_0 0 rfl rfl)
theorem dX6_fault_1 : decode cX6_fault 1 = .ok (.iconst 0, 1) := dk_3 (dk_at dksX6_fault_0 1 rfl rfl)
theorem dX6_fault_2 : decode cX6_fault 2 = .ok (.putfield 144, 3) := dk_181 0 144 (dk_at dksX6_fault_0 2 rfl rfl)
theorem dX6_fault_5 : decode cX6_fault 5 = .ok (.iload_n 1, 1) := dk_27 (dk_at dksX6_fault_0 5 rfl rfl)
theorem dX6_fault_6 : decode cX6_fault 6 = .ok (.ifCond .ne 10, 3) := dk_154 0 10 (dk_at dksX6_fault_0 6 rfl rfl)
theorem dX6_fault_9 : decode cX6_fault 9 = .ok (.aload_n 0, 1) := dk_42 (dk_at dksX6_fault_0 9 rfl rfl)
theorem dX6_fault_10 : decode cX6_fault 10 = .ok (.getfield 28, 3) := dk_180 0 28 (dk_at dksX6_fault_0 10 rfl rfl)
theorem dX6_fault_13 : decode cX6_fault 13 = .ok (.goto 16, 3) := dk_167 0 16 (dk_at dksX6_fault_0 13 rfl rfl)
theorem dX6_fault_16 : decode cX6_fault 16 = .ok (.iload_n 1, 1) := dk_27 (dk_at dksX6_fault_0 16 rfl rfl)
theorem dX6_fault_17 : decode cX6_fault 17 = .ok (.iconst 1, 1) := dk_4 (dk_at dksX6_fault_0 17 rfl rfl)
theorem dX6_fault_18 : decode cX6_fault 18 = .ok (.if_icmp .ne 10, 3) := dk_160 0 10 (dk_at dksX6_fault_0 18 rfl rfl)
theorem dX6_fault_21 : decode cX6_fault 21 = .ok (.aload_n 0, 1) := dk_42 (dk_at dksX6_fault_0 21 rfl rfl)
theorem dX6_fault_22 : decode cX6_fault 22 = .ok (.getfield 32, 3) := dk_180 0 32 (dk_at dksX6_fault_1 0 rfl rfl)
theorem dX6_fault_25 : decode cX6_fault 25 = .ok (.goto 4, 3) := dk_167 0 4 (dk_at dksX6_fault_1 3 rfl rfl)
theorem dX6_fault_28 : decode cX6_fault 28 = .ok (.iconst (-1), 1) := dk_2 (dk_at dksX6_fault_1 6 rfl rfl)
theorem dX6_fault_29 : decode cX6_fault 29 = .ok (.ireturn, 1) := dk_172 (dk_at dksX6_fault_1 7 rfl rfl)
abbrev cX6_many : ByteArray := prog_15_method_54_code
def yX6_many : MethodName := ⟨RX6, "many", "(I)I"⟩
def dkwX6_many_2 : List UInt8 := [182, 1, 55, 172]
abbrev dktX6_many_2 : List UInt8 := dkwX6_many_2 ++ []
def dkwX6_many_1 : List UInt8 := [160, 0, 10, 42, 180, 1, 73, 167, 0, 20, 27, 5, 160, 0, 10, 42, 180, 1, 85, 167, 0, 8, 42, 8]
abbrev dktX6_many_1 : List UInt8 := dkwX6_many_1 ++ dktX6_many_2
def dkwX6_many_0 : List UInt8 := [42, 3, 181, 0, 144, 42, 3, 181, 0, 147, 27, 154, 0, 10, 42, 180, 1, 70, 167, 0, 32, 27, 4]
abbrev dktX6_many_0 : List UInt8 := dkwX6_many_0 ++ dktX6_many_1
theorem dksX6_many_0 : cX6_many.data.toList.drop 0 = dktX6_many_0 := by decide +kernel
theorem dksX6_many_1 : cX6_many.data.toList.drop 23 = dktX6_many_1 := dk_seg dksX6_many_0 23 rfl rfl
theorem dksX6_many_2 : cX6_many.data.toList.drop 47 = dktX6_many_2 := dk_seg dksX6_many_1 24 rfl rfl
theorem dX6_many_0 : decode cX6_many 0 = .ok (.aload_n 0, 1) := dk_42 (dk_at dksX6_many_0 0 rfl rfl)
theorem dX6_many_1 : decode cX6_many 1 = .ok (.iconst 0, 1) := dk_3 (dk_at dksX6_many_0 1 rfl rfl)
theorem dX6_many_2 : decode cX6_many 2 = .ok (.putfield 144, 3) := dk_181 0 144 (dk_at dksX6_many_0 2 rfl rfl)
theorem dX6_many_5 : decode cX6_many 5 = .ok (.aload_n 0, 1) := dk_42 (dk_at dksX6_many_0 5 rfl rfl)
theorem dX6_many_6 : decode cX6_many 6 = .ok (.iconst 0, 1) := dk_3 (dk_at dksX6_many_0 6 rfl rfl)
theorem dX6_many_7 : decode cX6_many 7 = .ok (.putfield 147, 3) := dk_181 0 147 (dk_at dksX6_many_0 7 rfl rfl)
theorem dX6_many_10 : decode cX6_many 10 = .ok (.iload_n 1, 1) := dk_27 (dk_at dksX6_many_0 10 rfl rfl)
theorem dX6_many_11 : decode cX6_many 11 = .ok (.ifCond .ne 10, 3) := dk_154 0 10 (dk_at dksX6_many_0 11 rfl rfl)
theorem dX6_many_14 : decode cX6_many 14 = .ok (.aload_n 0, 1) := dk_42 (dk_at dksX6_many_0 14 rfl rfl)
theorem dX6_many_15 : decode cX6_many 15 = .ok (.getfield 326, 3) := dk_180 1 70 (dk_at dksX6_many_0 15 rfl rfl)
theorem dX6_many_18 : decode cX6_many 18 = .ok (.goto 32, 3) := dk_167 0 32 (dk_at dksX6_many_0 18 rfl rfl)
theorem dX6_many_21 : decode cX6_many 21 = .ok (.iload_n 1, 1) := dk_27 (dk_at dksX6_many_0 21 rfl rfl)
theorem dX6_many_22 : decode cX6_many 22 = .ok (.iconst 1, 1) := dk_4 (dk_at dksX6_many_0 22 rfl rfl)
theorem dX6_many_23 : decode cX6_many 23 = .ok (.if_icmp .ne 10, 3) := dk_160 0 10 (dk_at dksX6_many_1 0 rfl rfl)
theorem dX6_many_26 : decode cX6_many 26 = .ok (.aload_n 0, 1) := dk_42 (dk_at dksX6_many_1 3 rfl rfl)
theorem dX6_many_27 : decode cX6_many 27 = .ok (.getfield 329, 3) := dk_180 1 73 (dk_at dksX6_many_1 4 rfl rfl)
theorem dX6_many_30 : decode cX6_many 30 = .ok (.goto 20, 3) := dk_167 0 20 (dk_at dksX6_many_1 7 rfl rfl)
theorem dX6_many_33 : decode cX6_many 33 = .ok (.iload_n 1, 1) := dk_27 (dk_at dksX6_many_1 10 rfl rfl)
theorem dX6_many_34 : decode cX6_many 34 = .ok (.iconst 2, 1) := dk_5 (dk_at dksX6_many_1 11 rfl rfl)
theorem dX6_many_35 : decode cX6_many 35 = .ok (.if_icmp .ne 10, 3) := dk_160 0 10 (dk_at dksX6_many_1 12 rfl rfl)
theorem dX6_many_38 : decode cX6_many 38 = .ok (.aload_n 0, 1) := dk_42 (dk_at dksX6_many_1 15 rfl rfl)
theorem dX6_many_39 : decode cX6_many 39 = .ok (.getfield 341, 3) := dk_180 1 85 (dk_at dksX6_many_1 16 rfl rfl)
theorem dX6_many_42 : decode cX6_many 42 = .ok (.goto 8, 3) := dk_167 0 8 (dk_at dksX6_many_1 19 rfl rfl)
theorem dX6_many_45 : decode cX6_many 45 = .ok (.aload_n 0, 1) := dk_42 (dk_at dksX6_many_1 22 rfl rfl)
theorem dX6_many_46 : decode cX6_many 46 = .ok (.iconst 5, 1) := dk_8 (dk_at dksX6_many_1 23 rfl rfl)
theorem dX6_many_47 : decode cX6_many 47 = .ok (.invokevirtual 311, 3) := dk_182 1 55 (dk_at dksX6_many_2 0 rfl rfl)
theorem dX6_many_50 : decode cX6_many 50 = .ok (.ireturn, 1) := dk_172 (dk_at dksX6_many_2 3 rfl rfl)
abbrev cX6_place : ByteArray := prog_15_method_55_code
def yX6_place : MethodName := ⟨RX6, "place", "(II)I"⟩
def dkwX6_place_4 : List UInt8 := [42, 27, 28, 5, 100, 182, 1, 95, 172]
abbrev dktX6_place_4 : List UInt8 := dkwX6_place_4 ++ []
def dkwX6_place_3 : List UInt8 := [180, 0, 38, 6, 27, 104, 46, 167, 0, 25, 28, 4, 160, 0, 12, 42, 180, 0, 44, 27, 46, 167, 0, 11]
abbrev dktX6_place_3 : List UInt8 := dkwX6_place_3 ++ dktX6_place_4
def dkwX6_place_2 : List UInt8 := [5, 100, 42, 180, 0, 44, 27, 46, 161, 0, 10, 42, 16, 8, 182, 1, 55, 172, 28, 154, 0, 14, 42]
abbrev dktX6_place_2 : List UInt8 := dkwX6_place_2 ++ dktX6_place_3
def dkwX6_place_1 : List UInt8 := [28, 133, 9, 20, 1, 101, 184, 1, 6, 154, 0, 9, 42, 8, 182, 1, 55, 172, 28, 4, 164, 0, 22, 28]
abbrev dktX6_place_1 : List UInt8 := dkwX6_place_1 ++ dktX6_place_2
def dkwX6_place_0 : List UInt8 := [42, 3, 181, 0, 144, 42, 3, 181, 0, 147, 42, 27, 182, 1, 98, 154, 0, 9, 42, 5, 182, 1, 55, 172]
abbrev dktX6_place_0 : List UInt8 := dkwX6_place_0 ++ dktX6_place_1
theorem dksX6_place_0 : cX6_place.data.toList.drop 0 = dktX6_place_0 := by decide +kernel
theorem dksX6_place_1 : cX6_place.data.toList.drop 24 = dktX6_place_1 := dk_seg dksX6_place_0 24 rfl rfl
theorem dksX6_place_2 : cX6_place.data.toList.drop 48 = dktX6_place_2 := dk_seg dksX6_place_1 24 rfl rfl
theorem dksX6_place_3 : cX6_place.data.toList.drop 71 = dktX6_place_3 := dk_seg dksX6_place_2 23 rfl rfl
theorem dksX6_place_4 : cX6_place.data.toList.drop 95 = dktX6_place_4 := dk_seg dksX6_place_3 24 rfl rfl
theorem dX6_place_0 : decode cX6_place 0 = .ok (.aload_n 0, 1) := dk_42 (dk_at dksX6_place_0 0 rfl rfl)
theorem dX6_place_1 : decode cX6_place 1 = .ok (.iconst 0, 1) := dk_3 (dk_at dksX6_place_0 1 rfl rfl)
theorem dX6_place_2 : decode cX6_place 2 = .ok (.putfield 144, 3) := dk_181 0 144 (dk_at dksX6_place_0 2 rfl rfl)
theorem dX6_place_5 : decode cX6_place 5 = .ok (.aload_n 0, 1) := dk_42 (dk_at dksX6_place_0 5 rfl rfl)
theorem dX6_place_6 : decode cX6_place 6 = .ok (.iconst 0, 1) := dk_3 (dk_at dksX6_place_0 6 rfl rfl)
theorem dX6_place_7 : decode cX6_place 7 = .ok (.putfield 147, 3) := dk_181 0 147 (dk_at dksX6_place_0 7 rfl rfl)
theorem dX6_place_10 : decode cX6_place 10 = .ok (.aload_n 0, 1) := dk_42 (dk_at dksX6_place_0 10 rfl rfl)
theorem dX6_place_11 : decode cX6_place 11 = .ok (.iload_n 1, 1) := dk_27 (dk_at dksX6_place_0 11 rfl rfl)
theorem dX6_place_12 : decode cX6_place 12 = .ok (.invokevirtual 354, 3) := dk_182 1 98 (dk_at dksX6_place_0 12 rfl rfl)
theorem dX6_place_15 : decode cX6_place 15 = .ok (.ifCond .ne 9, 3) := dk_154 0 9 (dk_at dksX6_place_0 15 rfl rfl)
theorem dX6_place_18 : decode cX6_place 18 = .ok (.aload_n 0, 1) := dk_42 (dk_at dksX6_place_0 18 rfl rfl)
theorem dX6_place_19 : decode cX6_place 19 = .ok (.iconst 2, 1) := dk_5 (dk_at dksX6_place_0 19 rfl rfl)
theorem dX6_place_20 : decode cX6_place 20 = .ok (.invokevirtual 311, 3) := dk_182 1 55 (dk_at dksX6_place_0 20 rfl rfl)
theorem dX6_place_23 : decode cX6_place 23 = .ok (.ireturn, 1) := dk_172 (dk_at dksX6_place_0 23 rfl rfl)
theorem dX6_place_24 : decode cX6_place 24 = .ok (.iload_n 2, 1) := dk_28 (dk_at dksX6_place_1 0 rfl rfl)
theorem dX6_place_25 : decode cX6_place 25 = .ok (.i2l, 1) := dk_133 (dk_at dksX6_place_1 1 rfl rfl)
theorem dX6_place_26 : decode cX6_place 26 = .ok (.lconst 0, 1) := dk_9 (dk_at dksX6_place_1 2 rfl rfl)
theorem dX6_place_27 : decode cX6_place 27 = .ok (.ldc2_w 357, 3) := dk_20 1 101 (dk_at dksX6_place_1 3 rfl rfl)
theorem dX6_place_30 : decode cX6_place 30 = .ok (.invokestatic 262, 3) := dk_184 1 6 (dk_at dksX6_place_1 6 rfl rfl)
theorem dX6_place_33 : decode cX6_place 33 = .ok (.ifCond .ne 9, 3) := dk_154 0 9 (dk_at dksX6_place_1 9 rfl rfl)
theorem dX6_place_36 : decode cX6_place 36 = .ok (.aload_n 0, 1) := dk_42 (dk_at dksX6_place_1 12 rfl rfl)
theorem dX6_place_37 : decode cX6_place 37 = .ok (.iconst 5, 1) := dk_8 (dk_at dksX6_place_1 13 rfl rfl)
theorem dX6_place_38 : decode cX6_place 38 = .ok (.invokevirtual 311, 3) := dk_182 1 55 (dk_at dksX6_place_1 14 rfl rfl)
theorem dX6_place_41 : decode cX6_place 41 = .ok (.ireturn, 1) := dk_172 (dk_at dksX6_place_1 17 rfl rfl)
theorem dX6_place_42 : decode cX6_place 42 = .ok (.iload_n 2, 1) := dk_28 (dk_at dksX6_place_1 18 rfl rfl)
theorem dX6_place_43 : decode cX6_place 43 = .ok (.iconst 1, 1) := dk_4 (dk_at dksX6_place_1 19 rfl rfl)
theorem dX6_place_44 : decode cX6_place 44 = .ok (.if_icmp .le 22, 3) := dk_164 0 22 (dk_at dksX6_place_1 20 rfl rfl)
theorem dX6_place_47 : decode cX6_place 47 = .ok (.iload_n 2, 1) := dk_28 (dk_at dksX6_place_1 23 rfl rfl)
theorem dX6_place_48 : decode cX6_place 48 = .ok (.iconst 2, 1) := dk_5 (dk_at dksX6_place_2 0 rfl rfl)
theorem dX6_place_49 : decode cX6_place 49 = .ok (.isub, 1) := dk_100 (dk_at dksX6_place_2 1 rfl rfl)
theorem dX6_place_50 : decode cX6_place 50 = .ok (.aload_n 0, 1) := dk_42 (dk_at dksX6_place_2 2 rfl rfl)
theorem dX6_place_51 : decode cX6_place 51 = .ok (.getfield 44, 3) := dk_180 0 44 (dk_at dksX6_place_2 3 rfl rfl)
theorem dX6_place_54 : decode cX6_place 54 = .ok (.iload_n 1, 1) := dk_27 (dk_at dksX6_place_2 6 rfl rfl)
theorem dX6_place_55 : decode cX6_place 55 = .ok (.iaload, 1) := dk_46 (dk_at dksX6_place_2 7 rfl rfl)
theorem dX6_place_56 : decode cX6_place 56 = .ok (.if_icmp .lt 10, 3) := dk_161 0 10 (dk_at dksX6_place_2 8 rfl rfl)
theorem dX6_place_59 : decode cX6_place 59 = .ok (.aload_n 0, 1) := dk_42 (dk_at dksX6_place_2 11 rfl rfl)
theorem dX6_place_60 : decode cX6_place 60 = .ok (.bipush 8, 2) := dk_16 8 (dk_at dksX6_place_2 12 rfl rfl)
theorem dX6_place_62 : decode cX6_place 62 = .ok (.invokevirtual 311, 3) := dk_182 1 55 (dk_at dksX6_place_2 14 rfl rfl)
theorem dX6_place_65 : decode cX6_place 65 = .ok (.ireturn, 1) := dk_172 (dk_at dksX6_place_2 17 rfl rfl)
theorem dX6_place_66 : decode cX6_place 66 = .ok (.iload_n 2, 1) := dk_28 (dk_at dksX6_place_2 18 rfl rfl)
theorem dX6_place_67 : decode cX6_place 67 = .ok (.ifCond .ne 14, 3) := dk_154 0 14 (dk_at dksX6_place_2 19 rfl rfl)
theorem dX6_place_70 : decode cX6_place 70 = .ok (.aload_n 0, 1) := dk_42 (dk_at dksX6_place_2 22 rfl rfl)
theorem dX6_place_71 : decode cX6_place 71 = .ok (.getfield 38, 3) := dk_180 0 38 (dk_at dksX6_place_3 0 rfl rfl)
theorem dX6_place_74 : decode cX6_place 74 = .ok (.iconst 3, 1) := dk_6 (dk_at dksX6_place_3 3 rfl rfl)
theorem dX6_place_75 : decode cX6_place 75 = .ok (.iload_n 1, 1) := dk_27 (dk_at dksX6_place_3 4 rfl rfl)
theorem dX6_place_76 : decode cX6_place 76 = .ok (.imul, 1) := dk_104 (dk_at dksX6_place_3 5 rfl rfl)
theorem dX6_place_77 : decode cX6_place 77 = .ok (.iaload, 1) := dk_46 (dk_at dksX6_place_3 6 rfl rfl)
theorem dX6_place_78 : decode cX6_place 78 = .ok (.goto 25, 3) := dk_167 0 25 (dk_at dksX6_place_3 7 rfl rfl)
theorem dX6_place_81 : decode cX6_place 81 = .ok (.iload_n 2, 1) := dk_28 (dk_at dksX6_place_3 10 rfl rfl)
theorem dX6_place_82 : decode cX6_place 82 = .ok (.iconst 1, 1) := dk_4 (dk_at dksX6_place_3 11 rfl rfl)
theorem dX6_place_83 : decode cX6_place 83 = .ok (.if_icmp .ne 12, 3) := dk_160 0 12 (dk_at dksX6_place_3 12 rfl rfl)
theorem dX6_place_86 : decode cX6_place 86 = .ok (.aload_n 0, 1) := dk_42 (dk_at dksX6_place_3 15 rfl rfl)
theorem dX6_place_87 : decode cX6_place 87 = .ok (.getfield 44, 3) := dk_180 0 44 (dk_at dksX6_place_3 16 rfl rfl)
theorem dX6_place_90 : decode cX6_place 90 = .ok (.iload_n 1, 1) := dk_27 (dk_at dksX6_place_3 19 rfl rfl)
theorem dX6_place_91 : decode cX6_place 91 = .ok (.iaload, 1) := dk_46 (dk_at dksX6_place_3 20 rfl rfl)
theorem dX6_place_92 : decode cX6_place 92 = .ok (.goto 11, 3) := dk_167 0 11 (dk_at dksX6_place_3 21 rfl rfl)
theorem dX6_place_95 : decode cX6_place 95 = .ok (.aload_n 0, 1) := dk_42 (dk_at dksX6_place_4 0 rfl rfl)
theorem dX6_place_96 : decode cX6_place 96 = .ok (.iload_n 1, 1) := dk_27 (dk_at dksX6_place_4 1 rfl rfl)
theorem dX6_place_97 : decode cX6_place 97 = .ok (.iload_n 2, 1) := dk_28 (dk_at dksX6_place_4 2 rfl rfl)
theorem dX6_place_98 : decode cX6_place 98 = .ok (.iconst 2, 1) := dk_5 (dk_at dksX6_place_4 3 rfl rfl)
theorem dX6_place_99 : decode cX6_place 99 = .ok (.isub, 1) := dk_100 (dk_at dksX6_place_4 4 rfl rfl)
theorem dX6_place_100 : decode cX6_place 100 = .ok (.invokevirtual 351, 3) := dk_182 1 95 (dk_at dksX6_place_4 5 rfl rfl)
theorem dX6_place_103 : decode cX6_place 103 = .ok (.ireturn, 1) := dk_172 (dk_at dksX6_place_4 8 rfl rfl)
abbrev cX6_isPlace : ByteArray := prog_15_method_47_code
def yX6_isPlace : MethodName := ⟨RX6, "isPlace", "(I)Z"⟩
def dkwX6_isPlace_0 : List UInt8 := [27, 133, 9, 42, 180, 1, 70, 4, 100, 133, 184, 1, 6, 172]
abbrev dktX6_isPlace_0 : List UInt8 := dkwX6_isPlace_0 ++ []
theorem dksX6_isPlace_0 : cX6_isPlace.data.toList.drop 0 = dktX6_isPlace_0 := by decide +kernel
theorem dX6_isPlace_0 : decode cX6_isPlace 0 = .ok (.iload_n 1, 1) := dk_27 (dk_at dksX6_isPlace_0 0 rfl rfl)
theorem dX6_isPlace_1 : decode cX6_isPlace 1 = .ok (.i2l, 1) := dk_133 (dk_at dksX6_isPlace_0 1 rfl rfl)
theorem dX6_isPlace_2 : decode cX6_isPlace 2 = .ok (.lconst 0, 1) := dk_9 (dk_at dksX6_isPlace_0 2 rfl rfl)
theorem dX6_isPlace_3 : decode cX6_isPlace 3 = .ok (.aload_n 0, 1) := dk_42 (dk_at dksX6_isPlace_0 3 rfl rfl)
theorem dX6_isPlace_4 : decode cX6_isPlace 4 = .ok (.getfield 326, 3) := dk_180 1 70 (dk_at dksX6_isPlace_0 4 rfl rfl)
theorem dX6_isPlace_7 : decode cX6_isPlace 7 = .ok (.iconst 1, 1) := dk_4 (dk_at dksX6_isPlace_0 7 rfl rfl)
theorem dX6_isPlace_8 : decode cX6_isPlace 8 = .ok (.isub, 1) := dk_100 (dk_at dksX6_isPlace_0 8 rfl rfl)
theorem dX6_isPlace_9 : decode cX6_isPlace 9 = .ok (.i2l, 1) := dk_133 (dk_at dksX6_isPlace_0 9 rfl rfl)
theorem dX6_isPlace_10 : decode cX6_isPlace 10 = .ok (.invokestatic 262, 3) := dk_184 1 6 (dk_at dksX6_isPlace_0 10 rfl rfl)
theorem dX6_isPlace_13 : decode cX6_isPlace 13 = .ok (.ireturn, 1) := dk_172 (dk_at dksX6_isPlace_0 13 rfl rfl)
abbrev cX6_leads : ByteArray := prog_15_method_50_code
def yX6_leads : MethodName := ⟨RX6, "leads", "(II)I"⟩
def dkwX6_leads_1 : List UInt8 := [46, 27, 182, 1, 88, 167, 0, 4, 2, 172]
abbrev dktX6_leads_1 : List UInt8 := dkwX6_leads_1 ++ []
def dkwX6_leads_0 : List UInt8 := [28, 155, 0, 31, 28, 42, 180, 0, 44, 27, 46, 162, 0, 21, 42, 42, 180, 0, 50, 7, 27, 104, 28, 96]
abbrev dktX6_leads_0 : List UInt8 := dkwX6_leads_0 ++ dktX6_leads_1
theorem dksX6_leads_0 : cX6_leads.data.toList.drop 0 = dktX6_leads_0 := by decide +kernel
theorem dksX6_leads_1 : cX6_leads.data.toList.drop 24 = dktX6_leads_1 := dk_seg dksX6_leads_0 24 rfl rfl
theorem dX6_leads_0 : decode cX6_leads 0 = .ok (.iload_n 2, 1) := dk_28 (dk_at dksX6_leads_0 0 rfl rfl)
theorem dX6_leads_1 : decode cX6_leads 1 = .ok (.ifCond .lt 31, 3) := dk_155 0 31 (dk_at dksX6_leads_0 1 rfl rfl)
theorem dX6_leads_4 : decode cX6_leads 4 = .ok (.iload_n 2, 1) := dk_28 (dk_at dksX6_leads_0 4 rfl rfl)
theorem dX6_leads_5 : decode cX6_leads 5 = .ok (.aload_n 0, 1) := dk_42 (dk_at dksX6_leads_0 5 rfl rfl)
theorem dX6_leads_6 : decode cX6_leads 6 = .ok (.getfield 44, 3) := dk_180 0 44 (dk_at dksX6_leads_0 6 rfl rfl)
theorem dX6_leads_9 : decode cX6_leads 9 = .ok (.iload_n 1, 1) := dk_27 (dk_at dksX6_leads_0 9 rfl rfl)
theorem dX6_leads_10 : decode cX6_leads 10 = .ok (.iaload, 1) := dk_46 (dk_at dksX6_leads_0 10 rfl rfl)
theorem dX6_leads_11 : decode cX6_leads 11 = .ok (.if_icmp .ge 21, 3) := dk_162 0 21 (dk_at dksX6_leads_0 11 rfl rfl)
theorem dX6_leads_14 : decode cX6_leads 14 = .ok (.aload_n 0, 1) := dk_42 (dk_at dksX6_leads_0 14 rfl rfl)
theorem dX6_leads_15 : decode cX6_leads 15 = .ok (.aload_n 0, 1) := dk_42 (dk_at dksX6_leads_0 15 rfl rfl)
theorem dX6_leads_16 : decode cX6_leads 16 = .ok (.getfield 50, 3) := dk_180 0 50 (dk_at dksX6_leads_0 16 rfl rfl)
theorem dX6_leads_19 : decode cX6_leads 19 = .ok (.iconst 4, 1) := dk_7 (dk_at dksX6_leads_0 19 rfl rfl)
theorem dX6_leads_20 : decode cX6_leads 20 = .ok (.iload_n 1, 1) := dk_27 (dk_at dksX6_leads_0 20 rfl rfl)
theorem dX6_leads_21 : decode cX6_leads 21 = .ok (.imul, 1) := dk_104 (dk_at dksX6_leads_0 21 rfl rfl)
theorem dX6_leads_22 : decode cX6_leads 22 = .ok (.iload_n 2, 1) := dk_28 (dk_at dksX6_leads_0 22 rfl rfl)
theorem dX6_leads_23 : decode cX6_leads 23 = .ok (.iadd, 1) := dk_96 (dk_at dksX6_leads_0 23 rfl rfl)
theorem dX6_leads_24 : decode cX6_leads 24 = .ok (.iaload, 1) := dk_46 (dk_at dksX6_leads_1 0 rfl rfl)
theorem dX6_leads_25 : decode cX6_leads 25 = .ok (.iload_n 1, 1) := dk_27 (dk_at dksX6_leads_1 1 rfl rfl)
theorem dX6_leads_26 : decode cX6_leads 26 = .ok (.invokevirtual 344, 3) := dk_182 1 88 (dk_at dksX6_leads_1 2 rfl rfl)
theorem dX6_leads_29 : decode cX6_leads 29 = .ok (.goto 4, 3) := dk_167 0 4 (dk_at dksX6_leads_1 5 rfl rfl)
theorem dX6_leads_32 : decode cX6_leads 32 = .ok (.iconst (-1), 1) := dk_2 (dk_at dksX6_leads_1 8 rfl rfl)
theorem dX6_leads_33 : decode cX6_leads 33 = .ok (.ireturn, 1) := dk_172 (dk_at dksX6_leads_1 9 rfl rfl)
abbrev cX6_over : ByteArray := prog_15_method_51_code
def yX6_over : MethodName := ⟨RX6, "over", "(II)I"⟩
def dkwX6_over_1 : List UInt8 := [46, 172]
abbrev dktX6_over_1 : List UInt8 := dkwX6_over_1 ++ []
def dkwX6_over_0 : List UInt8 := [42, 180, 0, 56, 27, 46, 28, 160, 0, 12, 42, 180, 0, 59, 27, 46, 167, 0, 9, 42, 180, 0, 56, 27]
abbrev dktX6_over_0 : List UInt8 := dkwX6_over_0 ++ dktX6_over_1
theorem dksX6_over_0 : cX6_over.data.toList.drop 0 = dktX6_over_0 := by decide +kernel
theorem dksX6_over_1 : cX6_over.data.toList.drop 24 = dktX6_over_1 := dk_seg dksX6_over_0 24 rfl rfl
theorem dX6_over_0 : decode cX6_over 0 = .ok (.aload_n 0, 1) := dk_42 (dk_at dksX6_over_0 0 rfl rfl)
theorem dX6_over_1 : decode cX6_over 1 = .ok (.getfield 56, 3) := dk_180 0 56 (dk_at dksX6_over_0 1 rfl rfl)
theorem dX6_over_4 : decode cX6_over 4 = .ok (.iload_n 1, 1) := dk_27 (dk_at dksX6_over_0 4 rfl rfl)
theorem dX6_over_5 : decode cX6_over 5 = .ok (.iaload, 1) := dk_46 (dk_at dksX6_over_0 5 rfl rfl)
theorem dX6_over_6 : decode cX6_over 6 = .ok (.iload_n 2, 1) := dk_28 (dk_at dksX6_over_0 6 rfl rfl)
theorem dX6_over_7 : decode cX6_over 7 = .ok (.if_icmp .ne 12, 3) := dk_160 0 12 (dk_at dksX6_over_0 7 rfl rfl)
theorem dX6_over_10 : decode cX6_over 10 = .ok (.aload_n 0, 1) := dk_42 (dk_at dksX6_over_0 10 rfl rfl)
theorem dX6_over_11 : decode cX6_over 11 = .ok (.getfield 59, 3) := dk_180 0 59 (dk_at dksX6_over_0 11 rfl rfl)
theorem dX6_over_14 : decode cX6_over 14 = .ok (.iload_n 1, 1) := dk_27 (dk_at dksX6_over_0 14 rfl rfl)
theorem dX6_over_15 : decode cX6_over 15 = .ok (.iaload, 1) := dk_46 (dk_at dksX6_over_0 15 rfl rfl)
theorem dX6_over_16 : decode cX6_over 16 = .ok (.goto 9, 3) := dk_167 0 9 (dk_at dksX6_over_0 16 rfl rfl)
theorem dX6_over_19 : decode cX6_over 19 = .ok (.aload_n 0, 1) := dk_42 (dk_at dksX6_over_0 19 rfl rfl)
theorem dX6_over_20 : decode cX6_over 20 = .ok (.getfield 56, 3) := dk_180 0 56 (dk_at dksX6_over_0 20 rfl rfl)
theorem dX6_over_23 : decode cX6_over 23 = .ok (.iload_n 1, 1) := dk_27 (dk_at dksX6_over_0 23 rfl rfl)
theorem dX6_over_24 : decode cX6_over 24 = .ok (.iaload, 1) := dk_46 (dk_at dksX6_over_1 0 rfl rfl)
theorem dX6_over_25 : decode cX6_over 25 = .ok (.ireturn, 1) := dk_172 (dk_at dksX6_over_1 1 rfl rfl)
abbrev cX6_shut : ByteArray := prog_15_method_56_code
def yX6_shut : MethodName := ⟨RX6, "shut", "(IZ)Z"⟩
def dkwX6_shut_1 : List UInt8 := [154, 0, 9, 42, 5, 182, 0, 163, 172, 42, 180, 0, 68, 27, 28, 84, 4, 172]
abbrev dktX6_shut_1 : List UInt8 := dkwX6_shut_1 ++ []
def dkwX6_shut_0 : List UInt8 := [42, 3, 181, 0, 144, 42, 3, 181, 0, 147, 27, 133, 9, 42, 180, 1, 73, 4, 100, 133, 184, 1, 6]
abbrev dktX6_shut_0 : List UInt8 := dkwX6_shut_0 ++ dktX6_shut_1
theorem dksX6_shut_0 : cX6_shut.data.toList.drop 0 = dktX6_shut_0 := by decide +kernel
theorem dksX6_shut_1 : cX6_shut.data.toList.drop 23 = dktX6_shut_1 := dk_seg dksX6_shut_0 23 rfl rfl
theorem dX6_shut_0 : decode cX6_shut 0 = .ok (.aload_n 0, 1) := dk_42 (dk_at dksX6_shut_0 0 rfl rfl)
theorem dX6_shut_1 : decode cX6_shut 1 = .ok (.iconst 0, 1) := dk_3 (dk_at dksX6_shut_0 1 rfl rfl)
theorem dX6_shut_2 : decode cX6_shut 2 = .ok (.putfield 144, 3) := dk_181 0 144 (dk_at dksX6_shut_0 2 rfl rfl)
theorem dX6_shut_5 : decode cX6_shut 5 = .ok (.aload_n 0, 1) := dk_42 (dk_at dksX6_shut_0 5 rfl rfl)
theorem dX6_shut_6 : decode cX6_shut 6 = .ok (.iconst 0, 1) := dk_3 (dk_at dksX6_shut_0 6 rfl rfl)
theorem dX6_shut_7 : decode cX6_shut 7 = .ok (.putfield 147, 3) := dk_181 0 147 (dk_at dksX6_shut_0 7 rfl rfl)
theorem dX6_shut_10 : decode cX6_shut 10 = .ok (.iload_n 1, 1) := dk_27 (dk_at dksX6_shut_0 10 rfl rfl)
theorem dX6_shut_11 : decode cX6_shut 11 = .ok (.i2l, 1) := dk_133 (dk_at dksX6_shut_0 11 rfl rfl)
theorem dX6_shut_12 : decode cX6_shut 12 = .ok (.lconst 0, 1) := dk_9 (dk_at dksX6_shut_0 12 rfl rfl)
theorem dX6_shut_13 : decode cX6_shut 13 = .ok (.aload_n 0, 1) := dk_42 (dk_at dksX6_shut_0 13 rfl rfl)
theorem dX6_shut_14 : decode cX6_shut 14 = .ok (.getfield 329, 3) := dk_180 1 73 (dk_at dksX6_shut_0 14 rfl rfl)
theorem dX6_shut_17 : decode cX6_shut 17 = .ok (.iconst 1, 1) := dk_4 (dk_at dksX6_shut_0 17 rfl rfl)
theorem dX6_shut_18 : decode cX6_shut 18 = .ok (.isub, 1) := dk_100 (dk_at dksX6_shut_0 18 rfl rfl)
theorem dX6_shut_19 : decode cX6_shut 19 = .ok (.i2l, 1) := dk_133 (dk_at dksX6_shut_0 19 rfl rfl)
theorem dX6_shut_20 : decode cX6_shut 20 = .ok (.invokestatic 262, 3) := dk_184 1 6 (dk_at dksX6_shut_0 20 rfl rfl)
theorem dX6_shut_23 : decode cX6_shut 23 = .ok (.ifCond .ne 9, 3) := dk_154 0 9 (dk_at dksX6_shut_1 0 rfl rfl)
theorem dX6_shut_26 : decode cX6_shut 26 = .ok (.aload_n 0, 1) := dk_42 (dk_at dksX6_shut_1 3 rfl rfl)
theorem dX6_shut_27 : decode cX6_shut 27 = .ok (.iconst 2, 1) := dk_5 (dk_at dksX6_shut_1 4 rfl rfl)
theorem dX6_shut_28 : decode cX6_shut 28 = .ok (.invokevirtual 163, 3) := dk_182 0 163 (dk_at dksX6_shut_1 5 rfl rfl)
theorem dX6_shut_31 : decode cX6_shut 31 = .ok (.ireturn, 1) := dk_172 (dk_at dksX6_shut_1 8 rfl rfl)
theorem dX6_shut_32 : decode cX6_shut 32 = .ok (.aload_n 0, 1) := dk_42 (dk_at dksX6_shut_1 9 rfl rfl)
theorem dX6_shut_33 : decode cX6_shut 33 = .ok (.getfield 68, 3) := dk_180 0 68 (dk_at dksX6_shut_1 10 rfl rfl)
theorem dX6_shut_36 : decode cX6_shut 36 = .ok (.iload_n 1, 1) := dk_27 (dk_at dksX6_shut_1 13 rfl rfl)
theorem dX6_shut_37 : decode cX6_shut 37 = .ok (.iload_n 2, 1) := dk_28 (dk_at dksX6_shut_1 14 rfl rfl)
theorem dX6_shut_38 : decode cX6_shut 38 = .ok (.bastore, 1) := dk_84 (dk_at dksX6_shut_1 15 rfl rfl)
theorem dX6_shut_39 : decode cX6_shut 39 = .ok (.iconst 1, 1) := dk_4 (dk_at dksX6_shut_1 16 rfl rfl)
theorem dX6_shut_40 : decode cX6_shut 40 = .ok (.ireturn, 1) := dk_172 (dk_at dksX6_shut_1 17 rfl rfl)
abbrev cX6_marks : ByteArray := prog_15_method_57_code
def yX6_marks : MethodName := ⟨RX6, "marks", "(Z)Z"⟩
def dkwX6_marks_0 : List UInt8 := [42, 3, 181, 0, 144, 42, 3, 181, 0, 147, 42, 27, 181, 1, 82, 4, 172]
abbrev dktX6_marks_0 : List UInt8 := dkwX6_marks_0 ++ []
theorem dksX6_marks_0 : cX6_marks.data.toList.drop 0 = dktX6_marks_0 := by decide +kernel
theorem dX6_marks_0 : decode cX6_marks 0 = .ok (.aload_n 0, 1) := dk_42 (dk_at dksX6_marks_0 0 rfl rfl)
theorem dX6_marks_1 : decode cX6_marks 1 = .ok (.iconst 0, 1) := dk_3 (dk_at dksX6_marks_0 1 rfl rfl)
theorem dX6_marks_2 : decode cX6_marks 2 = .ok (.putfield 144, 3) := dk_181 0 144 (dk_at dksX6_marks_0 2 rfl rfl)
theorem dX6_marks_5 : decode cX6_marks 5 = .ok (.aload_n 0, 1) := dk_42 (dk_at dksX6_marks_0 5 rfl rfl)
theorem dX6_marks_6 : decode cX6_marks 6 = .ok (.iconst 0, 1) := dk_3 (dk_at dksX6_marks_0 6 rfl rfl)
theorem dX6_marks_7 : decode cX6_marks 7 = .ok (.putfield 147, 3) := dk_181 0 147 (dk_at dksX6_marks_0 7 rfl rfl)
theorem dX6_marks_10 : decode cX6_marks 10 = .ok (.aload_n 0, 1) := dk_42 (dk_at dksX6_marks_0 10 rfl rfl)
theorem dX6_marks_11 : decode cX6_marks 11 = .ok (.iload_n 1, 1) := dk_27 (dk_at dksX6_marks_0 11 rfl rfl)
theorem dX6_marks_12 : decode cX6_marks 12 = .ok (.putfield 338, 3) := dk_181 1 82 (dk_at dksX6_marks_0 12 rfl rfl)
theorem dX6_marks_15 : decode cX6_marks 15 = .ok (.iconst 1, 1) := dk_4 (dk_at dksX6_marks_0 15 rfl rfl)
theorem dX6_marks_16 : decode cX6_marks 16 = .ok (.ireturn, 1) := dk_172 (dk_at dksX6_marks_0 16 rfl rfl)
abbrev cX6_distance : ByteArray := prog_15_method_59_code
def yX6_distance : MethodName := ⟨RX6, "distance", "(II)I"⟩
def dkwX6_distance_2 : List UInt8 := [161, 0, 12, 42, 16, 8, 182, 1, 55, 167, 0, 9, 42, 180, 0, 96, 28, 46, 172]
abbrev dktX6_distance_2 : List UInt8 := dkwX6_distance_2 ++ []
def dkwX6_distance_1 : List UInt8 := [154, 0, 9, 42, 5, 182, 1, 55, 172, 42, 27, 182, 1, 106, 42, 180, 0, 96, 28, 46, 16, 100]
abbrev dktX6_distance_1 : List UInt8 := dkwX6_distance_1 ++ dktX6_distance_2
def dkwX6_distance_0 : List UInt8 := [42, 3, 181, 0, 144, 42, 3, 181, 0, 147, 42, 27, 182, 1, 98, 153, 0, 11, 42, 28, 182, 1, 98]
abbrev dktX6_distance_0 : List UInt8 := dkwX6_distance_0 ++ dktX6_distance_1
theorem dksX6_distance_0 : cX6_distance.data.toList.drop 0 = dktX6_distance_0 := by decide +kernel
theorem dksX6_distance_1 : cX6_distance.data.toList.drop 23 = dktX6_distance_1 := dk_seg dksX6_distance_0 23 rfl rfl
theorem dksX6_distance_2 : cX6_distance.data.toList.drop 45 = dktX6_distance_2 := dk_seg dksX6_distance_1 22 rfl rfl
theorem dX6_distance_0 : decode cX6_distance 0 = .ok (.aload_n 0, 1) := dk_42 (dk_at dksX6_distance_0 0 rfl rfl)
theorem dX6_distance_1 : decode cX6_distance 1 = .ok (.iconst 0, 1) := dk_3 (dk_at dksX6_distance_0 1 rfl rfl)
theorem dX6_distance_2 : decode cX6_distance 2 = .ok (.putfield 144, 3) := dk_181 0 144 (dk_at dksX6_distance_0 2 rfl rfl)
theorem dX6_distance_5 : decode cX6_distance 5 = .ok (.aload_n 0, 1) := dk_42 (dk_at dksX6_distance_0 5 rfl rfl)
theorem dX6_distance_6 : decode cX6_distance 6 = .ok (.iconst 0, 1) := dk_3 (dk_at dksX6_distance_0 6 rfl rfl)
theorem dX6_distance_7 : decode cX6_distance 7 = .ok (.putfield 147, 3) := dk_181 0 147 (dk_at dksX6_distance_0 7 rfl rfl)
theorem dX6_distance_10 : decode cX6_distance 10 = .ok (.aload_n 0, 1) := dk_42 (dk_at dksX6_distance_0 10 rfl rfl)
theorem dX6_distance_11 : decode cX6_distance 11 = .ok (.iload_n 1, 1) := dk_27 (dk_at dksX6_distance_0 11 rfl rfl)
theorem dX6_distance_12 : decode cX6_distance 12 = .ok (.invokevirtual 354, 3) := dk_182 1 98 (dk_at dksX6_distance_0 12 rfl rfl)
theorem dX6_distance_15 : decode cX6_distance 15 = .ok (.ifCond .eq 11, 3) := dk_153 0 11 (dk_at dksX6_distance_0 15 rfl rfl)
theorem dX6_distance_18 : decode cX6_distance 18 = .ok (.aload_n 0, 1) := dk_42 (dk_at dksX6_distance_0 18 rfl rfl)
theorem dX6_distance_19 : decode cX6_distance 19 = .ok (.iload_n 2, 1) := dk_28 (dk_at dksX6_distance_0 19 rfl rfl)
theorem dX6_distance_20 : decode cX6_distance 20 = .ok (.invokevirtual 354, 3) := dk_182 1 98 (dk_at dksX6_distance_0 20 rfl rfl)
theorem dX6_distance_23 : decode cX6_distance 23 = .ok (.ifCond .ne 9, 3) := dk_154 0 9 (dk_at dksX6_distance_1 0 rfl rfl)
theorem dX6_distance_26 : decode cX6_distance 26 = .ok (.aload_n 0, 1) := dk_42 (dk_at dksX6_distance_1 3 rfl rfl)
theorem dX6_distance_27 : decode cX6_distance 27 = .ok (.iconst 2, 1) := dk_5 (dk_at dksX6_distance_1 4 rfl rfl)
theorem dX6_distance_28 : decode cX6_distance 28 = .ok (.invokevirtual 311, 3) := dk_182 1 55 (dk_at dksX6_distance_1 5 rfl rfl)
theorem dX6_distance_31 : decode cX6_distance 31 = .ok (.ireturn, 1) := dk_172 (dk_at dksX6_distance_1 8 rfl rfl)
theorem dX6_distance_32 : decode cX6_distance 32 = .ok (.aload_n 0, 1) := dk_42 (dk_at dksX6_distance_1 9 rfl rfl)
theorem dX6_distance_33 : decode cX6_distance 33 = .ok (.iload_n 1, 1) := dk_27 (dk_at dksX6_distance_1 10 rfl rfl)
theorem dX6_distance_34 : decode cX6_distance 34 = .ok (.invokevirtual 362, 3) := dk_182 1 106 (dk_at dksX6_distance_1 11 rfl rfl)
theorem dX6_distance_37 : decode cX6_distance 37 = .ok (.aload_n 0, 1) := dk_42 (dk_at dksX6_distance_1 14 rfl rfl)
theorem dX6_distance_38 : decode cX6_distance 38 = .ok (.getfield 96, 3) := dk_180 0 96 (dk_at dksX6_distance_1 15 rfl rfl)
theorem dX6_distance_41 : decode cX6_distance 41 = .ok (.iload_n 2, 1) := dk_28 (dk_at dksX6_distance_1 18 rfl rfl)
theorem dX6_distance_42 : decode cX6_distance 42 = .ok (.iaload, 1) := dk_46 (dk_at dksX6_distance_1 19 rfl rfl)
theorem dX6_distance_43 : decode cX6_distance 43 = .ok (.bipush 100, 2) := dk_16 100 (dk_at dksX6_distance_1 20 rfl rfl)
theorem dX6_distance_45 : decode cX6_distance 45 = .ok (.if_icmp .lt 12, 3) := dk_161 0 12 (dk_at dksX6_distance_2 0 rfl rfl)
theorem dX6_distance_48 : decode cX6_distance 48 = .ok (.aload_n 0, 1) := dk_42 (dk_at dksX6_distance_2 3 rfl rfl)
theorem dX6_distance_49 : decode cX6_distance 49 = .ok (.bipush 8, 2) := dk_16 8 (dk_at dksX6_distance_2 4 rfl rfl)
theorem dX6_distance_51 : decode cX6_distance 51 = .ok (.invokevirtual 311, 3) := dk_182 1 55 (dk_at dksX6_distance_2 6 rfl rfl)
theorem dX6_distance_54 : decode cX6_distance 54 = .ok (.goto 9, 3) := dk_167 0 9 (dk_at dksX6_distance_2 9 rfl rfl)
theorem dX6_distance_57 : decode cX6_distance 57 = .ok (.aload_n 0, 1) := dk_42 (dk_at dksX6_distance_2 12 rfl rfl)
theorem dX6_distance_58 : decode cX6_distance 58 = .ok (.getfield 96, 3) := dk_180 0 96 (dk_at dksX6_distance_2 13 rfl rfl)
theorem dX6_distance_61 : decode cX6_distance 61 = .ok (.iload_n 2, 1) := dk_28 (dk_at dksX6_distance_2 16 rfl rfl)
theorem dX6_distance_62 : decode cX6_distance 62 = .ok (.iaload, 1) := dk_46 (dk_at dksX6_distance_2 17 rfl rfl)
theorem dX6_distance_63 : decode cX6_distance 63 = .ok (.ireturn, 1) := dk_172 (dk_at dksX6_distance_2 18 rfl rfl)
abbrev cX6_findFar : ByteArray := prog_15_method_58_code
def yX6_findFar : MethodName := ⟨RX6, "findFar", "(I)V"⟩
def dkwX6_findFar_6 : List UInt8 := [132, 3, 1, 167, 255, 157, 132, 2, 1, 167, 255, 141, 177]
abbrev dktX6_findFar_6 : List UInt8 := dkwX6_findFar_6 ++ []
def dkwX6_findFar_5 : List UInt8 := [180, 0, 59, 29, 46, 46, 42, 180, 0, 96, 42, 180, 0, 56, 29, 46, 46, 4, 96, 184, 1, 103, 79]
abbrev dktX6_findFar_5 : List UInt8 := dkwX6_findFar_5 ++ dktX6_findFar_6
def dkwX6_findFar_4 : List UInt8 := [29, 46, 46, 4, 96, 184, 1, 103, 79, 42, 180, 0, 96, 42, 180, 0, 59, 29, 46, 42, 180, 0, 96, 42]
abbrev dktX6_findFar_4 : List UInt8 := dkwX6_findFar_4 ++ dktX6_findFar_5
def dkwX6_findFar_3 : List UInt8 := [180, 0, 56, 29, 46, 42, 180, 0, 96, 42, 180, 0, 56, 29, 46, 46, 42, 180, 0, 96, 42, 180, 0, 59]
abbrev dktX6_findFar_3 : List UInt8 := dkwX6_findFar_3 ++ dktX6_findFar_4
def dkwX6_findFar_2 : List UInt8 := [180, 1, 73, 162, 0, 97, 42, 180, 0, 68, 29, 51, 153, 0, 6, 167, 0, 79, 42, 180, 0, 96, 42]
abbrev dktX6_findFar_2 : List UInt8 := dkwX6_findFar_2 ++ dktX6_findFar_3
def dkwX6_findFar_1 : List UInt8 := [16, 100, 79, 132, 2, 1, 167, 255, 228, 3, 61, 28, 42, 180, 1, 70, 162, 0, 113, 3, 62, 29, 42]
abbrev dktX6_findFar_1 : List UInt8 := dkwX6_findFar_1 ++ dktX6_findFar_2
def dkwX6_findFar_0 : List UInt8 := [3, 61, 28, 42, 180, 1, 70, 162, 0, 26, 42, 180, 0, 96, 28, 28, 27, 160, 0, 7, 3, 167, 0, 5]
abbrev dktX6_findFar_0 : List UInt8 := dkwX6_findFar_0 ++ dktX6_findFar_1
theorem dksX6_findFar_0 : cX6_findFar.data.toList.drop 0 = dktX6_findFar_0 := by decide +kernel
theorem dksX6_findFar_1 : cX6_findFar.data.toList.drop 24 = dktX6_findFar_1 := dk_seg dksX6_findFar_0 24 rfl rfl
theorem dksX6_findFar_2 : cX6_findFar.data.toList.drop 47 = dktX6_findFar_2 := dk_seg dksX6_findFar_1 23 rfl rfl
theorem dksX6_findFar_3 : cX6_findFar.data.toList.drop 70 = dktX6_findFar_3 := dk_seg dksX6_findFar_2 23 rfl rfl
theorem dksX6_findFar_4 : cX6_findFar.data.toList.drop 94 = dktX6_findFar_4 := dk_seg dksX6_findFar_3 24 rfl rfl
theorem dksX6_findFar_5 : cX6_findFar.data.toList.drop 118 = dktX6_findFar_5 := dk_seg dksX6_findFar_4 24 rfl rfl
theorem dksX6_findFar_6 : cX6_findFar.data.toList.drop 141 = dktX6_findFar_6 := dk_seg dksX6_findFar_5 23 rfl rfl
theorem dX6_findFar_0 : decode cX6_findFar 0 = .ok (.iconst 0, 1) := dk_3 (dk_at dksX6_findFar_0 0 rfl rfl)
theorem dX6_findFar_1 : decode cX6_findFar 1 = .ok (.istore_n 2, 1) := dk_61 (dk_at dksX6_findFar_0 1 rfl rfl)
theorem dX6_findFar_2 : decode cX6_findFar 2 = .ok (.iload_n 2, 1) := dk_28 (dk_at dksX6_findFar_0 2 rfl rfl)
theorem dX6_findFar_3 : decode cX6_findFar 3 = .ok (.aload_n 0, 1) := dk_42 (dk_at dksX6_findFar_0 3 rfl rfl)
theorem dX6_findFar_4 : decode cX6_findFar 4 = .ok (.getfield 326, 3) := dk_180 1 70 (dk_at dksX6_findFar_0 4 rfl rfl)
theorem dX6_findFar_7 : decode cX6_findFar 7 = .ok (.if_icmp .ge 26, 3) := dk_162 0 26 (dk_at dksX6_findFar_0 7 rfl rfl)
theorem dX6_findFar_10 : decode cX6_findFar 10 = .ok (.aload_n 0, 1) := dk_42 (dk_at dksX6_findFar_0 10 rfl rfl)
theorem dX6_findFar_11 : decode cX6_findFar 11 = .ok (.getfield 96, 3) := dk_180 0 96 (dk_at dksX6_findFar_0 11 rfl rfl)
theorem dX6_findFar_14 : decode cX6_findFar 14 = .ok (.iload_n 2, 1) := dk_28 (dk_at dksX6_findFar_0 14 rfl rfl)
theorem dX6_findFar_15 : decode cX6_findFar 15 = .ok (.iload_n 2, 1) := dk_28 (dk_at dksX6_findFar_0 15 rfl rfl)
theorem dX6_findFar_16 : decode cX6_findFar 16 = .ok (.iload_n 1, 1) := dk_27 (dk_at dksX6_findFar_0 16 rfl rfl)
theorem dX6_findFar_17 : decode cX6_findFar 17 = .ok (.if_icmp .ne 7, 3) := dk_160 0 7 (dk_at dksX6_findFar_0 17 rfl rfl)
theorem dX6_findFar_20 : decode cX6_findFar 20 = .ok (.iconst 0, 1) := dk_3 (dk_at dksX6_findFar_0 20 rfl rfl)
theorem dX6_findFar_21 : decode cX6_findFar 21 = .ok (.goto 5, 3) := dk_167 0 5 (dk_at dksX6_findFar_0 21 rfl rfl)
theorem dX6_findFar_24 : decode cX6_findFar 24 = .ok (.bipush 100, 2) := dk_16 100 (dk_at dksX6_findFar_1 0 rfl rfl)
theorem dX6_findFar_26 : decode cX6_findFar 26 = .ok (.iastore, 1) := dk_79 (dk_at dksX6_findFar_1 2 rfl rfl)
theorem dX6_findFar_27 : decode cX6_findFar 27 = .ok (.iinc 2 1, 3) := dk_132 2 1 (dk_at dksX6_findFar_1 3 rfl rfl)
theorem dX6_findFar_30 : decode cX6_findFar 30 = .ok (.goto (-28), 3) := dk_167 255 228 (dk_at dksX6_findFar_1 6 rfl rfl)
theorem dX6_findFar_33 : decode cX6_findFar 33 = .ok (.iconst 0, 1) := dk_3 (dk_at dksX6_findFar_1 9 rfl rfl)
theorem dX6_findFar_34 : decode cX6_findFar 34 = .ok (.istore_n 2, 1) := dk_61 (dk_at dksX6_findFar_1 10 rfl rfl)
theorem dX6_findFar_35 : decode cX6_findFar 35 = .ok (.iload_n 2, 1) := dk_28 (dk_at dksX6_findFar_1 11 rfl rfl)
theorem dX6_findFar_36 : decode cX6_findFar 36 = .ok (.aload_n 0, 1) := dk_42 (dk_at dksX6_findFar_1 12 rfl rfl)
theorem dX6_findFar_37 : decode cX6_findFar 37 = .ok (.getfield 326, 3) := dk_180 1 70 (dk_at dksX6_findFar_1 13 rfl rfl)
theorem dX6_findFar_40 : decode cX6_findFar 40 = .ok (.if_icmp .ge 113, 3) := dk_162 0 113 (dk_at dksX6_findFar_1 16 rfl rfl)
theorem dX6_findFar_43 : decode cX6_findFar 43 = .ok (.iconst 0, 1) := dk_3 (dk_at dksX6_findFar_1 19 rfl rfl)
theorem dX6_findFar_44 : decode cX6_findFar 44 = .ok (.istore_n 3, 1) := dk_62 (dk_at dksX6_findFar_1 20 rfl rfl)
theorem dX6_findFar_45 : decode cX6_findFar 45 = .ok (.iload_n 3, 1) := dk_29 (dk_at dksX6_findFar_1 21 rfl rfl)
theorem dX6_findFar_46 : decode cX6_findFar 46 = .ok (.aload_n 0, 1) := dk_42 (dk_at dksX6_findFar_1 22 rfl rfl)
theorem dX6_findFar_47 : decode cX6_findFar 47 = .ok (.getfield 329, 3) := dk_180 1 73 (dk_at dksX6_findFar_2 0 rfl rfl)
theorem dX6_findFar_50 : decode cX6_findFar 50 = .ok (.if_icmp .ge 97, 3) := dk_162 0 97 (dk_at dksX6_findFar_2 3 rfl rfl)
theorem dX6_findFar_53 : decode cX6_findFar 53 = .ok (.aload_n 0, 1) := dk_42 (dk_at dksX6_findFar_2 6 rfl rfl)
theorem dX6_findFar_54 : decode cX6_findFar 54 = .ok (.getfield 68, 3) := dk_180 0 68 (dk_at dksX6_findFar_2 7 rfl rfl)
theorem dX6_findFar_57 : decode cX6_findFar 57 = .ok (.iload_n 3, 1) := dk_29 (dk_at dksX6_findFar_2 10 rfl rfl)
theorem dX6_findFar_58 : decode cX6_findFar 58 = .ok (.baload, 1) := dk_51 (dk_at dksX6_findFar_2 11 rfl rfl)
theorem dX6_findFar_59 : decode cX6_findFar 59 = .ok (.ifCond .eq 6, 3) := dk_153 0 6 (dk_at dksX6_findFar_2 12 rfl rfl)
theorem dX6_findFar_62 : decode cX6_findFar 62 = .ok (.goto 79, 3) := dk_167 0 79 (dk_at dksX6_findFar_2 15 rfl rfl)
theorem dX6_findFar_65 : decode cX6_findFar 65 = .ok (.aload_n 0, 1) := dk_42 (dk_at dksX6_findFar_2 18 rfl rfl)
theorem dX6_findFar_66 : decode cX6_findFar 66 = .ok (.getfield 96, 3) := dk_180 0 96 (dk_at dksX6_findFar_2 19 rfl rfl)
theorem dX6_findFar_69 : decode cX6_findFar 69 = .ok (.aload_n 0, 1) := dk_42 (dk_at dksX6_findFar_2 22 rfl rfl)
theorem dX6_findFar_70 : decode cX6_findFar 70 = .ok (.getfield 56, 3) := dk_180 0 56 (dk_at dksX6_findFar_3 0 rfl rfl)
theorem dX6_findFar_73 : decode cX6_findFar 73 = .ok (.iload_n 3, 1) := dk_29 (dk_at dksX6_findFar_3 3 rfl rfl)
theorem dX6_findFar_74 : decode cX6_findFar 74 = .ok (.iaload, 1) := dk_46 (dk_at dksX6_findFar_3 4 rfl rfl)
theorem dX6_findFar_75 : decode cX6_findFar 75 = .ok (.aload_n 0, 1) := dk_42 (dk_at dksX6_findFar_3 5 rfl rfl)
theorem dX6_findFar_76 : decode cX6_findFar 76 = .ok (.getfield 96, 3) := dk_180 0 96 (dk_at dksX6_findFar_3 6 rfl rfl)
theorem dX6_findFar_79 : decode cX6_findFar 79 = .ok (.aload_n 0, 1) := dk_42 (dk_at dksX6_findFar_3 9 rfl rfl)
theorem dX6_findFar_80 : decode cX6_findFar 80 = .ok (.getfield 56, 3) := dk_180 0 56 (dk_at dksX6_findFar_3 10 rfl rfl)
theorem dX6_findFar_83 : decode cX6_findFar 83 = .ok (.iload_n 3, 1) := dk_29 (dk_at dksX6_findFar_3 13 rfl rfl)
theorem dX6_findFar_84 : decode cX6_findFar 84 = .ok (.iaload, 1) := dk_46 (dk_at dksX6_findFar_3 14 rfl rfl)
theorem dX6_findFar_85 : decode cX6_findFar 85 = .ok (.iaload, 1) := dk_46 (dk_at dksX6_findFar_3 15 rfl rfl)
theorem dX6_findFar_86 : decode cX6_findFar 86 = .ok (.aload_n 0, 1) := dk_42 (dk_at dksX6_findFar_3 16 rfl rfl)
theorem dX6_findFar_87 : decode cX6_findFar 87 = .ok (.getfield 96, 3) := dk_180 0 96 (dk_at dksX6_findFar_3 17 rfl rfl)
theorem dX6_findFar_90 : decode cX6_findFar 90 = .ok (.aload_n 0, 1) := dk_42 (dk_at dksX6_findFar_3 20 rfl rfl)
theorem dX6_findFar_91 : decode cX6_findFar 91 = .ok (.getfield 59, 3) := dk_180 0 59 (dk_at dksX6_findFar_3 21 rfl rfl)
theorem dX6_findFar_94 : decode cX6_findFar 94 = .ok (.iload_n 3, 1) := dk_29 (dk_at dksX6_findFar_4 0 rfl rfl)
theorem dX6_findFar_95 : decode cX6_findFar 95 = .ok (.iaload, 1) := dk_46 (dk_at dksX6_findFar_4 1 rfl rfl)
theorem dX6_findFar_96 : decode cX6_findFar 96 = .ok (.iaload, 1) := dk_46 (dk_at dksX6_findFar_4 2 rfl rfl)
theorem dX6_findFar_97 : decode cX6_findFar 97 = .ok (.iconst 1, 1) := dk_4 (dk_at dksX6_findFar_4 3 rfl rfl)
theorem dX6_findFar_98 : decode cX6_findFar 98 = .ok (.iadd, 1) := dk_96 (dk_at dksX6_findFar_4 4 rfl rfl)
theorem dX6_findFar_99 : decode cX6_findFar 99 = .ok (.invokestatic 359, 3) := dk_184 1 103 (dk_at dksX6_findFar_4 5 rfl rfl)
theorem dX6_findFar_102 : decode cX6_findFar 102 = .ok (.iastore, 1) := dk_79 (dk_at dksX6_findFar_4 8 rfl rfl)
theorem dX6_findFar_103 : decode cX6_findFar 103 = .ok (.aload_n 0, 1) := dk_42 (dk_at dksX6_findFar_4 9 rfl rfl)
theorem dX6_findFar_104 : decode cX6_findFar 104 = .ok (.getfield 96, 3) := dk_180 0 96 (dk_at dksX6_findFar_4 10 rfl rfl)
theorem dX6_findFar_107 : decode cX6_findFar 107 = .ok (.aload_n 0, 1) := dk_42 (dk_at dksX6_findFar_4 13 rfl rfl)
theorem dX6_findFar_108 : decode cX6_findFar 108 = .ok (.getfield 59, 3) := dk_180 0 59 (dk_at dksX6_findFar_4 14 rfl rfl)
theorem dX6_findFar_111 : decode cX6_findFar 111 = .ok (.iload_n 3, 1) := dk_29 (dk_at dksX6_findFar_4 17 rfl rfl)
theorem dX6_findFar_112 : decode cX6_findFar 112 = .ok (.iaload, 1) := dk_46 (dk_at dksX6_findFar_4 18 rfl rfl)
theorem dX6_findFar_113 : decode cX6_findFar 113 = .ok (.aload_n 0, 1) := dk_42 (dk_at dksX6_findFar_4 19 rfl rfl)
theorem dX6_findFar_114 : decode cX6_findFar 114 = .ok (.getfield 96, 3) := dk_180 0 96 (dk_at dksX6_findFar_4 20 rfl rfl)
theorem dX6_findFar_117 : decode cX6_findFar 117 = .ok (.aload_n 0, 1) := dk_42 (dk_at dksX6_findFar_4 23 rfl rfl)
theorem dX6_findFar_118 : decode cX6_findFar 118 = .ok (.getfield 59, 3) := dk_180 0 59 (dk_at dksX6_findFar_5 0 rfl rfl)
theorem dX6_findFar_121 : decode cX6_findFar 121 = .ok (.iload_n 3, 1) := dk_29 (dk_at dksX6_findFar_5 3 rfl rfl)
theorem dX6_findFar_122 : decode cX6_findFar 122 = .ok (.iaload, 1) := dk_46 (dk_at dksX6_findFar_5 4 rfl rfl)
theorem dX6_findFar_123 : decode cX6_findFar 123 = .ok (.iaload, 1) := dk_46 (dk_at dksX6_findFar_5 5 rfl rfl)
theorem dX6_findFar_124 : decode cX6_findFar 124 = .ok (.aload_n 0, 1) := dk_42 (dk_at dksX6_findFar_5 6 rfl rfl)
theorem dX6_findFar_125 : decode cX6_findFar 125 = .ok (.getfield 96, 3) := dk_180 0 96 (dk_at dksX6_findFar_5 7 rfl rfl)
theorem dX6_findFar_128 : decode cX6_findFar 128 = .ok (.aload_n 0, 1) := dk_42 (dk_at dksX6_findFar_5 10 rfl rfl)
theorem dX6_findFar_129 : decode cX6_findFar 129 = .ok (.getfield 56, 3) := dk_180 0 56 (dk_at dksX6_findFar_5 11 rfl rfl)
theorem dX6_findFar_132 : decode cX6_findFar 132 = .ok (.iload_n 3, 1) := dk_29 (dk_at dksX6_findFar_5 14 rfl rfl)
theorem dX6_findFar_133 : decode cX6_findFar 133 = .ok (.iaload, 1) := dk_46 (dk_at dksX6_findFar_5 15 rfl rfl)
theorem dX6_findFar_134 : decode cX6_findFar 134 = .ok (.iaload, 1) := dk_46 (dk_at dksX6_findFar_5 16 rfl rfl)
theorem dX6_findFar_135 : decode cX6_findFar 135 = .ok (.iconst 1, 1) := dk_4 (dk_at dksX6_findFar_5 17 rfl rfl)
theorem dX6_findFar_136 : decode cX6_findFar 136 = .ok (.iadd, 1) := dk_96 (dk_at dksX6_findFar_5 18 rfl rfl)
theorem dX6_findFar_137 : decode cX6_findFar 137 = .ok (.invokestatic 359, 3) := dk_184 1 103 (dk_at dksX6_findFar_5 19 rfl rfl)
theorem dX6_findFar_140 : decode cX6_findFar 140 = .ok (.iastore, 1) := dk_79 (dk_at dksX6_findFar_5 22 rfl rfl)
theorem dX6_findFar_141 : decode cX6_findFar 141 = .ok (.iinc 3 1, 3) := dk_132 3 1 (dk_at dksX6_findFar_6 0 rfl rfl)
theorem dX6_findFar_144 : decode cX6_findFar 144 = .ok (.goto (-99), 3) := dk_167 255 157 (dk_at dksX6_findFar_6 3 rfl rfl)
theorem dX6_findFar_147 : decode cX6_findFar 147 = .ok (.iinc 2 1, 3) := dk_132 2 1 (dk_at dksX6_findFar_6 6 rfl rfl)
theorem dX6_findFar_150 : decode cX6_findFar 150 = .ok (.goto (-115), 3) := dk_167 255 141 (dk_at dksX6_findFar_6 9 rfl rfl)
theorem dX6_findFar_153 : decode cX6_findFar 153 = .ok (.return_, 1) := dk_177 (dk_at dksX6_findFar_6 12 rfl rfl)
abbrev cX6_clock : ByteArray := prog_15_method_60_code
def yX6_clock : MethodName := ⟨RX6, "clock", "(IIZ)I"⟩
def dkwX6_clock_4 : List UInt8 := [167, 255, 224, 42, 27, 28, 28, 29, 182, 1, 117, 172]
abbrev dktX6_clock_4 : List UInt8 := dkwX6_clock_4 ++ []
def dkwX6_clock_3 : List UInt8 := [182, 1, 111, 9, 20, 1, 115, 184, 1, 6, 154, 0, 9, 42, 8, 182, 1, 55, 172, 132, 4, 1]
abbrev dktX6_clock_3 : List UInt8 := dkwX6_clock_3 ++ dktX6_clock_4
def dkwX6_clock_2 : List UInt8 := [162, 0, 9, 42, 7, 182, 1, 55, 172, 3, 54, 4, 21, 4, 28, 162, 0, 32, 42, 27, 21, 4]
abbrev dktX6_clock_2 : List UInt8 := dkwX6_clock_2 ++ dktX6_clock_3
def dkwX6_clock_1 : List UInt8 := [133, 10, 20, 1, 109, 184, 1, 6, 154, 0, 9, 42, 8, 182, 1, 55, 172, 42, 180, 0, 17, 27, 46, 28]
abbrev dktX6_clock_1 : List UInt8 := dkwX6_clock_1 ++ dktX6_clock_2
def dkwX6_clock_0 : List UInt8 := [42, 3, 181, 0, 144, 42, 42, 27, 182, 0, 167, 181, 0, 147, 42, 180, 0, 147, 158, 0, 5, 2, 172, 28]
abbrev dktX6_clock_0 : List UInt8 := dkwX6_clock_0 ++ dktX6_clock_1
theorem dksX6_clock_0 : cX6_clock.data.toList.drop 0 = dktX6_clock_0 := by decide +kernel
theorem dksX6_clock_1 : cX6_clock.data.toList.drop 24 = dktX6_clock_1 := dk_seg dksX6_clock_0 24 rfl rfl
theorem dksX6_clock_2 : cX6_clock.data.toList.drop 48 = dktX6_clock_2 := dk_seg dksX6_clock_1 24 rfl rfl
theorem dksX6_clock_3 : cX6_clock.data.toList.drop 70 = dktX6_clock_3 := dk_seg dksX6_clock_2 22 rfl rfl
theorem dksX6_clock_4 : cX6_clock.data.toList.drop 92 = dktX6_clock_4 := dk_seg dksX6_clock_3 22 rfl rfl
theorem dX6_clock_0 : decode cX6_clock 0 = .ok (.aload_n 0, 1) := dk_42 (dk_at dksX6_clock_0 0 rfl rfl)
theorem dX6_clock_1 : decode cX6_clock 1 = .ok (.iconst 0, 1) := dk_3 (dk_at dksX6_clock_0 1 rfl rfl)
theorem dX6_clock_2 : decode cX6_clock 2 = .ok (.putfield 144, 3) := dk_181 0 144 (dk_at dksX6_clock_0 2 rfl rfl)
theorem dX6_clock_5 : decode cX6_clock 5 = .ok (.aload_n 0, 1) := dk_42 (dk_at dksX6_clock_0 5 rfl rfl)
theorem dX6_clock_6 : decode cX6_clock 6 = .ok (.aload_n 0, 1) := dk_42 (dk_at dksX6_clock_0 6 rfl rfl)
theorem dX6_clock_7 : decode cX6_clock 7 = .ok (.iload_n 1, 1) := dk_27 (dk_at dksX6_clock_0 7 rfl rfl)
theorem dX6_clock_8 : decode cX6_clock 8 = .ok (.invokevirtual 167, 3) := dk_182 0 167 (dk_at dksX6_clock_0 8 rfl rfl)
theorem dX6_clock_11 : decode cX6_clock 11 = .ok (.putfield 147, 3) := dk_181 0 147 (dk_at dksX6_clock_0 11 rfl rfl)
theorem dX6_clock_14 : decode cX6_clock 14 = .ok (.aload_n 0, 1) := dk_42 (dk_at dksX6_clock_0 14 rfl rfl)
theorem dX6_clock_15 : decode cX6_clock 15 = .ok (.getfield 147, 3) := dk_180 0 147 (dk_at dksX6_clock_0 15 rfl rfl)
theorem dX6_clock_18 : decode cX6_clock 18 = .ok (.ifCond .le 5, 3) := dk_158 0 5 (dk_at dksX6_clock_0 18 rfl rfl)
theorem dX6_clock_21 : decode cX6_clock 21 = .ok (.iconst (-1), 1) := dk_2 (dk_at dksX6_clock_0 21 rfl rfl)
theorem dX6_clock_22 : decode cX6_clock 22 = .ok (.ireturn, 1) := dk_172 (dk_at dksX6_clock_0 22 rfl rfl)
theorem dX6_clock_23 : decode cX6_clock 23 = .ok (.iload_n 2, 1) := dk_28 (dk_at dksX6_clock_0 23 rfl rfl)
theorem dX6_clock_24 : decode cX6_clock 24 = .ok (.i2l, 1) := dk_133 (dk_at dksX6_clock_1 0 rfl rfl)
theorem dX6_clock_25 : decode cX6_clock 25 = .ok (.lconst 1, 1) := dk_10 (dk_at dksX6_clock_1 1 rfl rfl)
theorem dX6_clock_26 : decode cX6_clock 26 = .ok (.ldc2_w 365, 3) := dk_20 1 109 (dk_at dksX6_clock_1 2 rfl rfl)
theorem dX6_clock_29 : decode cX6_clock 29 = .ok (.invokestatic 262, 3) := dk_184 1 6 (dk_at dksX6_clock_1 5 rfl rfl)
theorem dX6_clock_32 : decode cX6_clock 32 = .ok (.ifCond .ne 9, 3) := dk_154 0 9 (dk_at dksX6_clock_1 8 rfl rfl)
theorem dX6_clock_35 : decode cX6_clock 35 = .ok (.aload_n 0, 1) := dk_42 (dk_at dksX6_clock_1 11 rfl rfl)
theorem dX6_clock_36 : decode cX6_clock 36 = .ok (.iconst 5, 1) := dk_8 (dk_at dksX6_clock_1 12 rfl rfl)
theorem dX6_clock_37 : decode cX6_clock 37 = .ok (.invokevirtual 311, 3) := dk_182 1 55 (dk_at dksX6_clock_1 13 rfl rfl)
theorem dX6_clock_40 : decode cX6_clock 40 = .ok (.ireturn, 1) := dk_172 (dk_at dksX6_clock_1 16 rfl rfl)
theorem dX6_clock_41 : decode cX6_clock 41 = .ok (.aload_n 0, 1) := dk_42 (dk_at dksX6_clock_1 17 rfl rfl)
theorem dX6_clock_42 : decode cX6_clock 42 = .ok (.getfield 17, 3) := dk_180 0 17 (dk_at dksX6_clock_1 18 rfl rfl)
theorem dX6_clock_45 : decode cX6_clock 45 = .ok (.iload_n 1, 1) := dk_27 (dk_at dksX6_clock_1 21 rfl rfl)
theorem dX6_clock_46 : decode cX6_clock 46 = .ok (.iaload, 1) := dk_46 (dk_at dksX6_clock_1 22 rfl rfl)
theorem dX6_clock_47 : decode cX6_clock 47 = .ok (.iload_n 2, 1) := dk_28 (dk_at dksX6_clock_1 23 rfl rfl)
theorem dX6_clock_48 : decode cX6_clock 48 = .ok (.if_icmp .ge 9, 3) := dk_162 0 9 (dk_at dksX6_clock_2 0 rfl rfl)
theorem dX6_clock_51 : decode cX6_clock 51 = .ok (.aload_n 0, 1) := dk_42 (dk_at dksX6_clock_2 3 rfl rfl)
theorem dX6_clock_52 : decode cX6_clock 52 = .ok (.iconst 4, 1) := dk_7 (dk_at dksX6_clock_2 4 rfl rfl)
theorem dX6_clock_53 : decode cX6_clock 53 = .ok (.invokevirtual 311, 3) := dk_182 1 55 (dk_at dksX6_clock_2 5 rfl rfl)
theorem dX6_clock_56 : decode cX6_clock 56 = .ok (.ireturn, 1) := dk_172 (dk_at dksX6_clock_2 8 rfl rfl)
theorem dX6_clock_57 : decode cX6_clock 57 = .ok (.iconst 0, 1) := dk_3 (dk_at dksX6_clock_2 9 rfl rfl)
theorem dX6_clock_58 : decode cX6_clock 58 = .ok (.istore 4, 2) := dk_54 4 (dk_at dksX6_clock_2 10 rfl rfl)
theorem dX6_clock_60 : decode cX6_clock 60 = .ok (.iload 4, 2) := dk_21 4 (dk_at dksX6_clock_2 12 rfl rfl)
theorem dX6_clock_62 : decode cX6_clock 62 = .ok (.iload_n 2, 1) := dk_28 (dk_at dksX6_clock_2 14 rfl rfl)
theorem dX6_clock_63 : decode cX6_clock 63 = .ok (.if_icmp .ge 32, 3) := dk_162 0 32 (dk_at dksX6_clock_2 15 rfl rfl)
theorem dX6_clock_66 : decode cX6_clock 66 = .ok (.aload_n 0, 1) := dk_42 (dk_at dksX6_clock_2 18 rfl rfl)
theorem dX6_clock_67 : decode cX6_clock 67 = .ok (.iload_n 1, 1) := dk_27 (dk_at dksX6_clock_2 19 rfl rfl)
theorem dX6_clock_68 : decode cX6_clock 68 = .ok (.iload 4, 2) := dk_21 4 (dk_at dksX6_clock_2 20 rfl rfl)
theorem dX6_clock_70 : decode cX6_clock 70 = .ok (.invokevirtual 367, 3) := dk_182 1 111 (dk_at dksX6_clock_3 0 rfl rfl)
theorem dX6_clock_73 : decode cX6_clock 73 = .ok (.lconst 0, 1) := dk_9 (dk_at dksX6_clock_3 3 rfl rfl)
theorem dX6_clock_74 : decode cX6_clock 74 = .ok (.ldc2_w 371, 3) := dk_20 1 115 (dk_at dksX6_clock_3 4 rfl rfl)
theorem dX6_clock_77 : decode cX6_clock 77 = .ok (.invokestatic 262, 3) := dk_184 1 6 (dk_at dksX6_clock_3 7 rfl rfl)
theorem dX6_clock_80 : decode cX6_clock 80 = .ok (.ifCond .ne 9, 3) := dk_154 0 9 (dk_at dksX6_clock_3 10 rfl rfl)
theorem dX6_clock_83 : decode cX6_clock 83 = .ok (.aload_n 0, 1) := dk_42 (dk_at dksX6_clock_3 13 rfl rfl)
theorem dX6_clock_84 : decode cX6_clock 84 = .ok (.iconst 5, 1) := dk_8 (dk_at dksX6_clock_3 14 rfl rfl)
theorem dX6_clock_85 : decode cX6_clock 85 = .ok (.invokevirtual 311, 3) := dk_182 1 55 (dk_at dksX6_clock_3 15 rfl rfl)
theorem dX6_clock_88 : decode cX6_clock 88 = .ok (.ireturn, 1) := dk_172 (dk_at dksX6_clock_3 18 rfl rfl)
theorem dX6_clock_89 : decode cX6_clock 89 = .ok (.iinc 4 1, 3) := dk_132 4 1 (dk_at dksX6_clock_3 19 rfl rfl)
theorem dX6_clock_92 : decode cX6_clock 92 = .ok (.goto (-32), 3) := dk_167 255 224 (dk_at dksX6_clock_4 0 rfl rfl)
theorem dX6_clock_95 : decode cX6_clock 95 = .ok (.aload_n 0, 1) := dk_42 (dk_at dksX6_clock_4 3 rfl rfl)
theorem dX6_clock_96 : decode cX6_clock 96 = .ok (.iload_n 1, 1) := dk_27 (dk_at dksX6_clock_4 4 rfl rfl)
theorem dX6_clock_97 : decode cX6_clock 97 = .ok (.iload_n 2, 1) := dk_28 (dk_at dksX6_clock_4 5 rfl rfl)
theorem dX6_clock_98 : decode cX6_clock 98 = .ok (.iload_n 2, 1) := dk_28 (dk_at dksX6_clock_4 6 rfl rfl)
theorem dX6_clock_99 : decode cX6_clock 99 = .ok (.iload_n 3, 1) := dk_29 (dk_at dksX6_clock_4 7 rfl rfl)
theorem dX6_clock_100 : decode cX6_clock 100 = .ok (.invokevirtual 373, 3) := dk_182 1 117 (dk_at dksX6_clock_4 8 rfl rfl)
theorem dX6_clock_103 : decode cX6_clock 103 = .ok (.ireturn, 1) := dk_172 (dk_at dksX6_clock_4 11 rfl rfl)
abbrev cX6_numberOf : ByteArray := prog_15_method_18_code
def yX6_numberOf : MethodName := ⟨RX6, "numberOf", "(II)J"⟩
def dkwX6_numberOf_0 : List UInt8 := [42, 180, 0, 20, 16, 64, 27, 104, 28, 96, 47, 173]
abbrev dktX6_numberOf_0 : List UInt8 := dkwX6_numberOf_0 ++ []
theorem dksX6_numberOf_0 : cX6_numberOf.data.toList.drop 0 = dktX6_numberOf_0 := by decide +kernel
theorem dX6_numberOf_0 : decode cX6_numberOf 0 = .ok (.aload_n 0, 1) := dk_42 (dk_at dksX6_numberOf_0 0 rfl rfl)
theorem dX6_numberOf_1 : decode cX6_numberOf 1 = .ok (.getfield 20, 3) := dk_180 0 20 (dk_at dksX6_numberOf_0 1 rfl rfl)
theorem dX6_numberOf_4 : decode cX6_numberOf 4 = .ok (.bipush 64, 2) := dk_16 64 (dk_at dksX6_numberOf_0 4 rfl rfl)
theorem dX6_numberOf_6 : decode cX6_numberOf 6 = .ok (.iload_n 1, 1) := dk_27 (dk_at dksX6_numberOf_0 6 rfl rfl)
theorem dX6_numberOf_7 : decode cX6_numberOf 7 = .ok (.imul, 1) := dk_104 (dk_at dksX6_numberOf_0 7 rfl rfl)
theorem dX6_numberOf_8 : decode cX6_numberOf 8 = .ok (.iload_n 2, 1) := dk_28 (dk_at dksX6_numberOf_0 8 rfl rfl)
theorem dX6_numberOf_9 : decode cX6_numberOf 9 = .ok (.iadd, 1) := dk_96 (dk_at dksX6_numberOf_0 9 rfl rfl)
theorem dX6_numberOf_10 : decode cX6_numberOf 10 = .ok (.laload, 1) := dk_47 (dk_at dksX6_numberOf_0 10 rfl rfl)
theorem dX6_numberOf_11 : decode cX6_numberOf 11 = .ok (.lreturn, 1) := dk_173 (dk_at dksX6_numberOf_0 11 rfl rfl)
abbrev cX6_addWay : ByteArray := prog_15_method_61_code
def yX6_addWay : MethodName := ⟨RX6, "addWay", "(IIIZ)I"⟩
def dkwX6_addWay_3 : List UInt8 := [180, 1, 85, 21, 4, 84, 42, 89, 180, 1, 85, 4, 96, 181, 1, 85, 42, 180, 1, 85, 4, 100, 172]
abbrev dktX6_addWay_3 : List UInt8 := dkwX6_addWay_3 ++ []
def dkwX6_addWay_2 : List UInt8 := [136, 79, 132, 5, 1, 167, 255, 224, 42, 180, 0, 75, 42, 180, 1, 85, 29, 79, 42, 180, 0, 81, 42]
abbrev dktX6_addWay_2 : List UInt8 := dkwX6_addWay_2 ++ dktX6_addWay_3
def dkwX6_addWay_1 : List UInt8 := [162, 0, 32, 42, 180, 0, 78, 16, 24, 42, 180, 1, 85, 104, 21, 5, 96, 42, 27, 21, 5, 182, 1, 111]
abbrev dktX6_addWay_1 : List UInt8 := dkwX6_addWay_1 ++ dktX6_addWay_2
def dkwX6_addWay_0 : List UInt8 := [42, 180, 1, 85, 16, 12, 160, 0, 10, 42, 16, 7, 182, 1, 55, 172, 3, 54, 5, 21, 5, 28]
abbrev dktX6_addWay_0 : List UInt8 := dkwX6_addWay_0 ++ dktX6_addWay_1
theorem dksX6_addWay_0 : cX6_addWay.data.toList.drop 0 = dktX6_addWay_0 := by decide +kernel
theorem dksX6_addWay_1 : cX6_addWay.data.toList.drop 22 = dktX6_addWay_1 := dk_seg dksX6_addWay_0 22 rfl rfl
theorem dksX6_addWay_2 : cX6_addWay.data.toList.drop 46 = dktX6_addWay_2 := dk_seg dksX6_addWay_1 24 rfl rfl
theorem dksX6_addWay_3 : cX6_addWay.data.toList.drop 69 = dktX6_addWay_3 := dk_seg dksX6_addWay_2 23 rfl rfl
theorem dX6_addWay_0 : decode cX6_addWay 0 = .ok (.aload_n 0, 1) := dk_42 (dk_at dksX6_addWay_0 0 rfl rfl)
theorem dX6_addWay_1 : decode cX6_addWay 1 = .ok (.getfield 341, 3) := dk_180 1 85 (dk_at dksX6_addWay_0 1 rfl rfl)
theorem dX6_addWay_4 : decode cX6_addWay 4 = .ok (.bipush 12, 2) := dk_16 12 (dk_at dksX6_addWay_0 4 rfl rfl)
theorem dX6_addWay_6 : decode cX6_addWay 6 = .ok (.if_icmp .ne 10, 3) := dk_160 0 10 (dk_at dksX6_addWay_0 6 rfl rfl)
theorem dX6_addWay_9 : decode cX6_addWay 9 = .ok (.aload_n 0, 1) := dk_42 (dk_at dksX6_addWay_0 9 rfl rfl)
theorem dX6_addWay_10 : decode cX6_addWay 10 = .ok (.bipush 7, 2) := dk_16 7 (dk_at dksX6_addWay_0 10 rfl rfl)
theorem dX6_addWay_12 : decode cX6_addWay 12 = .ok (.invokevirtual 311, 3) := dk_182 1 55 (dk_at dksX6_addWay_0 12 rfl rfl)
theorem dX6_addWay_15 : decode cX6_addWay 15 = .ok (.ireturn, 1) := dk_172 (dk_at dksX6_addWay_0 15 rfl rfl)
theorem dX6_addWay_16 : decode cX6_addWay 16 = .ok (.iconst 0, 1) := dk_3 (dk_at dksX6_addWay_0 16 rfl rfl)
theorem dX6_addWay_17 : decode cX6_addWay 17 = .ok (.istore 5, 2) := dk_54 5 (dk_at dksX6_addWay_0 17 rfl rfl)
theorem dX6_addWay_19 : decode cX6_addWay 19 = .ok (.iload 5, 2) := dk_21 5 (dk_at dksX6_addWay_0 19 rfl rfl)
theorem dX6_addWay_21 : decode cX6_addWay 21 = .ok (.iload_n 2, 1) := dk_28 (dk_at dksX6_addWay_0 21 rfl rfl)
theorem dX6_addWay_22 : decode cX6_addWay 22 = .ok (.if_icmp .ge 32, 3) := dk_162 0 32 (dk_at dksX6_addWay_1 0 rfl rfl)
theorem dX6_addWay_25 : decode cX6_addWay 25 = .ok (.aload_n 0, 1) := dk_42 (dk_at dksX6_addWay_1 3 rfl rfl)
theorem dX6_addWay_26 : decode cX6_addWay 26 = .ok (.getfield 78, 3) := dk_180 0 78 (dk_at dksX6_addWay_1 4 rfl rfl)
theorem dX6_addWay_29 : decode cX6_addWay 29 = .ok (.bipush 24, 2) := dk_16 24 (dk_at dksX6_addWay_1 7 rfl rfl)
theorem dX6_addWay_31 : decode cX6_addWay 31 = .ok (.aload_n 0, 1) := dk_42 (dk_at dksX6_addWay_1 9 rfl rfl)
theorem dX6_addWay_32 : decode cX6_addWay 32 = .ok (.getfield 341, 3) := dk_180 1 85 (dk_at dksX6_addWay_1 10 rfl rfl)
theorem dX6_addWay_35 : decode cX6_addWay 35 = .ok (.imul, 1) := dk_104 (dk_at dksX6_addWay_1 13 rfl rfl)
theorem dX6_addWay_36 : decode cX6_addWay 36 = .ok (.iload 5, 2) := dk_21 5 (dk_at dksX6_addWay_1 14 rfl rfl)
theorem dX6_addWay_38 : decode cX6_addWay 38 = .ok (.iadd, 1) := dk_96 (dk_at dksX6_addWay_1 16 rfl rfl)
theorem dX6_addWay_39 : decode cX6_addWay 39 = .ok (.aload_n 0, 1) := dk_42 (dk_at dksX6_addWay_1 17 rfl rfl)
theorem dX6_addWay_40 : decode cX6_addWay 40 = .ok (.iload_n 1, 1) := dk_27 (dk_at dksX6_addWay_1 18 rfl rfl)
theorem dX6_addWay_41 : decode cX6_addWay 41 = .ok (.iload 5, 2) := dk_21 5 (dk_at dksX6_addWay_1 19 rfl rfl)
theorem dX6_addWay_43 : decode cX6_addWay 43 = .ok (.invokevirtual 367, 3) := dk_182 1 111 (dk_at dksX6_addWay_1 21 rfl rfl)
theorem dX6_addWay_46 : decode cX6_addWay 46 = .ok (.l2i, 1) := dk_136 (dk_at dksX6_addWay_2 0 rfl rfl)
theorem dX6_addWay_47 : decode cX6_addWay 47 = .ok (.iastore, 1) := dk_79 (dk_at dksX6_addWay_2 1 rfl rfl)
theorem dX6_addWay_48 : decode cX6_addWay 48 = .ok (.iinc 5 1, 3) := dk_132 5 1 (dk_at dksX6_addWay_2 2 rfl rfl)
theorem dX6_addWay_51 : decode cX6_addWay 51 = .ok (.goto (-32), 3) := dk_167 255 224 (dk_at dksX6_addWay_2 5 rfl rfl)
theorem dX6_addWay_54 : decode cX6_addWay 54 = .ok (.aload_n 0, 1) := dk_42 (dk_at dksX6_addWay_2 8 rfl rfl)
theorem dX6_addWay_55 : decode cX6_addWay 55 = .ok (.getfield 75, 3) := dk_180 0 75 (dk_at dksX6_addWay_2 9 rfl rfl)
theorem dX6_addWay_58 : decode cX6_addWay 58 = .ok (.aload_n 0, 1) := dk_42 (dk_at dksX6_addWay_2 12 rfl rfl)
theorem dX6_addWay_59 : decode cX6_addWay 59 = .ok (.getfield 341, 3) := dk_180 1 85 (dk_at dksX6_addWay_2 13 rfl rfl)
theorem dX6_addWay_62 : decode cX6_addWay 62 = .ok (.iload_n 3, 1) := dk_29 (dk_at dksX6_addWay_2 16 rfl rfl)
theorem dX6_addWay_63 : decode cX6_addWay 63 = .ok (.iastore, 1) := dk_79 (dk_at dksX6_addWay_2 17 rfl rfl)
theorem dX6_addWay_64 : decode cX6_addWay 64 = .ok (.aload_n 0, 1) := dk_42 (dk_at dksX6_addWay_2 18 rfl rfl)
theorem dX6_addWay_65 : decode cX6_addWay 65 = .ok (.getfield 81, 3) := dk_180 0 81 (dk_at dksX6_addWay_2 19 rfl rfl)
theorem dX6_addWay_68 : decode cX6_addWay 68 = .ok (.aload_n 0, 1) := dk_42 (dk_at dksX6_addWay_2 22 rfl rfl)
theorem dX6_addWay_69 : decode cX6_addWay 69 = .ok (.getfield 341, 3) := dk_180 1 85 (dk_at dksX6_addWay_3 0 rfl rfl)
theorem dX6_addWay_72 : decode cX6_addWay 72 = .ok (.iload 4, 2) := dk_21 4 (dk_at dksX6_addWay_3 3 rfl rfl)
theorem dX6_addWay_74 : decode cX6_addWay 74 = .ok (.bastore, 1) := dk_84 (dk_at dksX6_addWay_3 5 rfl rfl)
theorem dX6_addWay_75 : decode cX6_addWay 75 = .ok (.aload_n 0, 1) := dk_42 (dk_at dksX6_addWay_3 6 rfl rfl)
theorem dX6_addWay_76 : decode cX6_addWay 76 = .ok (.dup, 1) := dk_89 (dk_at dksX6_addWay_3 7 rfl rfl)
theorem dX6_addWay_77 : decode cX6_addWay 77 = .ok (.getfield 341, 3) := dk_180 1 85 (dk_at dksX6_addWay_3 8 rfl rfl)
theorem dX6_addWay_80 : decode cX6_addWay 80 = .ok (.iconst 1, 1) := dk_4 (dk_at dksX6_addWay_3 11 rfl rfl)
theorem dX6_addWay_81 : decode cX6_addWay 81 = .ok (.iadd, 1) := dk_96 (dk_at dksX6_addWay_3 12 rfl rfl)
theorem dX6_addWay_82 : decode cX6_addWay 82 = .ok (.putfield 341, 3) := dk_181 1 85 (dk_at dksX6_addWay_3 13 rfl rfl)
theorem dX6_addWay_85 : decode cX6_addWay 85 = .ok (.aload_n 0, 1) := dk_42 (dk_at dksX6_addWay_3 16 rfl rfl)
theorem dX6_addWay_86 : decode cX6_addWay 86 = .ok (.getfield 341, 3) := dk_180 1 85 (dk_at dksX6_addWay_3 17 rfl rfl)
theorem dX6_addWay_89 : decode cX6_addWay 89 = .ok (.iconst 1, 1) := dk_4 (dk_at dksX6_addWay_3 20 rfl rfl)
theorem dX6_addWay_90 : decode cX6_addWay 90 = .ok (.isub, 1) := dk_100 (dk_at dksX6_addWay_3 21 rfl rfl)
theorem dX6_addWay_91 : decode cX6_addWay 91 = .ok (.ireturn, 1) := dk_172 (dk_at dksX6_addWay_3 22 rfl rfl)
abbrev cX6_sight : ByteArray := prog_15_method_62_code
def yX6_sight : MethodName := ⟨RX6, "sight", "(I)I"⟩
def dkwX6_sight_3 : List UInt8 := [132, 2, 1, 167, 255, 225, 42, 27, 16, 18, 3, 3, 182, 1, 117, 172]
abbrev dktX6_sight_3 : List UInt8 := dkwX6_sight_3 ++ []
def dkwX6_sight_2 : List UInt8 := [42, 27, 28, 182, 1, 111, 9, 20, 1, 121, 184, 1, 6, 154, 0, 9, 42, 8, 182, 1, 55, 172]
abbrev dktX6_sight_2 : List UInt8 := dkwX6_sight_2 ++ dktX6_sight_3
def dkwX6_sight_1 : List UInt8 := [180, 0, 17, 27, 46, 16, 18, 162, 0, 9, 42, 7, 182, 1, 55, 172, 3, 61, 28, 16, 18, 162, 0, 31]
abbrev dktX6_sight_1 : List UInt8 := dkwX6_sight_1 ++ dktX6_sight_2
def dkwX6_sight_0 : List UInt8 := [42, 3, 181, 0, 144, 42, 42, 27, 182, 0, 167, 181, 0, 147, 42, 180, 0, 147, 158, 0, 5, 2, 172, 42]
abbrev dktX6_sight_0 : List UInt8 := dkwX6_sight_0 ++ dktX6_sight_1
theorem dksX6_sight_0 : cX6_sight.data.toList.drop 0 = dktX6_sight_0 := by decide +kernel
theorem dksX6_sight_1 : cX6_sight.data.toList.drop 24 = dktX6_sight_1 := dk_seg dksX6_sight_0 24 rfl rfl
theorem dksX6_sight_2 : cX6_sight.data.toList.drop 48 = dktX6_sight_2 := dk_seg dksX6_sight_1 24 rfl rfl
theorem dksX6_sight_3 : cX6_sight.data.toList.drop 70 = dktX6_sight_3 := dk_seg dksX6_sight_2 22 rfl rfl
theorem dX6_sight_0 : decode cX6_sight 0 = .ok (.aload_n 0, 1) := dk_42 (dk_at dksX6_sight_0 0 rfl rfl)
theorem dX6_sight_1 : decode cX6_sight 1 = .ok (.iconst 0, 1) := dk_3 (dk_at dksX6_sight_0 1 rfl rfl)
theorem dX6_sight_2 : decode cX6_sight 2 = .ok (.putfield 144, 3) := dk_181 0 144 (dk_at dksX6_sight_0 2 rfl rfl)
theorem dX6_sight_5 : decode cX6_sight 5 = .ok (.aload_n 0, 1) := dk_42 (dk_at dksX6_sight_0 5 rfl rfl)
theorem dX6_sight_6 : decode cX6_sight 6 = .ok (.aload_n 0, 1) := dk_42 (dk_at dksX6_sight_0 6 rfl rfl)
theorem dX6_sight_7 : decode cX6_sight 7 = .ok (.iload_n 1, 1) := dk_27 (dk_at dksX6_sight_0 7 rfl rfl)
theorem dX6_sight_8 : decode cX6_sight 8 = .ok (.invokevirtual 167, 3) := dk_182 0 167 (dk_at dksX6_sight_0 8 rfl rfl)
theorem dX6_sight_11 : decode cX6_sight 11 = .ok (.putfield 147, 3) := dk_181 0 147 (dk_at dksX6_sight_0 11 rfl rfl)
theorem dX6_sight_14 : decode cX6_sight 14 = .ok (.aload_n 0, 1) := dk_42 (dk_at dksX6_sight_0 14 rfl rfl)
theorem dX6_sight_15 : decode cX6_sight 15 = .ok (.getfield 147, 3) := dk_180 0 147 (dk_at dksX6_sight_0 15 rfl rfl)
theorem dX6_sight_18 : decode cX6_sight 18 = .ok (.ifCond .le 5, 3) := dk_158 0 5 (dk_at dksX6_sight_0 18 rfl rfl)
theorem dX6_sight_21 : decode cX6_sight 21 = .ok (.iconst (-1), 1) := dk_2 (dk_at dksX6_sight_0 21 rfl rfl)
theorem dX6_sight_22 : decode cX6_sight 22 = .ok (.ireturn, 1) := dk_172 (dk_at dksX6_sight_0 22 rfl rfl)
theorem dX6_sight_23 : decode cX6_sight 23 = .ok (.aload_n 0, 1) := dk_42 (dk_at dksX6_sight_0 23 rfl rfl)
theorem dX6_sight_24 : decode cX6_sight 24 = .ok (.getfield 17, 3) := dk_180 0 17 (dk_at dksX6_sight_1 0 rfl rfl)
theorem dX6_sight_27 : decode cX6_sight 27 = .ok (.iload_n 1, 1) := dk_27 (dk_at dksX6_sight_1 3 rfl rfl)
theorem dX6_sight_28 : decode cX6_sight 28 = .ok (.iaload, 1) := dk_46 (dk_at dksX6_sight_1 4 rfl rfl)
theorem dX6_sight_29 : decode cX6_sight 29 = .ok (.bipush 18, 2) := dk_16 18 (dk_at dksX6_sight_1 5 rfl rfl)
theorem dX6_sight_31 : decode cX6_sight 31 = .ok (.if_icmp .ge 9, 3) := dk_162 0 9 (dk_at dksX6_sight_1 7 rfl rfl)
theorem dX6_sight_34 : decode cX6_sight 34 = .ok (.aload_n 0, 1) := dk_42 (dk_at dksX6_sight_1 10 rfl rfl)
theorem dX6_sight_35 : decode cX6_sight 35 = .ok (.iconst 4, 1) := dk_7 (dk_at dksX6_sight_1 11 rfl rfl)
theorem dX6_sight_36 : decode cX6_sight 36 = .ok (.invokevirtual 311, 3) := dk_182 1 55 (dk_at dksX6_sight_1 12 rfl rfl)
theorem dX6_sight_39 : decode cX6_sight 39 = .ok (.ireturn, 1) := dk_172 (dk_at dksX6_sight_1 15 rfl rfl)
theorem dX6_sight_40 : decode cX6_sight 40 = .ok (.iconst 0, 1) := dk_3 (dk_at dksX6_sight_1 16 rfl rfl)
theorem dX6_sight_41 : decode cX6_sight 41 = .ok (.istore_n 2, 1) := dk_61 (dk_at dksX6_sight_1 17 rfl rfl)
theorem dX6_sight_42 : decode cX6_sight 42 = .ok (.iload_n 2, 1) := dk_28 (dk_at dksX6_sight_1 18 rfl rfl)
theorem dX6_sight_43 : decode cX6_sight 43 = .ok (.bipush 18, 2) := dk_16 18 (dk_at dksX6_sight_1 19 rfl rfl)
theorem dX6_sight_45 : decode cX6_sight 45 = .ok (.if_icmp .ge 31, 3) := dk_162 0 31 (dk_at dksX6_sight_1 21 rfl rfl)
theorem dX6_sight_48 : decode cX6_sight 48 = .ok (.aload_n 0, 1) := dk_42 (dk_at dksX6_sight_2 0 rfl rfl)
theorem dX6_sight_49 : decode cX6_sight 49 = .ok (.iload_n 1, 1) := dk_27 (dk_at dksX6_sight_2 1 rfl rfl)
theorem dX6_sight_50 : decode cX6_sight 50 = .ok (.iload_n 2, 1) := dk_28 (dk_at dksX6_sight_2 2 rfl rfl)
theorem dX6_sight_51 : decode cX6_sight 51 = .ok (.invokevirtual 367, 3) := dk_182 1 111 (dk_at dksX6_sight_2 3 rfl rfl)
theorem dX6_sight_54 : decode cX6_sight 54 = .ok (.lconst 0, 1) := dk_9 (dk_at dksX6_sight_2 6 rfl rfl)
theorem dX6_sight_55 : decode cX6_sight 55 = .ok (.ldc2_w 377, 3) := dk_20 1 121 (dk_at dksX6_sight_2 7 rfl rfl)
theorem dX6_sight_58 : decode cX6_sight 58 = .ok (.invokestatic 262, 3) := dk_184 1 6 (dk_at dksX6_sight_2 10 rfl rfl)
theorem dX6_sight_61 : decode cX6_sight 61 = .ok (.ifCond .ne 9, 3) := dk_154 0 9 (dk_at dksX6_sight_2 13 rfl rfl)
theorem dX6_sight_64 : decode cX6_sight 64 = .ok (.aload_n 0, 1) := dk_42 (dk_at dksX6_sight_2 16 rfl rfl)
theorem dX6_sight_65 : decode cX6_sight 65 = .ok (.iconst 5, 1) := dk_8 (dk_at dksX6_sight_2 17 rfl rfl)
theorem dX6_sight_66 : decode cX6_sight 66 = .ok (.invokevirtual 311, 3) := dk_182 1 55 (dk_at dksX6_sight_2 18 rfl rfl)
theorem dX6_sight_69 : decode cX6_sight 69 = .ok (.ireturn, 1) := dk_172 (dk_at dksX6_sight_2 21 rfl rfl)
theorem dX6_sight_70 : decode cX6_sight 70 = .ok (.iinc 2 1, 3) := dk_132 2 1 (dk_at dksX6_sight_3 0 rfl rfl)
theorem dX6_sight_73 : decode cX6_sight 73 = .ok (.goto (-31), 3) := dk_167 255 225 (dk_at dksX6_sight_3 3 rfl rfl)
theorem dX6_sight_76 : decode cX6_sight 76 = .ok (.aload_n 0, 1) := dk_42 (dk_at dksX6_sight_3 6 rfl rfl)
theorem dX6_sight_77 : decode cX6_sight 77 = .ok (.iload_n 1, 1) := dk_27 (dk_at dksX6_sight_3 7 rfl rfl)
theorem dX6_sight_78 : decode cX6_sight 78 = .ok (.bipush 18, 2) := dk_16 18 (dk_at dksX6_sight_3 8 rfl rfl)
theorem dX6_sight_80 : decode cX6_sight 80 = .ok (.iconst 0, 1) := dk_3 (dk_at dksX6_sight_3 10 rfl rfl)
theorem dX6_sight_81 : decode cX6_sight 81 = .ok (.iconst 0, 1) := dk_3 (dk_at dksX6_sight_3 11 rfl rfl)
theorem dX6_sight_82 : decode cX6_sight 82 = .ok (.invokevirtual 373, 3) := dk_182 1 117 (dk_at dksX6_sight_3 12 rfl rfl)
theorem dX6_sight_85 : decode cX6_sight 85 = .ok (.ireturn, 1) := dk_172 (dk_at dksX6_sight_3 15 rfl rfl)
abbrev cX6_when : ByteArray := prog_15_method_69_code
def yX6_when : MethodName := ⟨RX6, "when", "(IIII)I"⟩
def dkwX6_when_3 : List UInt8 := [182, 1, 55, 167, 0, 5, 21, 5, 172]
abbrev dktX6_when_3 : List UInt8 := dkwX6_when_3 ++ []
def dkwX6_when_2 : List UInt8 := [182, 1, 55, 172, 42, 27, 28, 29, 21, 4, 182, 1, 146, 54, 5, 21, 5, 156, 0, 12, 42, 16, 8]
abbrev dktX6_when_2 : List UInt8 := dkwX6_when_2 ++ dktX6_when_3
def dkwX6_when_1 : List UInt8 := [153, 0, 20, 42, 29, 182, 1, 98, 153, 0, 12, 42, 21, 4, 182, 1, 98, 154, 0, 9, 42, 5]
abbrev dktX6_when_1 : List UInt8 := dkwX6_when_1 ++ dktX6_when_2
def dkwX6_when_0 : List UInt8 := [42, 3, 181, 0, 144, 42, 3, 181, 0, 147, 42, 27, 182, 1, 143, 153, 0, 28, 42, 28, 182, 1, 143]
abbrev dktX6_when_0 : List UInt8 := dkwX6_when_0 ++ dktX6_when_1
theorem dksX6_when_0 : cX6_when.data.toList.drop 0 = dktX6_when_0 := by decide +kernel
theorem dksX6_when_1 : cX6_when.data.toList.drop 23 = dktX6_when_1 := dk_seg dksX6_when_0 23 rfl rfl
theorem dksX6_when_2 : cX6_when.data.toList.drop 45 = dktX6_when_2 := dk_seg dksX6_when_1 22 rfl rfl
theorem dksX6_when_3 : cX6_when.data.toList.drop 68 = dktX6_when_3 := dk_seg dksX6_when_2 23 rfl rfl
theorem dX6_when_0 : decode cX6_when 0 = .ok (.aload_n 0, 1) := dk_42 (dk_at dksX6_when_0 0 rfl rfl)
theorem dX6_when_1 : decode cX6_when 1 = .ok (.iconst 0, 1) := dk_3 (dk_at dksX6_when_0 1 rfl rfl)
theorem dX6_when_2 : decode cX6_when 2 = .ok (.putfield 144, 3) := dk_181 0 144 (dk_at dksX6_when_0 2 rfl rfl)
theorem dX6_when_5 : decode cX6_when 5 = .ok (.aload_n 0, 1) := dk_42 (dk_at dksX6_when_0 5 rfl rfl)
theorem dX6_when_6 : decode cX6_when 6 = .ok (.iconst 0, 1) := dk_3 (dk_at dksX6_when_0 6 rfl rfl)
theorem dX6_when_7 : decode cX6_when 7 = .ok (.putfield 147, 3) := dk_181 0 147 (dk_at dksX6_when_0 7 rfl rfl)
theorem dX6_when_10 : decode cX6_when 10 = .ok (.aload_n 0, 1) := dk_42 (dk_at dksX6_when_0 10 rfl rfl)
theorem dX6_when_11 : decode cX6_when 11 = .ok (.iload_n 1, 1) := dk_27 (dk_at dksX6_when_0 11 rfl rfl)
theorem dX6_when_12 : decode cX6_when 12 = .ok (.invokevirtual 399, 3) := dk_182 1 143 (dk_at dksX6_when_0 12 rfl rfl)
theorem dX6_when_15 : decode cX6_when 15 = .ok (.ifCond .eq 28, 3) := dk_153 0 28 (dk_at dksX6_when_0 15 rfl rfl)
theorem dX6_when_18 : decode cX6_when 18 = .ok (.aload_n 0, 1) := dk_42 (dk_at dksX6_when_0 18 rfl rfl)
theorem dX6_when_19 : decode cX6_when 19 = .ok (.iload_n 2, 1) := dk_28 (dk_at dksX6_when_0 19 rfl rfl)
theorem dX6_when_20 : decode cX6_when 20 = .ok (.invokevirtual 399, 3) := dk_182 1 143 (dk_at dksX6_when_0 20 rfl rfl)
theorem dX6_when_23 : decode cX6_when 23 = .ok (.ifCond .eq 20, 3) := dk_153 0 20 (dk_at dksX6_when_1 0 rfl rfl)
theorem dX6_when_26 : decode cX6_when 26 = .ok (.aload_n 0, 1) := dk_42 (dk_at dksX6_when_1 3 rfl rfl)
theorem dX6_when_27 : decode cX6_when 27 = .ok (.iload_n 3, 1) := dk_29 (dk_at dksX6_when_1 4 rfl rfl)
theorem dX6_when_28 : decode cX6_when 28 = .ok (.invokevirtual 354, 3) := dk_182 1 98 (dk_at dksX6_when_1 5 rfl rfl)
theorem dX6_when_31 : decode cX6_when 31 = .ok (.ifCond .eq 12, 3) := dk_153 0 12 (dk_at dksX6_when_1 8 rfl rfl)
theorem dX6_when_34 : decode cX6_when 34 = .ok (.aload_n 0, 1) := dk_42 (dk_at dksX6_when_1 11 rfl rfl)
theorem dX6_when_35 : decode cX6_when 35 = .ok (.iload 4, 2) := dk_21 4 (dk_at dksX6_when_1 12 rfl rfl)
theorem dX6_when_37 : decode cX6_when 37 = .ok (.invokevirtual 354, 3) := dk_182 1 98 (dk_at dksX6_when_1 14 rfl rfl)
theorem dX6_when_40 : decode cX6_when 40 = .ok (.ifCond .ne 9, 3) := dk_154 0 9 (dk_at dksX6_when_1 17 rfl rfl)
theorem dX6_when_43 : decode cX6_when 43 = .ok (.aload_n 0, 1) := dk_42 (dk_at dksX6_when_1 20 rfl rfl)
theorem dX6_when_44 : decode cX6_when 44 = .ok (.iconst 2, 1) := dk_5 (dk_at dksX6_when_1 21 rfl rfl)
theorem dX6_when_45 : decode cX6_when 45 = .ok (.invokevirtual 311, 3) := dk_182 1 55 (dk_at dksX6_when_2 0 rfl rfl)
theorem dX6_when_48 : decode cX6_when 48 = .ok (.ireturn, 1) := dk_172 (dk_at dksX6_when_2 3 rfl rfl)
theorem dX6_when_49 : decode cX6_when 49 = .ok (.aload_n 0, 1) := dk_42 (dk_at dksX6_when_2 4 rfl rfl)
theorem dX6_when_50 : decode cX6_when 50 = .ok (.iload_n 1, 1) := dk_27 (dk_at dksX6_when_2 5 rfl rfl)
theorem dX6_when_51 : decode cX6_when 51 = .ok (.iload_n 2, 1) := dk_28 (dk_at dksX6_when_2 6 rfl rfl)
theorem dX6_when_52 : decode cX6_when 52 = .ok (.iload_n 3, 1) := dk_29 (dk_at dksX6_when_2 7 rfl rfl)
theorem dX6_when_53 : decode cX6_when 53 = .ok (.iload 4, 2) := dk_21 4 (dk_at dksX6_when_2 8 rfl rfl)
theorem dX6_when_55 : decode cX6_when 55 = .ok (.invokevirtual 402, 3) := dk_182 1 146 (dk_at dksX6_when_2 10 rfl rfl)
theorem dX6_when_58 : decode cX6_when 58 = .ok (.istore 5, 2) := dk_54 5 (dk_at dksX6_when_2 13 rfl rfl)
theorem dX6_when_60 : decode cX6_when 60 = .ok (.iload 5, 2) := dk_21 5 (dk_at dksX6_when_2 15 rfl rfl)
theorem dX6_when_62 : decode cX6_when 62 = .ok (.ifCond .ge 12, 3) := dk_156 0 12 (dk_at dksX6_when_2 17 rfl rfl)
theorem dX6_when_65 : decode cX6_when 65 = .ok (.aload_n 0, 1) := dk_42 (dk_at dksX6_when_2 20 rfl rfl)
theorem dX6_when_66 : decode cX6_when 66 = .ok (.bipush 8, 2) := dk_16 8 (dk_at dksX6_when_2 21 rfl rfl)
theorem dX6_when_68 : decode cX6_when 68 = .ok (.invokevirtual 311, 3) := dk_182 1 55 (dk_at dksX6_when_3 0 rfl rfl)
theorem dX6_when_71 : decode cX6_when 71 = .ok (.goto 5, 3) := dk_167 0 5 (dk_at dksX6_when_3 3 rfl rfl)
theorem dX6_when_74 : decode cX6_when 74 = .ok (.iload 5, 2) := dk_21 5 (dk_at dksX6_when_3 6 rfl rfl)
theorem dX6_when_76 : decode cX6_when 76 = .ok (.ireturn, 1) := dk_172 (dk_at dksX6_when_3 8 rfl rfl)
abbrev cX6_isWay : ByteArray := prog_15_method_48_code
def yX6_isWay : MethodName := ⟨RX6, "isWay", "(I)Z"⟩
def dkwX6_isWay_0 : List UInt8 := [27, 133, 9, 42, 180, 1, 85, 4, 100, 133, 184, 1, 6, 172]
abbrev dktX6_isWay_0 : List UInt8 := dkwX6_isWay_0 ++ []
theorem dksX6_isWay_0 : cX6_isWay.data.toList.drop 0 = dktX6_isWay_0 := by decide +kernel
theorem dX6_isWay_0 : decode cX6_isWay 0 = .ok (.iload_n 1, 1) := dk_27 (dk_at dksX6_isWay_0 0 rfl rfl)
theorem dX6_isWay_1 : decode cX6_isWay 1 = .ok (.i2l, 1) := dk_133 (dk_at dksX6_isWay_0 1 rfl rfl)
theorem dX6_isWay_2 : decode cX6_isWay 2 = .ok (.lconst 0, 1) := dk_9 (dk_at dksX6_isWay_0 2 rfl rfl)
theorem dX6_isWay_3 : decode cX6_isWay 3 = .ok (.aload_n 0, 1) := dk_42 (dk_at dksX6_isWay_0 3 rfl rfl)
theorem dX6_isWay_4 : decode cX6_isWay 4 = .ok (.getfield 341, 3) := dk_180 1 85 (dk_at dksX6_isWay_0 4 rfl rfl)
theorem dX6_isWay_7 : decode cX6_isWay 7 = .ok (.iconst 1, 1) := dk_4 (dk_at dksX6_isWay_0 7 rfl rfl)
theorem dX6_isWay_8 : decode cX6_isWay 8 = .ok (.isub, 1) := dk_100 (dk_at dksX6_isWay_0 8 rfl rfl)
theorem dX6_isWay_9 : decode cX6_isWay 9 = .ok (.i2l, 1) := dk_133 (dk_at dksX6_isWay_0 9 rfl rfl)
theorem dX6_isWay_10 : decode cX6_isWay 10 = .ok (.invokestatic 262, 3) := dk_184 1 6 (dk_at dksX6_isWay_0 10 rfl rfl)
theorem dX6_isWay_13 : decode cX6_isWay 13 = .ok (.ireturn, 1) := dk_172 (dk_at dksX6_isWay_0 13 rfl rfl)
abbrev cX6_walk : ByteArray := prog_15_method_68_code
def yX6_walk : MethodName := ⟨RX6, "walk", "(IIII)I"⟩
def dkwX6_walk_12 : List UInt8 := [167, 255, 25, 2, 172]
abbrev dktX6_walk_12 : List UInt8 := dkwX6_walk_12 ++ []
def dkwX6_walk_11 : List UInt8 := [180, 0, 84, 4, 46, 21, 6, 21, 7, 182, 1, 139, 153, 0, 8, 21, 5, 4, 96, 172, 132, 5, 1]
abbrev dktX6_walk_11 : List UInt8 := dkwX6_walk_11 ++ dktX6_walk_12
def dkwX6_walk_10 : List UInt8 := [180, 0, 50, 7, 21, 6, 104, 21, 9, 96, 4, 100, 46, 79, 42, 42, 180, 0, 84, 3, 46, 42]
abbrev dktX6_walk_10 : List UInt8 := dkwX6_walk_10 ++ dktX6_walk_11
def dkwX6_walk_9 : List UInt8 := [182, 1, 133, 79, 42, 180, 0, 84, 3, 46, 21, 6, 159, 0, 24, 42, 180, 0, 93, 21, 6, 42]
abbrev dktX6_walk_9 : List UInt8 := dkwX6_walk_9 ++ dktX6_walk_10
def dkwX6_walk_8 : List UInt8 := [42, 180, 0, 93, 21, 7, 46, 182, 1, 136, 167, 0, 17, 42, 21, 7, 42, 28, 4, 21, 7, 182, 1, 129]
abbrev dktX6_walk_8 : List UInt8 := dkwX6_walk_8 ++ dktX6_walk_9
def dkwX6_walk_7 : List UInt8 := [180, 0, 84, 4, 42, 180, 1, 82, 153, 0, 29, 42, 180, 0, 93, 21, 7, 46, 155, 0, 19, 42, 21, 7]
abbrev dktX6_walk_7 : List UInt8 := dkwX6_walk_7 ++ dktX6_walk_8
def dkwX6_walk_6 : List UInt8 := [54, 9, 42, 180, 0, 84, 3, 42, 21, 6, 21, 9, 182, 1, 133, 79, 21, 8, 154, 0, 56, 42]
abbrev dktX6_walk_6 : List UInt8 := dkwX6_walk_6 ++ dktX6_walk_7
def dkwX6_walk_5 : List UInt8 := [21, 7, 167, 0, 9, 42, 21, 7, 182, 1, 126, 79, 167, 0, 117, 42, 27, 3, 21, 6, 182, 1, 129]
abbrev dktX6_walk_5 : List UInt8 := dkwX6_walk_5 ++ dktX6_walk_6
def dkwX6_walk_4 : List UInt8 := [180, 0, 96, 21, 7, 46, 42, 180, 1, 79, 163, 0, 28, 42, 180, 0, 84, 4, 21, 8, 153, 0, 8]
abbrev dktX6_walk_4 : List UInt8 := dkwX6_walk_4 ++ dktX6_walk_5
def dkwX6_walk_3 : List UInt8 := [21, 5, 42, 180, 0, 35, 112, 153, 0, 7, 4, 167, 0, 4, 3, 54, 8, 42, 21, 6, 182, 1, 106, 42]
abbrev dktX6_walk_3 : List UInt8 := dkwX6_walk_3 ++ dktX6_walk_4
def dkwX6_walk_2 : List UInt8 := [21, 5, 17, 0, 200, 162, 0, 229, 42, 180, 0, 84, 3, 46, 54, 6, 42, 180, 0, 84, 4, 46, 54, 7]
abbrev dktX6_walk_2 : List UInt8 := dkwX6_walk_2 ++ dktX6_walk_3
def dkwX6_walk_1 : List UInt8 := [21, 5, 16, 8, 162, 0, 17, 42, 180, 0, 93, 21, 5, 2, 79, 132, 5, 1, 167, 255, 238, 3, 54, 5]
abbrev dktX6_walk_1 : List UInt8 := dkwX6_walk_1 ++ dktX6_walk_2
def dkwX6_walk_0 : List UInt8 := [29, 21, 4, 160, 0, 5, 3, 172, 42, 3, 29, 182, 1, 123, 42, 4, 21, 4, 182, 1, 123, 3, 54, 5]
abbrev dktX6_walk_0 : List UInt8 := dkwX6_walk_0 ++ dktX6_walk_1
theorem dksX6_walk_0 : cX6_walk.data.toList.drop 0 = dktX6_walk_0 := by decide +kernel
theorem dksX6_walk_1 : cX6_walk.data.toList.drop 24 = dktX6_walk_1 := dk_seg dksX6_walk_0 24 rfl rfl
theorem dksX6_walk_2 : cX6_walk.data.toList.drop 48 = dktX6_walk_2 := dk_seg dksX6_walk_1 24 rfl rfl
theorem dksX6_walk_3 : cX6_walk.data.toList.drop 72 = dktX6_walk_3 := dk_seg dksX6_walk_2 24 rfl rfl
theorem dksX6_walk_4 : cX6_walk.data.toList.drop 96 = dktX6_walk_4 := dk_seg dksX6_walk_3 24 rfl rfl
theorem dksX6_walk_5 : cX6_walk.data.toList.drop 119 = dktX6_walk_5 := dk_seg dksX6_walk_4 23 rfl rfl
theorem dksX6_walk_6 : cX6_walk.data.toList.drop 142 = dktX6_walk_6 := dk_seg dksX6_walk_5 23 rfl rfl
theorem dksX6_walk_7 : cX6_walk.data.toList.drop 164 = dktX6_walk_7 := dk_seg dksX6_walk_6 22 rfl rfl
theorem dksX6_walk_8 : cX6_walk.data.toList.drop 188 = dktX6_walk_8 := dk_seg dksX6_walk_7 24 rfl rfl
theorem dksX6_walk_9 : cX6_walk.data.toList.drop 212 = dktX6_walk_9 := dk_seg dksX6_walk_8 24 rfl rfl
theorem dksX6_walk_10 : cX6_walk.data.toList.drop 234 = dktX6_walk_10 := dk_seg dksX6_walk_9 22 rfl rfl
theorem dksX6_walk_11 : cX6_walk.data.toList.drop 256 = dktX6_walk_11 := dk_seg dksX6_walk_10 22 rfl rfl
theorem dksX6_walk_12 : cX6_walk.data.toList.drop 279 = dktX6_walk_12 := dk_seg dksX6_walk_11 23 rfl rfl
theorem dX6_walk_0 : decode cX6_walk 0 = .ok (.iload_n 3, 1) := dk_29 (dk_at dksX6_walk_0 0 rfl rfl)
theorem dX6_walk_1 : decode cX6_walk 1 = .ok (.iload 4, 2) := dk_21 4 (dk_at dksX6_walk_0 1 rfl rfl)
theorem dX6_walk_3 : decode cX6_walk 3 = .ok (.if_icmp .ne 5, 3) := dk_160 0 5 (dk_at dksX6_walk_0 3 rfl rfl)
theorem dX6_walk_6 : decode cX6_walk 6 = .ok (.iconst 0, 1) := dk_3 (dk_at dksX6_walk_0 6 rfl rfl)
theorem dX6_walk_7 : decode cX6_walk 7 = .ok (.ireturn, 1) := dk_172 (dk_at dksX6_walk_0 7 rfl rfl)
theorem dX6_walk_8 : decode cX6_walk 8 = .ok (.aload_n 0, 1) := dk_42 (dk_at dksX6_walk_0 8 rfl rfl)
theorem dX6_walk_9 : decode cX6_walk 9 = .ok (.iconst 0, 1) := dk_3 (dk_at dksX6_walk_0 9 rfl rfl)
theorem dX6_walk_10 : decode cX6_walk 10 = .ok (.iload_n 3, 1) := dk_29 (dk_at dksX6_walk_0 10 rfl rfl)
theorem dX6_walk_11 : decode cX6_walk 11 = .ok (.invokevirtual 379, 3) := dk_182 1 123 (dk_at dksX6_walk_0 11 rfl rfl)
theorem dX6_walk_14 : decode cX6_walk 14 = .ok (.aload_n 0, 1) := dk_42 (dk_at dksX6_walk_0 14 rfl rfl)
theorem dX6_walk_15 : decode cX6_walk 15 = .ok (.iconst 1, 1) := dk_4 (dk_at dksX6_walk_0 15 rfl rfl)
theorem dX6_walk_16 : decode cX6_walk 16 = .ok (.iload 4, 2) := dk_21 4 (dk_at dksX6_walk_0 16 rfl rfl)
theorem dX6_walk_18 : decode cX6_walk 18 = .ok (.invokevirtual 379, 3) := dk_182 1 123 (dk_at dksX6_walk_0 18 rfl rfl)
theorem dX6_walk_21 : decode cX6_walk 21 = .ok (.iconst 0, 1) := dk_3 (dk_at dksX6_walk_0 21 rfl rfl)
theorem dX6_walk_22 : decode cX6_walk 22 = .ok (.istore 5, 2) := dk_54 5 (dk_at dksX6_walk_0 22 rfl rfl)
theorem dX6_walk_24 : decode cX6_walk 24 = .ok (.iload 5, 2) := dk_21 5 (dk_at dksX6_walk_1 0 rfl rfl)
theorem dX6_walk_26 : decode cX6_walk 26 = .ok (.bipush 8, 2) := dk_16 8 (dk_at dksX6_walk_1 2 rfl rfl)
theorem dX6_walk_28 : decode cX6_walk 28 = .ok (.if_icmp .ge 17, 3) := dk_162 0 17 (dk_at dksX6_walk_1 4 rfl rfl)
theorem dX6_walk_31 : decode cX6_walk 31 = .ok (.aload_n 0, 1) := dk_42 (dk_at dksX6_walk_1 7 rfl rfl)
theorem dX6_walk_32 : decode cX6_walk 32 = .ok (.getfield 93, 3) := dk_180 0 93 (dk_at dksX6_walk_1 8 rfl rfl)
theorem dX6_walk_35 : decode cX6_walk 35 = .ok (.iload 5, 2) := dk_21 5 (dk_at dksX6_walk_1 11 rfl rfl)
theorem dX6_walk_37 : decode cX6_walk 37 = .ok (.iconst (-1), 1) := dk_2 (dk_at dksX6_walk_1 13 rfl rfl)
theorem dX6_walk_38 : decode cX6_walk 38 = .ok (.iastore, 1) := dk_79 (dk_at dksX6_walk_1 14 rfl rfl)
theorem dX6_walk_39 : decode cX6_walk 39 = .ok (.iinc 5 1, 3) := dk_132 5 1 (dk_at dksX6_walk_1 15 rfl rfl)
theorem dX6_walk_42 : decode cX6_walk 42 = .ok (.goto (-18), 3) := dk_167 255 238 (dk_at dksX6_walk_1 18 rfl rfl)
theorem dX6_walk_45 : decode cX6_walk 45 = .ok (.iconst 0, 1) := dk_3 (dk_at dksX6_walk_1 21 rfl rfl)
theorem dX6_walk_46 : decode cX6_walk 46 = .ok (.istore 5, 2) := dk_54 5 (dk_at dksX6_walk_1 22 rfl rfl)
theorem dX6_walk_48 : decode cX6_walk 48 = .ok (.iload 5, 2) := dk_21 5 (dk_at dksX6_walk_2 0 rfl rfl)
theorem dX6_walk_50 : decode cX6_walk 50 = .ok (.sipush 200, 3) := dk_17 0 200 (dk_at dksX6_walk_2 2 rfl rfl)
theorem dX6_walk_53 : decode cX6_walk 53 = .ok (.if_icmp .ge 229, 3) := dk_162 0 229 (dk_at dksX6_walk_2 5 rfl rfl)
theorem dX6_walk_56 : decode cX6_walk 56 = .ok (.aload_n 0, 1) := dk_42 (dk_at dksX6_walk_2 8 rfl rfl)
theorem dX6_walk_57 : decode cX6_walk 57 = .ok (.getfield 84, 3) := dk_180 0 84 (dk_at dksX6_walk_2 9 rfl rfl)
theorem dX6_walk_60 : decode cX6_walk 60 = .ok (.iconst 0, 1) := dk_3 (dk_at dksX6_walk_2 12 rfl rfl)
theorem dX6_walk_61 : decode cX6_walk 61 = .ok (.iaload, 1) := dk_46 (dk_at dksX6_walk_2 13 rfl rfl)
theorem dX6_walk_62 : decode cX6_walk 62 = .ok (.istore 6, 2) := dk_54 6 (dk_at dksX6_walk_2 14 rfl rfl)
theorem dX6_walk_64 : decode cX6_walk 64 = .ok (.aload_n 0, 1) := dk_42 (dk_at dksX6_walk_2 16 rfl rfl)
theorem dX6_walk_65 : decode cX6_walk 65 = .ok (.getfield 84, 3) := dk_180 0 84 (dk_at dksX6_walk_2 17 rfl rfl)
theorem dX6_walk_68 : decode cX6_walk 68 = .ok (.iconst 1, 1) := dk_4 (dk_at dksX6_walk_2 20 rfl rfl)
theorem dX6_walk_69 : decode cX6_walk 69 = .ok (.iaload, 1) := dk_46 (dk_at dksX6_walk_2 21 rfl rfl)
theorem dX6_walk_70 : decode cX6_walk 70 = .ok (.istore 7, 2) := dk_54 7 (dk_at dksX6_walk_2 22 rfl rfl)
theorem dX6_walk_72 : decode cX6_walk 72 = .ok (.iload 5, 2) := dk_21 5 (dk_at dksX6_walk_3 0 rfl rfl)
theorem dX6_walk_74 : decode cX6_walk 74 = .ok (.aload_n 0, 1) := dk_42 (dk_at dksX6_walk_3 2 rfl rfl)
theorem dX6_walk_75 : decode cX6_walk 75 = .ok (.getfield 35, 3) := dk_180 0 35 (dk_at dksX6_walk_3 3 rfl rfl)
theorem dX6_walk_78 : decode cX6_walk 78 = .ok (.irem, 1) := dk_112 (dk_at dksX6_walk_3 6 rfl rfl)
theorem dX6_walk_79 : decode cX6_walk 79 = .ok (.ifCond .eq 7, 3) := dk_153 0 7 (dk_at dksX6_walk_3 7 rfl rfl)
theorem dX6_walk_82 : decode cX6_walk 82 = .ok (.iconst 1, 1) := dk_4 (dk_at dksX6_walk_3 10 rfl rfl)
theorem dX6_walk_83 : decode cX6_walk 83 = .ok (.goto 4, 3) := dk_167 0 4 (dk_at dksX6_walk_3 11 rfl rfl)
theorem dX6_walk_86 : decode cX6_walk 86 = .ok (.iconst 0, 1) := dk_3 (dk_at dksX6_walk_3 14 rfl rfl)
theorem dX6_walk_87 : decode cX6_walk 87 = .ok (.istore 8, 2) := dk_54 8 (dk_at dksX6_walk_3 15 rfl rfl)
theorem dX6_walk_89 : decode cX6_walk 89 = .ok (.aload_n 0, 1) := dk_42 (dk_at dksX6_walk_3 17 rfl rfl)
theorem dX6_walk_90 : decode cX6_walk 90 = .ok (.iload 6, 2) := dk_21 6 (dk_at dksX6_walk_3 18 rfl rfl)
theorem dX6_walk_92 : decode cX6_walk 92 = .ok (.invokevirtual 362, 3) := dk_182 1 106 (dk_at dksX6_walk_3 20 rfl rfl)
theorem dX6_walk_95 : decode cX6_walk 95 = .ok (.aload_n 0, 1) := dk_42 (dk_at dksX6_walk_3 23 rfl rfl)
theorem dX6_walk_96 : decode cX6_walk 96 = .ok (.getfield 96, 3) := dk_180 0 96 (dk_at dksX6_walk_4 0 rfl rfl)
theorem dX6_walk_99 : decode cX6_walk 99 = .ok (.iload 7, 2) := dk_21 7 (dk_at dksX6_walk_4 3 rfl rfl)
theorem dX6_walk_101 : decode cX6_walk 101 = .ok (.iaload, 1) := dk_46 (dk_at dksX6_walk_4 5 rfl rfl)
theorem dX6_walk_102 : decode cX6_walk 102 = .ok (.aload_n 0, 1) := dk_42 (dk_at dksX6_walk_4 6 rfl rfl)
theorem dX6_walk_103 : decode cX6_walk 103 = .ok (.getfield 335, 3) := dk_180 1 79 (dk_at dksX6_walk_4 7 rfl rfl)
theorem dX6_walk_106 : decode cX6_walk 106 = .ok (.if_icmp .gt 28, 3) := dk_163 0 28 (dk_at dksX6_walk_4 10 rfl rfl)
theorem dX6_walk_109 : decode cX6_walk 109 = .ok (.aload_n 0, 1) := dk_42 (dk_at dksX6_walk_4 13 rfl rfl)
theorem dX6_walk_110 : decode cX6_walk 110 = .ok (.getfield 84, 3) := dk_180 0 84 (dk_at dksX6_walk_4 14 rfl rfl)
theorem dX6_walk_113 : decode cX6_walk 113 = .ok (.iconst 1, 1) := dk_4 (dk_at dksX6_walk_4 17 rfl rfl)
theorem dX6_walk_114 : decode cX6_walk 114 = .ok (.iload 8, 2) := dk_21 8 (dk_at dksX6_walk_4 18 rfl rfl)
theorem dX6_walk_116 : decode cX6_walk 116 = .ok (.ifCond .eq 8, 3) := dk_153 0 8 (dk_at dksX6_walk_4 20 rfl rfl)
theorem dX6_walk_119 : decode cX6_walk 119 = .ok (.iload 7, 2) := dk_21 7 (dk_at dksX6_walk_5 0 rfl rfl)
theorem dX6_walk_121 : decode cX6_walk 121 = .ok (.goto 9, 3) := dk_167 0 9 (dk_at dksX6_walk_5 2 rfl rfl)
theorem dX6_walk_124 : decode cX6_walk 124 = .ok (.aload_n 0, 1) := dk_42 (dk_at dksX6_walk_5 5 rfl rfl)
theorem dX6_walk_125 : decode cX6_walk 125 = .ok (.iload 7, 2) := dk_21 7 (dk_at dksX6_walk_5 6 rfl rfl)
theorem dX6_walk_127 : decode cX6_walk 127 = .ok (.invokevirtual 382, 3) := dk_182 1 126 (dk_at dksX6_walk_5 8 rfl rfl)
theorem dX6_walk_130 : decode cX6_walk 130 = .ok (.iastore, 1) := dk_79 (dk_at dksX6_walk_5 11 rfl rfl)
theorem dX6_walk_131 : decode cX6_walk 131 = .ok (.goto 117, 3) := dk_167 0 117 (dk_at dksX6_walk_5 12 rfl rfl)
theorem dX6_walk_134 : decode cX6_walk 134 = .ok (.aload_n 0, 1) := dk_42 (dk_at dksX6_walk_5 15 rfl rfl)
theorem dX6_walk_135 : decode cX6_walk 135 = .ok (.iload_n 1, 1) := dk_27 (dk_at dksX6_walk_5 16 rfl rfl)
theorem dX6_walk_136 : decode cX6_walk 136 = .ok (.iconst 0, 1) := dk_3 (dk_at dksX6_walk_5 17 rfl rfl)
theorem dX6_walk_137 : decode cX6_walk 137 = .ok (.iload 6, 2) := dk_21 6 (dk_at dksX6_walk_5 18 rfl rfl)
theorem dX6_walk_139 : decode cX6_walk 139 = .ok (.invokevirtual 385, 3) := dk_182 1 129 (dk_at dksX6_walk_5 20 rfl rfl)
theorem dX6_walk_142 : decode cX6_walk 142 = .ok (.istore 9, 2) := dk_54 9 (dk_at dksX6_walk_6 0 rfl rfl)
theorem dX6_walk_144 : decode cX6_walk 144 = .ok (.aload_n 0, 1) := dk_42 (dk_at dksX6_walk_6 2 rfl rfl)
theorem dX6_walk_145 : decode cX6_walk 145 = .ok (.getfield 84, 3) := dk_180 0 84 (dk_at dksX6_walk_6 3 rfl rfl)
theorem dX6_walk_148 : decode cX6_walk 148 = .ok (.iconst 0, 1) := dk_3 (dk_at dksX6_walk_6 6 rfl rfl)
theorem dX6_walk_149 : decode cX6_walk 149 = .ok (.aload_n 0, 1) := dk_42 (dk_at dksX6_walk_6 7 rfl rfl)
theorem dX6_walk_150 : decode cX6_walk 150 = .ok (.iload 6, 2) := dk_21 6 (dk_at dksX6_walk_6 8 rfl rfl)
theorem dX6_walk_152 : decode cX6_walk 152 = .ok (.iload 9, 2) := dk_21 9 (dk_at dksX6_walk_6 10 rfl rfl)
theorem dX6_walk_154 : decode cX6_walk 154 = .ok (.invokevirtual 389, 3) := dk_182 1 133 (dk_at dksX6_walk_6 12 rfl rfl)
theorem dX6_walk_157 : decode cX6_walk 157 = .ok (.iastore, 1) := dk_79 (dk_at dksX6_walk_6 15 rfl rfl)
theorem dX6_walk_158 : decode cX6_walk 158 = .ok (.iload 8, 2) := dk_21 8 (dk_at dksX6_walk_6 16 rfl rfl)
theorem dX6_walk_160 : decode cX6_walk 160 = .ok (.ifCond .ne 56, 3) := dk_154 0 56 (dk_at dksX6_walk_6 18 rfl rfl)
theorem dX6_walk_163 : decode cX6_walk 163 = .ok (.aload_n 0, 1) := dk_42 (dk_at dksX6_walk_6 21 rfl rfl)
theorem dX6_walk_164 : decode cX6_walk 164 = .ok (.getfield 84, 3) := dk_180 0 84 (dk_at dksX6_walk_7 0 rfl rfl)
theorem dX6_walk_167 : decode cX6_walk 167 = .ok (.iconst 1, 1) := dk_4 (dk_at dksX6_walk_7 3 rfl rfl)
theorem dX6_walk_168 : decode cX6_walk 168 = .ok (.aload_n 0, 1) := dk_42 (dk_at dksX6_walk_7 4 rfl rfl)
theorem dX6_walk_169 : decode cX6_walk 169 = .ok (.getfield 338, 3) := dk_180 1 82 (dk_at dksX6_walk_7 5 rfl rfl)
theorem dX6_walk_172 : decode cX6_walk 172 = .ok (.ifCond .eq 29, 3) := dk_153 0 29 (dk_at dksX6_walk_7 8 rfl rfl)
theorem dX6_walk_175 : decode cX6_walk 175 = .ok (.aload_n 0, 1) := dk_42 (dk_at dksX6_walk_7 11 rfl rfl)
theorem dX6_walk_176 : decode cX6_walk 176 = .ok (.getfield 93, 3) := dk_180 0 93 (dk_at dksX6_walk_7 12 rfl rfl)
theorem dX6_walk_179 : decode cX6_walk 179 = .ok (.iload 7, 2) := dk_21 7 (dk_at dksX6_walk_7 15 rfl rfl)
theorem dX6_walk_181 : decode cX6_walk 181 = .ok (.iaload, 1) := dk_46 (dk_at dksX6_walk_7 17 rfl rfl)
theorem dX6_walk_182 : decode cX6_walk 182 = .ok (.ifCond .lt 19, 3) := dk_155 0 19 (dk_at dksX6_walk_7 18 rfl rfl)
theorem dX6_walk_185 : decode cX6_walk 185 = .ok (.aload_n 0, 1) := dk_42 (dk_at dksX6_walk_7 21 rfl rfl)
theorem dX6_walk_186 : decode cX6_walk 186 = .ok (.iload 7, 2) := dk_21 7 (dk_at dksX6_walk_7 22 rfl rfl)
theorem dX6_walk_188 : decode cX6_walk 188 = .ok (.aload_n 0, 1) := dk_42 (dk_at dksX6_walk_8 0 rfl rfl)
theorem dX6_walk_189 : decode cX6_walk 189 = .ok (.getfield 93, 3) := dk_180 0 93 (dk_at dksX6_walk_8 1 rfl rfl)
theorem dX6_walk_192 : decode cX6_walk 192 = .ok (.iload 7, 2) := dk_21 7 (dk_at dksX6_walk_8 4 rfl rfl)
theorem dX6_walk_194 : decode cX6_walk 194 = .ok (.iaload, 1) := dk_46 (dk_at dksX6_walk_8 6 rfl rfl)
theorem dX6_walk_195 : decode cX6_walk 195 = .ok (.invokevirtual 392, 3) := dk_182 1 136 (dk_at dksX6_walk_8 7 rfl rfl)
theorem dX6_walk_198 : decode cX6_walk 198 = .ok (.goto 17, 3) := dk_167 0 17 (dk_at dksX6_walk_8 10 rfl rfl)
theorem dX6_walk_201 : decode cX6_walk 201 = .ok (.aload_n 0, 1) := dk_42 (dk_at dksX6_walk_8 13 rfl rfl)
theorem dX6_walk_202 : decode cX6_walk 202 = .ok (.iload 7, 2) := dk_21 7 (dk_at dksX6_walk_8 14 rfl rfl)
theorem dX6_walk_204 : decode cX6_walk 204 = .ok (.aload_n 0, 1) := dk_42 (dk_at dksX6_walk_8 16 rfl rfl)
theorem dX6_walk_205 : decode cX6_walk 205 = .ok (.iload_n 2, 1) := dk_28 (dk_at dksX6_walk_8 17 rfl rfl)
theorem dX6_walk_206 : decode cX6_walk 206 = .ok (.iconst 1, 1) := dk_4 (dk_at dksX6_walk_8 18 rfl rfl)
theorem dX6_walk_207 : decode cX6_walk 207 = .ok (.iload 7, 2) := dk_21 7 (dk_at dksX6_walk_8 19 rfl rfl)
theorem dX6_walk_209 : decode cX6_walk 209 = .ok (.invokevirtual 385, 3) := dk_182 1 129 (dk_at dksX6_walk_8 21 rfl rfl)
theorem dX6_walk_212 : decode cX6_walk 212 = .ok (.invokevirtual 389, 3) := dk_182 1 133 (dk_at dksX6_walk_9 0 rfl rfl)
theorem dX6_walk_215 : decode cX6_walk 215 = .ok (.iastore, 1) := dk_79 (dk_at dksX6_walk_9 3 rfl rfl)
theorem dX6_walk_216 : decode cX6_walk 216 = .ok (.aload_n 0, 1) := dk_42 (dk_at dksX6_walk_9 4 rfl rfl)
theorem dX6_walk_217 : decode cX6_walk 217 = .ok (.getfield 84, 3) := dk_180 0 84 (dk_at dksX6_walk_9 5 rfl rfl)
theorem dX6_walk_220 : decode cX6_walk 220 = .ok (.iconst 0, 1) := dk_3 (dk_at dksX6_walk_9 8 rfl rfl)
theorem dX6_walk_221 : decode cX6_walk 221 = .ok (.iaload, 1) := dk_46 (dk_at dksX6_walk_9 9 rfl rfl)
theorem dX6_walk_222 : decode cX6_walk 222 = .ok (.iload 6, 2) := dk_21 6 (dk_at dksX6_walk_9 10 rfl rfl)
theorem dX6_walk_224 : decode cX6_walk 224 = .ok (.if_icmp .eq 24, 3) := dk_159 0 24 (dk_at dksX6_walk_9 12 rfl rfl)
theorem dX6_walk_227 : decode cX6_walk 227 = .ok (.aload_n 0, 1) := dk_42 (dk_at dksX6_walk_9 15 rfl rfl)
theorem dX6_walk_228 : decode cX6_walk 228 = .ok (.getfield 93, 3) := dk_180 0 93 (dk_at dksX6_walk_9 16 rfl rfl)
theorem dX6_walk_231 : decode cX6_walk 231 = .ok (.iload 6, 2) := dk_21 6 (dk_at dksX6_walk_9 19 rfl rfl)
theorem dX6_walk_233 : decode cX6_walk 233 = .ok (.aload_n 0, 1) := dk_42 (dk_at dksX6_walk_9 21 rfl rfl)
theorem dX6_walk_234 : decode cX6_walk 234 = .ok (.getfield 50, 3) := dk_180 0 50 (dk_at dksX6_walk_10 0 rfl rfl)
theorem dX6_walk_237 : decode cX6_walk 237 = .ok (.iconst 4, 1) := dk_7 (dk_at dksX6_walk_10 3 rfl rfl)
theorem dX6_walk_238 : decode cX6_walk 238 = .ok (.iload 6, 2) := dk_21 6 (dk_at dksX6_walk_10 4 rfl rfl)
theorem dX6_walk_240 : decode cX6_walk 240 = .ok (.imul, 1) := dk_104 (dk_at dksX6_walk_10 6 rfl rfl)
theorem dX6_walk_241 : decode cX6_walk 241 = .ok (.iload 9, 2) := dk_21 9 (dk_at dksX6_walk_10 7 rfl rfl)
theorem dX6_walk_243 : decode cX6_walk 243 = .ok (.iadd, 1) := dk_96 (dk_at dksX6_walk_10 9 rfl rfl)
theorem dX6_walk_244 : decode cX6_walk 244 = .ok (.iconst 1, 1) := dk_4 (dk_at dksX6_walk_10 10 rfl rfl)
theorem dX6_walk_245 : decode cX6_walk 245 = .ok (.isub, 1) := dk_100 (dk_at dksX6_walk_10 11 rfl rfl)
theorem dX6_walk_246 : decode cX6_walk 246 = .ok (.iaload, 1) := dk_46 (dk_at dksX6_walk_10 12 rfl rfl)
theorem dX6_walk_247 : decode cX6_walk 247 = .ok (.iastore, 1) := dk_79 (dk_at dksX6_walk_10 13 rfl rfl)
theorem dX6_walk_248 : decode cX6_walk 248 = .ok (.aload_n 0, 1) := dk_42 (dk_at dksX6_walk_10 14 rfl rfl)
theorem dX6_walk_249 : decode cX6_walk 249 = .ok (.aload_n 0, 1) := dk_42 (dk_at dksX6_walk_10 15 rfl rfl)
theorem dX6_walk_250 : decode cX6_walk 250 = .ok (.getfield 84, 3) := dk_180 0 84 (dk_at dksX6_walk_10 16 rfl rfl)
theorem dX6_walk_253 : decode cX6_walk 253 = .ok (.iconst 0, 1) := dk_3 (dk_at dksX6_walk_10 19 rfl rfl)
theorem dX6_walk_254 : decode cX6_walk 254 = .ok (.iaload, 1) := dk_46 (dk_at dksX6_walk_10 20 rfl rfl)
theorem dX6_walk_255 : decode cX6_walk 255 = .ok (.aload_n 0, 1) := dk_42 (dk_at dksX6_walk_10 21 rfl rfl)
theorem dX6_walk_256 : decode cX6_walk 256 = .ok (.getfield 84, 3) := dk_180 0 84 (dk_at dksX6_walk_11 0 rfl rfl)
theorem dX6_walk_259 : decode cX6_walk 259 = .ok (.iconst 1, 1) := dk_4 (dk_at dksX6_walk_11 3 rfl rfl)
theorem dX6_walk_260 : decode cX6_walk 260 = .ok (.iaload, 1) := dk_46 (dk_at dksX6_walk_11 4 rfl rfl)
theorem dX6_walk_261 : decode cX6_walk 261 = .ok (.iload 6, 2) := dk_21 6 (dk_at dksX6_walk_11 5 rfl rfl)
theorem dX6_walk_263 : decode cX6_walk 263 = .ok (.iload 7, 2) := dk_21 7 (dk_at dksX6_walk_11 7 rfl rfl)
theorem dX6_walk_265 : decode cX6_walk 265 = .ok (.invokevirtual 395, 3) := dk_182 1 139 (dk_at dksX6_walk_11 9 rfl rfl)
theorem dX6_walk_268 : decode cX6_walk 268 = .ok (.ifCond .eq 8, 3) := dk_153 0 8 (dk_at dksX6_walk_11 12 rfl rfl)
theorem dX6_walk_271 : decode cX6_walk 271 = .ok (.iload 5, 2) := dk_21 5 (dk_at dksX6_walk_11 15 rfl rfl)
theorem dX6_walk_273 : decode cX6_walk 273 = .ok (.iconst 1, 1) := dk_4 (dk_at dksX6_walk_11 17 rfl rfl)
theorem dX6_walk_274 : decode cX6_walk 274 = .ok (.iadd, 1) := dk_96 (dk_at dksX6_walk_11 18 rfl rfl)
theorem dX6_walk_275 : decode cX6_walk 275 = .ok (.ireturn, 1) := dk_172 (dk_at dksX6_walk_11 19 rfl rfl)
theorem dX6_walk_276 : decode cX6_walk 276 = .ok (.iinc 5 1, 3) := dk_132 5 1 (dk_at dksX6_walk_11 20 rfl rfl)
theorem dX6_walk_279 : decode cX6_walk 279 = .ok (.goto (-231), 3) := dk_167 255 25 (dk_at dksX6_walk_12 0 rfl rfl)
theorem dX6_walk_282 : decode cX6_walk 282 = .ok (.iconst (-1), 1) := dk_2 (dk_at dksX6_walk_12 3 rfl rfl)
theorem dX6_walk_283 : decode cX6_walk 283 = .ok (.ireturn, 1) := dk_172 (dk_at dksX6_walk_12 4 rfl rfl)
abbrev cX6_begin : ByteArray := prog_15_method_64_code
def yX6_begin : MethodName := ⟨RX6, "begin", "(II)V"⟩
def dkwX6_begin_0 : List UInt8 := [42, 180, 0, 84, 27, 28, 79, 42, 180, 0, 87, 27, 3, 79, 42, 180, 0, 90, 27, 3, 79, 177]
abbrev dktX6_begin_0 : List UInt8 := dkwX6_begin_0 ++ []
theorem dksX6_begin_0 : cX6_begin.data.toList.drop 0 = dktX6_begin_0 := by decide +kernel
theorem dX6_begin_0 : decode cX6_begin 0 = .ok (.aload_n 0, 1) := dk_42 (dk_at dksX6_begin_0 0 rfl rfl)
theorem dX6_begin_1 : decode cX6_begin 1 = .ok (.getfield 84, 3) := dk_180 0 84 (dk_at dksX6_begin_0 1 rfl rfl)
theorem dX6_begin_4 : decode cX6_begin 4 = .ok (.iload_n 1, 1) := dk_27 (dk_at dksX6_begin_0 4 rfl rfl)
theorem dX6_begin_5 : decode cX6_begin 5 = .ok (.iload_n 2, 1) := dk_28 (dk_at dksX6_begin_0 5 rfl rfl)
theorem dX6_begin_6 : decode cX6_begin 6 = .ok (.iastore, 1) := dk_79 (dk_at dksX6_begin_0 6 rfl rfl)
theorem dX6_begin_7 : decode cX6_begin 7 = .ok (.aload_n 0, 1) := dk_42 (dk_at dksX6_begin_0 7 rfl rfl)
theorem dX6_begin_8 : decode cX6_begin 8 = .ok (.getfield 87, 3) := dk_180 0 87 (dk_at dksX6_begin_0 8 rfl rfl)
theorem dX6_begin_11 : decode cX6_begin 11 = .ok (.iload_n 1, 1) := dk_27 (dk_at dksX6_begin_0 11 rfl rfl)
theorem dX6_begin_12 : decode cX6_begin 12 = .ok (.iconst 0, 1) := dk_3 (dk_at dksX6_begin_0 12 rfl rfl)
theorem dX6_begin_13 : decode cX6_begin 13 = .ok (.iastore, 1) := dk_79 (dk_at dksX6_begin_0 13 rfl rfl)
theorem dX6_begin_14 : decode cX6_begin 14 = .ok (.aload_n 0, 1) := dk_42 (dk_at dksX6_begin_0 14 rfl rfl)
theorem dX6_begin_15 : decode cX6_begin 15 = .ok (.getfield 90, 3) := dk_180 0 90 (dk_at dksX6_begin_0 15 rfl rfl)
theorem dX6_begin_18 : decode cX6_begin 18 = .ok (.iload_n 1, 1) := dk_27 (dk_at dksX6_begin_0 18 rfl rfl)
theorem dX6_begin_19 : decode cX6_begin 19 = .ok (.iconst 0, 1) := dk_3 (dk_at dksX6_begin_0 19 rfl rfl)
theorem dX6_begin_20 : decode cX6_begin 20 = .ok (.iastore, 1) := dk_79 (dk_at dksX6_begin_0 20 rfl rfl)
theorem dX6_begin_21 : decode cX6_begin 21 = .ok (.return_, 1) := dk_177 (dk_at dksX6_begin_0 21 rfl rfl)
abbrev cX6_nearer : ByteArray := prog_15_method_65_code
def yX6_nearer : MethodName := ⟨RX6, "nearer", "(I)I"⟩
def dkwX6_nearer_2 : List UInt8 := [182, 1, 95, 172, 132, 2, 1, 167, 255, 207, 27, 172]
abbrev dktX6_nearer_2 : List UInt8 := dkwX6_nearer_2 ++ []
def dkwX6_nearer_1 : List UInt8 := [180, 0, 96, 42, 27, 28, 182, 1, 95, 46, 42, 180, 0, 96, 27, 46, 162, 0, 10, 42, 27, 28]
abbrev dktX6_nearer_1 : List UInt8 := dkwX6_nearer_1 ++ dktX6_nearer_2
def dkwX6_nearer_0 : List UInt8 := [3, 61, 28, 42, 180, 0, 44, 27, 46, 162, 0, 45, 42, 27, 28, 182, 1, 91, 153, 0, 30, 42]
abbrev dktX6_nearer_0 : List UInt8 := dkwX6_nearer_0 ++ dktX6_nearer_1
theorem dksX6_nearer_0 : cX6_nearer.data.toList.drop 0 = dktX6_nearer_0 := by decide +kernel
theorem dksX6_nearer_1 : cX6_nearer.data.toList.drop 22 = dktX6_nearer_1 := dk_seg dksX6_nearer_0 22 rfl rfl
theorem dksX6_nearer_2 : cX6_nearer.data.toList.drop 44 = dktX6_nearer_2 := dk_seg dksX6_nearer_1 22 rfl rfl
theorem dX6_nearer_0 : decode cX6_nearer 0 = .ok (.iconst 0, 1) := dk_3 (dk_at dksX6_nearer_0 0 rfl rfl)
theorem dX6_nearer_1 : decode cX6_nearer 1 = .ok (.istore_n 2, 1) := dk_61 (dk_at dksX6_nearer_0 1 rfl rfl)
theorem dX6_nearer_2 : decode cX6_nearer 2 = .ok (.iload_n 2, 1) := dk_28 (dk_at dksX6_nearer_0 2 rfl rfl)
theorem dX6_nearer_3 : decode cX6_nearer 3 = .ok (.aload_n 0, 1) := dk_42 (dk_at dksX6_nearer_0 3 rfl rfl)
theorem dX6_nearer_4 : decode cX6_nearer 4 = .ok (.getfield 44, 3) := dk_180 0 44 (dk_at dksX6_nearer_0 4 rfl rfl)
theorem dX6_nearer_7 : decode cX6_nearer 7 = .ok (.iload_n 1, 1) := dk_27 (dk_at dksX6_nearer_0 7 rfl rfl)
theorem dX6_nearer_8 : decode cX6_nearer 8 = .ok (.iaload, 1) := dk_46 (dk_at dksX6_nearer_0 8 rfl rfl)
theorem dX6_nearer_9 : decode cX6_nearer 9 = .ok (.if_icmp .ge 45, 3) := dk_162 0 45 (dk_at dksX6_nearer_0 9 rfl rfl)
theorem dX6_nearer_12 : decode cX6_nearer 12 = .ok (.aload_n 0, 1) := dk_42 (dk_at dksX6_nearer_0 12 rfl rfl)
theorem dX6_nearer_13 : decode cX6_nearer 13 = .ok (.iload_n 1, 1) := dk_27 (dk_at dksX6_nearer_0 13 rfl rfl)
theorem dX6_nearer_14 : decode cX6_nearer 14 = .ok (.iload_n 2, 1) := dk_28 (dk_at dksX6_nearer_0 14 rfl rfl)
theorem dX6_nearer_15 : decode cX6_nearer 15 = .ok (.invokevirtual 347, 3) := dk_182 1 91 (dk_at dksX6_nearer_0 15 rfl rfl)
theorem dX6_nearer_18 : decode cX6_nearer 18 = .ok (.ifCond .eq 30, 3) := dk_153 0 30 (dk_at dksX6_nearer_0 18 rfl rfl)
theorem dX6_nearer_21 : decode cX6_nearer 21 = .ok (.aload_n 0, 1) := dk_42 (dk_at dksX6_nearer_0 21 rfl rfl)
theorem dX6_nearer_22 : decode cX6_nearer 22 = .ok (.getfield 96, 3) := dk_180 0 96 (dk_at dksX6_nearer_1 0 rfl rfl)
theorem dX6_nearer_25 : decode cX6_nearer 25 = .ok (.aload_n 0, 1) := dk_42 (dk_at dksX6_nearer_1 3 rfl rfl)
theorem dX6_nearer_26 : decode cX6_nearer 26 = .ok (.iload_n 1, 1) := dk_27 (dk_at dksX6_nearer_1 4 rfl rfl)
theorem dX6_nearer_27 : decode cX6_nearer 27 = .ok (.iload_n 2, 1) := dk_28 (dk_at dksX6_nearer_1 5 rfl rfl)
theorem dX6_nearer_28 : decode cX6_nearer 28 = .ok (.invokevirtual 351, 3) := dk_182 1 95 (dk_at dksX6_nearer_1 6 rfl rfl)
theorem dX6_nearer_31 : decode cX6_nearer 31 = .ok (.iaload, 1) := dk_46 (dk_at dksX6_nearer_1 9 rfl rfl)
theorem dX6_nearer_32 : decode cX6_nearer 32 = .ok (.aload_n 0, 1) := dk_42 (dk_at dksX6_nearer_1 10 rfl rfl)
theorem dX6_nearer_33 : decode cX6_nearer 33 = .ok (.getfield 96, 3) := dk_180 0 96 (dk_at dksX6_nearer_1 11 rfl rfl)
theorem dX6_nearer_36 : decode cX6_nearer 36 = .ok (.iload_n 1, 1) := dk_27 (dk_at dksX6_nearer_1 14 rfl rfl)
theorem dX6_nearer_37 : decode cX6_nearer 37 = .ok (.iaload, 1) := dk_46 (dk_at dksX6_nearer_1 15 rfl rfl)
theorem dX6_nearer_38 : decode cX6_nearer 38 = .ok (.if_icmp .ge 10, 3) := dk_162 0 10 (dk_at dksX6_nearer_1 16 rfl rfl)
theorem dX6_nearer_41 : decode cX6_nearer 41 = .ok (.aload_n 0, 1) := dk_42 (dk_at dksX6_nearer_1 19 rfl rfl)
theorem dX6_nearer_42 : decode cX6_nearer 42 = .ok (.iload_n 1, 1) := dk_27 (dk_at dksX6_nearer_1 20 rfl rfl)
theorem dX6_nearer_43 : decode cX6_nearer 43 = .ok (.iload_n 2, 1) := dk_28 (dk_at dksX6_nearer_1 21 rfl rfl)
theorem dX6_nearer_44 : decode cX6_nearer 44 = .ok (.invokevirtual 351, 3) := dk_182 1 95 (dk_at dksX6_nearer_2 0 rfl rfl)
theorem dX6_nearer_47 : decode cX6_nearer 47 = .ok (.ireturn, 1) := dk_172 (dk_at dksX6_nearer_2 3 rfl rfl)
theorem dX6_nearer_48 : decode cX6_nearer 48 = .ok (.iinc 2 1, 3) := dk_132 2 1 (dk_at dksX6_nearer_2 4 rfl rfl)
theorem dX6_nearer_51 : decode cX6_nearer 51 = .ok (.goto (-49), 3) := dk_167 255 207 (dk_at dksX6_nearer_2 7 rfl rfl)
theorem dX6_nearer_54 : decode cX6_nearer 54 = .ok (.iload_n 1, 1) := dk_27 (dk_at dksX6_nearer_2 10 rfl rfl)
theorem dX6_nearer_55 : decode cX6_nearer 55 = .ok (.ireturn, 1) := dk_172 (dk_at dksX6_nearer_2 11 rfl rfl)
abbrev cX6_isOpen : ByteArray := prog_15_method_53_code
def yX6_isOpen : MethodName := ⟨RX6, "isOpen", "(II)Z"⟩
def dkwX6_isOpen_1 : List UInt8 := [104, 28, 96, 46, 51, 154, 0, 7, 4, 167, 0, 4, 3, 172]
abbrev dktX6_isOpen_1 : List UInt8 := dkwX6_isOpen_1 ++ []
def dkwX6_isOpen_0 : List UInt8 := [28, 155, 0, 35, 28, 42, 180, 0, 44, 27, 46, 162, 0, 25, 42, 180, 0, 68, 42, 180, 0, 50, 7, 27]
abbrev dktX6_isOpen_0 : List UInt8 := dkwX6_isOpen_0 ++ dktX6_isOpen_1
theorem dksX6_isOpen_0 : cX6_isOpen.data.toList.drop 0 = dktX6_isOpen_0 := by decide +kernel
theorem dksX6_isOpen_1 : cX6_isOpen.data.toList.drop 24 = dktX6_isOpen_1 := dk_seg dksX6_isOpen_0 24 rfl rfl
theorem dX6_isOpen_0 : decode cX6_isOpen 0 = .ok (.iload_n 2, 1) := dk_28 (dk_at dksX6_isOpen_0 0 rfl rfl)
theorem dX6_isOpen_1 : decode cX6_isOpen 1 = .ok (.ifCond .lt 35, 3) := dk_155 0 35 (dk_at dksX6_isOpen_0 1 rfl rfl)
theorem dX6_isOpen_4 : decode cX6_isOpen 4 = .ok (.iload_n 2, 1) := dk_28 (dk_at dksX6_isOpen_0 4 rfl rfl)
theorem dX6_isOpen_5 : decode cX6_isOpen 5 = .ok (.aload_n 0, 1) := dk_42 (dk_at dksX6_isOpen_0 5 rfl rfl)
theorem dX6_isOpen_6 : decode cX6_isOpen 6 = .ok (.getfield 44, 3) := dk_180 0 44 (dk_at dksX6_isOpen_0 6 rfl rfl)
theorem dX6_isOpen_9 : decode cX6_isOpen 9 = .ok (.iload_n 1, 1) := dk_27 (dk_at dksX6_isOpen_0 9 rfl rfl)
theorem dX6_isOpen_10 : decode cX6_isOpen 10 = .ok (.iaload, 1) := dk_46 (dk_at dksX6_isOpen_0 10 rfl rfl)
theorem dX6_isOpen_11 : decode cX6_isOpen 11 = .ok (.if_icmp .ge 25, 3) := dk_162 0 25 (dk_at dksX6_isOpen_0 11 rfl rfl)
theorem dX6_isOpen_14 : decode cX6_isOpen 14 = .ok (.aload_n 0, 1) := dk_42 (dk_at dksX6_isOpen_0 14 rfl rfl)
theorem dX6_isOpen_15 : decode cX6_isOpen 15 = .ok (.getfield 68, 3) := dk_180 0 68 (dk_at dksX6_isOpen_0 15 rfl rfl)
theorem dX6_isOpen_18 : decode cX6_isOpen 18 = .ok (.aload_n 0, 1) := dk_42 (dk_at dksX6_isOpen_0 18 rfl rfl)
theorem dX6_isOpen_19 : decode cX6_isOpen 19 = .ok (.getfield 50, 3) := dk_180 0 50 (dk_at dksX6_isOpen_0 19 rfl rfl)
theorem dX6_isOpen_22 : decode cX6_isOpen 22 = .ok (.iconst 4, 1) := dk_7 (dk_at dksX6_isOpen_0 22 rfl rfl)
theorem dX6_isOpen_23 : decode cX6_isOpen 23 = .ok (.iload_n 1, 1) := dk_27 (dk_at dksX6_isOpen_0 23 rfl rfl)
theorem dX6_isOpen_24 : decode cX6_isOpen 24 = .ok (.imul, 1) := dk_104 (dk_at dksX6_isOpen_1 0 rfl rfl)
theorem dX6_isOpen_25 : decode cX6_isOpen 25 = .ok (.iload_n 2, 1) := dk_28 (dk_at dksX6_isOpen_1 1 rfl rfl)
theorem dX6_isOpen_26 : decode cX6_isOpen 26 = .ok (.iadd, 1) := dk_96 (dk_at dksX6_isOpen_1 2 rfl rfl)
theorem dX6_isOpen_27 : decode cX6_isOpen 27 = .ok (.iaload, 1) := dk_46 (dk_at dksX6_isOpen_1 3 rfl rfl)
theorem dX6_isOpen_28 : decode cX6_isOpen 28 = .ok (.baload, 1) := dk_51 (dk_at dksX6_isOpen_1 4 rfl rfl)
theorem dX6_isOpen_29 : decode cX6_isOpen 29 = .ok (.ifCond .ne 7, 3) := dk_154 0 7 (dk_at dksX6_isOpen_1 5 rfl rfl)
theorem dX6_isOpen_32 : decode cX6_isOpen 32 = .ok (.iconst 1, 1) := dk_4 (dk_at dksX6_isOpen_1 8 rfl rfl)
theorem dX6_isOpen_33 : decode cX6_isOpen 33 = .ok (.goto 4, 3) := dk_167 0 4 (dk_at dksX6_isOpen_1 9 rfl rfl)
theorem dX6_isOpen_36 : decode cX6_isOpen 36 = .ok (.iconst 0, 1) := dk_3 (dk_at dksX6_isOpen_1 12 rfl rfl)
theorem dX6_isOpen_37 : decode cX6_isOpen 37 = .ok (.ireturn, 1) := dk_172 (dk_at dksX6_isOpen_1 13 rfl rfl)
abbrev cX6_stepOf : ByteArray := prog_15_method_63_code
def yX6_stepOf : MethodName := ⟨RX6, "stepOf", "(III)I"⟩
def dkwX6_stepOf_4 : List UInt8 := [46, 96, 46, 54, 5, 42, 180, 0, 90, 28, 21, 5, 8, 108, 79, 21, 5, 8, 112, 172]
abbrev dktX6_stepOf_4 : List UInt8 := dkwX6_stepOf_4 ++ []
def dkwX6_stepOf_3 : List UInt8 := [180, 0, 78, 16, 24, 27, 104, 16, 6, 42, 180, 0, 90, 28, 46, 104, 96, 42, 180, 0, 38, 6, 29, 104]
abbrev dktX6_stepOf_3 : List UInt8 := dkwX6_stepOf_3 ++ dktX6_stepOf_4
def dkwX6_stepOf_2 : List UInt8 := [180, 0, 78, 16, 24, 27, 104, 21, 4, 42, 180, 0, 75, 27, 46, 112, 96, 46, 167, 0, 4, 3, 172, 42]
abbrev dktX6_stepOf_2 : List UInt8 := dkwX6_stepOf_2 ++ dktX6_stepOf_3
def dkwX6_stepOf_1 : List UInt8 := [158, 0, 47, 21, 4, 42, 180, 0, 75, 27, 46, 161, 0, 12, 42, 180, 0, 81, 27, 51, 153, 0, 25, 42]
abbrev dktX6_stepOf_1 : List UInt8 := dkwX6_stepOf_1 ++ dktX6_stepOf_2
def dkwX6_stepOf_0 : List UInt8 := [42, 180, 0, 87, 28, 46, 54, 4, 42, 180, 0, 87, 28, 92, 46, 4, 96, 79, 42, 180, 0, 75, 27, 46]
abbrev dktX6_stepOf_0 : List UInt8 := dkwX6_stepOf_0 ++ dktX6_stepOf_1
theorem dksX6_stepOf_0 : cX6_stepOf.data.toList.drop 0 = dktX6_stepOf_0 := by decide +kernel
theorem dksX6_stepOf_1 : cX6_stepOf.data.toList.drop 24 = dktX6_stepOf_1 := dk_seg dksX6_stepOf_0 24 rfl rfl
theorem dksX6_stepOf_2 : cX6_stepOf.data.toList.drop 48 = dktX6_stepOf_2 := dk_seg dksX6_stepOf_1 24 rfl rfl
theorem dksX6_stepOf_3 : cX6_stepOf.data.toList.drop 72 = dktX6_stepOf_3 := dk_seg dksX6_stepOf_2 24 rfl rfl
theorem dksX6_stepOf_4 : cX6_stepOf.data.toList.drop 96 = dktX6_stepOf_4 := dk_seg dksX6_stepOf_3 24 rfl rfl
theorem dX6_stepOf_0 : decode cX6_stepOf 0 = .ok (.aload_n 0, 1) := dk_42 (dk_at dksX6_stepOf_0 0 rfl rfl)
theorem dX6_stepOf_1 : decode cX6_stepOf 1 = .ok (.getfield 87, 3) := dk_180 0 87 (dk_at dksX6_stepOf_0 1 rfl rfl)
theorem dX6_stepOf_4 : decode cX6_stepOf 4 = .ok (.iload_n 2, 1) := dk_28 (dk_at dksX6_stepOf_0 4 rfl rfl)
theorem dX6_stepOf_5 : decode cX6_stepOf 5 = .ok (.iaload, 1) := dk_46 (dk_at dksX6_stepOf_0 5 rfl rfl)
theorem dX6_stepOf_6 : decode cX6_stepOf 6 = .ok (.istore 4, 2) := dk_54 4 (dk_at dksX6_stepOf_0 6 rfl rfl)
theorem dX6_stepOf_8 : decode cX6_stepOf 8 = .ok (.aload_n 0, 1) := dk_42 (dk_at dksX6_stepOf_0 8 rfl rfl)
theorem dX6_stepOf_9 : decode cX6_stepOf 9 = .ok (.getfield 87, 3) := dk_180 0 87 (dk_at dksX6_stepOf_0 9 rfl rfl)
theorem dX6_stepOf_12 : decode cX6_stepOf 12 = .ok (.iload_n 2, 1) := dk_28 (dk_at dksX6_stepOf_0 12 rfl rfl)
theorem dX6_stepOf_13 : decode cX6_stepOf 13 = .ok (.dup2, 1) := dk_92 (dk_at dksX6_stepOf_0 13 rfl rfl)
theorem dX6_stepOf_14 : decode cX6_stepOf 14 = .ok (.iaload, 1) := dk_46 (dk_at dksX6_stepOf_0 14 rfl rfl)
theorem dX6_stepOf_15 : decode cX6_stepOf 15 = .ok (.iconst 1, 1) := dk_4 (dk_at dksX6_stepOf_0 15 rfl rfl)
theorem dX6_stepOf_16 : decode cX6_stepOf 16 = .ok (.iadd, 1) := dk_96 (dk_at dksX6_stepOf_0 16 rfl rfl)
theorem dX6_stepOf_17 : decode cX6_stepOf 17 = .ok (.iastore, 1) := dk_79 (dk_at dksX6_stepOf_0 17 rfl rfl)
theorem dX6_stepOf_18 : decode cX6_stepOf 18 = .ok (.aload_n 0, 1) := dk_42 (dk_at dksX6_stepOf_0 18 rfl rfl)
theorem dX6_stepOf_19 : decode cX6_stepOf 19 = .ok (.getfield 75, 3) := dk_180 0 75 (dk_at dksX6_stepOf_0 19 rfl rfl)
theorem dX6_stepOf_22 : decode cX6_stepOf 22 = .ok (.iload_n 1, 1) := dk_27 (dk_at dksX6_stepOf_0 22 rfl rfl)
theorem dX6_stepOf_23 : decode cX6_stepOf 23 = .ok (.iaload, 1) := dk_46 (dk_at dksX6_stepOf_0 23 rfl rfl)
theorem dX6_stepOf_24 : decode cX6_stepOf 24 = .ok (.ifCond .le 47, 3) := dk_158 0 47 (dk_at dksX6_stepOf_1 0 rfl rfl)
theorem dX6_stepOf_27 : decode cX6_stepOf 27 = .ok (.iload 4, 2) := dk_21 4 (dk_at dksX6_stepOf_1 3 rfl rfl)
theorem dX6_stepOf_29 : decode cX6_stepOf 29 = .ok (.aload_n 0, 1) := dk_42 (dk_at dksX6_stepOf_1 5 rfl rfl)
theorem dX6_stepOf_30 : decode cX6_stepOf 30 = .ok (.getfield 75, 3) := dk_180 0 75 (dk_at dksX6_stepOf_1 6 rfl rfl)
theorem dX6_stepOf_33 : decode cX6_stepOf 33 = .ok (.iload_n 1, 1) := dk_27 (dk_at dksX6_stepOf_1 9 rfl rfl)
theorem dX6_stepOf_34 : decode cX6_stepOf 34 = .ok (.iaload, 1) := dk_46 (dk_at dksX6_stepOf_1 10 rfl rfl)
theorem dX6_stepOf_35 : decode cX6_stepOf 35 = .ok (.if_icmp .lt 12, 3) := dk_161 0 12 (dk_at dksX6_stepOf_1 11 rfl rfl)
theorem dX6_stepOf_38 : decode cX6_stepOf 38 = .ok (.aload_n 0, 1) := dk_42 (dk_at dksX6_stepOf_1 14 rfl rfl)
theorem dX6_stepOf_39 : decode cX6_stepOf 39 = .ok (.getfield 81, 3) := dk_180 0 81 (dk_at dksX6_stepOf_1 15 rfl rfl)
theorem dX6_stepOf_42 : decode cX6_stepOf 42 = .ok (.iload_n 1, 1) := dk_27 (dk_at dksX6_stepOf_1 18 rfl rfl)
theorem dX6_stepOf_43 : decode cX6_stepOf 43 = .ok (.baload, 1) := dk_51 (dk_at dksX6_stepOf_1 19 rfl rfl)
theorem dX6_stepOf_44 : decode cX6_stepOf 44 = .ok (.ifCond .eq 25, 3) := dk_153 0 25 (dk_at dksX6_stepOf_1 20 rfl rfl)
theorem dX6_stepOf_47 : decode cX6_stepOf 47 = .ok (.aload_n 0, 1) := dk_42 (dk_at dksX6_stepOf_1 23 rfl rfl)
theorem dX6_stepOf_48 : decode cX6_stepOf 48 = .ok (.getfield 78, 3) := dk_180 0 78 (dk_at dksX6_stepOf_2 0 rfl rfl)
theorem dX6_stepOf_51 : decode cX6_stepOf 51 = .ok (.bipush 24, 2) := dk_16 24 (dk_at dksX6_stepOf_2 3 rfl rfl)
theorem dX6_stepOf_53 : decode cX6_stepOf 53 = .ok (.iload_n 1, 1) := dk_27 (dk_at dksX6_stepOf_2 5 rfl rfl)
theorem dX6_stepOf_54 : decode cX6_stepOf 54 = .ok (.imul, 1) := dk_104 (dk_at dksX6_stepOf_2 6 rfl rfl)
theorem dX6_stepOf_55 : decode cX6_stepOf 55 = .ok (.iload 4, 2) := dk_21 4 (dk_at dksX6_stepOf_2 7 rfl rfl)
theorem dX6_stepOf_57 : decode cX6_stepOf 57 = .ok (.aload_n 0, 1) := dk_42 (dk_at dksX6_stepOf_2 9 rfl rfl)
theorem dX6_stepOf_58 : decode cX6_stepOf 58 = .ok (.getfield 75, 3) := dk_180 0 75 (dk_at dksX6_stepOf_2 10 rfl rfl)
theorem dX6_stepOf_61 : decode cX6_stepOf 61 = .ok (.iload_n 1, 1) := dk_27 (dk_at dksX6_stepOf_2 13 rfl rfl)
theorem dX6_stepOf_62 : decode cX6_stepOf 62 = .ok (.iaload, 1) := dk_46 (dk_at dksX6_stepOf_2 14 rfl rfl)
theorem dX6_stepOf_63 : decode cX6_stepOf 63 = .ok (.irem, 1) := dk_112 (dk_at dksX6_stepOf_2 15 rfl rfl)
theorem dX6_stepOf_64 : decode cX6_stepOf 64 = .ok (.iadd, 1) := dk_96 (dk_at dksX6_stepOf_2 16 rfl rfl)
theorem dX6_stepOf_65 : decode cX6_stepOf 65 = .ok (.iaload, 1) := dk_46 (dk_at dksX6_stepOf_2 17 rfl rfl)
theorem dX6_stepOf_66 : decode cX6_stepOf 66 = .ok (.goto 4, 3) := dk_167 0 4 (dk_at dksX6_stepOf_2 18 rfl rfl)
theorem dX6_stepOf_69 : decode cX6_stepOf 69 = .ok (.iconst 0, 1) := dk_3 (dk_at dksX6_stepOf_2 21 rfl rfl)
theorem dX6_stepOf_70 : decode cX6_stepOf 70 = .ok (.ireturn, 1) := dk_172 (dk_at dksX6_stepOf_2 22 rfl rfl)
theorem dX6_stepOf_71 : decode cX6_stepOf 71 = .ok (.aload_n 0, 1) := dk_42 (dk_at dksX6_stepOf_2 23 rfl rfl)
theorem dX6_stepOf_72 : decode cX6_stepOf 72 = .ok (.getfield 78, 3) := dk_180 0 78 (dk_at dksX6_stepOf_3 0 rfl rfl)
theorem dX6_stepOf_75 : decode cX6_stepOf 75 = .ok (.bipush 24, 2) := dk_16 24 (dk_at dksX6_stepOf_3 3 rfl rfl)
theorem dX6_stepOf_77 : decode cX6_stepOf 77 = .ok (.iload_n 1, 1) := dk_27 (dk_at dksX6_stepOf_3 5 rfl rfl)
theorem dX6_stepOf_78 : decode cX6_stepOf 78 = .ok (.imul, 1) := dk_104 (dk_at dksX6_stepOf_3 6 rfl rfl)
theorem dX6_stepOf_79 : decode cX6_stepOf 79 = .ok (.bipush 6, 2) := dk_16 6 (dk_at dksX6_stepOf_3 7 rfl rfl)
theorem dX6_stepOf_81 : decode cX6_stepOf 81 = .ok (.aload_n 0, 1) := dk_42 (dk_at dksX6_stepOf_3 9 rfl rfl)
theorem dX6_stepOf_82 : decode cX6_stepOf 82 = .ok (.getfield 90, 3) := dk_180 0 90 (dk_at dksX6_stepOf_3 10 rfl rfl)
theorem dX6_stepOf_85 : decode cX6_stepOf 85 = .ok (.iload_n 2, 1) := dk_28 (dk_at dksX6_stepOf_3 13 rfl rfl)
theorem dX6_stepOf_86 : decode cX6_stepOf 86 = .ok (.iaload, 1) := dk_46 (dk_at dksX6_stepOf_3 14 rfl rfl)
theorem dX6_stepOf_87 : decode cX6_stepOf 87 = .ok (.imul, 1) := dk_104 (dk_at dksX6_stepOf_3 15 rfl rfl)
theorem dX6_stepOf_88 : decode cX6_stepOf 88 = .ok (.iadd, 1) := dk_96 (dk_at dksX6_stepOf_3 16 rfl rfl)
theorem dX6_stepOf_89 : decode cX6_stepOf 89 = .ok (.aload_n 0, 1) := dk_42 (dk_at dksX6_stepOf_3 17 rfl rfl)
theorem dX6_stepOf_90 : decode cX6_stepOf 90 = .ok (.getfield 38, 3) := dk_180 0 38 (dk_at dksX6_stepOf_3 18 rfl rfl)
theorem dX6_stepOf_93 : decode cX6_stepOf 93 = .ok (.iconst 3, 1) := dk_6 (dk_at dksX6_stepOf_3 21 rfl rfl)
theorem dX6_stepOf_94 : decode cX6_stepOf 94 = .ok (.iload_n 3, 1) := dk_29 (dk_at dksX6_stepOf_3 22 rfl rfl)
theorem dX6_stepOf_95 : decode cX6_stepOf 95 = .ok (.imul, 1) := dk_104 (dk_at dksX6_stepOf_3 23 rfl rfl)
theorem dX6_stepOf_96 : decode cX6_stepOf 96 = .ok (.iaload, 1) := dk_46 (dk_at dksX6_stepOf_4 0 rfl rfl)
theorem dX6_stepOf_97 : decode cX6_stepOf 97 = .ok (.iadd, 1) := dk_96 (dk_at dksX6_stepOf_4 1 rfl rfl)
theorem dX6_stepOf_98 : decode cX6_stepOf 98 = .ok (.iaload, 1) := dk_46 (dk_at dksX6_stepOf_4 2 rfl rfl)
theorem dX6_stepOf_99 : decode cX6_stepOf 99 = .ok (.istore 5, 2) := dk_54 5 (dk_at dksX6_stepOf_4 3 rfl rfl)
theorem dX6_stepOf_101 : decode cX6_stepOf 101 = .ok (.aload_n 0, 1) := dk_42 (dk_at dksX6_stepOf_4 5 rfl rfl)
theorem dX6_stepOf_102 : decode cX6_stepOf 102 = .ok (.getfield 90, 3) := dk_180 0 90 (dk_at dksX6_stepOf_4 6 rfl rfl)
theorem dX6_stepOf_105 : decode cX6_stepOf 105 = .ok (.iload_n 2, 1) := dk_28 (dk_at dksX6_stepOf_4 9 rfl rfl)
theorem dX6_stepOf_106 : decode cX6_stepOf 106 = .ok (.iload 5, 2) := dk_21 5 (dk_at dksX6_stepOf_4 10 rfl rfl)
theorem dX6_stepOf_108 : decode cX6_stepOf 108 = .ok (.iconst 5, 1) := dk_8 (dk_at dksX6_stepOf_4 12 rfl rfl)
theorem dX6_stepOf_109 : decode cX6_stepOf 109 = .ok (.idiv, 1) := dk_108 (dk_at dksX6_stepOf_4 13 rfl rfl)
theorem dX6_stepOf_110 : decode cX6_stepOf 110 = .ok (.iastore, 1) := dk_79 (dk_at dksX6_stepOf_4 14 rfl rfl)
theorem dX6_stepOf_111 : decode cX6_stepOf 111 = .ok (.iload 5, 2) := dk_21 5 (dk_at dksX6_stepOf_4 15 rfl rfl)
theorem dX6_stepOf_113 : decode cX6_stepOf 113 = .ok (.iconst 5, 1) := dk_8 (dk_at dksX6_stepOf_4 17 rfl rfl)
theorem dX6_stepOf_114 : decode cX6_stepOf 114 = .ok (.irem, 1) := dk_112 (dk_at dksX6_stepOf_4 18 rfl rfl)
theorem dX6_stepOf_115 : decode cX6_stepOf 115 = .ok (.ireturn, 1) := dk_172 (dk_at dksX6_stepOf_4 19 rfl rfl)
abbrev cX6_go : ByteArray := prog_15_method_52_code
def yX6_go : MethodName := ⟨RX6, "go", "(II)I"⟩
def dkwX6_go_0 : List UInt8 := [42, 27, 28, 4, 100, 182, 1, 91, 153, 0, 14, 42, 27, 28, 4, 100, 182, 1, 95, 167, 0, 4, 27, 172]
abbrev dktX6_go_0 : List UInt8 := dkwX6_go_0 ++ []
theorem dksX6_go_0 : cX6_go.data.toList.drop 0 = dktX6_go_0 := by decide +kernel
theorem dX6_go_0 : decode cX6_go 0 = .ok (.aload_n 0, 1) := dk_42 (dk_at dksX6_go_0 0 rfl rfl)
theorem dX6_go_1 : decode cX6_go 1 = .ok (.iload_n 1, 1) := dk_27 (dk_at dksX6_go_0 1 rfl rfl)
theorem dX6_go_2 : decode cX6_go 2 = .ok (.iload_n 2, 1) := dk_28 (dk_at dksX6_go_0 2 rfl rfl)
theorem dX6_go_3 : decode cX6_go 3 = .ok (.iconst 1, 1) := dk_4 (dk_at dksX6_go_0 3 rfl rfl)
theorem dX6_go_4 : decode cX6_go 4 = .ok (.isub, 1) := dk_100 (dk_at dksX6_go_0 4 rfl rfl)
theorem dX6_go_5 : decode cX6_go 5 = .ok (.invokevirtual 347, 3) := dk_182 1 91 (dk_at dksX6_go_0 5 rfl rfl)
theorem dX6_go_8 : decode cX6_go 8 = .ok (.ifCond .eq 14, 3) := dk_153 0 14 (dk_at dksX6_go_0 8 rfl rfl)
theorem dX6_go_11 : decode cX6_go 11 = .ok (.aload_n 0, 1) := dk_42 (dk_at dksX6_go_0 11 rfl rfl)
theorem dX6_go_12 : decode cX6_go 12 = .ok (.iload_n 1, 1) := dk_27 (dk_at dksX6_go_0 12 rfl rfl)
theorem dX6_go_13 : decode cX6_go 13 = .ok (.iload_n 2, 1) := dk_28 (dk_at dksX6_go_0 13 rfl rfl)
theorem dX6_go_14 : decode cX6_go 14 = .ok (.iconst 1, 1) := dk_4 (dk_at dksX6_go_0 14 rfl rfl)
theorem dX6_go_15 : decode cX6_go 15 = .ok (.isub, 1) := dk_100 (dk_at dksX6_go_0 15 rfl rfl)
theorem dX6_go_16 : decode cX6_go 16 = .ok (.invokevirtual 351, 3) := dk_182 1 95 (dk_at dksX6_go_0 16 rfl rfl)
theorem dX6_go_19 : decode cX6_go 19 = .ok (.goto 4, 3) := dk_167 0 4 (dk_at dksX6_go_0 19 rfl rfl)
theorem dX6_go_22 : decode cX6_go 22 = .ok (.iload_n 1, 1) := dk_27 (dk_at dksX6_go_0 22 rfl rfl)
theorem dX6_go_23 : decode cX6_go 23 = .ok (.ireturn, 1) := dk_172 (dk_at dksX6_go_0 23 rfl rfl)
abbrev cX6_goesBy : ByteArray := prog_15_method_66_code
def yX6_goesBy : MethodName := ⟨RX6, "goesBy", "(II)I"⟩
def dkwX6_goesBy_0 : List UInt8 := [42, 180, 0, 68, 28, 51, 153, 0, 7, 27, 167, 0, 9, 42, 28, 27, 182, 1, 88, 172]
abbrev dktX6_goesBy_0 : List UInt8 := dkwX6_goesBy_0 ++ []
theorem dksX6_goesBy_0 : cX6_goesBy.data.toList.drop 0 = dktX6_goesBy_0 := by decide +kernel
theorem dX6_goesBy_0 : decode cX6_goesBy 0 = .ok (.aload_n 0, 1) := dk_42 (dk_at dksX6_goesBy_0 0 rfl rfl)
theorem dX6_goesBy_1 : decode cX6_goesBy 1 = .ok (.getfield 68, 3) := dk_180 0 68 (dk_at dksX6_goesBy_0 1 rfl rfl)
theorem dX6_goesBy_4 : decode cX6_goesBy 4 = .ok (.iload_n 2, 1) := dk_28 (dk_at dksX6_goesBy_0 4 rfl rfl)
theorem dX6_goesBy_5 : decode cX6_goesBy 5 = .ok (.baload, 1) := dk_51 (dk_at dksX6_goesBy_0 5 rfl rfl)
theorem dX6_goesBy_6 : decode cX6_goesBy 6 = .ok (.ifCond .eq 7, 3) := dk_153 0 7 (dk_at dksX6_goesBy_0 6 rfl rfl)
theorem dX6_goesBy_9 : decode cX6_goesBy 9 = .ok (.iload_n 1, 1) := dk_27 (dk_at dksX6_goesBy_0 9 rfl rfl)
theorem dX6_goesBy_10 : decode cX6_goesBy 10 = .ok (.goto 9, 3) := dk_167 0 9 (dk_at dksX6_goesBy_0 10 rfl rfl)
theorem dX6_goesBy_13 : decode cX6_goesBy 13 = .ok (.aload_n 0, 1) := dk_42 (dk_at dksX6_goesBy_0 13 rfl rfl)
theorem dX6_goesBy_14 : decode cX6_goesBy 14 = .ok (.iload_n 2, 1) := dk_28 (dk_at dksX6_goesBy_0 14 rfl rfl)
theorem dX6_goesBy_15 : decode cX6_goesBy 15 = .ok (.iload_n 1, 1) := dk_27 (dk_at dksX6_goesBy_0 15 rfl rfl)
theorem dX6_goesBy_16 : decode cX6_goesBy 16 = .ok (.invokevirtual 344, 3) := dk_182 1 88 (dk_at dksX6_goesBy_0 16 rfl rfl)
theorem dX6_goesBy_19 : decode cX6_goesBy 19 = .ok (.ireturn, 1) := dk_172 (dk_at dksX6_goesBy_0 19 rfl rfl)
abbrev cX6_meets : ByteArray := prog_15_method_67_code
def yX6_meets : MethodName := ⟨RX6, "meets", "(IIII)Z"⟩
def dkwX6_meets_1 : List UInt8 := [167, 0, 4, 3, 172]
abbrev dktX6_meets_1 : List UInt8 := dkwX6_meets_1 ++ []
def dkwX6_meets_0 : List UInt8 := [27, 28, 159, 0, 21, 42, 180, 1, 76, 153, 0, 18, 27, 21, 4, 160, 0, 12, 28, 29, 160, 0, 7, 4]
abbrev dktX6_meets_0 : List UInt8 := dkwX6_meets_0 ++ dktX6_meets_1
theorem dksX6_meets_0 : cX6_meets.data.toList.drop 0 = dktX6_meets_0 := by decide +kernel
theorem dksX6_meets_1 : cX6_meets.data.toList.drop 24 = dktX6_meets_1 := dk_seg dksX6_meets_0 24 rfl rfl
theorem dX6_meets_0 : decode cX6_meets 0 = .ok (.iload_n 1, 1) := dk_27 (dk_at dksX6_meets_0 0 rfl rfl)
theorem dX6_meets_1 : decode cX6_meets 1 = .ok (.iload_n 2, 1) := dk_28 (dk_at dksX6_meets_0 1 rfl rfl)
theorem dX6_meets_2 : decode cX6_meets 2 = .ok (.if_icmp .eq 21, 3) := dk_159 0 21 (dk_at dksX6_meets_0 2 rfl rfl)
theorem dX6_meets_5 : decode cX6_meets 5 = .ok (.aload_n 0, 1) := dk_42 (dk_at dksX6_meets_0 5 rfl rfl)
theorem dX6_meets_6 : decode cX6_meets 6 = .ok (.getfield 332, 3) := dk_180 1 76 (dk_at dksX6_meets_0 6 rfl rfl)
theorem dX6_meets_9 : decode cX6_meets 9 = .ok (.ifCond .eq 18, 3) := dk_153 0 18 (dk_at dksX6_meets_0 9 rfl rfl)
theorem dX6_meets_12 : decode cX6_meets 12 = .ok (.iload_n 1, 1) := dk_27 (dk_at dksX6_meets_0 12 rfl rfl)
theorem dX6_meets_13 : decode cX6_meets 13 = .ok (.iload 4, 2) := dk_21 4 (dk_at dksX6_meets_0 13 rfl rfl)
theorem dX6_meets_15 : decode cX6_meets 15 = .ok (.if_icmp .ne 12, 3) := dk_160 0 12 (dk_at dksX6_meets_0 15 rfl rfl)
theorem dX6_meets_18 : decode cX6_meets 18 = .ok (.iload_n 2, 1) := dk_28 (dk_at dksX6_meets_0 18 rfl rfl)
theorem dX6_meets_19 : decode cX6_meets 19 = .ok (.iload_n 3, 1) := dk_29 (dk_at dksX6_meets_0 19 rfl rfl)
theorem dX6_meets_20 : decode cX6_meets 20 = .ok (.if_icmp .ne 7, 3) := dk_160 0 7 (dk_at dksX6_meets_0 20 rfl rfl)
theorem dX6_meets_23 : decode cX6_meets 23 = .ok (.iconst 1, 1) := dk_4 (dk_at dksX6_meets_0 23 rfl rfl)
theorem dX6_meets_24 : decode cX6_meets 24 = .ok (.goto 4, 3) := dk_167 0 4 (dk_at dksX6_meets_1 0 rfl rfl)
theorem dX6_meets_27 : decode cX6_meets 27 = .ok (.iconst 0, 1) := dk_3 (dk_at dksX6_meets_1 3 rfl rfl)
theorem dX6_meets_28 : decode cX6_meets 28 = .ok (.ireturn, 1) := dk_172 (dk_at dksX6_meets_1 4 rfl rfl)
abbrev cX6_judge : ByteArray := prog_15_method_70_code
def yX6_judge : MethodName := ⟨RX6, "judge", "(III)I"⟩
def dkwX6_judge_7 : List UInt8 := [2, 172]
abbrev dktX6_judge_7 : List UInt8 := dkwX6_judge_7 ++ []
def dkwX6_judge_6 : List UInt8 := [153, 0, 12, 16, 8, 21, 4, 104, 21, 5, 96, 172, 132, 5, 1, 167, 255, 205, 132, 4, 1, 167, 255, 187]
abbrev dktX6_judge_6 : List UInt8 := dkwX6_judge_6 ++ dktX6_judge_7
def dkwX6_judge_5 : List UInt8 := [180, 1, 70, 21, 4, 104, 21, 5, 96, 182, 1, 111, 42, 27, 28, 21, 4, 21, 5, 182, 1, 146, 133, 148]
abbrev dktX6_judge_5 : List UInt8 := dkwX6_judge_5 ++ dktX6_judge_6
def dkwX6_judge_4 : List UInt8 := [42, 180, 1, 70, 162, 0, 66, 3, 54, 5, 21, 5, 42, 180, 1, 70, 162, 0, 48, 42, 29, 42]
abbrev dktX6_judge_4 : List UInt8 := dkwX6_judge_4 ++ dktX6_judge_5
def dkwX6_judge_3 : List UInt8 := [46, 42, 180, 1, 70, 42, 180, 1, 70, 104, 162, 0, 9, 42, 7, 182, 1, 55, 172, 3, 54, 4, 21, 4]
abbrev dktX6_judge_3 : List UInt8 := dkwX6_judge_3 ++ dktX6_judge_4
def dkwX6_judge_2 : List UInt8 := [182, 1, 55, 172, 42, 180, 0, 17, 29, 46, 156, 0, 9, 42, 6, 182, 1, 55, 172, 42, 180, 0, 17, 29]
abbrev dktX6_judge_2 : List UInt8 := dkwX6_judge_2 ++ dktX6_judge_3
def dkwX6_judge_1 : List UInt8 := [182, 1, 55, 172, 42, 27, 182, 1, 143, 153, 0, 11, 42, 28, 182, 1, 143, 154, 0, 9, 42, 5]
abbrev dktX6_judge_1 : List UInt8 := dkwX6_judge_1 ++ dktX6_judge_2
def dkwX6_judge_0 : List UInt8 := [42, 3, 181, 0, 144, 42, 3, 181, 0, 147, 29, 133, 9, 20, 1, 150, 184, 1, 6, 154, 0, 9, 42, 4]
abbrev dktX6_judge_0 : List UInt8 := dkwX6_judge_0 ++ dktX6_judge_1
theorem dksX6_judge_0 : cX6_judge.data.toList.drop 0 = dktX6_judge_0 := by decide +kernel
theorem dksX6_judge_1 : cX6_judge.data.toList.drop 24 = dktX6_judge_1 := dk_seg dksX6_judge_0 24 rfl rfl
theorem dksX6_judge_2 : cX6_judge.data.toList.drop 46 = dktX6_judge_2 := dk_seg dksX6_judge_1 22 rfl rfl
theorem dksX6_judge_3 : cX6_judge.data.toList.drop 70 = dktX6_judge_3 := dk_seg dksX6_judge_2 24 rfl rfl
theorem dksX6_judge_4 : cX6_judge.data.toList.drop 94 = dktX6_judge_4 := dk_seg dksX6_judge_3 24 rfl rfl
theorem dksX6_judge_5 : cX6_judge.data.toList.drop 116 = dktX6_judge_5 := dk_seg dksX6_judge_4 22 rfl rfl
theorem dksX6_judge_6 : cX6_judge.data.toList.drop 140 = dktX6_judge_6 := dk_seg dksX6_judge_5 24 rfl rfl
theorem dksX6_judge_7 : cX6_judge.data.toList.drop 164 = dktX6_judge_7 := dk_seg dksX6_judge_6 24 rfl rfl
theorem dX6_judge_0 : decode cX6_judge 0 = .ok (.aload_n 0, 1) := dk_42 (dk_at dksX6_judge_0 0 rfl rfl)
theorem dX6_judge_1 : decode cX6_judge 1 = .ok (.iconst 0, 1) := dk_3 (dk_at dksX6_judge_0 1 rfl rfl)
theorem dX6_judge_2 : decode cX6_judge 2 = .ok (.putfield 144, 3) := dk_181 0 144 (dk_at dksX6_judge_0 2 rfl rfl)
theorem dX6_judge_5 : decode cX6_judge 5 = .ok (.aload_n 0, 1) := dk_42 (dk_at dksX6_judge_0 5 rfl rfl)
theorem dX6_judge_6 : decode cX6_judge 6 = .ok (.iconst 0, 1) := dk_3 (dk_at dksX6_judge_0 6 rfl rfl)
theorem dX6_judge_7 : decode cX6_judge 7 = .ok (.putfield 147, 3) := dk_181 0 147 (dk_at dksX6_judge_0 7 rfl rfl)
theorem dX6_judge_10 : decode cX6_judge 10 = .ok (.iload_n 3, 1) := dk_29 (dk_at dksX6_judge_0 10 rfl rfl)
theorem dX6_judge_11 : decode cX6_judge 11 = .ok (.i2l, 1) := dk_133 (dk_at dksX6_judge_0 11 rfl rfl)
theorem dX6_judge_12 : decode cX6_judge 12 = .ok (.lconst 0, 1) := dk_9 (dk_at dksX6_judge_0 12 rfl rfl)
theorem dX6_judge_13 : decode cX6_judge 13 = .ok (.ldc2_w 406, 3) := dk_20 1 150 (dk_at dksX6_judge_0 13 rfl rfl)
theorem dX6_judge_16 : decode cX6_judge 16 = .ok (.invokestatic 262, 3) := dk_184 1 6 (dk_at dksX6_judge_0 16 rfl rfl)
theorem dX6_judge_19 : decode cX6_judge 19 = .ok (.ifCond .ne 9, 3) := dk_154 0 9 (dk_at dksX6_judge_0 19 rfl rfl)
theorem dX6_judge_22 : decode cX6_judge 22 = .ok (.aload_n 0, 1) := dk_42 (dk_at dksX6_judge_0 22 rfl rfl)
theorem dX6_judge_23 : decode cX6_judge 23 = .ok (.iconst 1, 1) := dk_4 (dk_at dksX6_judge_0 23 rfl rfl)
theorem dX6_judge_24 : decode cX6_judge 24 = .ok (.invokevirtual 311, 3) := dk_182 1 55 (dk_at dksX6_judge_1 0 rfl rfl)
theorem dX6_judge_27 : decode cX6_judge 27 = .ok (.ireturn, 1) := dk_172 (dk_at dksX6_judge_1 3 rfl rfl)
theorem dX6_judge_28 : decode cX6_judge 28 = .ok (.aload_n 0, 1) := dk_42 (dk_at dksX6_judge_1 4 rfl rfl)
theorem dX6_judge_29 : decode cX6_judge 29 = .ok (.iload_n 1, 1) := dk_27 (dk_at dksX6_judge_1 5 rfl rfl)
theorem dX6_judge_30 : decode cX6_judge 30 = .ok (.invokevirtual 399, 3) := dk_182 1 143 (dk_at dksX6_judge_1 6 rfl rfl)
theorem dX6_judge_33 : decode cX6_judge 33 = .ok (.ifCond .eq 11, 3) := dk_153 0 11 (dk_at dksX6_judge_1 9 rfl rfl)
theorem dX6_judge_36 : decode cX6_judge 36 = .ok (.aload_n 0, 1) := dk_42 (dk_at dksX6_judge_1 12 rfl rfl)
theorem dX6_judge_37 : decode cX6_judge 37 = .ok (.iload_n 2, 1) := dk_28 (dk_at dksX6_judge_1 13 rfl rfl)
theorem dX6_judge_38 : decode cX6_judge 38 = .ok (.invokevirtual 399, 3) := dk_182 1 143 (dk_at dksX6_judge_1 14 rfl rfl)
theorem dX6_judge_41 : decode cX6_judge 41 = .ok (.ifCond .ne 9, 3) := dk_154 0 9 (dk_at dksX6_judge_1 17 rfl rfl)
theorem dX6_judge_44 : decode cX6_judge 44 = .ok (.aload_n 0, 1) := dk_42 (dk_at dksX6_judge_1 20 rfl rfl)
theorem dX6_judge_45 : decode cX6_judge 45 = .ok (.iconst 2, 1) := dk_5 (dk_at dksX6_judge_1 21 rfl rfl)
theorem dX6_judge_46 : decode cX6_judge 46 = .ok (.invokevirtual 311, 3) := dk_182 1 55 (dk_at dksX6_judge_2 0 rfl rfl)
theorem dX6_judge_49 : decode cX6_judge 49 = .ok (.ireturn, 1) := dk_172 (dk_at dksX6_judge_2 3 rfl rfl)
theorem dX6_judge_50 : decode cX6_judge 50 = .ok (.aload_n 0, 1) := dk_42 (dk_at dksX6_judge_2 4 rfl rfl)
theorem dX6_judge_51 : decode cX6_judge 51 = .ok (.getfield 17, 3) := dk_180 0 17 (dk_at dksX6_judge_2 5 rfl rfl)
theorem dX6_judge_54 : decode cX6_judge 54 = .ok (.iload_n 3, 1) := dk_29 (dk_at dksX6_judge_2 8 rfl rfl)
theorem dX6_judge_55 : decode cX6_judge 55 = .ok (.iaload, 1) := dk_46 (dk_at dksX6_judge_2 9 rfl rfl)
theorem dX6_judge_56 : decode cX6_judge 56 = .ok (.ifCond .ge 9, 3) := dk_156 0 9 (dk_at dksX6_judge_2 10 rfl rfl)
theorem dX6_judge_59 : decode cX6_judge 59 = .ok (.aload_n 0, 1) := dk_42 (dk_at dksX6_judge_2 13 rfl rfl)
theorem dX6_judge_60 : decode cX6_judge 60 = .ok (.iconst 3, 1) := dk_6 (dk_at dksX6_judge_2 14 rfl rfl)
theorem dX6_judge_61 : decode cX6_judge 61 = .ok (.invokevirtual 311, 3) := dk_182 1 55 (dk_at dksX6_judge_2 15 rfl rfl)
theorem dX6_judge_64 : decode cX6_judge 64 = .ok (.ireturn, 1) := dk_172 (dk_at dksX6_judge_2 18 rfl rfl)
theorem dX6_judge_65 : decode cX6_judge 65 = .ok (.aload_n 0, 1) := dk_42 (dk_at dksX6_judge_2 19 rfl rfl)
theorem dX6_judge_66 : decode cX6_judge 66 = .ok (.getfield 17, 3) := dk_180 0 17 (dk_at dksX6_judge_2 20 rfl rfl)
theorem dX6_judge_69 : decode cX6_judge 69 = .ok (.iload_n 3, 1) := dk_29 (dk_at dksX6_judge_2 23 rfl rfl)
theorem dX6_judge_70 : decode cX6_judge 70 = .ok (.iaload, 1) := dk_46 (dk_at dksX6_judge_3 0 rfl rfl)
theorem dX6_judge_71 : decode cX6_judge 71 = .ok (.aload_n 0, 1) := dk_42 (dk_at dksX6_judge_3 1 rfl rfl)
theorem dX6_judge_72 : decode cX6_judge 72 = .ok (.getfield 326, 3) := dk_180 1 70 (dk_at dksX6_judge_3 2 rfl rfl)
theorem dX6_judge_75 : decode cX6_judge 75 = .ok (.aload_n 0, 1) := dk_42 (dk_at dksX6_judge_3 5 rfl rfl)
theorem dX6_judge_76 : decode cX6_judge 76 = .ok (.getfield 326, 3) := dk_180 1 70 (dk_at dksX6_judge_3 6 rfl rfl)
theorem dX6_judge_79 : decode cX6_judge 79 = .ok (.imul, 1) := dk_104 (dk_at dksX6_judge_3 9 rfl rfl)
theorem dX6_judge_80 : decode cX6_judge 80 = .ok (.if_icmp .ge 9, 3) := dk_162 0 9 (dk_at dksX6_judge_3 10 rfl rfl)
theorem dX6_judge_83 : decode cX6_judge 83 = .ok (.aload_n 0, 1) := dk_42 (dk_at dksX6_judge_3 13 rfl rfl)
theorem dX6_judge_84 : decode cX6_judge 84 = .ok (.iconst 4, 1) := dk_7 (dk_at dksX6_judge_3 14 rfl rfl)
theorem dX6_judge_85 : decode cX6_judge 85 = .ok (.invokevirtual 311, 3) := dk_182 1 55 (dk_at dksX6_judge_3 15 rfl rfl)
theorem dX6_judge_88 : decode cX6_judge 88 = .ok (.ireturn, 1) := dk_172 (dk_at dksX6_judge_3 18 rfl rfl)
theorem dX6_judge_89 : decode cX6_judge 89 = .ok (.iconst 0, 1) := dk_3 (dk_at dksX6_judge_3 19 rfl rfl)
theorem dX6_judge_90 : decode cX6_judge 90 = .ok (.istore 4, 2) := dk_54 4 (dk_at dksX6_judge_3 20 rfl rfl)
theorem dX6_judge_92 : decode cX6_judge 92 = .ok (.iload 4, 2) := dk_21 4 (dk_at dksX6_judge_3 22 rfl rfl)
theorem dX6_judge_94 : decode cX6_judge 94 = .ok (.aload_n 0, 1) := dk_42 (dk_at dksX6_judge_4 0 rfl rfl)
theorem dX6_judge_95 : decode cX6_judge 95 = .ok (.getfield 326, 3) := dk_180 1 70 (dk_at dksX6_judge_4 1 rfl rfl)
theorem dX6_judge_98 : decode cX6_judge 98 = .ok (.if_icmp .ge 66, 3) := dk_162 0 66 (dk_at dksX6_judge_4 4 rfl rfl)
theorem dX6_judge_101 : decode cX6_judge 101 = .ok (.iconst 0, 1) := dk_3 (dk_at dksX6_judge_4 7 rfl rfl)
theorem dX6_judge_102 : decode cX6_judge 102 = .ok (.istore 5, 2) := dk_54 5 (dk_at dksX6_judge_4 8 rfl rfl)
theorem dX6_judge_104 : decode cX6_judge 104 = .ok (.iload 5, 2) := dk_21 5 (dk_at dksX6_judge_4 10 rfl rfl)
theorem dX6_judge_106 : decode cX6_judge 106 = .ok (.aload_n 0, 1) := dk_42 (dk_at dksX6_judge_4 12 rfl rfl)
theorem dX6_judge_107 : decode cX6_judge 107 = .ok (.getfield 326, 3) := dk_180 1 70 (dk_at dksX6_judge_4 13 rfl rfl)
theorem dX6_judge_110 : decode cX6_judge 110 = .ok (.if_icmp .ge 48, 3) := dk_162 0 48 (dk_at dksX6_judge_4 16 rfl rfl)
theorem dX6_judge_113 : decode cX6_judge 113 = .ok (.aload_n 0, 1) := dk_42 (dk_at dksX6_judge_4 19 rfl rfl)
theorem dX6_judge_114 : decode cX6_judge 114 = .ok (.iload_n 3, 1) := dk_29 (dk_at dksX6_judge_4 20 rfl rfl)
theorem dX6_judge_115 : decode cX6_judge 115 = .ok (.aload_n 0, 1) := dk_42 (dk_at dksX6_judge_4 21 rfl rfl)
theorem dX6_judge_116 : decode cX6_judge 116 = .ok (.getfield 326, 3) := dk_180 1 70 (dk_at dksX6_judge_5 0 rfl rfl)
theorem dX6_judge_119 : decode cX6_judge 119 = .ok (.iload 4, 2) := dk_21 4 (dk_at dksX6_judge_5 3 rfl rfl)
theorem dX6_judge_121 : decode cX6_judge 121 = .ok (.imul, 1) := dk_104 (dk_at dksX6_judge_5 5 rfl rfl)
theorem dX6_judge_122 : decode cX6_judge 122 = .ok (.iload 5, 2) := dk_21 5 (dk_at dksX6_judge_5 6 rfl rfl)
theorem dX6_judge_124 : decode cX6_judge 124 = .ok (.iadd, 1) := dk_96 (dk_at dksX6_judge_5 8 rfl rfl)
theorem dX6_judge_125 : decode cX6_judge 125 = .ok (.invokevirtual 367, 3) := dk_182 1 111 (dk_at dksX6_judge_5 9 rfl rfl)
theorem dX6_judge_128 : decode cX6_judge 128 = .ok (.aload_n 0, 1) := dk_42 (dk_at dksX6_judge_5 12 rfl rfl)
theorem dX6_judge_129 : decode cX6_judge 129 = .ok (.iload_n 1, 1) := dk_27 (dk_at dksX6_judge_5 13 rfl rfl)
theorem dX6_judge_130 : decode cX6_judge 130 = .ok (.iload_n 2, 1) := dk_28 (dk_at dksX6_judge_5 14 rfl rfl)
theorem dX6_judge_131 : decode cX6_judge 131 = .ok (.iload 4, 2) := dk_21 4 (dk_at dksX6_judge_5 15 rfl rfl)
theorem dX6_judge_133 : decode cX6_judge 133 = .ok (.iload 5, 2) := dk_21 5 (dk_at dksX6_judge_5 17 rfl rfl)
theorem dX6_judge_135 : decode cX6_judge 135 = .ok (.invokevirtual 402, 3) := dk_182 1 146 (dk_at dksX6_judge_5 19 rfl rfl)
theorem dX6_judge_138 : decode cX6_judge 138 = .ok (.i2l, 1) := dk_133 (dk_at dksX6_judge_5 22 rfl rfl)
theorem dX6_judge_139 : decode cX6_judge 139 = .ok (.lcmp, 1) := dk_148 (dk_at dksX6_judge_5 23 rfl rfl)
theorem dX6_judge_140 : decode cX6_judge 140 = .ok (.ifCond .eq 12, 3) := dk_153 0 12 (dk_at dksX6_judge_6 0 rfl rfl)
theorem dX6_judge_143 : decode cX6_judge 143 = .ok (.bipush 8, 2) := dk_16 8 (dk_at dksX6_judge_6 3 rfl rfl)
theorem dX6_judge_145 : decode cX6_judge 145 = .ok (.iload 4, 2) := dk_21 4 (dk_at dksX6_judge_6 5 rfl rfl)
theorem dX6_judge_147 : decode cX6_judge 147 = .ok (.imul, 1) := dk_104 (dk_at dksX6_judge_6 7 rfl rfl)
theorem dX6_judge_148 : decode cX6_judge 148 = .ok (.iload 5, 2) := dk_21 5 (dk_at dksX6_judge_6 8 rfl rfl)
theorem dX6_judge_150 : decode cX6_judge 150 = .ok (.iadd, 1) := dk_96 (dk_at dksX6_judge_6 10 rfl rfl)
theorem dX6_judge_151 : decode cX6_judge 151 = .ok (.ireturn, 1) := dk_172 (dk_at dksX6_judge_6 11 rfl rfl)
theorem dX6_judge_152 : decode cX6_judge 152 = .ok (.iinc 5 1, 3) := dk_132 5 1 (dk_at dksX6_judge_6 12 rfl rfl)
theorem dX6_judge_155 : decode cX6_judge 155 = .ok (.goto (-51), 3) := dk_167 255 205 (dk_at dksX6_judge_6 15 rfl rfl)
theorem dX6_judge_158 : decode cX6_judge 158 = .ok (.iinc 4 1, 3) := dk_132 4 1 (dk_at dksX6_judge_6 18 rfl rfl)
theorem dX6_judge_161 : decode cX6_judge 161 = .ok (.goto (-69), 3) := dk_167 255 187 (dk_at dksX6_judge_6 21 rfl rfl)
theorem dX6_judge_164 : decode cX6_judge 164 = .ok (.iconst (-1), 1) := dk_2 (dk_at dksX6_judge_7 0 rfl rfl)
theorem dX6_judge_165 : decode cX6_judge 165 = .ok (.ireturn, 1) := dk_172 (dk_at dksX6_judge_7 1 rfl rfl)
abbrev cX6_mean : ByteArray := prog_15_method_73_code
def yX6_mean : MethodName := ⟨RX6, "mean", "(II)Z"⟩
def dkwX6_mean_2 : List UInt8 := [16, 9, 182, 0, 163, 172, 42, 33, 42, 182, 1, 155, 182, 1, 162, 4, 172]
abbrev dktX6_mean_2 : List UInt8 := dkwX6_mean_2 ++ []
def dkwX6_mean_1 : List UInt8 := [154, 0, 9, 42, 5, 182, 0, 163, 172, 42, 27, 28, 182, 1, 159, 66, 33, 9, 148, 156, 0, 10, 42]
abbrev dktX6_mean_1 : List UInt8 := dkwX6_mean_1 ++ dktX6_mean_2
def dkwX6_mean_0 : List UInt8 := [42, 3, 181, 0, 144, 42, 3, 181, 0, 147, 42, 27, 182, 1, 143, 153, 0, 11, 42, 28, 182, 1, 143]
abbrev dktX6_mean_0 : List UInt8 := dkwX6_mean_0 ++ dktX6_mean_1
theorem dksX6_mean_0 : cX6_mean.data.toList.drop 0 = dktX6_mean_0 := by decide +kernel
theorem dksX6_mean_1 : cX6_mean.data.toList.drop 23 = dktX6_mean_1 := dk_seg dksX6_mean_0 23 rfl rfl
theorem dksX6_mean_2 : cX6_mean.data.toList.drop 46 = dktX6_mean_2 := dk_seg dksX6_mean_1 23 rfl rfl
theorem dX6_mean_0 : decode cX6_mean 0 = .ok (.aload_n 0, 1) := dk_42 (dk_at dksX6_mean_0 0 rfl rfl)
theorem dX6_mean_1 : decode cX6_mean 1 = .ok (.iconst 0, 1) := dk_3 (dk_at dksX6_mean_0 1 rfl rfl)
theorem dX6_mean_2 : decode cX6_mean 2 = .ok (.putfield 144, 3) := dk_181 0 144 (dk_at dksX6_mean_0 2 rfl rfl)
theorem dX6_mean_5 : decode cX6_mean 5 = .ok (.aload_n 0, 1) := dk_42 (dk_at dksX6_mean_0 5 rfl rfl)
theorem dX6_mean_6 : decode cX6_mean 6 = .ok (.iconst 0, 1) := dk_3 (dk_at dksX6_mean_0 6 rfl rfl)
theorem dX6_mean_7 : decode cX6_mean 7 = .ok (.putfield 147, 3) := dk_181 0 147 (dk_at dksX6_mean_0 7 rfl rfl)
theorem dX6_mean_10 : decode cX6_mean 10 = .ok (.aload_n 0, 1) := dk_42 (dk_at dksX6_mean_0 10 rfl rfl)
theorem dX6_mean_11 : decode cX6_mean 11 = .ok (.iload_n 1, 1) := dk_27 (dk_at dksX6_mean_0 11 rfl rfl)
theorem dX6_mean_12 : decode cX6_mean 12 = .ok (.invokevirtual 399, 3) := dk_182 1 143 (dk_at dksX6_mean_0 12 rfl rfl)
theorem dX6_mean_15 : decode cX6_mean 15 = .ok (.ifCond .eq 11, 3) := dk_153 0 11 (dk_at dksX6_mean_0 15 rfl rfl)
theorem dX6_mean_18 : decode cX6_mean 18 = .ok (.aload_n 0, 1) := dk_42 (dk_at dksX6_mean_0 18 rfl rfl)
theorem dX6_mean_19 : decode cX6_mean 19 = .ok (.iload_n 2, 1) := dk_28 (dk_at dksX6_mean_0 19 rfl rfl)
theorem dX6_mean_20 : decode cX6_mean 20 = .ok (.invokevirtual 399, 3) := dk_182 1 143 (dk_at dksX6_mean_0 20 rfl rfl)
theorem dX6_mean_23 : decode cX6_mean 23 = .ok (.ifCond .ne 9, 3) := dk_154 0 9 (dk_at dksX6_mean_1 0 rfl rfl)
theorem dX6_mean_26 : decode cX6_mean 26 = .ok (.aload_n 0, 1) := dk_42 (dk_at dksX6_mean_1 3 rfl rfl)
theorem dX6_mean_27 : decode cX6_mean 27 = .ok (.iconst 2, 1) := dk_5 (dk_at dksX6_mean_1 4 rfl rfl)
theorem dX6_mean_28 : decode cX6_mean 28 = .ok (.invokevirtual 163, 3) := dk_182 0 163 (dk_at dksX6_mean_1 5 rfl rfl)
theorem dX6_mean_31 : decode cX6_mean 31 = .ok (.ireturn, 1) := dk_172 (dk_at dksX6_mean_1 8 rfl rfl)
theorem dX6_mean_32 : decode cX6_mean 32 = .ok (.aload_n 0, 1) := dk_42 (dk_at dksX6_mean_1 9 rfl rfl)
theorem dX6_mean_33 : decode cX6_mean 33 = .ok (.iload_n 1, 1) := dk_27 (dk_at dksX6_mean_1 10 rfl rfl)
theorem dX6_mean_34 : decode cX6_mean 34 = .ok (.iload_n 2, 1) := dk_28 (dk_at dksX6_mean_1 11 rfl rfl)
theorem dX6_mean_35 : decode cX6_mean 35 = .ok (.invokevirtual 415, 3) := dk_182 1 159 (dk_at dksX6_mean_1 12 rfl rfl)
theorem dX6_mean_38 : decode cX6_mean 38 = .ok (.lstore_n 3, 1) := dk_66 (dk_at dksX6_mean_1 15 rfl rfl)
theorem dX6_mean_39 : decode cX6_mean 39 = .ok (.lload_n 3, 1) := dk_33 (dk_at dksX6_mean_1 16 rfl rfl)
theorem dX6_mean_40 : decode cX6_mean 40 = .ok (.lconst 0, 1) := dk_9 (dk_at dksX6_mean_1 17 rfl rfl)
theorem dX6_mean_41 : decode cX6_mean 41 = .ok (.lcmp, 1) := dk_148 (dk_at dksX6_mean_1 18 rfl rfl)
theorem dX6_mean_42 : decode cX6_mean 42 = .ok (.ifCond .ge 10, 3) := dk_156 0 10 (dk_at dksX6_mean_1 19 rfl rfl)
theorem dX6_mean_45 : decode cX6_mean 45 = .ok (.aload_n 0, 1) := dk_42 (dk_at dksX6_mean_1 22 rfl rfl)
theorem dX6_mean_46 : decode cX6_mean 46 = .ok (.bipush 9, 2) := dk_16 9 (dk_at dksX6_mean_2 0 rfl rfl)
theorem dX6_mean_48 : decode cX6_mean 48 = .ok (.invokevirtual 163, 3) := dk_182 0 163 (dk_at dksX6_mean_2 2 rfl rfl)
theorem dX6_mean_51 : decode cX6_mean 51 = .ok (.ireturn, 1) := dk_172 (dk_at dksX6_mean_2 5 rfl rfl)
theorem dX6_mean_52 : decode cX6_mean 52 = .ok (.aload_n 0, 1) := dk_42 (dk_at dksX6_mean_2 6 rfl rfl)
theorem dX6_mean_53 : decode cX6_mean 53 = .ok (.lload_n 3, 1) := dk_33 (dk_at dksX6_mean_2 7 rfl rfl)
theorem dX6_mean_54 : decode cX6_mean 54 = .ok (.aload_n 0, 1) := dk_42 (dk_at dksX6_mean_2 8 rfl rfl)
theorem dX6_mean_55 : decode cX6_mean 55 = .ok (.invokevirtual 411, 3) := dk_182 1 155 (dk_at dksX6_mean_2 9 rfl rfl)
theorem dX6_mean_58 : decode cX6_mean 58 = .ok (.invokevirtual 418, 3) := dk_182 1 162 (dk_at dksX6_mean_2 12 rfl rfl)
theorem dX6_mean_61 : decode cX6_mean 61 = .ok (.iconst 1, 1) := dk_4 (dk_at dksX6_mean_2 15 rfl rfl)
theorem dX6_mean_62 : decode cX6_mean 62 = .ok (.ireturn, 1) := dk_172 (dk_at dksX6_mean_2 16 rfl rfl)
abbrev cX6_sumOf : ByteArray := prog_15_method_72_code
def yX6_sumOf : MethodName := ⟨RX6, "sumOf", "(II)J"⟩
def dkwX6_sumOf_4 : List UInt8 := [167, 255, 192, 132, 5, 1, 167, 255, 174, 33, 173]
abbrev dktX6_sumOf_4 : List UInt8 := dkwX6_sumOf_4 ++ []
def dkwX6_sumOf_3 : List UInt8 := [20, 0, 179, 173, 33, 42, 21, 5, 21, 6, 182, 1, 152, 21, 7, 133, 105, 97, 66, 132, 6, 1]
abbrev dktX6_sumOf_3 : List UInt8 := dkwX6_sumOf_3 ++ dktX6_sumOf_4
def dkwX6_sumOf_2 : List UInt8 := [148, 154, 0, 6, 167, 0, 39, 42, 27, 28, 21, 5, 21, 6, 182, 1, 146, 54, 7, 21, 7, 156, 0, 7]
abbrev dktX6_sumOf_2 : List UInt8 := dkwX6_sumOf_2 ++ dktX6_sumOf_3
def dkwX6_sumOf_1 : List UInt8 := [162, 0, 79, 3, 54, 6, 21, 6, 42, 180, 1, 70, 162, 0, 61, 42, 21, 5, 21, 6, 182, 1, 152, 9]
abbrev dktX6_sumOf_1 : List UInt8 := dkwX6_sumOf_1 ++ dktX6_sumOf_2
def dkwX6_sumOf_0 : List UInt8 := [42, 182, 1, 155, 9, 148, 154, 0, 7, 20, 0, 179, 173, 9, 66, 3, 54, 5, 21, 5, 42, 180, 1, 70]
abbrev dktX6_sumOf_0 : List UInt8 := dkwX6_sumOf_0 ++ dktX6_sumOf_1
theorem dksX6_sumOf_0 : cX6_sumOf.data.toList.drop 0 = dktX6_sumOf_0 := by decide +kernel
theorem dksX6_sumOf_1 : cX6_sumOf.data.toList.drop 24 = dktX6_sumOf_1 := dk_seg dksX6_sumOf_0 24 rfl rfl
theorem dksX6_sumOf_2 : cX6_sumOf.data.toList.drop 48 = dktX6_sumOf_2 := dk_seg dksX6_sumOf_1 24 rfl rfl
theorem dksX6_sumOf_3 : cX6_sumOf.data.toList.drop 72 = dktX6_sumOf_3 := dk_seg dksX6_sumOf_2 24 rfl rfl
theorem dksX6_sumOf_4 : cX6_sumOf.data.toList.drop 94 = dktX6_sumOf_4 := dk_seg dksX6_sumOf_3 22 rfl rfl
theorem dX6_sumOf_0 : decode cX6_sumOf 0 = .ok (.aload_n 0, 1) := dk_42 (dk_at dksX6_sumOf_0 0 rfl rfl)
theorem dX6_sumOf_1 : decode cX6_sumOf 1 = .ok (.invokevirtual 411, 3) := dk_182 1 155 (dk_at dksX6_sumOf_0 1 rfl rfl)
theorem dX6_sumOf_4 : decode cX6_sumOf 4 = .ok (.lconst 0, 1) := dk_9 (dk_at dksX6_sumOf_0 4 rfl rfl)
theorem dX6_sumOf_5 : decode cX6_sumOf 5 = .ok (.lcmp, 1) := dk_148 (dk_at dksX6_sumOf_0 5 rfl rfl)
theorem dX6_sumOf_6 : decode cX6_sumOf 6 = .ok (.ifCond .ne 7, 3) := dk_154 0 7 (dk_at dksX6_sumOf_0 6 rfl rfl)
theorem dX6_sumOf_9 : decode cX6_sumOf 9 = .ok (.ldc2_w 179, 3) := dk_20 0 179 (dk_at dksX6_sumOf_0 9 rfl rfl)
theorem dX6_sumOf_12 : decode cX6_sumOf 12 = .ok (.lreturn, 1) := dk_173 (dk_at dksX6_sumOf_0 12 rfl rfl)
theorem dX6_sumOf_13 : decode cX6_sumOf 13 = .ok (.lconst 0, 1) := dk_9 (dk_at dksX6_sumOf_0 13 rfl rfl)
theorem dX6_sumOf_14 : decode cX6_sumOf 14 = .ok (.lstore_n 3, 1) := dk_66 (dk_at dksX6_sumOf_0 14 rfl rfl)
theorem dX6_sumOf_15 : decode cX6_sumOf 15 = .ok (.iconst 0, 1) := dk_3 (dk_at dksX6_sumOf_0 15 rfl rfl)
theorem dX6_sumOf_16 : decode cX6_sumOf 16 = .ok (.istore 5, 2) := dk_54 5 (dk_at dksX6_sumOf_0 16 rfl rfl)
theorem dX6_sumOf_18 : decode cX6_sumOf 18 = .ok (.iload 5, 2) := dk_21 5 (dk_at dksX6_sumOf_0 18 rfl rfl)
theorem dX6_sumOf_20 : decode cX6_sumOf 20 = .ok (.aload_n 0, 1) := dk_42 (dk_at dksX6_sumOf_0 20 rfl rfl)
theorem dX6_sumOf_21 : decode cX6_sumOf 21 = .ok (.getfield 326, 3) := dk_180 1 70 (dk_at dksX6_sumOf_0 21 rfl rfl)
theorem dX6_sumOf_24 : decode cX6_sumOf 24 = .ok (.if_icmp .ge 79, 3) := dk_162 0 79 (dk_at dksX6_sumOf_1 0 rfl rfl)
theorem dX6_sumOf_27 : decode cX6_sumOf 27 = .ok (.iconst 0, 1) := dk_3 (dk_at dksX6_sumOf_1 3 rfl rfl)
theorem dX6_sumOf_28 : decode cX6_sumOf 28 = .ok (.istore 6, 2) := dk_54 6 (dk_at dksX6_sumOf_1 4 rfl rfl)
theorem dX6_sumOf_30 : decode cX6_sumOf 30 = .ok (.iload 6, 2) := dk_21 6 (dk_at dksX6_sumOf_1 6 rfl rfl)
theorem dX6_sumOf_32 : decode cX6_sumOf 32 = .ok (.aload_n 0, 1) := dk_42 (dk_at dksX6_sumOf_1 8 rfl rfl)
theorem dX6_sumOf_33 : decode cX6_sumOf 33 = .ok (.getfield 326, 3) := dk_180 1 70 (dk_at dksX6_sumOf_1 9 rfl rfl)
theorem dX6_sumOf_36 : decode cX6_sumOf 36 = .ok (.if_icmp .ge 61, 3) := dk_162 0 61 (dk_at dksX6_sumOf_1 12 rfl rfl)
theorem dX6_sumOf_39 : decode cX6_sumOf 39 = .ok (.aload_n 0, 1) := dk_42 (dk_at dksX6_sumOf_1 15 rfl rfl)
theorem dX6_sumOf_40 : decode cX6_sumOf 40 = .ok (.iload 5, 2) := dk_21 5 (dk_at dksX6_sumOf_1 16 rfl rfl)
theorem dX6_sumOf_42 : decode cX6_sumOf 42 = .ok (.iload 6, 2) := dk_21 6 (dk_at dksX6_sumOf_1 18 rfl rfl)
theorem dX6_sumOf_44 : decode cX6_sumOf 44 = .ok (.invokevirtual 408, 3) := dk_182 1 152 (dk_at dksX6_sumOf_1 20 rfl rfl)
theorem dX6_sumOf_47 : decode cX6_sumOf 47 = .ok (.lconst 0, 1) := dk_9 (dk_at dksX6_sumOf_1 23 rfl rfl)
theorem dX6_sumOf_48 : decode cX6_sumOf 48 = .ok (.lcmp, 1) := dk_148 (dk_at dksX6_sumOf_2 0 rfl rfl)
theorem dX6_sumOf_49 : decode cX6_sumOf 49 = .ok (.ifCond .ne 6, 3) := dk_154 0 6 (dk_at dksX6_sumOf_2 1 rfl rfl)
theorem dX6_sumOf_52 : decode cX6_sumOf 52 = .ok (.goto 39, 3) := dk_167 0 39 (dk_at dksX6_sumOf_2 4 rfl rfl)
theorem dX6_sumOf_55 : decode cX6_sumOf 55 = .ok (.aload_n 0, 1) := dk_42 (dk_at dksX6_sumOf_2 7 rfl rfl)
theorem dX6_sumOf_56 : decode cX6_sumOf 56 = .ok (.iload_n 1, 1) := dk_27 (dk_at dksX6_sumOf_2 8 rfl rfl)
theorem dX6_sumOf_57 : decode cX6_sumOf 57 = .ok (.iload_n 2, 1) := dk_28 (dk_at dksX6_sumOf_2 9 rfl rfl)
theorem dX6_sumOf_58 : decode cX6_sumOf 58 = .ok (.iload 5, 2) := dk_21 5 (dk_at dksX6_sumOf_2 10 rfl rfl)
theorem dX6_sumOf_60 : decode cX6_sumOf 60 = .ok (.iload 6, 2) := dk_21 6 (dk_at dksX6_sumOf_2 12 rfl rfl)
theorem dX6_sumOf_62 : decode cX6_sumOf 62 = .ok (.invokevirtual 402, 3) := dk_182 1 146 (dk_at dksX6_sumOf_2 14 rfl rfl)
theorem dX6_sumOf_65 : decode cX6_sumOf 65 = .ok (.istore 7, 2) := dk_54 7 (dk_at dksX6_sumOf_2 17 rfl rfl)
theorem dX6_sumOf_67 : decode cX6_sumOf 67 = .ok (.iload 7, 2) := dk_21 7 (dk_at dksX6_sumOf_2 19 rfl rfl)
theorem dX6_sumOf_69 : decode cX6_sumOf 69 = .ok (.ifCond .ge 7, 3) := dk_156 0 7 (dk_at dksX6_sumOf_2 21 rfl rfl)
theorem dX6_sumOf_72 : decode cX6_sumOf 72 = .ok (.ldc2_w 179, 3) := dk_20 0 179 (dk_at dksX6_sumOf_3 0 rfl rfl)
theorem dX6_sumOf_75 : decode cX6_sumOf 75 = .ok (.lreturn, 1) := dk_173 (dk_at dksX6_sumOf_3 3 rfl rfl)
theorem dX6_sumOf_76 : decode cX6_sumOf 76 = .ok (.lload_n 3, 1) := dk_33 (dk_at dksX6_sumOf_3 4 rfl rfl)
theorem dX6_sumOf_77 : decode cX6_sumOf 77 = .ok (.aload_n 0, 1) := dk_42 (dk_at dksX6_sumOf_3 5 rfl rfl)
theorem dX6_sumOf_78 : decode cX6_sumOf 78 = .ok (.iload 5, 2) := dk_21 5 (dk_at dksX6_sumOf_3 6 rfl rfl)
theorem dX6_sumOf_80 : decode cX6_sumOf 80 = .ok (.iload 6, 2) := dk_21 6 (dk_at dksX6_sumOf_3 8 rfl rfl)
theorem dX6_sumOf_82 : decode cX6_sumOf 82 = .ok (.invokevirtual 408, 3) := dk_182 1 152 (dk_at dksX6_sumOf_3 10 rfl rfl)
theorem dX6_sumOf_85 : decode cX6_sumOf 85 = .ok (.iload 7, 2) := dk_21 7 (dk_at dksX6_sumOf_3 13 rfl rfl)
theorem dX6_sumOf_87 : decode cX6_sumOf 87 = .ok (.i2l, 1) := dk_133 (dk_at dksX6_sumOf_3 15 rfl rfl)
theorem dX6_sumOf_88 : decode cX6_sumOf 88 = .ok (.lmul, 1) := dk_105 (dk_at dksX6_sumOf_3 16 rfl rfl)
theorem dX6_sumOf_89 : decode cX6_sumOf 89 = .ok (.ladd, 1) := dk_97 (dk_at dksX6_sumOf_3 17 rfl rfl)
theorem dX6_sumOf_90 : decode cX6_sumOf 90 = .ok (.lstore_n 3, 1) := dk_66 (dk_at dksX6_sumOf_3 18 rfl rfl)
theorem dX6_sumOf_91 : decode cX6_sumOf 91 = .ok (.iinc 6 1, 3) := dk_132 6 1 (dk_at dksX6_sumOf_3 19 rfl rfl)
theorem dX6_sumOf_94 : decode cX6_sumOf 94 = .ok (.goto (-64), 3) := dk_167 255 192 (dk_at dksX6_sumOf_4 0 rfl rfl)
theorem dX6_sumOf_97 : decode cX6_sumOf 97 = .ok (.iinc 5 1, 3) := dk_132 5 1 (dk_at dksX6_sumOf_4 3 rfl rfl)
theorem dX6_sumOf_100 : decode cX6_sumOf 100 = .ok (.goto (-82), 3) := dk_167 255 174 (dk_at dksX6_sumOf_4 6 rfl rfl)
theorem dX6_sumOf_103 : decode cX6_sumOf 103 = .ok (.lload_n 3, 1) := dk_33 (dk_at dksX6_sumOf_4 9 rfl rfl)
theorem dX6_sumOf_104 : decode cX6_sumOf 104 = .ok (.lreturn, 1) := dk_173 (dk_at dksX6_sumOf_4 10 rfl rfl)
abbrev cX6_allLikely : ByteArray := prog_15_method_71_code
def yX6_allLikely : MethodName := ⟨RX6, "allLikely", "()J"⟩
def dkwX6_allLikely_1 : List UInt8 := [31, 42, 29, 21, 4, 182, 1, 152, 97, 64, 132, 4, 1, 167, 255, 234, 132, 3, 1, 167, 255, 217, 31, 173]
abbrev dktX6_allLikely_1 : List UInt8 := dkwX6_allLikely_1 ++ []
def dkwX6_allLikely_0 : List UInt8 := [9, 64, 3, 62, 29, 42, 180, 1, 70, 162, 0, 37, 3, 54, 4, 21, 4, 42, 180, 1, 70, 162, 0, 19]
abbrev dktX6_allLikely_0 : List UInt8 := dkwX6_allLikely_0 ++ dktX6_allLikely_1
theorem dksX6_allLikely_0 : cX6_allLikely.data.toList.drop 0 = dktX6_allLikely_0 := by decide +kernel
theorem dksX6_allLikely_1 : cX6_allLikely.data.toList.drop 24 = dktX6_allLikely_1 := dk_seg dksX6_allLikely_0 24 rfl rfl
theorem dX6_allLikely_0 : decode cX6_allLikely 0 = .ok (.lconst 0, 1) := dk_9 (dk_at dksX6_allLikely_0 0 rfl rfl)
theorem dX6_allLikely_1 : decode cX6_allLikely 1 = .ok (.lstore_n 1, 1) := dk_64 (dk_at dksX6_allLikely_0 1 rfl rfl)
theorem dX6_allLikely_2 : decode cX6_allLikely 2 = .ok (.iconst 0, 1) := dk_3 (dk_at dksX6_allLikely_0 2 rfl rfl)
theorem dX6_allLikely_3 : decode cX6_allLikely 3 = .ok (.istore_n 3, 1) := dk_62 (dk_at dksX6_allLikely_0 3 rfl rfl)
theorem dX6_allLikely_4 : decode cX6_allLikely 4 = .ok (.iload_n 3, 1) := dk_29 (dk_at dksX6_allLikely_0 4 rfl rfl)
theorem dX6_allLikely_5 : decode cX6_allLikely 5 = .ok (.aload_n 0, 1) := dk_42 (dk_at dksX6_allLikely_0 5 rfl rfl)
theorem dX6_allLikely_6 : decode cX6_allLikely 6 = .ok (.getfield 326, 3) := dk_180 1 70 (dk_at dksX6_allLikely_0 6 rfl rfl)
theorem dX6_allLikely_9 : decode cX6_allLikely 9 = .ok (.if_icmp .ge 37, 3) := dk_162 0 37 (dk_at dksX6_allLikely_0 9 rfl rfl)
theorem dX6_allLikely_12 : decode cX6_allLikely 12 = .ok (.iconst 0, 1) := dk_3 (dk_at dksX6_allLikely_0 12 rfl rfl)
theorem dX6_allLikely_13 : decode cX6_allLikely 13 = .ok (.istore 4, 2) := dk_54 4 (dk_at dksX6_allLikely_0 13 rfl rfl)
theorem dX6_allLikely_15 : decode cX6_allLikely 15 = .ok (.iload 4, 2) := dk_21 4 (dk_at dksX6_allLikely_0 15 rfl rfl)
theorem dX6_allLikely_17 : decode cX6_allLikely 17 = .ok (.aload_n 0, 1) := dk_42 (dk_at dksX6_allLikely_0 17 rfl rfl)
theorem dX6_allLikely_18 : decode cX6_allLikely 18 = .ok (.getfield 326, 3) := dk_180 1 70 (dk_at dksX6_allLikely_0 18 rfl rfl)
theorem dX6_allLikely_21 : decode cX6_allLikely 21 = .ok (.if_icmp .ge 19, 3) := dk_162 0 19 (dk_at dksX6_allLikely_0 21 rfl rfl)
theorem dX6_allLikely_24 : decode cX6_allLikely 24 = .ok (.lload_n 1, 1) := dk_31 (dk_at dksX6_allLikely_1 0 rfl rfl)
theorem dX6_allLikely_25 : decode cX6_allLikely 25 = .ok (.aload_n 0, 1) := dk_42 (dk_at dksX6_allLikely_1 1 rfl rfl)
theorem dX6_allLikely_26 : decode cX6_allLikely 26 = .ok (.iload_n 3, 1) := dk_29 (dk_at dksX6_allLikely_1 2 rfl rfl)
theorem dX6_allLikely_27 : decode cX6_allLikely 27 = .ok (.iload 4, 2) := dk_21 4 (dk_at dksX6_allLikely_1 3 rfl rfl)
theorem dX6_allLikely_29 : decode cX6_allLikely 29 = .ok (.invokevirtual 408, 3) := dk_182 1 152 (dk_at dksX6_allLikely_1 5 rfl rfl)
theorem dX6_allLikely_32 : decode cX6_allLikely 32 = .ok (.ladd, 1) := dk_97 (dk_at dksX6_allLikely_1 8 rfl rfl)
theorem dX6_allLikely_33 : decode cX6_allLikely 33 = .ok (.lstore_n 1, 1) := dk_64 (dk_at dksX6_allLikely_1 9 rfl rfl)
theorem dX6_allLikely_34 : decode cX6_allLikely 34 = .ok (.iinc 4 1, 3) := dk_132 4 1 (dk_at dksX6_allLikely_1 10 rfl rfl)
theorem dX6_allLikely_37 : decode cX6_allLikely 37 = .ok (.goto (-22), 3) := dk_167 255 234 (dk_at dksX6_allLikely_1 13 rfl rfl)
theorem dX6_allLikely_40 : decode cX6_allLikely 40 = .ok (.iinc 3 1, 3) := dk_132 3 1 (dk_at dksX6_allLikely_1 16 rfl rfl)
theorem dX6_allLikely_43 : decode cX6_allLikely 43 = .ok (.goto (-39), 3) := dk_167 255 217 (dk_at dksX6_allLikely_1 19 rfl rfl)
theorem dX6_allLikely_46 : decode cX6_allLikely 46 = .ok (.lload_n 1, 1) := dk_31 (dk_at dksX6_allLikely_1 22 rfl rfl)
theorem dX6_allLikely_47 : decode cX6_allLikely 47 = .ok (.lreturn, 1) := dk_173 (dk_at dksX6_allLikely_1 23 rfl rfl)
abbrev cX6_likely : ByteArray := prog_15_method_49_code
def yX6_likely : MethodName := ⟨RX6, "likely", "(II)J"⟩
def dkwX6_likely_0 : List UInt8 := [42, 180, 0, 38, 6, 27, 104, 4, 96, 46, 133, 42, 180, 0, 38, 6, 28, 104, 5, 96, 46, 133, 105, 173]
abbrev dktX6_likely_0 : List UInt8 := dkwX6_likely_0 ++ []
theorem dksX6_likely_0 : cX6_likely.data.toList.drop 0 = dktX6_likely_0 := by decide +kernel
theorem dX6_likely_0 : decode cX6_likely 0 = .ok (.aload_n 0, 1) := dk_42 (dk_at dksX6_likely_0 0 rfl rfl)
theorem dX6_likely_1 : decode cX6_likely 1 = .ok (.getfield 38, 3) := dk_180 0 38 (dk_at dksX6_likely_0 1 rfl rfl)
theorem dX6_likely_4 : decode cX6_likely 4 = .ok (.iconst 3, 1) := dk_6 (dk_at dksX6_likely_0 4 rfl rfl)
theorem dX6_likely_5 : decode cX6_likely 5 = .ok (.iload_n 1, 1) := dk_27 (dk_at dksX6_likely_0 5 rfl rfl)
theorem dX6_likely_6 : decode cX6_likely 6 = .ok (.imul, 1) := dk_104 (dk_at dksX6_likely_0 6 rfl rfl)
theorem dX6_likely_7 : decode cX6_likely 7 = .ok (.iconst 1, 1) := dk_4 (dk_at dksX6_likely_0 7 rfl rfl)
theorem dX6_likely_8 : decode cX6_likely 8 = .ok (.iadd, 1) := dk_96 (dk_at dksX6_likely_0 8 rfl rfl)
theorem dX6_likely_9 : decode cX6_likely 9 = .ok (.iaload, 1) := dk_46 (dk_at dksX6_likely_0 9 rfl rfl)
theorem dX6_likely_10 : decode cX6_likely 10 = .ok (.i2l, 1) := dk_133 (dk_at dksX6_likely_0 10 rfl rfl)
theorem dX6_likely_11 : decode cX6_likely 11 = .ok (.aload_n 0, 1) := dk_42 (dk_at dksX6_likely_0 11 rfl rfl)
theorem dX6_likely_12 : decode cX6_likely 12 = .ok (.getfield 38, 3) := dk_180 0 38 (dk_at dksX6_likely_0 12 rfl rfl)
theorem dX6_likely_15 : decode cX6_likely 15 = .ok (.iconst 3, 1) := dk_6 (dk_at dksX6_likely_0 15 rfl rfl)
theorem dX6_likely_16 : decode cX6_likely 16 = .ok (.iload_n 2, 1) := dk_28 (dk_at dksX6_likely_0 16 rfl rfl)
theorem dX6_likely_17 : decode cX6_likely 17 = .ok (.imul, 1) := dk_104 (dk_at dksX6_likely_0 17 rfl rfl)
theorem dX6_likely_18 : decode cX6_likely 18 = .ok (.iconst 2, 1) := dk_5 (dk_at dksX6_likely_0 18 rfl rfl)
theorem dX6_likely_19 : decode cX6_likely 19 = .ok (.iadd, 1) := dk_96 (dk_at dksX6_likely_0 19 rfl rfl)
theorem dX6_likely_20 : decode cX6_likely 20 = .ok (.iaload, 1) := dk_46 (dk_at dksX6_likely_0 20 rfl rfl)
theorem dX6_likely_21 : decode cX6_likely 21 = .ok (.i2l, 1) := dk_133 (dk_at dksX6_likely_0 21 rfl rfl)
theorem dX6_likely_22 : decode cX6_likely 22 = .ok (.lmul, 1) := dk_105 (dk_at dksX6_likely_0 22 rfl rfl)
theorem dX6_likely_23 : decode cX6_likely 23 = .ok (.lreturn, 1) := dk_173 (dk_at dksX6_likely_0 23 rfl rfl)
abbrev cX6_fraction : ByteArray := prog_15_method_10_code
def yX6_fraction : MethodName := ⟨RX6, "fraction", "(JJ)V"⟩
def dkwX6_fraction_0 : List UInt8 := [31, 33, 184, 0, 159, 55, 5, 42, 31, 22, 5, 109, 181, 0, 150, 42, 33, 22, 5, 109, 181, 0, 7, 177]
abbrev dktX6_fraction_0 : List UInt8 := dkwX6_fraction_0 ++ []
theorem dksX6_fraction_0 : cX6_fraction.data.toList.drop 0 = dktX6_fraction_0 := by decide +kernel
theorem dX6_fraction_0 : decode cX6_fraction 0 = .ok (.lload_n 1, 1) := dk_31 (dk_at dksX6_fraction_0 0 rfl rfl)
theorem dX6_fraction_1 : decode cX6_fraction 1 = .ok (.lload_n 3, 1) := dk_33 (dk_at dksX6_fraction_0 1 rfl rfl)
theorem dX6_fraction_2 : decode cX6_fraction 2 = .ok (.invokestatic 159, 3) := dk_184 0 159 (dk_at dksX6_fraction_0 2 rfl rfl)
theorem dX6_fraction_5 : decode cX6_fraction 5 = .ok (.lstore 5, 2) := dk_55 5 (dk_at dksX6_fraction_0 5 rfl rfl)
theorem dX6_fraction_7 : decode cX6_fraction 7 = .ok (.aload_n 0, 1) := dk_42 (dk_at dksX6_fraction_0 7 rfl rfl)
theorem dX6_fraction_8 : decode cX6_fraction 8 = .ok (.lload_n 1, 1) := dk_31 (dk_at dksX6_fraction_0 8 rfl rfl)
theorem dX6_fraction_9 : decode cX6_fraction 9 = .ok (.lload 5, 2) := dk_22 5 (dk_at dksX6_fraction_0 9 rfl rfl)
theorem dX6_fraction_11 : decode cX6_fraction 11 = .ok (.ldiv, 1) := dk_109 (dk_at dksX6_fraction_0 11 rfl rfl)
theorem dX6_fraction_12 : decode cX6_fraction 12 = .ok (.putfield 150, 3) := dk_181 0 150 (dk_at dksX6_fraction_0 12 rfl rfl)
theorem dX6_fraction_15 : decode cX6_fraction 15 = .ok (.aload_n 0, 1) := dk_42 (dk_at dksX6_fraction_0 15 rfl rfl)
theorem dX6_fraction_16 : decode cX6_fraction 16 = .ok (.lload_n 3, 1) := dk_33 (dk_at dksX6_fraction_0 16 rfl rfl)
theorem dX6_fraction_17 : decode cX6_fraction 17 = .ok (.lload 5, 2) := dk_22 5 (dk_at dksX6_fraction_0 17 rfl rfl)
theorem dX6_fraction_19 : decode cX6_fraction 19 = .ok (.ldiv, 1) := dk_109 (dk_at dksX6_fraction_0 19 rfl rfl)
theorem dX6_fraction_20 : decode cX6_fraction 20 = .ok (.putfield 7, 3) := dk_181 0 7 (dk_at dksX6_fraction_0 20 rfl rfl)
theorem dX6_fraction_23 : decode cX6_fraction 23 = .ok (.return_, 1) := dk_177 (dk_at dksX6_fraction_0 23 rfl rfl)
abbrev cX6_common : ByteArray := prog_15_method_9_code
def yX6_common : MethodName := ⟨RX6, "common", "(JJ)J"⟩
def dkwX6_common_1 : List UInt8 := [55, 8, 22, 6, 55, 4, 22, 8, 55, 6, 167, 255, 234, 22, 4, 173]
abbrev dktX6_common_1 : List UInt8 := dkwX6_common_1 ++ []
def dkwX6_common_0 : List UInt8 := [30, 184, 0, 153, 55, 4, 32, 184, 0, 153, 55, 6, 22, 6, 9, 148, 153, 0, 21, 22, 4, 22, 6, 113]
abbrev dktX6_common_0 : List UInt8 := dkwX6_common_0 ++ dktX6_common_1
theorem dksX6_common_0 : cX6_common.data.toList.drop 0 = dktX6_common_0 := by decide +kernel
theorem dksX6_common_1 : cX6_common.data.toList.drop 24 = dktX6_common_1 := dk_seg dksX6_common_0 24 rfl rfl
theorem dX6_common_0 : decode cX6_common 0 = .ok (.lload_n 0, 1) := dk_30 (dk_at dksX6_common_0 0 rfl rfl)
theorem dX6_common_1 : decode cX6_common 1 = .ok (.invokestatic 153, 3) := dk_184 0 153 (dk_at dksX6_common_0 1 rfl rfl)
theorem dX6_common_4 : decode cX6_common 4 = .ok (.lstore 4, 2) := dk_55 4 (dk_at dksX6_common_0 4 rfl rfl)
theorem dX6_common_6 : decode cX6_common 6 = .ok (.lload_n 2, 1) := dk_32 (dk_at dksX6_common_0 6 rfl rfl)
theorem dX6_common_7 : decode cX6_common 7 = .ok (.invokestatic 153, 3) := dk_184 0 153 (dk_at dksX6_common_0 7 rfl rfl)
theorem dX6_common_10 : decode cX6_common 10 = .ok (.lstore 6, 2) := dk_55 6 (dk_at dksX6_common_0 10 rfl rfl)
theorem dX6_common_12 : decode cX6_common 12 = .ok (.lload 6, 2) := dk_22 6 (dk_at dksX6_common_0 12 rfl rfl)
theorem dX6_common_14 : decode cX6_common 14 = .ok (.lconst 0, 1) := dk_9 (dk_at dksX6_common_0 14 rfl rfl)
theorem dX6_common_15 : decode cX6_common 15 = .ok (.lcmp, 1) := dk_148 (dk_at dksX6_common_0 15 rfl rfl)
theorem dX6_common_16 : decode cX6_common 16 = .ok (.ifCond .eq 21, 3) := dk_153 0 21 (dk_at dksX6_common_0 16 rfl rfl)
theorem dX6_common_19 : decode cX6_common 19 = .ok (.lload 4, 2) := dk_22 4 (dk_at dksX6_common_0 19 rfl rfl)
theorem dX6_common_21 : decode cX6_common 21 = .ok (.lload 6, 2) := dk_22 6 (dk_at dksX6_common_0 21 rfl rfl)
theorem dX6_common_23 : decode cX6_common 23 = .ok (.lrem, 1) := dk_113 (dk_at dksX6_common_0 23 rfl rfl)
theorem dX6_common_24 : decode cX6_common 24 = .ok (.lstore 8, 2) := dk_55 8 (dk_at dksX6_common_1 0 rfl rfl)
theorem dX6_common_26 : decode cX6_common 26 = .ok (.lload 6, 2) := dk_22 6 (dk_at dksX6_common_1 2 rfl rfl)
theorem dX6_common_28 : decode cX6_common 28 = .ok (.lstore 4, 2) := dk_55 4 (dk_at dksX6_common_1 4 rfl rfl)
theorem dX6_common_30 : decode cX6_common 30 = .ok (.lload 8, 2) := dk_22 8 (dk_at dksX6_common_1 6 rfl rfl)
theorem dX6_common_32 : decode cX6_common 32 = .ok (.lstore 6, 2) := dk_55 6 (dk_at dksX6_common_1 8 rfl rfl)
theorem dX6_common_34 : decode cX6_common 34 = .ok (.goto (-22), 3) := dk_167 255 234 (dk_at dksX6_common_1 10 rfl rfl)
theorem dX6_common_37 : decode cX6_common 37 = .ok (.lload 4, 2) := dk_22 4 (dk_at dksX6_common_1 13 rfl rfl)
theorem dX6_common_39 : decode cX6_common 39 = .ok (.lreturn, 1) := dk_173 (dk_at dksX6_common_1 15 rfl rfl)
abbrev cX6_worst : ByteArray := prog_15_method_74_code
def yX6_worst : MethodName := ⟨RX6, "worst", "(II)I"⟩
def dkwX6_worst_5 : List UInt8 := [172]
abbrev dktX6_worst_5 : List UInt8 := dkwX6_worst_5 ++ []
def dkwX6_worst_4 : List UInt8 := [21, 4, 21, 5, 182, 1, 146, 184, 1, 166, 62, 132, 5, 1, 167, 255, 216, 132, 4, 1, 167, 255, 198, 29]
abbrev dktX6_worst_4 : List UInt8 := dkwX6_worst_4 ++ dktX6_worst_5
def dkwX6_worst_3 : List UInt8 := [180, 1, 70, 162, 0, 37, 42, 21, 4, 21, 5, 182, 1, 152, 9, 148, 158, 0, 18, 29, 42, 27, 28]
abbrev dktX6_worst_3 : List UInt8 := dkwX6_worst_3 ++ dktX6_worst_4
def dkwX6_worst_2 : List UInt8 := [182, 1, 55, 172, 3, 62, 3, 54, 4, 21, 4, 42, 180, 1, 70, 162, 0, 55, 3, 54, 5, 21, 5, 42]
abbrev dktX6_worst_2 : List UInt8 := dkwX6_worst_2 ++ dktX6_worst_3
def dkwX6_worst_1 : List UInt8 := [154, 0, 9, 42, 5, 182, 1, 55, 172, 42, 27, 28, 182, 1, 159, 9, 148, 156, 0, 10, 42, 16, 9]
abbrev dktX6_worst_1 : List UInt8 := dkwX6_worst_1 ++ dktX6_worst_2
def dkwX6_worst_0 : List UInt8 := [42, 3, 181, 0, 144, 42, 3, 181, 0, 147, 42, 27, 182, 1, 143, 153, 0, 11, 42, 28, 182, 1, 143]
abbrev dktX6_worst_0 : List UInt8 := dkwX6_worst_0 ++ dktX6_worst_1
theorem dksX6_worst_0 : cX6_worst.data.toList.drop 0 = dktX6_worst_0 := by decide +kernel
theorem dksX6_worst_1 : cX6_worst.data.toList.drop 23 = dktX6_worst_1 := dk_seg dksX6_worst_0 23 rfl rfl
theorem dksX6_worst_2 : cX6_worst.data.toList.drop 46 = dktX6_worst_2 := dk_seg dksX6_worst_1 23 rfl rfl
theorem dksX6_worst_3 : cX6_worst.data.toList.drop 70 = dktX6_worst_3 := dk_seg dksX6_worst_2 24 rfl rfl
theorem dksX6_worst_4 : cX6_worst.data.toList.drop 93 = dktX6_worst_4 := dk_seg dksX6_worst_3 23 rfl rfl
theorem dksX6_worst_5 : cX6_worst.data.toList.drop 117 = dktX6_worst_5 := dk_seg dksX6_worst_4 24 rfl rfl
theorem dX6_worst_0 : decode cX6_worst 0 = .ok (.aload_n 0, 1) := dk_42 (dk_at dksX6_worst_0 0 rfl rfl)
theorem dX6_worst_1 : decode cX6_worst 1 = .ok (.iconst 0, 1) := dk_3 (dk_at dksX6_worst_0 1 rfl rfl)
theorem dX6_worst_2 : decode cX6_worst 2 = .ok (.putfield 144, 3) := dk_181 0 144 (dk_at dksX6_worst_0 2 rfl rfl)
theorem dX6_worst_5 : decode cX6_worst 5 = .ok (.aload_n 0, 1) := dk_42 (dk_at dksX6_worst_0 5 rfl rfl)
theorem dX6_worst_6 : decode cX6_worst 6 = .ok (.iconst 0, 1) := dk_3 (dk_at dksX6_worst_0 6 rfl rfl)
theorem dX6_worst_7 : decode cX6_worst 7 = .ok (.putfield 147, 3) := dk_181 0 147 (dk_at dksX6_worst_0 7 rfl rfl)
theorem dX6_worst_10 : decode cX6_worst 10 = .ok (.aload_n 0, 1) := dk_42 (dk_at dksX6_worst_0 10 rfl rfl)
theorem dX6_worst_11 : decode cX6_worst 11 = .ok (.iload_n 1, 1) := dk_27 (dk_at dksX6_worst_0 11 rfl rfl)
theorem dX6_worst_12 : decode cX6_worst 12 = .ok (.invokevirtual 399, 3) := dk_182 1 143 (dk_at dksX6_worst_0 12 rfl rfl)
theorem dX6_worst_15 : decode cX6_worst 15 = .ok (.ifCond .eq 11, 3) := dk_153 0 11 (dk_at dksX6_worst_0 15 rfl rfl)
theorem dX6_worst_18 : decode cX6_worst 18 = .ok (.aload_n 0, 1) := dk_42 (dk_at dksX6_worst_0 18 rfl rfl)
theorem dX6_worst_19 : decode cX6_worst 19 = .ok (.iload_n 2, 1) := dk_28 (dk_at dksX6_worst_0 19 rfl rfl)
theorem dX6_worst_20 : decode cX6_worst 20 = .ok (.invokevirtual 399, 3) := dk_182 1 143 (dk_at dksX6_worst_0 20 rfl rfl)
theorem dX6_worst_23 : decode cX6_worst 23 = .ok (.ifCond .ne 9, 3) := dk_154 0 9 (dk_at dksX6_worst_1 0 rfl rfl)
theorem dX6_worst_26 : decode cX6_worst 26 = .ok (.aload_n 0, 1) := dk_42 (dk_at dksX6_worst_1 3 rfl rfl)
theorem dX6_worst_27 : decode cX6_worst 27 = .ok (.iconst 2, 1) := dk_5 (dk_at dksX6_worst_1 4 rfl rfl)
theorem dX6_worst_28 : decode cX6_worst 28 = .ok (.invokevirtual 311, 3) := dk_182 1 55 (dk_at dksX6_worst_1 5 rfl rfl)
theorem dX6_worst_31 : decode cX6_worst 31 = .ok (.ireturn, 1) := dk_172 (dk_at dksX6_worst_1 8 rfl rfl)
theorem dX6_worst_32 : decode cX6_worst 32 = .ok (.aload_n 0, 1) := dk_42 (dk_at dksX6_worst_1 9 rfl rfl)
theorem dX6_worst_33 : decode cX6_worst 33 = .ok (.iload_n 1, 1) := dk_27 (dk_at dksX6_worst_1 10 rfl rfl)
theorem dX6_worst_34 : decode cX6_worst 34 = .ok (.iload_n 2, 1) := dk_28 (dk_at dksX6_worst_1 11 rfl rfl)
theorem dX6_worst_35 : decode cX6_worst 35 = .ok (.invokevirtual 415, 3) := dk_182 1 159 (dk_at dksX6_worst_1 12 rfl rfl)
theorem dX6_worst_38 : decode cX6_worst 38 = .ok (.lconst 0, 1) := dk_9 (dk_at dksX6_worst_1 15 rfl rfl)
theorem dX6_worst_39 : decode cX6_worst 39 = .ok (.lcmp, 1) := dk_148 (dk_at dksX6_worst_1 16 rfl rfl)
theorem dX6_worst_40 : decode cX6_worst 40 = .ok (.ifCond .ge 10, 3) := dk_156 0 10 (dk_at dksX6_worst_1 17 rfl rfl)
theorem dX6_worst_43 : decode cX6_worst 43 = .ok (.aload_n 0, 1) := dk_42 (dk_at dksX6_worst_1 20 rfl rfl)
theorem dX6_worst_44 : decode cX6_worst 44 = .ok (.bipush 9, 2) := dk_16 9 (dk_at dksX6_worst_1 21 rfl rfl)
theorem dX6_worst_46 : decode cX6_worst 46 = .ok (.invokevirtual 311, 3) := dk_182 1 55 (dk_at dksX6_worst_2 0 rfl rfl)
theorem dX6_worst_49 : decode cX6_worst 49 = .ok (.ireturn, 1) := dk_172 (dk_at dksX6_worst_2 3 rfl rfl)
theorem dX6_worst_50 : decode cX6_worst 50 = .ok (.iconst 0, 1) := dk_3 (dk_at dksX6_worst_2 4 rfl rfl)
theorem dX6_worst_51 : decode cX6_worst 51 = .ok (.istore_n 3, 1) := dk_62 (dk_at dksX6_worst_2 5 rfl rfl)
theorem dX6_worst_52 : decode cX6_worst 52 = .ok (.iconst 0, 1) := dk_3 (dk_at dksX6_worst_2 6 rfl rfl)
theorem dX6_worst_53 : decode cX6_worst 53 = .ok (.istore 4, 2) := dk_54 4 (dk_at dksX6_worst_2 7 rfl rfl)
theorem dX6_worst_55 : decode cX6_worst 55 = .ok (.iload 4, 2) := dk_21 4 (dk_at dksX6_worst_2 9 rfl rfl)
theorem dX6_worst_57 : decode cX6_worst 57 = .ok (.aload_n 0, 1) := dk_42 (dk_at dksX6_worst_2 11 rfl rfl)
theorem dX6_worst_58 : decode cX6_worst 58 = .ok (.getfield 326, 3) := dk_180 1 70 (dk_at dksX6_worst_2 12 rfl rfl)
theorem dX6_worst_61 : decode cX6_worst 61 = .ok (.if_icmp .ge 55, 3) := dk_162 0 55 (dk_at dksX6_worst_2 15 rfl rfl)
theorem dX6_worst_64 : decode cX6_worst 64 = .ok (.iconst 0, 1) := dk_3 (dk_at dksX6_worst_2 18 rfl rfl)
theorem dX6_worst_65 : decode cX6_worst 65 = .ok (.istore 5, 2) := dk_54 5 (dk_at dksX6_worst_2 19 rfl rfl)
theorem dX6_worst_67 : decode cX6_worst 67 = .ok (.iload 5, 2) := dk_21 5 (dk_at dksX6_worst_2 21 rfl rfl)
theorem dX6_worst_69 : decode cX6_worst 69 = .ok (.aload_n 0, 1) := dk_42 (dk_at dksX6_worst_2 23 rfl rfl)
theorem dX6_worst_70 : decode cX6_worst 70 = .ok (.getfield 326, 3) := dk_180 1 70 (dk_at dksX6_worst_3 0 rfl rfl)
theorem dX6_worst_73 : decode cX6_worst 73 = .ok (.if_icmp .ge 37, 3) := dk_162 0 37 (dk_at dksX6_worst_3 3 rfl rfl)
theorem dX6_worst_76 : decode cX6_worst 76 = .ok (.aload_n 0, 1) := dk_42 (dk_at dksX6_worst_3 6 rfl rfl)
theorem dX6_worst_77 : decode cX6_worst 77 = .ok (.iload 4, 2) := dk_21 4 (dk_at dksX6_worst_3 7 rfl rfl)
theorem dX6_worst_79 : decode cX6_worst 79 = .ok (.iload 5, 2) := dk_21 5 (dk_at dksX6_worst_3 9 rfl rfl)
theorem dX6_worst_81 : decode cX6_worst 81 = .ok (.invokevirtual 408, 3) := dk_182 1 152 (dk_at dksX6_worst_3 11 rfl rfl)
theorem dX6_worst_84 : decode cX6_worst 84 = .ok (.lconst 0, 1) := dk_9 (dk_at dksX6_worst_3 14 rfl rfl)
theorem dX6_worst_85 : decode cX6_worst 85 = .ok (.lcmp, 1) := dk_148 (dk_at dksX6_worst_3 15 rfl rfl)
theorem dX6_worst_86 : decode cX6_worst 86 = .ok (.ifCond .le 18, 3) := dk_158 0 18 (dk_at dksX6_worst_3 16 rfl rfl)
theorem dX6_worst_89 : decode cX6_worst 89 = .ok (.iload_n 3, 1) := dk_29 (dk_at dksX6_worst_3 19 rfl rfl)
theorem dX6_worst_90 : decode cX6_worst 90 = .ok (.aload_n 0, 1) := dk_42 (dk_at dksX6_worst_3 20 rfl rfl)
theorem dX6_worst_91 : decode cX6_worst 91 = .ok (.iload_n 1, 1) := dk_27 (dk_at dksX6_worst_3 21 rfl rfl)
theorem dX6_worst_92 : decode cX6_worst 92 = .ok (.iload_n 2, 1) := dk_28 (dk_at dksX6_worst_3 22 rfl rfl)
theorem dX6_worst_93 : decode cX6_worst 93 = .ok (.iload 4, 2) := dk_21 4 (dk_at dksX6_worst_4 0 rfl rfl)
theorem dX6_worst_95 : decode cX6_worst 95 = .ok (.iload 5, 2) := dk_21 5 (dk_at dksX6_worst_4 2 rfl rfl)
theorem dX6_worst_97 : decode cX6_worst 97 = .ok (.invokevirtual 402, 3) := dk_182 1 146 (dk_at dksX6_worst_4 4 rfl rfl)
theorem dX6_worst_100 : decode cX6_worst 100 = .ok (.invokestatic 422, 3) := dk_184 1 166 (dk_at dksX6_worst_4 7 rfl rfl)
theorem dX6_worst_103 : decode cX6_worst 103 = .ok (.istore_n 3, 1) := dk_62 (dk_at dksX6_worst_4 10 rfl rfl)
theorem dX6_worst_104 : decode cX6_worst 104 = .ok (.iinc 5 1, 3) := dk_132 5 1 (dk_at dksX6_worst_4 11 rfl rfl)
theorem dX6_worst_107 : decode cX6_worst 107 = .ok (.goto (-40), 3) := dk_167 255 216 (dk_at dksX6_worst_4 14 rfl rfl)
theorem dX6_worst_110 : decode cX6_worst 110 = .ok (.iinc 4 1, 3) := dk_132 4 1 (dk_at dksX6_worst_4 17 rfl rfl)
theorem dX6_worst_113 : decode cX6_worst 113 = .ok (.goto (-58), 3) := dk_167 255 198 (dk_at dksX6_worst_4 20 rfl rfl)
theorem dX6_worst_116 : decode cX6_worst 116 = .ok (.iload_n 3, 1) := dk_29 (dk_at dksX6_worst_4 23 rfl rfl)
theorem dX6_worst_117 : decode cX6_worst 117 = .ok (.ireturn, 1) := dk_172 (dk_at dksX6_worst_5 0 rfl rfl)
abbrev cX6_same : ByteArray := prog_15_method_75_code
def yX6_same : MethodName := ⟨RX6, "same", "(II)I"⟩
def dkwX6_same_12 : List UInt8 := [16, 8, 27, 104, 28, 96, 51, 153, 0, 7, 4, 167, 0, 4, 3, 172]
abbrev dktX6_same_12 : List UInt8 := dkwX6_same_12 ++ []
def dkwX6_same_11 : List UInt8 := [167, 0, 4, 3, 62, 132, 5, 1, 167, 255, 131, 132, 4, 1, 167, 255, 113, 167, 255, 101, 42, 180, 0, 114]
abbrev dktX6_same_11 : List UInt8 := dkwX6_same_11 ++ dktX6_same_12
def dkwX6_same_10 : List UInt8 := [180, 0, 114, 16, 8, 21, 4, 104, 21, 5, 96, 21, 6, 84, 29, 154, 0, 8, 21, 6, 154, 0, 7, 4]
abbrev dktX6_same_10 : List UInt8 := dkwX6_same_10 ++ dktX6_same_11
def dkwX6_same_9 : List UInt8 := [21, 7, 182, 1, 95, 96, 51, 153, 0, 7, 4, 167, 0, 4, 3, 54, 6, 132, 7, 1, 167, 255, 201, 42]
abbrev dktX6_same_9 : List UInt8 := dkwX6_same_9 ++ dktX6_same_10
def dkwX6_same_8 : List UInt8 := [21, 6, 153, 0, 35, 42, 180, 0, 114, 16, 8, 42, 21, 4, 21, 7, 182, 1, 95, 104, 42, 21, 5]
abbrev dktX6_same_8 : List UInt8 := dkwX6_same_8 ++ dktX6_same_9
def dkwX6_same_7 : List UInt8 := [154, 0, 6, 167, 0, 97, 4, 54, 6, 3, 54, 7, 21, 7, 42, 180, 0, 44, 21, 4, 46, 162, 0, 49]
abbrev dktX6_same_7 : List UInt8 := dkwX6_same_7 ++ dktX6_same_8
def dkwX6_same_6 : List UInt8 := [21, 5, 42, 180, 1, 70, 162, 0, 122, 42, 180, 0, 114, 16, 8, 21, 4, 104, 21, 5, 96, 51]
abbrev dktX6_same_6 : List UInt8 := dkwX6_same_6 ++ dktX6_same_7
def dkwX6_same_5 : List UInt8 := [4, 62, 29, 153, 0, 157, 3, 62, 3, 54, 4, 21, 4, 42, 180, 1, 70, 162, 0, 140, 3, 54, 5]
abbrev dktX6_same_5 : List UInt8 := dkwX6_same_5 ++ dktX6_same_6
def dkwX6_same_4 : List UInt8 := [21, 4, 46, 160, 0, 7, 4, 167, 0, 4, 3, 84, 132, 4, 1, 167, 255, 191, 132, 3, 1, 167, 255, 174]
abbrev dktX6_same_4 : List UInt8 := dkwX6_same_4 ++ dktX6_same_5
def dkwX6_same_3 : List UInt8 := [104, 46, 42, 180, 0, 38, 6, 21, 4, 104, 46, 160, 0, 23, 42, 180, 0, 44, 29, 46, 42, 180, 0, 44]
abbrev dktX6_same_3 : List UInt8 := dkwX6_same_3 ++ dktX6_same_4
def dkwX6_same_2 : List UInt8 := [42, 180, 1, 70, 162, 0, 62, 42, 180, 0, 114, 16, 8, 29, 104, 21, 4, 96, 42, 180, 0, 38, 6, 29]
abbrev dktX6_same_2 : List UInt8 := dkwX6_same_2 ++ dktX6_same_3
def dkwX6_same_1 : List UInt8 := [154, 0, 9, 42, 5, 182, 1, 55, 172, 3, 62, 29, 42, 180, 1, 70, 162, 0, 80, 3, 54, 4, 21, 4]
abbrev dktX6_same_1 : List UInt8 := dkwX6_same_1 ++ dktX6_same_2
def dkwX6_same_0 : List UInt8 := [42, 3, 181, 0, 144, 42, 3, 181, 0, 147, 42, 27, 182, 1, 98, 153, 0, 11, 42, 28, 182, 1, 98]
abbrev dktX6_same_0 : List UInt8 := dkwX6_same_0 ++ dktX6_same_1
theorem dksX6_same_0 : cX6_same.data.toList.drop 0 = dktX6_same_0 := by decide +kernel
theorem dksX6_same_1 : cX6_same.data.toList.drop 23 = dktX6_same_1 := dk_seg dksX6_same_0 23 rfl rfl
theorem dksX6_same_2 : cX6_same.data.toList.drop 47 = dktX6_same_2 := dk_seg dksX6_same_1 24 rfl rfl
theorem dksX6_same_3 : cX6_same.data.toList.drop 71 = dktX6_same_3 := dk_seg dksX6_same_2 24 rfl rfl
theorem dksX6_same_4 : cX6_same.data.toList.drop 95 = dktX6_same_4 := dk_seg dksX6_same_3 24 rfl rfl
theorem dksX6_same_5 : cX6_same.data.toList.drop 119 = dktX6_same_5 := dk_seg dksX6_same_4 24 rfl rfl
theorem dksX6_same_6 : cX6_same.data.toList.drop 142 = dktX6_same_6 := dk_seg dksX6_same_5 23 rfl rfl
theorem dksX6_same_7 : cX6_same.data.toList.drop 164 = dktX6_same_7 := dk_seg dksX6_same_6 22 rfl rfl
theorem dksX6_same_8 : cX6_same.data.toList.drop 188 = dktX6_same_8 := dk_seg dksX6_same_7 24 rfl rfl
theorem dksX6_same_9 : cX6_same.data.toList.drop 211 = dktX6_same_9 := dk_seg dksX6_same_8 23 rfl rfl
theorem dksX6_same_10 : cX6_same.data.toList.drop 235 = dktX6_same_10 := dk_seg dksX6_same_9 24 rfl rfl
theorem dksX6_same_11 : cX6_same.data.toList.drop 259 = dktX6_same_11 := dk_seg dksX6_same_10 24 rfl rfl
theorem dksX6_same_12 : cX6_same.data.toList.drop 283 = dktX6_same_12 := dk_seg dksX6_same_11 24 rfl rfl
theorem dX6_same_0 : decode cX6_same 0 = .ok (.aload_n 0, 1) := dk_42 (dk_at dksX6_same_0 0 rfl rfl)
theorem dX6_same_1 : decode cX6_same 1 = .ok (.iconst 0, 1) := dk_3 (dk_at dksX6_same_0 1 rfl rfl)
theorem dX6_same_2 : decode cX6_same 2 = .ok (.putfield 144, 3) := dk_181 0 144 (dk_at dksX6_same_0 2 rfl rfl)
theorem dX6_same_5 : decode cX6_same 5 = .ok (.aload_n 0, 1) := dk_42 (dk_at dksX6_same_0 5 rfl rfl)
theorem dX6_same_6 : decode cX6_same 6 = .ok (.iconst 0, 1) := dk_3 (dk_at dksX6_same_0 6 rfl rfl)
theorem dX6_same_7 : decode cX6_same 7 = .ok (.putfield 147, 3) := dk_181 0 147 (dk_at dksX6_same_0 7 rfl rfl)
theorem dX6_same_10 : decode cX6_same 10 = .ok (.aload_n 0, 1) := dk_42 (dk_at dksX6_same_0 10 rfl rfl)
theorem dX6_same_11 : decode cX6_same 11 = .ok (.iload_n 1, 1) := dk_27 (dk_at dksX6_same_0 11 rfl rfl)
theorem dX6_same_12 : decode cX6_same 12 = .ok (.invokevirtual 354, 3) := dk_182 1 98 (dk_at dksX6_same_0 12 rfl rfl)
theorem dX6_same_15 : decode cX6_same 15 = .ok (.ifCond .eq 11, 3) := dk_153 0 11 (dk_at dksX6_same_0 15 rfl rfl)
theorem dX6_same_18 : decode cX6_same 18 = .ok (.aload_n 0, 1) := dk_42 (dk_at dksX6_same_0 18 rfl rfl)
theorem dX6_same_19 : decode cX6_same 19 = .ok (.iload_n 2, 1) := dk_28 (dk_at dksX6_same_0 19 rfl rfl)
theorem dX6_same_20 : decode cX6_same 20 = .ok (.invokevirtual 354, 3) := dk_182 1 98 (dk_at dksX6_same_0 20 rfl rfl)
theorem dX6_same_23 : decode cX6_same 23 = .ok (.ifCond .ne 9, 3) := dk_154 0 9 (dk_at dksX6_same_1 0 rfl rfl)
theorem dX6_same_26 : decode cX6_same 26 = .ok (.aload_n 0, 1) := dk_42 (dk_at dksX6_same_1 3 rfl rfl)
theorem dX6_same_27 : decode cX6_same 27 = .ok (.iconst 2, 1) := dk_5 (dk_at dksX6_same_1 4 rfl rfl)
theorem dX6_same_28 : decode cX6_same 28 = .ok (.invokevirtual 311, 3) := dk_182 1 55 (dk_at dksX6_same_1 5 rfl rfl)
theorem dX6_same_31 : decode cX6_same 31 = .ok (.ireturn, 1) := dk_172 (dk_at dksX6_same_1 8 rfl rfl)
theorem dX6_same_32 : decode cX6_same 32 = .ok (.iconst 0, 1) := dk_3 (dk_at dksX6_same_1 9 rfl rfl)
theorem dX6_same_33 : decode cX6_same 33 = .ok (.istore_n 3, 1) := dk_62 (dk_at dksX6_same_1 10 rfl rfl)
theorem dX6_same_34 : decode cX6_same 34 = .ok (.iload_n 3, 1) := dk_29 (dk_at dksX6_same_1 11 rfl rfl)
theorem dX6_same_35 : decode cX6_same 35 = .ok (.aload_n 0, 1) := dk_42 (dk_at dksX6_same_1 12 rfl rfl)
theorem dX6_same_36 : decode cX6_same 36 = .ok (.getfield 326, 3) := dk_180 1 70 (dk_at dksX6_same_1 13 rfl rfl)
theorem dX6_same_39 : decode cX6_same 39 = .ok (.if_icmp .ge 80, 3) := dk_162 0 80 (dk_at dksX6_same_1 16 rfl rfl)
theorem dX6_same_42 : decode cX6_same 42 = .ok (.iconst 0, 1) := dk_3 (dk_at dksX6_same_1 19 rfl rfl)
theorem dX6_same_43 : decode cX6_same 43 = .ok (.istore 4, 2) := dk_54 4 (dk_at dksX6_same_1 20 rfl rfl)
theorem dX6_same_45 : decode cX6_same 45 = .ok (.iload 4, 2) := dk_21 4 (dk_at dksX6_same_1 22 rfl rfl)
theorem dX6_same_47 : decode cX6_same 47 = .ok (.aload_n 0, 1) := dk_42 (dk_at dksX6_same_2 0 rfl rfl)
theorem dX6_same_48 : decode cX6_same 48 = .ok (.getfield 326, 3) := dk_180 1 70 (dk_at dksX6_same_2 1 rfl rfl)
theorem dX6_same_51 : decode cX6_same 51 = .ok (.if_icmp .ge 62, 3) := dk_162 0 62 (dk_at dksX6_same_2 4 rfl rfl)
theorem dX6_same_54 : decode cX6_same 54 = .ok (.aload_n 0, 1) := dk_42 (dk_at dksX6_same_2 7 rfl rfl)
theorem dX6_same_55 : decode cX6_same 55 = .ok (.getfield 114, 3) := dk_180 0 114 (dk_at dksX6_same_2 8 rfl rfl)
theorem dX6_same_58 : decode cX6_same 58 = .ok (.bipush 8, 2) := dk_16 8 (dk_at dksX6_same_2 11 rfl rfl)
theorem dX6_same_60 : decode cX6_same 60 = .ok (.iload_n 3, 1) := dk_29 (dk_at dksX6_same_2 13 rfl rfl)
theorem dX6_same_61 : decode cX6_same 61 = .ok (.imul, 1) := dk_104 (dk_at dksX6_same_2 14 rfl rfl)
theorem dX6_same_62 : decode cX6_same 62 = .ok (.iload 4, 2) := dk_21 4 (dk_at dksX6_same_2 15 rfl rfl)
theorem dX6_same_64 : decode cX6_same 64 = .ok (.iadd, 1) := dk_96 (dk_at dksX6_same_2 17 rfl rfl)
theorem dX6_same_65 : decode cX6_same 65 = .ok (.aload_n 0, 1) := dk_42 (dk_at dksX6_same_2 18 rfl rfl)
theorem dX6_same_66 : decode cX6_same 66 = .ok (.getfield 38, 3) := dk_180 0 38 (dk_at dksX6_same_2 19 rfl rfl)
theorem dX6_same_69 : decode cX6_same 69 = .ok (.iconst 3, 1) := dk_6 (dk_at dksX6_same_2 22 rfl rfl)
theorem dX6_same_70 : decode cX6_same 70 = .ok (.iload_n 3, 1) := dk_29 (dk_at dksX6_same_2 23 rfl rfl)
theorem dX6_same_71 : decode cX6_same 71 = .ok (.imul, 1) := dk_104 (dk_at dksX6_same_3 0 rfl rfl)
theorem dX6_same_72 : decode cX6_same 72 = .ok (.iaload, 1) := dk_46 (dk_at dksX6_same_3 1 rfl rfl)
theorem dX6_same_73 : decode cX6_same 73 = .ok (.aload_n 0, 1) := dk_42 (dk_at dksX6_same_3 2 rfl rfl)
theorem dX6_same_74 : decode cX6_same 74 = .ok (.getfield 38, 3) := dk_180 0 38 (dk_at dksX6_same_3 3 rfl rfl)
theorem dX6_same_77 : decode cX6_same 77 = .ok (.iconst 3, 1) := dk_6 (dk_at dksX6_same_3 6 rfl rfl)
theorem dX6_same_78 : decode cX6_same 78 = .ok (.iload 4, 2) := dk_21 4 (dk_at dksX6_same_3 7 rfl rfl)
theorem dX6_same_80 : decode cX6_same 80 = .ok (.imul, 1) := dk_104 (dk_at dksX6_same_3 9 rfl rfl)
theorem dX6_same_81 : decode cX6_same 81 = .ok (.iaload, 1) := dk_46 (dk_at dksX6_same_3 10 rfl rfl)
theorem dX6_same_82 : decode cX6_same 82 = .ok (.if_icmp .ne 23, 3) := dk_160 0 23 (dk_at dksX6_same_3 11 rfl rfl)
theorem dX6_same_85 : decode cX6_same 85 = .ok (.aload_n 0, 1) := dk_42 (dk_at dksX6_same_3 14 rfl rfl)
theorem dX6_same_86 : decode cX6_same 86 = .ok (.getfield 44, 3) := dk_180 0 44 (dk_at dksX6_same_3 15 rfl rfl)
theorem dX6_same_89 : decode cX6_same 89 = .ok (.iload_n 3, 1) := dk_29 (dk_at dksX6_same_3 18 rfl rfl)
theorem dX6_same_90 : decode cX6_same 90 = .ok (.iaload, 1) := dk_46 (dk_at dksX6_same_3 19 rfl rfl)
theorem dX6_same_91 : decode cX6_same 91 = .ok (.aload_n 0, 1) := dk_42 (dk_at dksX6_same_3 20 rfl rfl)
theorem dX6_same_92 : decode cX6_same 92 = .ok (.getfield 44, 3) := dk_180 0 44 (dk_at dksX6_same_3 21 rfl rfl)
theorem dX6_same_95 : decode cX6_same 95 = .ok (.iload 4, 2) := dk_21 4 (dk_at dksX6_same_4 0 rfl rfl)
theorem dX6_same_97 : decode cX6_same 97 = .ok (.iaload, 1) := dk_46 (dk_at dksX6_same_4 2 rfl rfl)
theorem dX6_same_98 : decode cX6_same 98 = .ok (.if_icmp .ne 7, 3) := dk_160 0 7 (dk_at dksX6_same_4 3 rfl rfl)
theorem dX6_same_101 : decode cX6_same 101 = .ok (.iconst 1, 1) := dk_4 (dk_at dksX6_same_4 6 rfl rfl)
theorem dX6_same_102 : decode cX6_same 102 = .ok (.goto 4, 3) := dk_167 0 4 (dk_at dksX6_same_4 7 rfl rfl)
theorem dX6_same_105 : decode cX6_same 105 = .ok (.iconst 0, 1) := dk_3 (dk_at dksX6_same_4 10 rfl rfl)
theorem dX6_same_106 : decode cX6_same 106 = .ok (.bastore, 1) := dk_84 (dk_at dksX6_same_4 11 rfl rfl)
theorem dX6_same_107 : decode cX6_same 107 = .ok (.iinc 4 1, 3) := dk_132 4 1 (dk_at dksX6_same_4 12 rfl rfl)
theorem dX6_same_110 : decode cX6_same 110 = .ok (.goto (-65), 3) := dk_167 255 191 (dk_at dksX6_same_4 15 rfl rfl)
theorem dX6_same_113 : decode cX6_same 113 = .ok (.iinc 3 1, 3) := dk_132 3 1 (dk_at dksX6_same_4 18 rfl rfl)
theorem dX6_same_116 : decode cX6_same 116 = .ok (.goto (-82), 3) := dk_167 255 174 (dk_at dksX6_same_4 21 rfl rfl)
theorem dX6_same_119 : decode cX6_same 119 = .ok (.iconst 1, 1) := dk_4 (dk_at dksX6_same_5 0 rfl rfl)
theorem dX6_same_120 : decode cX6_same 120 = .ok (.istore_n 3, 1) := dk_62 (dk_at dksX6_same_5 1 rfl rfl)
theorem dX6_same_121 : decode cX6_same 121 = .ok (.iload_n 3, 1) := dk_29 (dk_at dksX6_same_5 2 rfl rfl)
theorem dX6_same_122 : decode cX6_same 122 = .ok (.ifCond .eq 157, 3) := dk_153 0 157 (dk_at dksX6_same_5 3 rfl rfl)
theorem dX6_same_125 : decode cX6_same 125 = .ok (.iconst 0, 1) := dk_3 (dk_at dksX6_same_5 6 rfl rfl)
theorem dX6_same_126 : decode cX6_same 126 = .ok (.istore_n 3, 1) := dk_62 (dk_at dksX6_same_5 7 rfl rfl)
theorem dX6_same_127 : decode cX6_same 127 = .ok (.iconst 0, 1) := dk_3 (dk_at dksX6_same_5 8 rfl rfl)
theorem dX6_same_128 : decode cX6_same 128 = .ok (.istore 4, 2) := dk_54 4 (dk_at dksX6_same_5 9 rfl rfl)
theorem dX6_same_130 : decode cX6_same 130 = .ok (.iload 4, 2) := dk_21 4 (dk_at dksX6_same_5 11 rfl rfl)
theorem dX6_same_132 : decode cX6_same 132 = .ok (.aload_n 0, 1) := dk_42 (dk_at dksX6_same_5 13 rfl rfl)
theorem dX6_same_133 : decode cX6_same 133 = .ok (.getfield 326, 3) := dk_180 1 70 (dk_at dksX6_same_5 14 rfl rfl)
theorem dX6_same_136 : decode cX6_same 136 = .ok (.if_icmp .ge 140, 3) := dk_162 0 140 (dk_at dksX6_same_5 17 rfl rfl)
theorem dX6_same_139 : decode cX6_same 139 = .ok (.iconst 0, 1) := dk_3 (dk_at dksX6_same_5 20 rfl rfl)
theorem dX6_same_140 : decode cX6_same 140 = .ok (.istore 5, 2) := dk_54 5 (dk_at dksX6_same_5 21 rfl rfl)
theorem dX6_same_142 : decode cX6_same 142 = .ok (.iload 5, 2) := dk_21 5 (dk_at dksX6_same_6 0 rfl rfl)
theorem dX6_same_144 : decode cX6_same 144 = .ok (.aload_n 0, 1) := dk_42 (dk_at dksX6_same_6 2 rfl rfl)
theorem dX6_same_145 : decode cX6_same 145 = .ok (.getfield 326, 3) := dk_180 1 70 (dk_at dksX6_same_6 3 rfl rfl)
theorem dX6_same_148 : decode cX6_same 148 = .ok (.if_icmp .ge 122, 3) := dk_162 0 122 (dk_at dksX6_same_6 6 rfl rfl)
theorem dX6_same_151 : decode cX6_same 151 = .ok (.aload_n 0, 1) := dk_42 (dk_at dksX6_same_6 9 rfl rfl)
theorem dX6_same_152 : decode cX6_same 152 = .ok (.getfield 114, 3) := dk_180 0 114 (dk_at dksX6_same_6 10 rfl rfl)
theorem dX6_same_155 : decode cX6_same 155 = .ok (.bipush 8, 2) := dk_16 8 (dk_at dksX6_same_6 13 rfl rfl)
theorem dX6_same_157 : decode cX6_same 157 = .ok (.iload 4, 2) := dk_21 4 (dk_at dksX6_same_6 15 rfl rfl)
theorem dX6_same_159 : decode cX6_same 159 = .ok (.imul, 1) := dk_104 (dk_at dksX6_same_6 17 rfl rfl)
theorem dX6_same_160 : decode cX6_same 160 = .ok (.iload 5, 2) := dk_21 5 (dk_at dksX6_same_6 18 rfl rfl)
theorem dX6_same_162 : decode cX6_same 162 = .ok (.iadd, 1) := dk_96 (dk_at dksX6_same_6 20 rfl rfl)
theorem dX6_same_163 : decode cX6_same 163 = .ok (.baload, 1) := dk_51 (dk_at dksX6_same_6 21 rfl rfl)
theorem dX6_same_164 : decode cX6_same 164 = .ok (.ifCond .ne 6, 3) := dk_154 0 6 (dk_at dksX6_same_7 0 rfl rfl)
theorem dX6_same_167 : decode cX6_same 167 = .ok (.goto 97, 3) := dk_167 0 97 (dk_at dksX6_same_7 3 rfl rfl)
theorem dX6_same_170 : decode cX6_same 170 = .ok (.iconst 1, 1) := dk_4 (dk_at dksX6_same_7 6 rfl rfl)
theorem dX6_same_171 : decode cX6_same 171 = .ok (.istore 6, 2) := dk_54 6 (dk_at dksX6_same_7 7 rfl rfl)
theorem dX6_same_173 : decode cX6_same 173 = .ok (.iconst 0, 1) := dk_3 (dk_at dksX6_same_7 9 rfl rfl)
theorem dX6_same_174 : decode cX6_same 174 = .ok (.istore 7, 2) := dk_54 7 (dk_at dksX6_same_7 10 rfl rfl)
theorem dX6_same_176 : decode cX6_same 176 = .ok (.iload 7, 2) := dk_21 7 (dk_at dksX6_same_7 12 rfl rfl)
theorem dX6_same_178 : decode cX6_same 178 = .ok (.aload_n 0, 1) := dk_42 (dk_at dksX6_same_7 14 rfl rfl)
theorem dX6_same_179 : decode cX6_same 179 = .ok (.getfield 44, 3) := dk_180 0 44 (dk_at dksX6_same_7 15 rfl rfl)
theorem dX6_same_182 : decode cX6_same 182 = .ok (.iload 4, 2) := dk_21 4 (dk_at dksX6_same_7 18 rfl rfl)
theorem dX6_same_184 : decode cX6_same 184 = .ok (.iaload, 1) := dk_46 (dk_at dksX6_same_7 20 rfl rfl)
theorem dX6_same_185 : decode cX6_same 185 = .ok (.if_icmp .ge 49, 3) := dk_162 0 49 (dk_at dksX6_same_7 21 rfl rfl)
theorem dX6_same_188 : decode cX6_same 188 = .ok (.iload 6, 2) := dk_21 6 (dk_at dksX6_same_8 0 rfl rfl)
theorem dX6_same_190 : decode cX6_same 190 = .ok (.ifCond .eq 35, 3) := dk_153 0 35 (dk_at dksX6_same_8 2 rfl rfl)
theorem dX6_same_193 : decode cX6_same 193 = .ok (.aload_n 0, 1) := dk_42 (dk_at dksX6_same_8 5 rfl rfl)
theorem dX6_same_194 : decode cX6_same 194 = .ok (.getfield 114, 3) := dk_180 0 114 (dk_at dksX6_same_8 6 rfl rfl)
theorem dX6_same_197 : decode cX6_same 197 = .ok (.bipush 8, 2) := dk_16 8 (dk_at dksX6_same_8 9 rfl rfl)
theorem dX6_same_199 : decode cX6_same 199 = .ok (.aload_n 0, 1) := dk_42 (dk_at dksX6_same_8 11 rfl rfl)
theorem dX6_same_200 : decode cX6_same 200 = .ok (.iload 4, 2) := dk_21 4 (dk_at dksX6_same_8 12 rfl rfl)
theorem dX6_same_202 : decode cX6_same 202 = .ok (.iload 7, 2) := dk_21 7 (dk_at dksX6_same_8 14 rfl rfl)
theorem dX6_same_204 : decode cX6_same 204 = .ok (.invokevirtual 351, 3) := dk_182 1 95 (dk_at dksX6_same_8 16 rfl rfl)
theorem dX6_same_207 : decode cX6_same 207 = .ok (.imul, 1) := dk_104 (dk_at dksX6_same_8 19 rfl rfl)
theorem dX6_same_208 : decode cX6_same 208 = .ok (.aload_n 0, 1) := dk_42 (dk_at dksX6_same_8 20 rfl rfl)
theorem dX6_same_209 : decode cX6_same 209 = .ok (.iload 5, 2) := dk_21 5 (dk_at dksX6_same_8 21 rfl rfl)
theorem dX6_same_211 : decode cX6_same 211 = .ok (.iload 7, 2) := dk_21 7 (dk_at dksX6_same_9 0 rfl rfl)
theorem dX6_same_213 : decode cX6_same 213 = .ok (.invokevirtual 351, 3) := dk_182 1 95 (dk_at dksX6_same_9 2 rfl rfl)
theorem dX6_same_216 : decode cX6_same 216 = .ok (.iadd, 1) := dk_96 (dk_at dksX6_same_9 5 rfl rfl)
theorem dX6_same_217 : decode cX6_same 217 = .ok (.baload, 1) := dk_51 (dk_at dksX6_same_9 6 rfl rfl)
theorem dX6_same_218 : decode cX6_same 218 = .ok (.ifCond .eq 7, 3) := dk_153 0 7 (dk_at dksX6_same_9 7 rfl rfl)
theorem dX6_same_221 : decode cX6_same 221 = .ok (.iconst 1, 1) := dk_4 (dk_at dksX6_same_9 10 rfl rfl)
theorem dX6_same_222 : decode cX6_same 222 = .ok (.goto 4, 3) := dk_167 0 4 (dk_at dksX6_same_9 11 rfl rfl)
theorem dX6_same_225 : decode cX6_same 225 = .ok (.iconst 0, 1) := dk_3 (dk_at dksX6_same_9 14 rfl rfl)
theorem dX6_same_226 : decode cX6_same 226 = .ok (.istore 6, 2) := dk_54 6 (dk_at dksX6_same_9 15 rfl rfl)
theorem dX6_same_228 : decode cX6_same 228 = .ok (.iinc 7 1, 3) := dk_132 7 1 (dk_at dksX6_same_9 17 rfl rfl)
theorem dX6_same_231 : decode cX6_same 231 = .ok (.goto (-55), 3) := dk_167 255 201 (dk_at dksX6_same_9 20 rfl rfl)
theorem dX6_same_234 : decode cX6_same 234 = .ok (.aload_n 0, 1) := dk_42 (dk_at dksX6_same_9 23 rfl rfl)
theorem dX6_same_235 : decode cX6_same 235 = .ok (.getfield 114, 3) := dk_180 0 114 (dk_at dksX6_same_10 0 rfl rfl)
theorem dX6_same_238 : decode cX6_same 238 = .ok (.bipush 8, 2) := dk_16 8 (dk_at dksX6_same_10 3 rfl rfl)
theorem dX6_same_240 : decode cX6_same 240 = .ok (.iload 4, 2) := dk_21 4 (dk_at dksX6_same_10 5 rfl rfl)
theorem dX6_same_242 : decode cX6_same 242 = .ok (.imul, 1) := dk_104 (dk_at dksX6_same_10 7 rfl rfl)
theorem dX6_same_243 : decode cX6_same 243 = .ok (.iload 5, 2) := dk_21 5 (dk_at dksX6_same_10 8 rfl rfl)
theorem dX6_same_245 : decode cX6_same 245 = .ok (.iadd, 1) := dk_96 (dk_at dksX6_same_10 10 rfl rfl)
theorem dX6_same_246 : decode cX6_same 246 = .ok (.iload 6, 2) := dk_21 6 (dk_at dksX6_same_10 11 rfl rfl)
theorem dX6_same_248 : decode cX6_same 248 = .ok (.bastore, 1) := dk_84 (dk_at dksX6_same_10 13 rfl rfl)
theorem dX6_same_249 : decode cX6_same 249 = .ok (.iload_n 3, 1) := dk_29 (dk_at dksX6_same_10 14 rfl rfl)
theorem dX6_same_250 : decode cX6_same 250 = .ok (.ifCond .ne 8, 3) := dk_154 0 8 (dk_at dksX6_same_10 15 rfl rfl)
theorem dX6_same_253 : decode cX6_same 253 = .ok (.iload 6, 2) := dk_21 6 (dk_at dksX6_same_10 18 rfl rfl)
theorem dX6_same_255 : decode cX6_same 255 = .ok (.ifCond .ne 7, 3) := dk_154 0 7 (dk_at dksX6_same_10 20 rfl rfl)
theorem dX6_same_258 : decode cX6_same 258 = .ok (.iconst 1, 1) := dk_4 (dk_at dksX6_same_10 23 rfl rfl)
theorem dX6_same_259 : decode cX6_same 259 = .ok (.goto 4, 3) := dk_167 0 4 (dk_at dksX6_same_11 0 rfl rfl)
theorem dX6_same_262 : decode cX6_same 262 = .ok (.iconst 0, 1) := dk_3 (dk_at dksX6_same_11 3 rfl rfl)
theorem dX6_same_263 : decode cX6_same 263 = .ok (.istore_n 3, 1) := dk_62 (dk_at dksX6_same_11 4 rfl rfl)
theorem dX6_same_264 : decode cX6_same 264 = .ok (.iinc 5 1, 3) := dk_132 5 1 (dk_at dksX6_same_11 5 rfl rfl)
theorem dX6_same_267 : decode cX6_same 267 = .ok (.goto (-125), 3) := dk_167 255 131 (dk_at dksX6_same_11 8 rfl rfl)
theorem dX6_same_270 : decode cX6_same 270 = .ok (.iinc 4 1, 3) := dk_132 4 1 (dk_at dksX6_same_11 11 rfl rfl)
theorem dX6_same_273 : decode cX6_same 273 = .ok (.goto (-143), 3) := dk_167 255 113 (dk_at dksX6_same_11 14 rfl rfl)
theorem dX6_same_276 : decode cX6_same 276 = .ok (.goto (-155), 3) := dk_167 255 101 (dk_at dksX6_same_11 17 rfl rfl)
theorem dX6_same_279 : decode cX6_same 279 = .ok (.aload_n 0, 1) := dk_42 (dk_at dksX6_same_11 20 rfl rfl)
theorem dX6_same_280 : decode cX6_same 280 = .ok (.getfield 114, 3) := dk_180 0 114 (dk_at dksX6_same_11 21 rfl rfl)
theorem dX6_same_283 : decode cX6_same 283 = .ok (.bipush 8, 2) := dk_16 8 (dk_at dksX6_same_12 0 rfl rfl)
theorem dX6_same_285 : decode cX6_same 285 = .ok (.iload_n 1, 1) := dk_27 (dk_at dksX6_same_12 2 rfl rfl)
theorem dX6_same_286 : decode cX6_same 286 = .ok (.imul, 1) := dk_104 (dk_at dksX6_same_12 3 rfl rfl)
theorem dX6_same_287 : decode cX6_same 287 = .ok (.iload_n 2, 1) := dk_28 (dk_at dksX6_same_12 4 rfl rfl)
theorem dX6_same_288 : decode cX6_same 288 = .ok (.iadd, 1) := dk_96 (dk_at dksX6_same_12 5 rfl rfl)
theorem dX6_same_289 : decode cX6_same 289 = .ok (.baload, 1) := dk_51 (dk_at dksX6_same_12 6 rfl rfl)
theorem dX6_same_290 : decode cX6_same 290 = .ok (.ifCond .eq 7, 3) := dk_153 0 7 (dk_at dksX6_same_12 7 rfl rfl)
theorem dX6_same_293 : decode cX6_same 293 = .ok (.iconst 1, 1) := dk_4 (dk_at dksX6_same_12 10 rfl rfl)
theorem dX6_same_294 : decode cX6_same 294 = .ok (.goto 4, 3) := dk_167 0 4 (dk_at dksX6_same_12 11 rfl rfl)
theorem dX6_same_297 : decode cX6_same 297 = .ok (.iconst 0, 1) := dk_3 (dk_at dksX6_same_12 14 rfl rfl)
theorem dX6_same_298 : decode cX6_same 298 = .ok (.ireturn, 1) := dk_172 (dk_at dksX6_same_12 15 rfl rfl)
abbrev cX6_agreed : ByteArray := prog_15_method_78_code
def yX6_agreed : MethodName := ⟨RX6, "agreed", "(I)I"⟩
def dkwX6_agreed_3 : List UInt8 := [180, 1, 169, 136, 172]
abbrev dktX6_agreed_3 : List UInt8 := dkwX6_agreed_3 ++ []
def dkwX6_agreed_2 : List UInt8 := [104, 3, 182, 1, 178, 42, 27, 181, 1, 182, 42, 42, 180, 1, 175, 42, 182, 1, 155, 182, 1, 162, 42]
abbrev dktX6_agreed_2 : List UInt8 := dkwX6_agreed_2 ++ dktX6_agreed_3
def dkwX6_agreed_1 : List UInt8 := [182, 1, 55, 172, 42, 182, 1, 155, 9, 148, 154, 0, 10, 42, 16, 9, 182, 1, 55, 172, 42, 27, 5, 27]
abbrev dktX6_agreed_1 : List UInt8 := dkwX6_agreed_1 ++ dktX6_agreed_2
def dkwX6_agreed_0 : List UInt8 := [42, 3, 181, 0, 144, 42, 3, 181, 0, 147, 27, 133, 10, 20, 1, 150, 184, 1, 6, 154, 0, 9, 42, 8]
abbrev dktX6_agreed_0 : List UInt8 := dkwX6_agreed_0 ++ dktX6_agreed_1
theorem dksX6_agreed_0 : cX6_agreed.data.toList.drop 0 = dktX6_agreed_0 := by decide +kernel
theorem dksX6_agreed_1 : cX6_agreed.data.toList.drop 24 = dktX6_agreed_1 := dk_seg dksX6_agreed_0 24 rfl rfl
theorem dksX6_agreed_2 : cX6_agreed.data.toList.drop 48 = dktX6_agreed_2 := dk_seg dksX6_agreed_1 24 rfl rfl
theorem dksX6_agreed_3 : cX6_agreed.data.toList.drop 71 = dktX6_agreed_3 := dk_seg dksX6_agreed_2 23 rfl rfl
theorem dX6_agreed_0 : decode cX6_agreed 0 = .ok (.aload_n 0, 1) := dk_42 (dk_at dksX6_agreed_0 0 rfl rfl)
theorem dX6_agreed_1 : decode cX6_agreed 1 = .ok (.iconst 0, 1) := dk_3 (dk_at dksX6_agreed_0 1 rfl rfl)
theorem dX6_agreed_2 : decode cX6_agreed 2 = .ok (.putfield 144, 3) := dk_181 0 144 (dk_at dksX6_agreed_0 2 rfl rfl)
theorem dX6_agreed_5 : decode cX6_agreed 5 = .ok (.aload_n 0, 1) := dk_42 (dk_at dksX6_agreed_0 5 rfl rfl)
theorem dX6_agreed_6 : decode cX6_agreed 6 = .ok (.iconst 0, 1) := dk_3 (dk_at dksX6_agreed_0 6 rfl rfl)
theorem dX6_agreed_7 : decode cX6_agreed 7 = .ok (.putfield 147, 3) := dk_181 0 147 (dk_at dksX6_agreed_0 7 rfl rfl)
theorem dX6_agreed_10 : decode cX6_agreed 10 = .ok (.iload_n 1, 1) := dk_27 (dk_at dksX6_agreed_0 10 rfl rfl)
theorem dX6_agreed_11 : decode cX6_agreed 11 = .ok (.i2l, 1) := dk_133 (dk_at dksX6_agreed_0 11 rfl rfl)
theorem dX6_agreed_12 : decode cX6_agreed 12 = .ok (.lconst 1, 1) := dk_10 (dk_at dksX6_agreed_0 12 rfl rfl)
theorem dX6_agreed_13 : decode cX6_agreed 13 = .ok (.ldc2_w 406, 3) := dk_20 1 150 (dk_at dksX6_agreed_0 13 rfl rfl)
theorem dX6_agreed_16 : decode cX6_agreed 16 = .ok (.invokestatic 262, 3) := dk_184 1 6 (dk_at dksX6_agreed_0 16 rfl rfl)
theorem dX6_agreed_19 : decode cX6_agreed 19 = .ok (.ifCond .ne 9, 3) := dk_154 0 9 (dk_at dksX6_agreed_0 19 rfl rfl)
theorem dX6_agreed_22 : decode cX6_agreed 22 = .ok (.aload_n 0, 1) := dk_42 (dk_at dksX6_agreed_0 22 rfl rfl)
theorem dX6_agreed_23 : decode cX6_agreed 23 = .ok (.iconst 5, 1) := dk_8 (dk_at dksX6_agreed_0 23 rfl rfl)
theorem dX6_agreed_24 : decode cX6_agreed 24 = .ok (.invokevirtual 311, 3) := dk_182 1 55 (dk_at dksX6_agreed_1 0 rfl rfl)
theorem dX6_agreed_27 : decode cX6_agreed 27 = .ok (.ireturn, 1) := dk_172 (dk_at dksX6_agreed_1 3 rfl rfl)
theorem dX6_agreed_28 : decode cX6_agreed 28 = .ok (.aload_n 0, 1) := dk_42 (dk_at dksX6_agreed_1 4 rfl rfl)
theorem dX6_agreed_29 : decode cX6_agreed 29 = .ok (.invokevirtual 411, 3) := dk_182 1 155 (dk_at dksX6_agreed_1 5 rfl rfl)
theorem dX6_agreed_32 : decode cX6_agreed 32 = .ok (.lconst 0, 1) := dk_9 (dk_at dksX6_agreed_1 8 rfl rfl)
theorem dX6_agreed_33 : decode cX6_agreed 33 = .ok (.lcmp, 1) := dk_148 (dk_at dksX6_agreed_1 9 rfl rfl)
theorem dX6_agreed_34 : decode cX6_agreed 34 = .ok (.ifCond .ne 10, 3) := dk_154 0 10 (dk_at dksX6_agreed_1 10 rfl rfl)
theorem dX6_agreed_37 : decode cX6_agreed 37 = .ok (.aload_n 0, 1) := dk_42 (dk_at dksX6_agreed_1 13 rfl rfl)
theorem dX6_agreed_38 : decode cX6_agreed 38 = .ok (.bipush 9, 2) := dk_16 9 (dk_at dksX6_agreed_1 14 rfl rfl)
theorem dX6_agreed_40 : decode cX6_agreed 40 = .ok (.invokevirtual 311, 3) := dk_182 1 55 (dk_at dksX6_agreed_1 16 rfl rfl)
theorem dX6_agreed_43 : decode cX6_agreed 43 = .ok (.ireturn, 1) := dk_172 (dk_at dksX6_agreed_1 19 rfl rfl)
theorem dX6_agreed_44 : decode cX6_agreed 44 = .ok (.aload_n 0, 1) := dk_42 (dk_at dksX6_agreed_1 20 rfl rfl)
theorem dX6_agreed_45 : decode cX6_agreed 45 = .ok (.iload_n 1, 1) := dk_27 (dk_at dksX6_agreed_1 21 rfl rfl)
theorem dX6_agreed_46 : decode cX6_agreed 46 = .ok (.iconst 2, 1) := dk_5 (dk_at dksX6_agreed_1 22 rfl rfl)
theorem dX6_agreed_47 : decode cX6_agreed 47 = .ok (.iload_n 1, 1) := dk_27 (dk_at dksX6_agreed_1 23 rfl rfl)
theorem dX6_agreed_48 : decode cX6_agreed 48 = .ok (.imul, 1) := dk_104 (dk_at dksX6_agreed_2 0 rfl rfl)
theorem dX6_agreed_49 : decode cX6_agreed 49 = .ok (.iconst 0, 1) := dk_3 (dk_at dksX6_agreed_2 1 rfl rfl)
theorem dX6_agreed_50 : decode cX6_agreed 50 = .ok (.invokevirtual 434, 3) := dk_182 1 178 (dk_at dksX6_agreed_2 2 rfl rfl)
theorem dX6_agreed_53 : decode cX6_agreed 53 = .ok (.aload_n 0, 1) := dk_42 (dk_at dksX6_agreed_2 5 rfl rfl)
theorem dX6_agreed_54 : decode cX6_agreed 54 = .ok (.iload_n 1, 1) := dk_27 (dk_at dksX6_agreed_2 6 rfl rfl)
theorem dX6_agreed_55 : decode cX6_agreed 55 = .ok (.putfield 438, 3) := dk_181 1 182 (dk_at dksX6_agreed_2 7 rfl rfl)
theorem dX6_agreed_58 : decode cX6_agreed 58 = .ok (.aload_n 0, 1) := dk_42 (dk_at dksX6_agreed_2 10 rfl rfl)
theorem dX6_agreed_59 : decode cX6_agreed 59 = .ok (.aload_n 0, 1) := dk_42 (dk_at dksX6_agreed_2 11 rfl rfl)
theorem dX6_agreed_60 : decode cX6_agreed 60 = .ok (.getfield 431, 3) := dk_180 1 175 (dk_at dksX6_agreed_2 12 rfl rfl)
theorem dX6_agreed_63 : decode cX6_agreed 63 = .ok (.aload_n 0, 1) := dk_42 (dk_at dksX6_agreed_2 15 rfl rfl)
theorem dX6_agreed_64 : decode cX6_agreed 64 = .ok (.invokevirtual 411, 3) := dk_182 1 155 (dk_at dksX6_agreed_2 16 rfl rfl)
theorem dX6_agreed_67 : decode cX6_agreed 67 = .ok (.invokevirtual 418, 3) := dk_182 1 162 (dk_at dksX6_agreed_2 19 rfl rfl)
theorem dX6_agreed_70 : decode cX6_agreed 70 = .ok (.aload_n 0, 1) := dk_42 (dk_at dksX6_agreed_2 22 rfl rfl)
theorem dX6_agreed_71 : decode cX6_agreed 71 = .ok (.getfield 425, 3) := dk_180 1 169 (dk_at dksX6_agreed_3 0 rfl rfl)
theorem dX6_agreed_74 : decode cX6_agreed 74 = .ok (.l2i, 1) := dk_136 (dk_at dksX6_agreed_3 3 rfl rfl)
theorem dX6_agreed_75 : decode cX6_agreed 75 = .ok (.ireturn, 1) := dk_172 (dk_at dksX6_agreed_3 4 rfl rfl)
abbrev cX6_findRows : ByteArray := prog_15_method_77_code
def yX6_findRows : MethodName := ⟨RX6, "findRows", "(IIZ)V"⟩
def dkwX6_findRows_13 : List UInt8 := [167, 254, 240, 177]
abbrev dktX6_findRows_13 : List UInt8 := dkwX6_findRows_13 ++ []
def dkwX6_findRows_12 : List UInt8 := [42, 180, 0, 99, 21, 11, 42, 180, 0, 105, 21, 11, 46, 79, 132, 11, 1, 167, 255, 212, 132, 5, 1]
abbrev dktX6_findRows_12 : List UInt8 := dkwX6_findRows_12 ++ dktX6_findRows_13
def dkwX6_findRows_11 : List UInt8 := [162, 0, 44, 29, 153, 0, 20, 42, 180, 0, 102, 21, 11, 42, 180, 0, 105, 21, 11, 46, 79, 167, 0, 17]
abbrev dktX6_findRows_11 : List UInt8 := dkwX6_findRows_11 ++ dktX6_findRows_12
def dkwX6_findRows_10 : List UInt8 := [155, 0, 6, 167, 0, 65, 42, 22, 7, 181, 1, 169, 42, 22, 9, 181, 1, 175, 3, 54, 11, 21, 11, 28]
abbrev dktX6_findRows_10 : List UInt8 := dkwX6_findRows_10 ++ dktX6_findRows_11
def dkwX6_findRows_9 : List UInt8 := [180, 1, 169, 148, 157, 0, 88, 22, 7, 42, 180, 1, 169, 148, 154, 0, 16, 22, 9, 42, 180, 1, 175, 148]
abbrev dktX6_findRows_9 : List UInt8 := dkwX6_findRows_9 ++ dktX6_findRows_10
def dkwX6_findRows_8 : List UInt8 := [132, 12, 1, 167, 255, 165, 132, 11, 1, 167, 255, 147, 42, 180, 1, 169, 9, 148, 155, 0, 36, 22, 7, 42]
abbrev dktX6_findRows_8 : List UInt8 := dkwX6_findRows_8 ++ dktX6_findRows_9
def dkwX6_findRows_7 : List UInt8 := [21, 12, 182, 1, 152, 21, 13, 156, 0, 9, 27, 4, 96, 167, 0, 5, 21, 13, 133, 105, 97, 55, 9]
abbrev dktX6_findRows_7 : List UInt8 := dkwX6_findRows_7 ++ dktX6_findRows_8
def dkwX6_findRows_6 : List UInt8 := [156, 0, 14, 42, 21, 11, 21, 12, 182, 1, 152, 167, 0, 4, 9, 97, 55, 7, 22, 9, 42, 21, 11]
abbrev dktX6_findRows_6 : List UInt8 := dkwX6_findRows_6 ++ dktX6_findRows_7
def dkwX6_findRows_5 : List UInt8 := [154, 0, 7, 3, 167, 0, 13, 42, 21, 11, 21, 12, 27, 29, 182, 1, 172, 54, 13, 22, 7, 21, 13]
abbrev dktX6_findRows_5 : List UInt8 := dkwX6_findRows_5 ++ dktX6_findRows_6
def dkwX6_findRows_4 : List UInt8 := [3, 54, 12, 21, 12, 42, 180, 1, 70, 162, 0, 88, 42, 21, 11, 21, 12, 182, 1, 152, 9, 148]
abbrev dktX6_findRows_4 : List UInt8 := dkwX6_findRows_4 ++ dktX6_findRows_5
def dkwX6_findRows_3 : List UInt8 := [132, 7, 255, 167, 255, 231, 9, 55, 7, 9, 55, 9, 3, 54, 11, 21, 11, 42, 180, 1, 70, 162, 0, 106]
abbrev dktX6_findRows_3 : List UInt8 := dkwX6_findRows_3 ++ dktX6_findRows_4
def dkwX6_findRows_2 : List UInt8 := [54, 7, 21, 7, 155, 0, 26, 42, 180, 0, 105, 21, 7, 21, 6, 8, 112, 79, 21, 6, 8, 108, 54, 6]
abbrev dktX6_findRows_2 : List UInt8 := dkwX6_findRows_2 ++ dktX6_findRows_3
def dkwX6_findRows_1 : List UInt8 := [42, 20, 0, 179, 181, 1, 169, 3, 54, 5, 21, 5, 21, 4, 162, 1, 15, 21, 5, 54, 6, 28, 4, 100]
abbrev dktX6_findRows_1 : List UInt8 := dkwX6_findRows_1 ++ dktX6_findRows_2
def dkwX6_findRows_0 : List UInt8 := [4, 54, 4, 3, 54, 5, 21, 5, 28, 162, 0, 15, 21, 4, 8, 104, 54, 4, 132, 5, 1, 167, 255, 241]
abbrev dktX6_findRows_0 : List UInt8 := dkwX6_findRows_0 ++ dktX6_findRows_1
theorem dksX6_findRows_0 : cX6_findRows.data.toList.drop 0 = dktX6_findRows_0 := by decide +kernel
theorem dksX6_findRows_1 : cX6_findRows.data.toList.drop 24 = dktX6_findRows_1 := dk_seg dksX6_findRows_0 24 rfl rfl
theorem dksX6_findRows_2 : cX6_findRows.data.toList.drop 48 = dktX6_findRows_2 := dk_seg dksX6_findRows_1 24 rfl rfl
theorem dksX6_findRows_3 : cX6_findRows.data.toList.drop 72 = dktX6_findRows_3 := dk_seg dksX6_findRows_2 24 rfl rfl
theorem dksX6_findRows_4 : cX6_findRows.data.toList.drop 96 = dktX6_findRows_4 := dk_seg dksX6_findRows_3 24 rfl rfl
theorem dksX6_findRows_5 : cX6_findRows.data.toList.drop 118 = dktX6_findRows_5 := dk_seg dksX6_findRows_4 22 rfl rfl
theorem dksX6_findRows_6 : cX6_findRows.data.toList.drop 141 = dktX6_findRows_6 := dk_seg dksX6_findRows_5 23 rfl rfl
theorem dksX6_findRows_7 : cX6_findRows.data.toList.drop 164 = dktX6_findRows_7 := dk_seg dksX6_findRows_6 23 rfl rfl
theorem dksX6_findRows_8 : cX6_findRows.data.toList.drop 187 = dktX6_findRows_8 := dk_seg dksX6_findRows_7 23 rfl rfl
theorem dksX6_findRows_9 : cX6_findRows.data.toList.drop 211 = dktX6_findRows_9 := dk_seg dksX6_findRows_8 24 rfl rfl
theorem dksX6_findRows_10 : cX6_findRows.data.toList.drop 235 = dktX6_findRows_10 := dk_seg dksX6_findRows_9 24 rfl rfl
theorem dksX6_findRows_11 : cX6_findRows.data.toList.drop 259 = dktX6_findRows_11 := dk_seg dksX6_findRows_10 24 rfl rfl
theorem dksX6_findRows_12 : cX6_findRows.data.toList.drop 283 = dktX6_findRows_12 := dk_seg dksX6_findRows_11 24 rfl rfl
theorem dksX6_findRows_13 : cX6_findRows.data.toList.drop 306 = dktX6_findRows_13 := dk_seg dksX6_findRows_12 23 rfl rfl
theorem dX6_findRows_0 : decode cX6_findRows 0 = .ok (.iconst 1, 1) := dk_4 (dk_at dksX6_findRows_0 0 rfl rfl)
theorem dX6_findRows_1 : decode cX6_findRows 1 = .ok (.istore 4, 2) := dk_54 4 (dk_at dksX6_findRows_0 1 rfl rfl)
theorem dX6_findRows_3 : decode cX6_findRows 3 = .ok (.iconst 0, 1) := dk_3 (dk_at dksX6_findRows_0 3 rfl rfl)
theorem dX6_findRows_4 : decode cX6_findRows 4 = .ok (.istore 5, 2) := dk_54 5 (dk_at dksX6_findRows_0 4 rfl rfl)
theorem dX6_findRows_6 : decode cX6_findRows 6 = .ok (.iload 5, 2) := dk_21 5 (dk_at dksX6_findRows_0 6 rfl rfl)
theorem dX6_findRows_8 : decode cX6_findRows 8 = .ok (.iload_n 2, 1) := dk_28 (dk_at dksX6_findRows_0 8 rfl rfl)
theorem dX6_findRows_9 : decode cX6_findRows 9 = .ok (.if_icmp .ge 15, 3) := dk_162 0 15 (dk_at dksX6_findRows_0 9 rfl rfl)
theorem dX6_findRows_12 : decode cX6_findRows 12 = .ok (.iload 4, 2) := dk_21 4 (dk_at dksX6_findRows_0 12 rfl rfl)
theorem dX6_findRows_14 : decode cX6_findRows 14 = .ok (.iconst 5, 1) := dk_8 (dk_at dksX6_findRows_0 14 rfl rfl)
theorem dX6_findRows_15 : decode cX6_findRows 15 = .ok (.imul, 1) := dk_104 (dk_at dksX6_findRows_0 15 rfl rfl)
theorem dX6_findRows_16 : decode cX6_findRows 16 = .ok (.istore 4, 2) := dk_54 4 (dk_at dksX6_findRows_0 16 rfl rfl)
theorem dX6_findRows_18 : decode cX6_findRows 18 = .ok (.iinc 5 1, 3) := dk_132 5 1 (dk_at dksX6_findRows_0 18 rfl rfl)
theorem dX6_findRows_21 : decode cX6_findRows 21 = .ok (.goto (-15), 3) := dk_167 255 241 (dk_at dksX6_findRows_0 21 rfl rfl)
theorem dX6_findRows_24 : decode cX6_findRows 24 = .ok (.aload_n 0, 1) := dk_42 (dk_at dksX6_findRows_1 0 rfl rfl)
theorem dX6_findRows_25 : decode cX6_findRows 25 = .ok (.ldc2_w 179, 3) := dk_20 0 179 (dk_at dksX6_findRows_1 1 rfl rfl)
theorem dX6_findRows_28 : decode cX6_findRows 28 = .ok (.putfield 425, 3) := dk_181 1 169 (dk_at dksX6_findRows_1 4 rfl rfl)
theorem dX6_findRows_31 : decode cX6_findRows 31 = .ok (.iconst 0, 1) := dk_3 (dk_at dksX6_findRows_1 7 rfl rfl)
theorem dX6_findRows_32 : decode cX6_findRows 32 = .ok (.istore 5, 2) := dk_54 5 (dk_at dksX6_findRows_1 8 rfl rfl)
theorem dX6_findRows_34 : decode cX6_findRows 34 = .ok (.iload 5, 2) := dk_21 5 (dk_at dksX6_findRows_1 10 rfl rfl)
theorem dX6_findRows_36 : decode cX6_findRows 36 = .ok (.iload 4, 2) := dk_21 4 (dk_at dksX6_findRows_1 12 rfl rfl)
theorem dX6_findRows_38 : decode cX6_findRows 38 = .ok (.if_icmp .ge 271, 3) := dk_162 1 15 (dk_at dksX6_findRows_1 14 rfl rfl)
theorem dX6_findRows_41 : decode cX6_findRows 41 = .ok (.iload 5, 2) := dk_21 5 (dk_at dksX6_findRows_1 17 rfl rfl)
theorem dX6_findRows_43 : decode cX6_findRows 43 = .ok (.istore 6, 2) := dk_54 6 (dk_at dksX6_findRows_1 19 rfl rfl)
theorem dX6_findRows_45 : decode cX6_findRows 45 = .ok (.iload_n 2, 1) := dk_28 (dk_at dksX6_findRows_1 21 rfl rfl)
theorem dX6_findRows_46 : decode cX6_findRows 46 = .ok (.iconst 1, 1) := dk_4 (dk_at dksX6_findRows_1 22 rfl rfl)
theorem dX6_findRows_47 : decode cX6_findRows 47 = .ok (.isub, 1) := dk_100 (dk_at dksX6_findRows_1 23 rfl rfl)
theorem dX6_findRows_48 : decode cX6_findRows 48 = .ok (.istore 7, 2) := dk_54 7 (dk_at dksX6_findRows_2 0 rfl rfl)
theorem dX6_findRows_50 : decode cX6_findRows 50 = .ok (.iload 7, 2) := dk_21 7 (dk_at dksX6_findRows_2 2 rfl rfl)
theorem dX6_findRows_52 : decode cX6_findRows 52 = .ok (.ifCond .lt 26, 3) := dk_155 0 26 (dk_at dksX6_findRows_2 4 rfl rfl)
theorem dX6_findRows_55 : decode cX6_findRows 55 = .ok (.aload_n 0, 1) := dk_42 (dk_at dksX6_findRows_2 7 rfl rfl)
theorem dX6_findRows_56 : decode cX6_findRows 56 = .ok (.getfield 105, 3) := dk_180 0 105 (dk_at dksX6_findRows_2 8 rfl rfl)
theorem dX6_findRows_59 : decode cX6_findRows 59 = .ok (.iload 7, 2) := dk_21 7 (dk_at dksX6_findRows_2 11 rfl rfl)
theorem dX6_findRows_61 : decode cX6_findRows 61 = .ok (.iload 6, 2) := dk_21 6 (dk_at dksX6_findRows_2 13 rfl rfl)
theorem dX6_findRows_63 : decode cX6_findRows 63 = .ok (.iconst 5, 1) := dk_8 (dk_at dksX6_findRows_2 15 rfl rfl)
theorem dX6_findRows_64 : decode cX6_findRows 64 = .ok (.irem, 1) := dk_112 (dk_at dksX6_findRows_2 16 rfl rfl)
theorem dX6_findRows_65 : decode cX6_findRows 65 = .ok (.iastore, 1) := dk_79 (dk_at dksX6_findRows_2 17 rfl rfl)
theorem dX6_findRows_66 : decode cX6_findRows 66 = .ok (.iload 6, 2) := dk_21 6 (dk_at dksX6_findRows_2 18 rfl rfl)
theorem dX6_findRows_68 : decode cX6_findRows 68 = .ok (.iconst 5, 1) := dk_8 (dk_at dksX6_findRows_2 20 rfl rfl)
theorem dX6_findRows_69 : decode cX6_findRows 69 = .ok (.idiv, 1) := dk_108 (dk_at dksX6_findRows_2 21 rfl rfl)
theorem dX6_findRows_70 : decode cX6_findRows 70 = .ok (.istore 6, 2) := dk_54 6 (dk_at dksX6_findRows_2 22 rfl rfl)
theorem dX6_findRows_72 : decode cX6_findRows 72 = .ok (.iinc 7 (-1), 3) := dk_132 7 255 (dk_at dksX6_findRows_3 0 rfl rfl)
theorem dX6_findRows_75 : decode cX6_findRows 75 = .ok (.goto (-25), 3) := dk_167 255 231 (dk_at dksX6_findRows_3 3 rfl rfl)
theorem dX6_findRows_78 : decode cX6_findRows 78 = .ok (.lconst 0, 1) := dk_9 (dk_at dksX6_findRows_3 6 rfl rfl)
theorem dX6_findRows_79 : decode cX6_findRows 79 = .ok (.lstore 7, 2) := dk_55 7 (dk_at dksX6_findRows_3 7 rfl rfl)
theorem dX6_findRows_81 : decode cX6_findRows 81 = .ok (.lconst 0, 1) := dk_9 (dk_at dksX6_findRows_3 9 rfl rfl)
theorem dX6_findRows_82 : decode cX6_findRows 82 = .ok (.lstore 9, 2) := dk_55 9 (dk_at dksX6_findRows_3 10 rfl rfl)
theorem dX6_findRows_84 : decode cX6_findRows 84 = .ok (.iconst 0, 1) := dk_3 (dk_at dksX6_findRows_3 12 rfl rfl)
theorem dX6_findRows_85 : decode cX6_findRows 85 = .ok (.istore 11, 2) := dk_54 11 (dk_at dksX6_findRows_3 13 rfl rfl)
theorem dX6_findRows_87 : decode cX6_findRows 87 = .ok (.iload 11, 2) := dk_21 11 (dk_at dksX6_findRows_3 15 rfl rfl)
theorem dX6_findRows_89 : decode cX6_findRows 89 = .ok (.aload_n 0, 1) := dk_42 (dk_at dksX6_findRows_3 17 rfl rfl)
theorem dX6_findRows_90 : decode cX6_findRows 90 = .ok (.getfield 326, 3) := dk_180 1 70 (dk_at dksX6_findRows_3 18 rfl rfl)
theorem dX6_findRows_93 : decode cX6_findRows 93 = .ok (.if_icmp .ge 106, 3) := dk_162 0 106 (dk_at dksX6_findRows_3 21 rfl rfl)
theorem dX6_findRows_96 : decode cX6_findRows 96 = .ok (.iconst 0, 1) := dk_3 (dk_at dksX6_findRows_4 0 rfl rfl)
theorem dX6_findRows_97 : decode cX6_findRows 97 = .ok (.istore 12, 2) := dk_54 12 (dk_at dksX6_findRows_4 1 rfl rfl)
theorem dX6_findRows_99 : decode cX6_findRows 99 = .ok (.iload 12, 2) := dk_21 12 (dk_at dksX6_findRows_4 3 rfl rfl)
theorem dX6_findRows_101 : decode cX6_findRows 101 = .ok (.aload_n 0, 1) := dk_42 (dk_at dksX6_findRows_4 5 rfl rfl)
theorem dX6_findRows_102 : decode cX6_findRows 102 = .ok (.getfield 326, 3) := dk_180 1 70 (dk_at dksX6_findRows_4 6 rfl rfl)
theorem dX6_findRows_105 : decode cX6_findRows 105 = .ok (.if_icmp .ge 88, 3) := dk_162 0 88 (dk_at dksX6_findRows_4 9 rfl rfl)
theorem dX6_findRows_108 : decode cX6_findRows 108 = .ok (.aload_n 0, 1) := dk_42 (dk_at dksX6_findRows_4 12 rfl rfl)
theorem dX6_findRows_109 : decode cX6_findRows 109 = .ok (.iload 11, 2) := dk_21 11 (dk_at dksX6_findRows_4 13 rfl rfl)
theorem dX6_findRows_111 : decode cX6_findRows 111 = .ok (.iload 12, 2) := dk_21 12 (dk_at dksX6_findRows_4 15 rfl rfl)
theorem dX6_findRows_113 : decode cX6_findRows 113 = .ok (.invokevirtual 408, 3) := dk_182 1 152 (dk_at dksX6_findRows_4 17 rfl rfl)
theorem dX6_findRows_116 : decode cX6_findRows 116 = .ok (.lconst 0, 1) := dk_9 (dk_at dksX6_findRows_4 20 rfl rfl)
theorem dX6_findRows_117 : decode cX6_findRows 117 = .ok (.lcmp, 1) := dk_148 (dk_at dksX6_findRows_4 21 rfl rfl)
theorem dX6_findRows_118 : decode cX6_findRows 118 = .ok (.ifCond .ne 7, 3) := dk_154 0 7 (dk_at dksX6_findRows_5 0 rfl rfl)
theorem dX6_findRows_121 : decode cX6_findRows 121 = .ok (.iconst 0, 1) := dk_3 (dk_at dksX6_findRows_5 3 rfl rfl)
theorem dX6_findRows_122 : decode cX6_findRows 122 = .ok (.goto 13, 3) := dk_167 0 13 (dk_at dksX6_findRows_5 4 rfl rfl)
theorem dX6_findRows_125 : decode cX6_findRows 125 = .ok (.aload_n 0, 1) := dk_42 (dk_at dksX6_findRows_5 7 rfl rfl)
theorem dX6_findRows_126 : decode cX6_findRows 126 = .ok (.iload 11, 2) := dk_21 11 (dk_at dksX6_findRows_5 8 rfl rfl)
theorem dX6_findRows_128 : decode cX6_findRows 128 = .ok (.iload 12, 2) := dk_21 12 (dk_at dksX6_findRows_5 10 rfl rfl)
theorem dX6_findRows_130 : decode cX6_findRows 130 = .ok (.iload_n 1, 1) := dk_27 (dk_at dksX6_findRows_5 12 rfl rfl)
theorem dX6_findRows_131 : decode cX6_findRows 131 = .ok (.iload_n 3, 1) := dk_29 (dk_at dksX6_findRows_5 13 rfl rfl)
theorem dX6_findRows_132 : decode cX6_findRows 132 = .ok (.invokevirtual 428, 3) := dk_182 1 172 (dk_at dksX6_findRows_5 14 rfl rfl)
theorem dX6_findRows_135 : decode cX6_findRows 135 = .ok (.istore 13, 2) := dk_54 13 (dk_at dksX6_findRows_5 17 rfl rfl)
theorem dX6_findRows_137 : decode cX6_findRows 137 = .ok (.lload 7, 2) := dk_22 7 (dk_at dksX6_findRows_5 19 rfl rfl)
theorem dX6_findRows_139 : decode cX6_findRows 139 = .ok (.iload 13, 2) := dk_21 13 (dk_at dksX6_findRows_5 21 rfl rfl)
theorem dX6_findRows_141 : decode cX6_findRows 141 = .ok (.ifCond .ge 14, 3) := dk_156 0 14 (dk_at dksX6_findRows_6 0 rfl rfl)
theorem dX6_findRows_144 : decode cX6_findRows 144 = .ok (.aload_n 0, 1) := dk_42 (dk_at dksX6_findRows_6 3 rfl rfl)
theorem dX6_findRows_145 : decode cX6_findRows 145 = .ok (.iload 11, 2) := dk_21 11 (dk_at dksX6_findRows_6 4 rfl rfl)
theorem dX6_findRows_147 : decode cX6_findRows 147 = .ok (.iload 12, 2) := dk_21 12 (dk_at dksX6_findRows_6 6 rfl rfl)
theorem dX6_findRows_149 : decode cX6_findRows 149 = .ok (.invokevirtual 408, 3) := dk_182 1 152 (dk_at dksX6_findRows_6 8 rfl rfl)
theorem dX6_findRows_152 : decode cX6_findRows 152 = .ok (.goto 4, 3) := dk_167 0 4 (dk_at dksX6_findRows_6 11 rfl rfl)
theorem dX6_findRows_155 : decode cX6_findRows 155 = .ok (.lconst 0, 1) := dk_9 (dk_at dksX6_findRows_6 14 rfl rfl)
theorem dX6_findRows_156 : decode cX6_findRows 156 = .ok (.ladd, 1) := dk_97 (dk_at dksX6_findRows_6 15 rfl rfl)
theorem dX6_findRows_157 : decode cX6_findRows 157 = .ok (.lstore 7, 2) := dk_55 7 (dk_at dksX6_findRows_6 16 rfl rfl)
theorem dX6_findRows_159 : decode cX6_findRows 159 = .ok (.lload 9, 2) := dk_22 9 (dk_at dksX6_findRows_6 18 rfl rfl)
theorem dX6_findRows_161 : decode cX6_findRows 161 = .ok (.aload_n 0, 1) := dk_42 (dk_at dksX6_findRows_6 20 rfl rfl)
theorem dX6_findRows_162 : decode cX6_findRows 162 = .ok (.iload 11, 2) := dk_21 11 (dk_at dksX6_findRows_6 21 rfl rfl)
theorem dX6_findRows_164 : decode cX6_findRows 164 = .ok (.iload 12, 2) := dk_21 12 (dk_at dksX6_findRows_7 0 rfl rfl)
theorem dX6_findRows_166 : decode cX6_findRows 166 = .ok (.invokevirtual 408, 3) := dk_182 1 152 (dk_at dksX6_findRows_7 2 rfl rfl)
theorem dX6_findRows_169 : decode cX6_findRows 169 = .ok (.iload 13, 2) := dk_21 13 (dk_at dksX6_findRows_7 5 rfl rfl)
theorem dX6_findRows_171 : decode cX6_findRows 171 = .ok (.ifCond .ge 9, 3) := dk_156 0 9 (dk_at dksX6_findRows_7 7 rfl rfl)
theorem dX6_findRows_174 : decode cX6_findRows 174 = .ok (.iload_n 1, 1) := dk_27 (dk_at dksX6_findRows_7 10 rfl rfl)
theorem dX6_findRows_175 : decode cX6_findRows 175 = .ok (.iconst 1, 1) := dk_4 (dk_at dksX6_findRows_7 11 rfl rfl)
theorem dX6_findRows_176 : decode cX6_findRows 176 = .ok (.iadd, 1) := dk_96 (dk_at dksX6_findRows_7 12 rfl rfl)
theorem dX6_findRows_177 : decode cX6_findRows 177 = .ok (.goto 5, 3) := dk_167 0 5 (dk_at dksX6_findRows_7 13 rfl rfl)
theorem dX6_findRows_180 : decode cX6_findRows 180 = .ok (.iload 13, 2) := dk_21 13 (dk_at dksX6_findRows_7 16 rfl rfl)
theorem dX6_findRows_182 : decode cX6_findRows 182 = .ok (.i2l, 1) := dk_133 (dk_at dksX6_findRows_7 18 rfl rfl)
theorem dX6_findRows_183 : decode cX6_findRows 183 = .ok (.lmul, 1) := dk_105 (dk_at dksX6_findRows_7 19 rfl rfl)
theorem dX6_findRows_184 : decode cX6_findRows 184 = .ok (.ladd, 1) := dk_97 (dk_at dksX6_findRows_7 20 rfl rfl)
theorem dX6_findRows_185 : decode cX6_findRows 185 = .ok (.lstore 9, 2) := dk_55 9 (dk_at dksX6_findRows_7 21 rfl rfl)
theorem dX6_findRows_187 : decode cX6_findRows 187 = .ok (.iinc 12 1, 3) := dk_132 12 1 (dk_at dksX6_findRows_8 0 rfl rfl)
theorem dX6_findRows_190 : decode cX6_findRows 190 = .ok (.goto (-91), 3) := dk_167 255 165 (dk_at dksX6_findRows_8 3 rfl rfl)
theorem dX6_findRows_193 : decode cX6_findRows 193 = .ok (.iinc 11 1, 3) := dk_132 11 1 (dk_at dksX6_findRows_8 6 rfl rfl)
theorem dX6_findRows_196 : decode cX6_findRows 196 = .ok (.goto (-109), 3) := dk_167 255 147 (dk_at dksX6_findRows_8 9 rfl rfl)
theorem dX6_findRows_199 : decode cX6_findRows 199 = .ok (.aload_n 0, 1) := dk_42 (dk_at dksX6_findRows_8 12 rfl rfl)
theorem dX6_findRows_200 : decode cX6_findRows 200 = .ok (.getfield 425, 3) := dk_180 1 169 (dk_at dksX6_findRows_8 13 rfl rfl)
theorem dX6_findRows_203 : decode cX6_findRows 203 = .ok (.lconst 0, 1) := dk_9 (dk_at dksX6_findRows_8 16 rfl rfl)
theorem dX6_findRows_204 : decode cX6_findRows 204 = .ok (.lcmp, 1) := dk_148 (dk_at dksX6_findRows_8 17 rfl rfl)
theorem dX6_findRows_205 : decode cX6_findRows 205 = .ok (.ifCond .lt 36, 3) := dk_155 0 36 (dk_at dksX6_findRows_8 18 rfl rfl)
theorem dX6_findRows_208 : decode cX6_findRows 208 = .ok (.lload 7, 2) := dk_22 7 (dk_at dksX6_findRows_8 21 rfl rfl)
theorem dX6_findRows_210 : decode cX6_findRows 210 = .ok (.aload_n 0, 1) := dk_42 (dk_at dksX6_findRows_8 23 rfl rfl)
theorem dX6_findRows_211 : decode cX6_findRows 211 = .ok (.getfield 425, 3) := dk_180 1 169 (dk_at dksX6_findRows_9 0 rfl rfl)
theorem dX6_findRows_214 : decode cX6_findRows 214 = .ok (.lcmp, 1) := dk_148 (dk_at dksX6_findRows_9 3 rfl rfl)
theorem dX6_findRows_215 : decode cX6_findRows 215 = .ok (.ifCond .gt 88, 3) := dk_157 0 88 (dk_at dksX6_findRows_9 4 rfl rfl)
theorem dX6_findRows_218 : decode cX6_findRows 218 = .ok (.lload 7, 2) := dk_22 7 (dk_at dksX6_findRows_9 7 rfl rfl)
theorem dX6_findRows_220 : decode cX6_findRows 220 = .ok (.aload_n 0, 1) := dk_42 (dk_at dksX6_findRows_9 9 rfl rfl)
theorem dX6_findRows_221 : decode cX6_findRows 221 = .ok (.getfield 425, 3) := dk_180 1 169 (dk_at dksX6_findRows_9 10 rfl rfl)
theorem dX6_findRows_224 : decode cX6_findRows 224 = .ok (.lcmp, 1) := dk_148 (dk_at dksX6_findRows_9 13 rfl rfl)
theorem dX6_findRows_225 : decode cX6_findRows 225 = .ok (.ifCond .ne 16, 3) := dk_154 0 16 (dk_at dksX6_findRows_9 14 rfl rfl)
theorem dX6_findRows_228 : decode cX6_findRows 228 = .ok (.lload 9, 2) := dk_22 9 (dk_at dksX6_findRows_9 17 rfl rfl)
theorem dX6_findRows_230 : decode cX6_findRows 230 = .ok (.aload_n 0, 1) := dk_42 (dk_at dksX6_findRows_9 19 rfl rfl)
theorem dX6_findRows_231 : decode cX6_findRows 231 = .ok (.getfield 431, 3) := dk_180 1 175 (dk_at dksX6_findRows_9 20 rfl rfl)
theorem dX6_findRows_234 : decode cX6_findRows 234 = .ok (.lcmp, 1) := dk_148 (dk_at dksX6_findRows_9 23 rfl rfl)
theorem dX6_findRows_235 : decode cX6_findRows 235 = .ok (.ifCond .lt 6, 3) := dk_155 0 6 (dk_at dksX6_findRows_10 0 rfl rfl)
theorem dX6_findRows_238 : decode cX6_findRows 238 = .ok (.goto 65, 3) := dk_167 0 65 (dk_at dksX6_findRows_10 3 rfl rfl)
theorem dX6_findRows_241 : decode cX6_findRows 241 = .ok (.aload_n 0, 1) := dk_42 (dk_at dksX6_findRows_10 6 rfl rfl)
theorem dX6_findRows_242 : decode cX6_findRows 242 = .ok (.lload 7, 2) := dk_22 7 (dk_at dksX6_findRows_10 7 rfl rfl)
theorem dX6_findRows_244 : decode cX6_findRows 244 = .ok (.putfield 425, 3) := dk_181 1 169 (dk_at dksX6_findRows_10 9 rfl rfl)
theorem dX6_findRows_247 : decode cX6_findRows 247 = .ok (.aload_n 0, 1) := dk_42 (dk_at dksX6_findRows_10 12 rfl rfl)
theorem dX6_findRows_248 : decode cX6_findRows 248 = .ok (.lload 9, 2) := dk_22 9 (dk_at dksX6_findRows_10 13 rfl rfl)
theorem dX6_findRows_250 : decode cX6_findRows 250 = .ok (.putfield 431, 3) := dk_181 1 175 (dk_at dksX6_findRows_10 15 rfl rfl)
theorem dX6_findRows_253 : decode cX6_findRows 253 = .ok (.iconst 0, 1) := dk_3 (dk_at dksX6_findRows_10 18 rfl rfl)
theorem dX6_findRows_254 : decode cX6_findRows 254 = .ok (.istore 11, 2) := dk_54 11 (dk_at dksX6_findRows_10 19 rfl rfl)
theorem dX6_findRows_256 : decode cX6_findRows 256 = .ok (.iload 11, 2) := dk_21 11 (dk_at dksX6_findRows_10 21 rfl rfl)
theorem dX6_findRows_258 : decode cX6_findRows 258 = .ok (.iload_n 2, 1) := dk_28 (dk_at dksX6_findRows_10 23 rfl rfl)
theorem dX6_findRows_259 : decode cX6_findRows 259 = .ok (.if_icmp .ge 44, 3) := dk_162 0 44 (dk_at dksX6_findRows_11 0 rfl rfl)
theorem dX6_findRows_262 : decode cX6_findRows 262 = .ok (.iload_n 3, 1) := dk_29 (dk_at dksX6_findRows_11 3 rfl rfl)
theorem dX6_findRows_263 : decode cX6_findRows 263 = .ok (.ifCond .eq 20, 3) := dk_153 0 20 (dk_at dksX6_findRows_11 4 rfl rfl)
theorem dX6_findRows_266 : decode cX6_findRows 266 = .ok (.aload_n 0, 1) := dk_42 (dk_at dksX6_findRows_11 7 rfl rfl)
theorem dX6_findRows_267 : decode cX6_findRows 267 = .ok (.getfield 102, 3) := dk_180 0 102 (dk_at dksX6_findRows_11 8 rfl rfl)
theorem dX6_findRows_270 : decode cX6_findRows 270 = .ok (.iload 11, 2) := dk_21 11 (dk_at dksX6_findRows_11 11 rfl rfl)
theorem dX6_findRows_272 : decode cX6_findRows 272 = .ok (.aload_n 0, 1) := dk_42 (dk_at dksX6_findRows_11 13 rfl rfl)
theorem dX6_findRows_273 : decode cX6_findRows 273 = .ok (.getfield 105, 3) := dk_180 0 105 (dk_at dksX6_findRows_11 14 rfl rfl)
theorem dX6_findRows_276 : decode cX6_findRows 276 = .ok (.iload 11, 2) := dk_21 11 (dk_at dksX6_findRows_11 17 rfl rfl)
theorem dX6_findRows_278 : decode cX6_findRows 278 = .ok (.iaload, 1) := dk_46 (dk_at dksX6_findRows_11 19 rfl rfl)
theorem dX6_findRows_279 : decode cX6_findRows 279 = .ok (.iastore, 1) := dk_79 (dk_at dksX6_findRows_11 20 rfl rfl)
theorem dX6_findRows_280 : decode cX6_findRows 280 = .ok (.goto 17, 3) := dk_167 0 17 (dk_at dksX6_findRows_11 21 rfl rfl)
theorem dX6_findRows_283 : decode cX6_findRows 283 = .ok (.aload_n 0, 1) := dk_42 (dk_at dksX6_findRows_12 0 rfl rfl)
theorem dX6_findRows_284 : decode cX6_findRows 284 = .ok (.getfield 99, 3) := dk_180 0 99 (dk_at dksX6_findRows_12 1 rfl rfl)
theorem dX6_findRows_287 : decode cX6_findRows 287 = .ok (.iload 11, 2) := dk_21 11 (dk_at dksX6_findRows_12 4 rfl rfl)
theorem dX6_findRows_289 : decode cX6_findRows 289 = .ok (.aload_n 0, 1) := dk_42 (dk_at dksX6_findRows_12 6 rfl rfl)
theorem dX6_findRows_290 : decode cX6_findRows 290 = .ok (.getfield 105, 3) := dk_180 0 105 (dk_at dksX6_findRows_12 7 rfl rfl)
theorem dX6_findRows_293 : decode cX6_findRows 293 = .ok (.iload 11, 2) := dk_21 11 (dk_at dksX6_findRows_12 10 rfl rfl)
theorem dX6_findRows_295 : decode cX6_findRows 295 = .ok (.iaload, 1) := dk_46 (dk_at dksX6_findRows_12 12 rfl rfl)
theorem dX6_findRows_296 : decode cX6_findRows 296 = .ok (.iastore, 1) := dk_79 (dk_at dksX6_findRows_12 13 rfl rfl)
theorem dX6_findRows_297 : decode cX6_findRows 297 = .ok (.iinc 11 1, 3) := dk_132 11 1 (dk_at dksX6_findRows_12 14 rfl rfl)
theorem dX6_findRows_300 : decode cX6_findRows 300 = .ok (.goto (-44), 3) := dk_167 255 212 (dk_at dksX6_findRows_12 17 rfl rfl)
theorem dX6_findRows_303 : decode cX6_findRows 303 = .ok (.iinc 5 1, 3) := dk_132 5 1 (dk_at dksX6_findRows_12 20 rfl rfl)
theorem dX6_findRows_306 : decode cX6_findRows 306 = .ok (.goto (-272), 3) := dk_167 254 240 (dk_at dksX6_findRows_13 0 rfl rfl)
theorem dX6_findRows_309 : decode cX6_findRows 309 = .ok (.return_, 1) := dk_177 (dk_at dksX6_findRows_13 3 rfl rfl)
abbrev cX6_byRows : ByteArray := prog_15_method_76_code
def yX6_byRows : MethodName := ⟨RX6, "byRows", "(IIIZ)I"⟩
def dkwX6_byRows_5 : List UInt8 := [172, 132, 7, 1, 167, 255, 153, 2, 172]
abbrev dktX6_byRows_5 : List UInt8 := dkwX6_byRows_5 ++ []
def dkwX6_byRows_4 : List UInt8 := [182, 1, 133, 54, 6, 42, 21, 5, 21, 6, 21, 8, 21, 9, 182, 1, 139, 153, 0, 8, 21, 7, 4, 96]
abbrev dktX6_byRows_4 : List UInt8 := dkwX6_byRows_4 ++ dktX6_byRows_5
def dkwX6_byRows_3 : List UInt8 := [21, 6, 42, 180, 0, 105, 21, 4, 153, 0, 8, 21, 7, 167, 0, 9, 5, 21, 7, 104, 4, 96, 46]
abbrev dktX6_byRows_3 : List UInt8 := dkwX6_byRows_3 ++ dktX6_byRows_4
def dkwX6_byRows_2 : List UInt8 := [167, 0, 7, 5, 21, 7, 104, 46, 182, 1, 133, 54, 5, 21, 7, 42, 180, 0, 35, 112, 154, 0, 32, 42]
abbrev dktX6_byRows_2 : List UInt8 := dkwX6_byRows_2 ++ dktX6_byRows_3
def dkwX6_byRows_1 : List UInt8 := [21, 5, 54, 8, 21, 6, 54, 9, 42, 21, 5, 42, 180, 0, 105, 21, 4, 153, 0, 8, 21, 7]
abbrev dktX6_byRows_1 : List UInt8 := dkwX6_byRows_1 ++ dktX6_byRows_2
def dkwX6_byRows_0 : List UInt8 := [27, 54, 5, 28, 54, 6, 21, 5, 21, 6, 160, 0, 5, 3, 172, 3, 54, 7, 21, 7, 29, 162, 0, 103]
abbrev dktX6_byRows_0 : List UInt8 := dkwX6_byRows_0 ++ dktX6_byRows_1
theorem dksX6_byRows_0 : cX6_byRows.data.toList.drop 0 = dktX6_byRows_0 := by decide +kernel
theorem dksX6_byRows_1 : cX6_byRows.data.toList.drop 24 = dktX6_byRows_1 := dk_seg dksX6_byRows_0 24 rfl rfl
theorem dksX6_byRows_2 : cX6_byRows.data.toList.drop 46 = dktX6_byRows_2 := dk_seg dksX6_byRows_1 22 rfl rfl
theorem dksX6_byRows_3 : cX6_byRows.data.toList.drop 70 = dktX6_byRows_3 := dk_seg dksX6_byRows_2 24 rfl rfl
theorem dksX6_byRows_4 : cX6_byRows.data.toList.drop 93 = dktX6_byRows_4 := dk_seg dksX6_byRows_3 23 rfl rfl
theorem dksX6_byRows_5 : cX6_byRows.data.toList.drop 117 = dktX6_byRows_5 := dk_seg dksX6_byRows_4 24 rfl rfl
theorem dX6_byRows_0 : decode cX6_byRows 0 = .ok (.iload_n 1, 1) := dk_27 (dk_at dksX6_byRows_0 0 rfl rfl)
theorem dX6_byRows_1 : decode cX6_byRows 1 = .ok (.istore 5, 2) := dk_54 5 (dk_at dksX6_byRows_0 1 rfl rfl)
theorem dX6_byRows_3 : decode cX6_byRows 3 = .ok (.iload_n 2, 1) := dk_28 (dk_at dksX6_byRows_0 3 rfl rfl)
theorem dX6_byRows_4 : decode cX6_byRows 4 = .ok (.istore 6, 2) := dk_54 6 (dk_at dksX6_byRows_0 4 rfl rfl)
theorem dX6_byRows_6 : decode cX6_byRows 6 = .ok (.iload 5, 2) := dk_21 5 (dk_at dksX6_byRows_0 6 rfl rfl)
theorem dX6_byRows_8 : decode cX6_byRows 8 = .ok (.iload 6, 2) := dk_21 6 (dk_at dksX6_byRows_0 8 rfl rfl)
theorem dX6_byRows_10 : decode cX6_byRows 10 = .ok (.if_icmp .ne 5, 3) := dk_160 0 5 (dk_at dksX6_byRows_0 10 rfl rfl)
theorem dX6_byRows_13 : decode cX6_byRows 13 = .ok (.iconst 0, 1) := dk_3 (dk_at dksX6_byRows_0 13 rfl rfl)
theorem dX6_byRows_14 : decode cX6_byRows 14 = .ok (.ireturn, 1) := dk_172 (dk_at dksX6_byRows_0 14 rfl rfl)
theorem dX6_byRows_15 : decode cX6_byRows 15 = .ok (.iconst 0, 1) := dk_3 (dk_at dksX6_byRows_0 15 rfl rfl)
theorem dX6_byRows_16 : decode cX6_byRows 16 = .ok (.istore 7, 2) := dk_54 7 (dk_at dksX6_byRows_0 16 rfl rfl)
theorem dX6_byRows_18 : decode cX6_byRows 18 = .ok (.iload 7, 2) := dk_21 7 (dk_at dksX6_byRows_0 18 rfl rfl)
theorem dX6_byRows_20 : decode cX6_byRows 20 = .ok (.iload_n 3, 1) := dk_29 (dk_at dksX6_byRows_0 20 rfl rfl)
theorem dX6_byRows_21 : decode cX6_byRows 21 = .ok (.if_icmp .ge 103, 3) := dk_162 0 103 (dk_at dksX6_byRows_0 21 rfl rfl)
theorem dX6_byRows_24 : decode cX6_byRows 24 = .ok (.iload 5, 2) := dk_21 5 (dk_at dksX6_byRows_1 0 rfl rfl)
theorem dX6_byRows_26 : decode cX6_byRows 26 = .ok (.istore 8, 2) := dk_54 8 (dk_at dksX6_byRows_1 2 rfl rfl)
theorem dX6_byRows_28 : decode cX6_byRows 28 = .ok (.iload 6, 2) := dk_21 6 (dk_at dksX6_byRows_1 4 rfl rfl)
theorem dX6_byRows_30 : decode cX6_byRows 30 = .ok (.istore 9, 2) := dk_54 9 (dk_at dksX6_byRows_1 6 rfl rfl)
theorem dX6_byRows_32 : decode cX6_byRows 32 = .ok (.aload_n 0, 1) := dk_42 (dk_at dksX6_byRows_1 8 rfl rfl)
theorem dX6_byRows_33 : decode cX6_byRows 33 = .ok (.iload 5, 2) := dk_21 5 (dk_at dksX6_byRows_1 9 rfl rfl)
theorem dX6_byRows_35 : decode cX6_byRows 35 = .ok (.aload_n 0, 1) := dk_42 (dk_at dksX6_byRows_1 11 rfl rfl)
theorem dX6_byRows_36 : decode cX6_byRows 36 = .ok (.getfield 105, 3) := dk_180 0 105 (dk_at dksX6_byRows_1 12 rfl rfl)
theorem dX6_byRows_39 : decode cX6_byRows 39 = .ok (.iload 4, 2) := dk_21 4 (dk_at dksX6_byRows_1 15 rfl rfl)
theorem dX6_byRows_41 : decode cX6_byRows 41 = .ok (.ifCond .eq 8, 3) := dk_153 0 8 (dk_at dksX6_byRows_1 17 rfl rfl)
theorem dX6_byRows_44 : decode cX6_byRows 44 = .ok (.iload 7, 2) := dk_21 7 (dk_at dksX6_byRows_1 20 rfl rfl)
theorem dX6_byRows_46 : decode cX6_byRows 46 = .ok (.goto 7, 3) := dk_167 0 7 (dk_at dksX6_byRows_2 0 rfl rfl)
theorem dX6_byRows_49 : decode cX6_byRows 49 = .ok (.iconst 2, 1) := dk_5 (dk_at dksX6_byRows_2 3 rfl rfl)
theorem dX6_byRows_50 : decode cX6_byRows 50 = .ok (.iload 7, 2) := dk_21 7 (dk_at dksX6_byRows_2 4 rfl rfl)
theorem dX6_byRows_52 : decode cX6_byRows 52 = .ok (.imul, 1) := dk_104 (dk_at dksX6_byRows_2 6 rfl rfl)
theorem dX6_byRows_53 : decode cX6_byRows 53 = .ok (.iaload, 1) := dk_46 (dk_at dksX6_byRows_2 7 rfl rfl)
theorem dX6_byRows_54 : decode cX6_byRows 54 = .ok (.invokevirtual 389, 3) := dk_182 1 133 (dk_at dksX6_byRows_2 8 rfl rfl)
theorem dX6_byRows_57 : decode cX6_byRows 57 = .ok (.istore 5, 2) := dk_54 5 (dk_at dksX6_byRows_2 11 rfl rfl)
theorem dX6_byRows_59 : decode cX6_byRows 59 = .ok (.iload 7, 2) := dk_21 7 (dk_at dksX6_byRows_2 13 rfl rfl)
theorem dX6_byRows_61 : decode cX6_byRows 61 = .ok (.aload_n 0, 1) := dk_42 (dk_at dksX6_byRows_2 15 rfl rfl)
theorem dX6_byRows_62 : decode cX6_byRows 62 = .ok (.getfield 35, 3) := dk_180 0 35 (dk_at dksX6_byRows_2 16 rfl rfl)
theorem dX6_byRows_65 : decode cX6_byRows 65 = .ok (.irem, 1) := dk_112 (dk_at dksX6_byRows_2 19 rfl rfl)
theorem dX6_byRows_66 : decode cX6_byRows 66 = .ok (.ifCond .ne 32, 3) := dk_154 0 32 (dk_at dksX6_byRows_2 20 rfl rfl)
theorem dX6_byRows_69 : decode cX6_byRows 69 = .ok (.aload_n 0, 1) := dk_42 (dk_at dksX6_byRows_2 23 rfl rfl)
theorem dX6_byRows_70 : decode cX6_byRows 70 = .ok (.iload 6, 2) := dk_21 6 (dk_at dksX6_byRows_3 0 rfl rfl)
theorem dX6_byRows_72 : decode cX6_byRows 72 = .ok (.aload_n 0, 1) := dk_42 (dk_at dksX6_byRows_3 2 rfl rfl)
theorem dX6_byRows_73 : decode cX6_byRows 73 = .ok (.getfield 105, 3) := dk_180 0 105 (dk_at dksX6_byRows_3 3 rfl rfl)
theorem dX6_byRows_76 : decode cX6_byRows 76 = .ok (.iload 4, 2) := dk_21 4 (dk_at dksX6_byRows_3 6 rfl rfl)
theorem dX6_byRows_78 : decode cX6_byRows 78 = .ok (.ifCond .eq 8, 3) := dk_153 0 8 (dk_at dksX6_byRows_3 8 rfl rfl)
theorem dX6_byRows_81 : decode cX6_byRows 81 = .ok (.iload 7, 2) := dk_21 7 (dk_at dksX6_byRows_3 11 rfl rfl)
theorem dX6_byRows_83 : decode cX6_byRows 83 = .ok (.goto 9, 3) := dk_167 0 9 (dk_at dksX6_byRows_3 13 rfl rfl)
theorem dX6_byRows_86 : decode cX6_byRows 86 = .ok (.iconst 2, 1) := dk_5 (dk_at dksX6_byRows_3 16 rfl rfl)
theorem dX6_byRows_87 : decode cX6_byRows 87 = .ok (.iload 7, 2) := dk_21 7 (dk_at dksX6_byRows_3 17 rfl rfl)
theorem dX6_byRows_89 : decode cX6_byRows 89 = .ok (.imul, 1) := dk_104 (dk_at dksX6_byRows_3 19 rfl rfl)
theorem dX6_byRows_90 : decode cX6_byRows 90 = .ok (.iconst 1, 1) := dk_4 (dk_at dksX6_byRows_3 20 rfl rfl)
theorem dX6_byRows_91 : decode cX6_byRows 91 = .ok (.iadd, 1) := dk_96 (dk_at dksX6_byRows_3 21 rfl rfl)
theorem dX6_byRows_92 : decode cX6_byRows 92 = .ok (.iaload, 1) := dk_46 (dk_at dksX6_byRows_3 22 rfl rfl)
theorem dX6_byRows_93 : decode cX6_byRows 93 = .ok (.invokevirtual 389, 3) := dk_182 1 133 (dk_at dksX6_byRows_4 0 rfl rfl)
theorem dX6_byRows_96 : decode cX6_byRows 96 = .ok (.istore 6, 2) := dk_54 6 (dk_at dksX6_byRows_4 3 rfl rfl)
theorem dX6_byRows_98 : decode cX6_byRows 98 = .ok (.aload_n 0, 1) := dk_42 (dk_at dksX6_byRows_4 5 rfl rfl)
theorem dX6_byRows_99 : decode cX6_byRows 99 = .ok (.iload 5, 2) := dk_21 5 (dk_at dksX6_byRows_4 6 rfl rfl)
theorem dX6_byRows_101 : decode cX6_byRows 101 = .ok (.iload 6, 2) := dk_21 6 (dk_at dksX6_byRows_4 8 rfl rfl)
theorem dX6_byRows_103 : decode cX6_byRows 103 = .ok (.iload 8, 2) := dk_21 8 (dk_at dksX6_byRows_4 10 rfl rfl)
theorem dX6_byRows_105 : decode cX6_byRows 105 = .ok (.iload 9, 2) := dk_21 9 (dk_at dksX6_byRows_4 12 rfl rfl)
theorem dX6_byRows_107 : decode cX6_byRows 107 = .ok (.invokevirtual 395, 3) := dk_182 1 139 (dk_at dksX6_byRows_4 14 rfl rfl)
theorem dX6_byRows_110 : decode cX6_byRows 110 = .ok (.ifCond .eq 8, 3) := dk_153 0 8 (dk_at dksX6_byRows_4 17 rfl rfl)
theorem dX6_byRows_113 : decode cX6_byRows 113 = .ok (.iload 7, 2) := dk_21 7 (dk_at dksX6_byRows_4 20 rfl rfl)
theorem dX6_byRows_115 : decode cX6_byRows 115 = .ok (.iconst 1, 1) := dk_4 (dk_at dksX6_byRows_4 22 rfl rfl)
theorem dX6_byRows_116 : decode cX6_byRows 116 = .ok (.iadd, 1) := dk_96 (dk_at dksX6_byRows_4 23 rfl rfl)
theorem dX6_byRows_117 : decode cX6_byRows 117 = .ok (.ireturn, 1) := dk_172 (dk_at dksX6_byRows_5 0 rfl rfl)
theorem dX6_byRows_118 : decode cX6_byRows 118 = .ok (.iinc 7 1, 3) := dk_132 7 1 (dk_at dksX6_byRows_5 1 rfl rfl)
theorem dX6_byRows_121 : decode cX6_byRows 121 = .ok (.goto (-103), 3) := dk_167 255 153 (dk_at dksX6_byRows_5 4 rfl rfl)
theorem dX6_byRows_124 : decode cX6_byRows 124 = .ok (.iconst (-1), 1) := dk_2 (dk_at dksX6_byRows_5 7 rfl rfl)
theorem dX6_byRows_125 : decode cX6_byRows 125 = .ok (.ireturn, 1) := dk_172 (dk_at dksX6_byRows_5 8 rfl rfl)
abbrev cX6_step : ByteArray := prog_15_method_79_code
def yX6_step : MethodName := ⟨RX6, "step", "(II)I"⟩
def dkwX6_step_2 : List UInt8 := [5, 28, 104, 27, 96, 46, 167, 0, 9, 42, 16, 8, 182, 1, 55, 172]
abbrev dktX6_step_2 : List UInt8 := dkwX6_step_2 ++ []
def dkwX6_step_1 : List UInt8 := [182, 1, 55, 172, 28, 133, 9, 42, 180, 1, 182, 4, 100, 133, 184, 1, 6, 153, 0, 16, 42, 180, 0, 99]
abbrev dktX6_step_1 : List UInt8 := dkwX6_step_1 ++ dktX6_step_2
def dkwX6_step_0 : List UInt8 := [42, 3, 181, 0, 144, 42, 3, 181, 0, 147, 27, 133, 9, 10, 184, 1, 6, 154, 0, 9, 42, 8]
abbrev dktX6_step_0 : List UInt8 := dkwX6_step_0 ++ dktX6_step_1
theorem dksX6_step_0 : cX6_step.data.toList.drop 0 = dktX6_step_0 := by decide +kernel
theorem dksX6_step_1 : cX6_step.data.toList.drop 22 = dktX6_step_1 := dk_seg dksX6_step_0 22 rfl rfl
theorem dksX6_step_2 : cX6_step.data.toList.drop 46 = dktX6_step_2 := dk_seg dksX6_step_1 24 rfl rfl
theorem dX6_step_0 : decode cX6_step 0 = .ok (.aload_n 0, 1) := dk_42 (dk_at dksX6_step_0 0 rfl rfl)
theorem dX6_step_1 : decode cX6_step 1 = .ok (.iconst 0, 1) := dk_3 (dk_at dksX6_step_0 1 rfl rfl)
theorem dX6_step_2 : decode cX6_step 2 = .ok (.putfield 144, 3) := dk_181 0 144 (dk_at dksX6_step_0 2 rfl rfl)
theorem dX6_step_5 : decode cX6_step 5 = .ok (.aload_n 0, 1) := dk_42 (dk_at dksX6_step_0 5 rfl rfl)
theorem dX6_step_6 : decode cX6_step 6 = .ok (.iconst 0, 1) := dk_3 (dk_at dksX6_step_0 6 rfl rfl)
theorem dX6_step_7 : decode cX6_step 7 = .ok (.putfield 147, 3) := dk_181 0 147 (dk_at dksX6_step_0 7 rfl rfl)
theorem dX6_step_10 : decode cX6_step 10 = .ok (.iload_n 1, 1) := dk_27 (dk_at dksX6_step_0 10 rfl rfl)
theorem dX6_step_11 : decode cX6_step 11 = .ok (.i2l, 1) := dk_133 (dk_at dksX6_step_0 11 rfl rfl)
theorem dX6_step_12 : decode cX6_step 12 = .ok (.lconst 0, 1) := dk_9 (dk_at dksX6_step_0 12 rfl rfl)
theorem dX6_step_13 : decode cX6_step 13 = .ok (.lconst 1, 1) := dk_10 (dk_at dksX6_step_0 13 rfl rfl)
theorem dX6_step_14 : decode cX6_step 14 = .ok (.invokestatic 262, 3) := dk_184 1 6 (dk_at dksX6_step_0 14 rfl rfl)
theorem dX6_step_17 : decode cX6_step 17 = .ok (.ifCond .ne 9, 3) := dk_154 0 9 (dk_at dksX6_step_0 17 rfl rfl)
theorem dX6_step_20 : decode cX6_step 20 = .ok (.aload_n 0, 1) := dk_42 (dk_at dksX6_step_0 20 rfl rfl)
theorem dX6_step_21 : decode cX6_step 21 = .ok (.iconst 5, 1) := dk_8 (dk_at dksX6_step_0 21 rfl rfl)
theorem dX6_step_22 : decode cX6_step 22 = .ok (.invokevirtual 311, 3) := dk_182 1 55 (dk_at dksX6_step_1 0 rfl rfl)
theorem dX6_step_25 : decode cX6_step 25 = .ok (.ireturn, 1) := dk_172 (dk_at dksX6_step_1 3 rfl rfl)
theorem dX6_step_26 : decode cX6_step 26 = .ok (.iload_n 2, 1) := dk_28 (dk_at dksX6_step_1 4 rfl rfl)
theorem dX6_step_27 : decode cX6_step 27 = .ok (.i2l, 1) := dk_133 (dk_at dksX6_step_1 5 rfl rfl)
theorem dX6_step_28 : decode cX6_step 28 = .ok (.lconst 0, 1) := dk_9 (dk_at dksX6_step_1 6 rfl rfl)
theorem dX6_step_29 : decode cX6_step 29 = .ok (.aload_n 0, 1) := dk_42 (dk_at dksX6_step_1 7 rfl rfl)
theorem dX6_step_30 : decode cX6_step 30 = .ok (.getfield 438, 3) := dk_180 1 182 (dk_at dksX6_step_1 8 rfl rfl)
theorem dX6_step_33 : decode cX6_step 33 = .ok (.iconst 1, 1) := dk_4 (dk_at dksX6_step_1 11 rfl rfl)
theorem dX6_step_34 : decode cX6_step 34 = .ok (.isub, 1) := dk_100 (dk_at dksX6_step_1 12 rfl rfl)
theorem dX6_step_35 : decode cX6_step 35 = .ok (.i2l, 1) := dk_133 (dk_at dksX6_step_1 13 rfl rfl)
theorem dX6_step_36 : decode cX6_step 36 = .ok (.invokestatic 262, 3) := dk_184 1 6 (dk_at dksX6_step_1 14 rfl rfl)
theorem dX6_step_39 : decode cX6_step 39 = .ok (.ifCond .eq 16, 3) := dk_153 0 16 (dk_at dksX6_step_1 17 rfl rfl)
theorem dX6_step_42 : decode cX6_step 42 = .ok (.aload_n 0, 1) := dk_42 (dk_at dksX6_step_1 20 rfl rfl)
theorem dX6_step_43 : decode cX6_step 43 = .ok (.getfield 99, 3) := dk_180 0 99 (dk_at dksX6_step_1 21 rfl rfl)
theorem dX6_step_46 : decode cX6_step 46 = .ok (.iconst 2, 1) := dk_5 (dk_at dksX6_step_2 0 rfl rfl)
theorem dX6_step_47 : decode cX6_step 47 = .ok (.iload_n 2, 1) := dk_28 (dk_at dksX6_step_2 1 rfl rfl)
theorem dX6_step_48 : decode cX6_step 48 = .ok (.imul, 1) := dk_104 (dk_at dksX6_step_2 2 rfl rfl)
theorem dX6_step_49 : decode cX6_step 49 = .ok (.iload_n 1, 1) := dk_27 (dk_at dksX6_step_2 3 rfl rfl)
theorem dX6_step_50 : decode cX6_step 50 = .ok (.iadd, 1) := dk_96 (dk_at dksX6_step_2 4 rfl rfl)
theorem dX6_step_51 : decode cX6_step 51 = .ok (.iaload, 1) := dk_46 (dk_at dksX6_step_2 5 rfl rfl)
theorem dX6_step_52 : decode cX6_step 52 = .ok (.goto 9, 3) := dk_167 0 9 (dk_at dksX6_step_2 6 rfl rfl)
theorem dX6_step_55 : decode cX6_step 55 = .ok (.aload_n 0, 1) := dk_42 (dk_at dksX6_step_2 9 rfl rfl)
theorem dX6_step_56 : decode cX6_step 56 = .ok (.bipush 8, 2) := dk_16 8 (dk_at dksX6_step_2 10 rfl rfl)
theorem dX6_step_58 : decode cX6_step 58 = .ok (.invokevirtual 311, 3) := dk_182 1 55 (dk_at dksX6_step_2 12 rfl rfl)
theorem dX6_step_61 : decode cX6_step 61 = .ok (.ireturn, 1) := dk_172 (dk_at dksX6_step_2 15 rfl rfl)
abbrev cX6_alike : ByteArray := prog_15_method_80_code
def yX6_alike : MethodName := ⟨RX6, "alike", "(I)I"⟩
def dkwX6_alike_3 : List UInt8 := [136, 172]
abbrev dktX6_alike_3 : List UInt8 := dkwX6_alike_3 ++ []
def dkwX6_alike_2 : List UInt8 := [182, 1, 178, 42, 27, 181, 1, 185, 42, 42, 180, 1, 175, 42, 182, 1, 155, 182, 1, 162, 42, 180, 1, 169]
abbrev dktX6_alike_2 : List UInt8 := dkwX6_alike_2 ++ dktX6_alike_3
def dkwX6_alike_1 : List UInt8 := [182, 1, 55, 172, 42, 182, 1, 155, 9, 148, 154, 0, 10, 42, 16, 9, 182, 1, 55, 172, 42, 27, 27, 4]
abbrev dktX6_alike_1 : List UInt8 := dkwX6_alike_1 ++ dktX6_alike_2
def dkwX6_alike_0 : List UInt8 := [42, 3, 181, 0, 144, 42, 3, 181, 0, 147, 27, 133, 10, 20, 1, 101, 184, 1, 6, 154, 0, 9, 42, 8]
abbrev dktX6_alike_0 : List UInt8 := dkwX6_alike_0 ++ dktX6_alike_1
theorem dksX6_alike_0 : cX6_alike.data.toList.drop 0 = dktX6_alike_0 := by decide +kernel
theorem dksX6_alike_1 : cX6_alike.data.toList.drop 24 = dktX6_alike_1 := dk_seg dksX6_alike_0 24 rfl rfl
theorem dksX6_alike_2 : cX6_alike.data.toList.drop 48 = dktX6_alike_2 := dk_seg dksX6_alike_1 24 rfl rfl
theorem dksX6_alike_3 : cX6_alike.data.toList.drop 72 = dktX6_alike_3 := dk_seg dksX6_alike_2 24 rfl rfl
theorem dX6_alike_0 : decode cX6_alike 0 = .ok (.aload_n 0, 1) := dk_42 (dk_at dksX6_alike_0 0 rfl rfl)
theorem dX6_alike_1 : decode cX6_alike 1 = .ok (.iconst 0, 1) := dk_3 (dk_at dksX6_alike_0 1 rfl rfl)
theorem dX6_alike_2 : decode cX6_alike 2 = .ok (.putfield 144, 3) := dk_181 0 144 (dk_at dksX6_alike_0 2 rfl rfl)
theorem dX6_alike_5 : decode cX6_alike 5 = .ok (.aload_n 0, 1) := dk_42 (dk_at dksX6_alike_0 5 rfl rfl)
theorem dX6_alike_6 : decode cX6_alike 6 = .ok (.iconst 0, 1) := dk_3 (dk_at dksX6_alike_0 6 rfl rfl)
theorem dX6_alike_7 : decode cX6_alike 7 = .ok (.putfield 147, 3) := dk_181 0 147 (dk_at dksX6_alike_0 7 rfl rfl)
theorem dX6_alike_10 : decode cX6_alike 10 = .ok (.iload_n 1, 1) := dk_27 (dk_at dksX6_alike_0 10 rfl rfl)
theorem dX6_alike_11 : decode cX6_alike 11 = .ok (.i2l, 1) := dk_133 (dk_at dksX6_alike_0 11 rfl rfl)
theorem dX6_alike_12 : decode cX6_alike 12 = .ok (.lconst 1, 1) := dk_10 (dk_at dksX6_alike_0 12 rfl rfl)
theorem dX6_alike_13 : decode cX6_alike 13 = .ok (.ldc2_w 357, 3) := dk_20 1 101 (dk_at dksX6_alike_0 13 rfl rfl)
theorem dX6_alike_16 : decode cX6_alike 16 = .ok (.invokestatic 262, 3) := dk_184 1 6 (dk_at dksX6_alike_0 16 rfl rfl)
theorem dX6_alike_19 : decode cX6_alike 19 = .ok (.ifCond .ne 9, 3) := dk_154 0 9 (dk_at dksX6_alike_0 19 rfl rfl)
theorem dX6_alike_22 : decode cX6_alike 22 = .ok (.aload_n 0, 1) := dk_42 (dk_at dksX6_alike_0 22 rfl rfl)
theorem dX6_alike_23 : decode cX6_alike 23 = .ok (.iconst 5, 1) := dk_8 (dk_at dksX6_alike_0 23 rfl rfl)
theorem dX6_alike_24 : decode cX6_alike 24 = .ok (.invokevirtual 311, 3) := dk_182 1 55 (dk_at dksX6_alike_1 0 rfl rfl)
theorem dX6_alike_27 : decode cX6_alike 27 = .ok (.ireturn, 1) := dk_172 (dk_at dksX6_alike_1 3 rfl rfl)
theorem dX6_alike_28 : decode cX6_alike 28 = .ok (.aload_n 0, 1) := dk_42 (dk_at dksX6_alike_1 4 rfl rfl)
theorem dX6_alike_29 : decode cX6_alike 29 = .ok (.invokevirtual 411, 3) := dk_182 1 155 (dk_at dksX6_alike_1 5 rfl rfl)
theorem dX6_alike_32 : decode cX6_alike 32 = .ok (.lconst 0, 1) := dk_9 (dk_at dksX6_alike_1 8 rfl rfl)
theorem dX6_alike_33 : decode cX6_alike 33 = .ok (.lcmp, 1) := dk_148 (dk_at dksX6_alike_1 9 rfl rfl)
theorem dX6_alike_34 : decode cX6_alike 34 = .ok (.ifCond .ne 10, 3) := dk_154 0 10 (dk_at dksX6_alike_1 10 rfl rfl)
theorem dX6_alike_37 : decode cX6_alike 37 = .ok (.aload_n 0, 1) := dk_42 (dk_at dksX6_alike_1 13 rfl rfl)
theorem dX6_alike_38 : decode cX6_alike 38 = .ok (.bipush 9, 2) := dk_16 9 (dk_at dksX6_alike_1 14 rfl rfl)
theorem dX6_alike_40 : decode cX6_alike 40 = .ok (.invokevirtual 311, 3) := dk_182 1 55 (dk_at dksX6_alike_1 16 rfl rfl)
theorem dX6_alike_43 : decode cX6_alike 43 = .ok (.ireturn, 1) := dk_172 (dk_at dksX6_alike_1 19 rfl rfl)
theorem dX6_alike_44 : decode cX6_alike 44 = .ok (.aload_n 0, 1) := dk_42 (dk_at dksX6_alike_1 20 rfl rfl)
theorem dX6_alike_45 : decode cX6_alike 45 = .ok (.iload_n 1, 1) := dk_27 (dk_at dksX6_alike_1 21 rfl rfl)
theorem dX6_alike_46 : decode cX6_alike 46 = .ok (.iload_n 1, 1) := dk_27 (dk_at dksX6_alike_1 22 rfl rfl)
theorem dX6_alike_47 : decode cX6_alike 47 = .ok (.iconst 1, 1) := dk_4 (dk_at dksX6_alike_1 23 rfl rfl)
theorem dX6_alike_48 : decode cX6_alike 48 = .ok (.invokevirtual 434, 3) := dk_182 1 178 (dk_at dksX6_alike_2 0 rfl rfl)
theorem dX6_alike_51 : decode cX6_alike 51 = .ok (.aload_n 0, 1) := dk_42 (dk_at dksX6_alike_2 3 rfl rfl)
theorem dX6_alike_52 : decode cX6_alike 52 = .ok (.iload_n 1, 1) := dk_27 (dk_at dksX6_alike_2 4 rfl rfl)
theorem dX6_alike_53 : decode cX6_alike 53 = .ok (.putfield 441, 3) := dk_181 1 185 (dk_at dksX6_alike_2 5 rfl rfl)
theorem dX6_alike_56 : decode cX6_alike 56 = .ok (.aload_n 0, 1) := dk_42 (dk_at dksX6_alike_2 8 rfl rfl)
theorem dX6_alike_57 : decode cX6_alike 57 = .ok (.aload_n 0, 1) := dk_42 (dk_at dksX6_alike_2 9 rfl rfl)
theorem dX6_alike_58 : decode cX6_alike 58 = .ok (.getfield 431, 3) := dk_180 1 175 (dk_at dksX6_alike_2 10 rfl rfl)
theorem dX6_alike_61 : decode cX6_alike 61 = .ok (.aload_n 0, 1) := dk_42 (dk_at dksX6_alike_2 13 rfl rfl)
theorem dX6_alike_62 : decode cX6_alike 62 = .ok (.invokevirtual 411, 3) := dk_182 1 155 (dk_at dksX6_alike_2 14 rfl rfl)
theorem dX6_alike_65 : decode cX6_alike 65 = .ok (.invokevirtual 418, 3) := dk_182 1 162 (dk_at dksX6_alike_2 17 rfl rfl)
theorem dX6_alike_68 : decode cX6_alike 68 = .ok (.aload_n 0, 1) := dk_42 (dk_at dksX6_alike_2 20 rfl rfl)
theorem dX6_alike_69 : decode cX6_alike 69 = .ok (.getfield 425, 3) := dk_180 1 169 (dk_at dksX6_alike_2 21 rfl rfl)
theorem dX6_alike_72 : decode cX6_alike 72 = .ok (.l2i, 1) := dk_136 (dk_at dksX6_alike_3 0 rfl rfl)
theorem dX6_alike_73 : decode cX6_alike 73 = .ok (.ireturn, 1) := dk_172 (dk_at dksX6_alike_3 1 rfl rfl)
abbrev cX6_alikeStep : ByteArray := prog_15_method_81_code
def yX6_alikeStep : MethodName := ⟨RX6, "alikeStep", "(I)I"⟩
def dkwX6_alikeStep_1 : List UInt8 := [153, 0, 12, 42, 180, 0, 102, 27, 46, 167, 0, 9, 42, 16, 8, 182, 1, 55, 172]
abbrev dktX6_alikeStep_1 : List UInt8 := dkwX6_alikeStep_1 ++ []
def dkwX6_alikeStep_0 : List UInt8 := [42, 3, 181, 0, 144, 42, 3, 181, 0, 147, 27, 133, 9, 42, 180, 1, 185, 4, 100, 133, 184, 1, 6]
abbrev dktX6_alikeStep_0 : List UInt8 := dkwX6_alikeStep_0 ++ dktX6_alikeStep_1
theorem dksX6_alikeStep_0 : cX6_alikeStep.data.toList.drop 0 = dktX6_alikeStep_0 := by decide +kernel
theorem dksX6_alikeStep_1 : cX6_alikeStep.data.toList.drop 23 = dktX6_alikeStep_1 := dk_seg dksX6_alikeStep_0 23 rfl rfl
theorem dX6_alikeStep_0 : decode cX6_alikeStep 0 = .ok (.aload_n 0, 1) := dk_42 (dk_at dksX6_alikeStep_0 0 rfl rfl)
theorem dX6_alikeStep_1 : decode cX6_alikeStep 1 = .ok (.iconst 0, 1) := dk_3 (dk_at dksX6_alikeStep_0 1 rfl rfl)
theorem dX6_alikeStep_2 : decode cX6_alikeStep 2 = .ok (.putfield 144, 3) := dk_181 0 144 (dk_at dksX6_alikeStep_0 2 rfl rfl)
theorem dX6_alikeStep_5 : decode cX6_alikeStep 5 = .ok (.aload_n 0, 1) := dk_42 (dk_at dksX6_alikeStep_0 5 rfl rfl)
theorem dX6_alikeStep_6 : decode cX6_alikeStep 6 = .ok (.iconst 0, 1) := dk_3 (dk_at dksX6_alikeStep_0 6 rfl rfl)
theorem dX6_alikeStep_7 : decode cX6_alikeStep 7 = .ok (.putfield 147, 3) := dk_181 0 147 (dk_at dksX6_alikeStep_0 7 rfl rfl)
theorem dX6_alikeStep_10 : decode cX6_alikeStep 10 = .ok (.iload_n 1, 1) := dk_27 (dk_at dksX6_alikeStep_0 10 rfl rfl)
theorem dX6_alikeStep_11 : decode cX6_alikeStep 11 = .ok (.i2l, 1) := dk_133 (dk_at dksX6_alikeStep_0 11 rfl rfl)
theorem dX6_alikeStep_12 : decode cX6_alikeStep 12 = .ok (.lconst 0, 1) := dk_9 (dk_at dksX6_alikeStep_0 12 rfl rfl)
theorem dX6_alikeStep_13 : decode cX6_alikeStep 13 = .ok (.aload_n 0, 1) := dk_42 (dk_at dksX6_alikeStep_0 13 rfl rfl)
theorem dX6_alikeStep_14 : decode cX6_alikeStep 14 = .ok (.getfield 441, 3) := dk_180 1 185 (dk_at dksX6_alikeStep_0 14 rfl rfl)
theorem dX6_alikeStep_17 : decode cX6_alikeStep 17 = .ok (.iconst 1, 1) := dk_4 (dk_at dksX6_alikeStep_0 17 rfl rfl)
theorem dX6_alikeStep_18 : decode cX6_alikeStep 18 = .ok (.isub, 1) := dk_100 (dk_at dksX6_alikeStep_0 18 rfl rfl)
theorem dX6_alikeStep_19 : decode cX6_alikeStep 19 = .ok (.i2l, 1) := dk_133 (dk_at dksX6_alikeStep_0 19 rfl rfl)
theorem dX6_alikeStep_20 : decode cX6_alikeStep 20 = .ok (.invokestatic 262, 3) := dk_184 1 6 (dk_at dksX6_alikeStep_0 20 rfl rfl)
theorem dX6_alikeStep_23 : decode cX6_alikeStep 23 = .ok (.ifCond .eq 12, 3) := dk_153 0 12 (dk_at dksX6_alikeStep_1 0 rfl rfl)
theorem dX6_alikeStep_26 : decode cX6_alikeStep 26 = .ok (.aload_n 0, 1) := dk_42 (dk_at dksX6_alikeStep_1 3 rfl rfl)
theorem dX6_alikeStep_27 : decode cX6_alikeStep 27 = .ok (.getfield 102, 3) := dk_180 0 102 (dk_at dksX6_alikeStep_1 4 rfl rfl)
theorem dX6_alikeStep_30 : decode cX6_alikeStep 30 = .ok (.iload_n 1, 1) := dk_27 (dk_at dksX6_alikeStep_1 7 rfl rfl)
theorem dX6_alikeStep_31 : decode cX6_alikeStep 31 = .ok (.iaload, 1) := dk_46 (dk_at dksX6_alikeStep_1 8 rfl rfl)
theorem dX6_alikeStep_32 : decode cX6_alikeStep 32 = .ok (.goto 9, 3) := dk_167 0 9 (dk_at dksX6_alikeStep_1 9 rfl rfl)
theorem dX6_alikeStep_35 : decode cX6_alikeStep 35 = .ok (.aload_n 0, 1) := dk_42 (dk_at dksX6_alikeStep_1 12 rfl rfl)
theorem dX6_alikeStep_36 : decode cX6_alikeStep 36 = .ok (.bipush 8, 2) := dk_16 8 (dk_at dksX6_alikeStep_1 13 rfl rfl)
theorem dX6_alikeStep_38 : decode cX6_alikeStep 38 = .ok (.invokevirtual 311, 3) := dk_182 1 55 (dk_at dksX6_alikeStep_1 15 rfl rfl)
theorem dX6_alikeStep_41 : decode cX6_alikeStep 41 = .ok (.ireturn, 1) := dk_172 (dk_at dksX6_alikeStep_1 18 rfl rfl)
abbrev cX6_parted : ByteArray := prog_15_method_85_code
def yX6_parted : MethodName := ⟨RX6, "parted", "(III)I"⟩
def dkwX6_parted_5 : List UInt8 := [120, 128, 182, 1, 191, 153, 0, 7, 4, 167, 0, 4, 3, 172]
abbrev dktX6_parted_5 : List UInt8 := dkwX6_parted_5 ++ []
def dkwX6_parted_4 : List UInt8 := [167, 255, 236, 42, 180, 0, 120, 27, 28, 79, 42, 180, 0, 120, 28, 27, 79, 42, 3, 4, 27, 120, 4, 28]
abbrev dktX6_parted_4 : List UInt8 := dkwX6_parted_4 ++ dktX6_parted_5
def dkwX6_parted_3 : List UInt8 := [172, 3, 54, 4, 21, 4, 42, 180, 1, 70, 162, 0, 17, 42, 180, 0, 120, 21, 4, 2, 79, 132, 4, 1]
abbrev dktX6_parted_3 : List UInt8 := dkwX6_parted_3 ++ dktX6_parted_4
def dkwX6_parted_2 : List UInt8 := [42, 8, 182, 1, 55, 172, 29, 154, 0, 18, 42, 27, 28, 182, 1, 194, 153, 0, 7, 3, 167, 0, 4, 4]
abbrev dktX6_parted_2 : List UInt8 := dkwX6_parted_2 ++ dktX6_parted_3
def dkwX6_parted_1 : List UInt8 := [153, 0, 8, 27, 28, 160, 0, 9, 42, 5, 182, 1, 55, 172, 29, 133, 9, 10, 184, 1, 6, 154, 0, 9]
abbrev dktX6_parted_1 : List UInt8 := dkwX6_parted_1 ++ dktX6_parted_2
def dkwX6_parted_0 : List UInt8 := [42, 3, 181, 0, 144, 42, 3, 181, 0, 147, 42, 27, 182, 1, 98, 153, 0, 16, 42, 28, 182, 1, 98]
abbrev dktX6_parted_0 : List UInt8 := dkwX6_parted_0 ++ dktX6_parted_1
theorem dksX6_parted_0 : cX6_parted.data.toList.drop 0 = dktX6_parted_0 := by decide +kernel
theorem dksX6_parted_1 : cX6_parted.data.toList.drop 23 = dktX6_parted_1 := dk_seg dksX6_parted_0 23 rfl rfl
theorem dksX6_parted_2 : cX6_parted.data.toList.drop 47 = dktX6_parted_2 := dk_seg dksX6_parted_1 24 rfl rfl
theorem dksX6_parted_3 : cX6_parted.data.toList.drop 71 = dktX6_parted_3 := dk_seg dksX6_parted_2 24 rfl rfl
theorem dksX6_parted_4 : cX6_parted.data.toList.drop 95 = dktX6_parted_4 := dk_seg dksX6_parted_3 24 rfl rfl
theorem dksX6_parted_5 : cX6_parted.data.toList.drop 119 = dktX6_parted_5 := dk_seg dksX6_parted_4 24 rfl rfl
theorem dX6_parted_0 : decode cX6_parted 0 = .ok (.aload_n 0, 1) := dk_42 (dk_at dksX6_parted_0 0 rfl rfl)
theorem dX6_parted_1 : decode cX6_parted 1 = .ok (.iconst 0, 1) := dk_3 (dk_at dksX6_parted_0 1 rfl rfl)
theorem dX6_parted_2 : decode cX6_parted 2 = .ok (.putfield 144, 3) := dk_181 0 144 (dk_at dksX6_parted_0 2 rfl rfl)
theorem dX6_parted_5 : decode cX6_parted 5 = .ok (.aload_n 0, 1) := dk_42 (dk_at dksX6_parted_0 5 rfl rfl)
theorem dX6_parted_6 : decode cX6_parted 6 = .ok (.iconst 0, 1) := dk_3 (dk_at dksX6_parted_0 6 rfl rfl)
theorem dX6_parted_7 : decode cX6_parted 7 = .ok (.putfield 147, 3) := dk_181 0 147 (dk_at dksX6_parted_0 7 rfl rfl)
theorem dX6_parted_10 : decode cX6_parted 10 = .ok (.aload_n 0, 1) := dk_42 (dk_at dksX6_parted_0 10 rfl rfl)
theorem dX6_parted_11 : decode cX6_parted 11 = .ok (.iload_n 1, 1) := dk_27 (dk_at dksX6_parted_0 11 rfl rfl)
theorem dX6_parted_12 : decode cX6_parted 12 = .ok (.invokevirtual 354, 3) := dk_182 1 98 (dk_at dksX6_parted_0 12 rfl rfl)
theorem dX6_parted_15 : decode cX6_parted 15 = .ok (.ifCond .eq 16, 3) := dk_153 0 16 (dk_at dksX6_parted_0 15 rfl rfl)
theorem dX6_parted_18 : decode cX6_parted 18 = .ok (.aload_n 0, 1) := dk_42 (dk_at dksX6_parted_0 18 rfl rfl)
theorem dX6_parted_19 : decode cX6_parted 19 = .ok (.iload_n 2, 1) := dk_28 (dk_at dksX6_parted_0 19 rfl rfl)
theorem dX6_parted_20 : decode cX6_parted 20 = .ok (.invokevirtual 354, 3) := dk_182 1 98 (dk_at dksX6_parted_0 20 rfl rfl)
theorem dX6_parted_23 : decode cX6_parted 23 = .ok (.ifCond .eq 8, 3) := dk_153 0 8 (dk_at dksX6_parted_1 0 rfl rfl)
theorem dX6_parted_26 : decode cX6_parted 26 = .ok (.iload_n 1, 1) := dk_27 (dk_at dksX6_parted_1 3 rfl rfl)
theorem dX6_parted_27 : decode cX6_parted 27 = .ok (.iload_n 2, 1) := dk_28 (dk_at dksX6_parted_1 4 rfl rfl)
theorem dX6_parted_28 : decode cX6_parted 28 = .ok (.if_icmp .ne 9, 3) := dk_160 0 9 (dk_at dksX6_parted_1 5 rfl rfl)
theorem dX6_parted_31 : decode cX6_parted 31 = .ok (.aload_n 0, 1) := dk_42 (dk_at dksX6_parted_1 8 rfl rfl)
theorem dX6_parted_32 : decode cX6_parted 32 = .ok (.iconst 2, 1) := dk_5 (dk_at dksX6_parted_1 9 rfl rfl)
theorem dX6_parted_33 : decode cX6_parted 33 = .ok (.invokevirtual 311, 3) := dk_182 1 55 (dk_at dksX6_parted_1 10 rfl rfl)
theorem dX6_parted_36 : decode cX6_parted 36 = .ok (.ireturn, 1) := dk_172 (dk_at dksX6_parted_1 13 rfl rfl)
theorem dX6_parted_37 : decode cX6_parted 37 = .ok (.iload_n 3, 1) := dk_29 (dk_at dksX6_parted_1 14 rfl rfl)
theorem dX6_parted_38 : decode cX6_parted 38 = .ok (.i2l, 1) := dk_133 (dk_at dksX6_parted_1 15 rfl rfl)
theorem dX6_parted_39 : decode cX6_parted 39 = .ok (.lconst 0, 1) := dk_9 (dk_at dksX6_parted_1 16 rfl rfl)
theorem dX6_parted_40 : decode cX6_parted 40 = .ok (.lconst 1, 1) := dk_10 (dk_at dksX6_parted_1 17 rfl rfl)
theorem dX6_parted_41 : decode cX6_parted 41 = .ok (.invokestatic 262, 3) := dk_184 1 6 (dk_at dksX6_parted_1 18 rfl rfl)
theorem dX6_parted_44 : decode cX6_parted 44 = .ok (.ifCond .ne 9, 3) := dk_154 0 9 (dk_at dksX6_parted_1 21 rfl rfl)
theorem dX6_parted_47 : decode cX6_parted 47 = .ok (.aload_n 0, 1) := dk_42 (dk_at dksX6_parted_2 0 rfl rfl)
theorem dX6_parted_48 : decode cX6_parted 48 = .ok (.iconst 5, 1) := dk_8 (dk_at dksX6_parted_2 1 rfl rfl)
theorem dX6_parted_49 : decode cX6_parted 49 = .ok (.invokevirtual 311, 3) := dk_182 1 55 (dk_at dksX6_parted_2 2 rfl rfl)
theorem dX6_parted_52 : decode cX6_parted 52 = .ok (.ireturn, 1) := dk_172 (dk_at dksX6_parted_2 5 rfl rfl)
theorem dX6_parted_53 : decode cX6_parted 53 = .ok (.iload_n 3, 1) := dk_29 (dk_at dksX6_parted_2 6 rfl rfl)
theorem dX6_parted_54 : decode cX6_parted 54 = .ok (.ifCond .ne 18, 3) := dk_154 0 18 (dk_at dksX6_parted_2 7 rfl rfl)
theorem dX6_parted_57 : decode cX6_parted 57 = .ok (.aload_n 0, 1) := dk_42 (dk_at dksX6_parted_2 10 rfl rfl)
theorem dX6_parted_58 : decode cX6_parted 58 = .ok (.iload_n 1, 1) := dk_27 (dk_at dksX6_parted_2 11 rfl rfl)
theorem dX6_parted_59 : decode cX6_parted 59 = .ok (.iload_n 2, 1) := dk_28 (dk_at dksX6_parted_2 12 rfl rfl)
theorem dX6_parted_60 : decode cX6_parted 60 = .ok (.invokevirtual 450, 3) := dk_182 1 194 (dk_at dksX6_parted_2 13 rfl rfl)
theorem dX6_parted_63 : decode cX6_parted 63 = .ok (.ifCond .eq 7, 3) := dk_153 0 7 (dk_at dksX6_parted_2 16 rfl rfl)
theorem dX6_parted_66 : decode cX6_parted 66 = .ok (.iconst 0, 1) := dk_3 (dk_at dksX6_parted_2 19 rfl rfl)
theorem dX6_parted_67 : decode cX6_parted 67 = .ok (.goto 4, 3) := dk_167 0 4 (dk_at dksX6_parted_2 20 rfl rfl)
theorem dX6_parted_70 : decode cX6_parted 70 = .ok (.iconst 1, 1) := dk_4 (dk_at dksX6_parted_2 23 rfl rfl)
theorem dX6_parted_71 : decode cX6_parted 71 = .ok (.ireturn, 1) := dk_172 (dk_at dksX6_parted_3 0 rfl rfl)
theorem dX6_parted_72 : decode cX6_parted 72 = .ok (.iconst 0, 1) := dk_3 (dk_at dksX6_parted_3 1 rfl rfl)
theorem dX6_parted_73 : decode cX6_parted 73 = .ok (.istore 4, 2) := dk_54 4 (dk_at dksX6_parted_3 2 rfl rfl)
theorem dX6_parted_75 : decode cX6_parted 75 = .ok (.iload 4, 2) := dk_21 4 (dk_at dksX6_parted_3 4 rfl rfl)
theorem dX6_parted_77 : decode cX6_parted 77 = .ok (.aload_n 0, 1) := dk_42 (dk_at dksX6_parted_3 6 rfl rfl)
theorem dX6_parted_78 : decode cX6_parted 78 = .ok (.getfield 326, 3) := dk_180 1 70 (dk_at dksX6_parted_3 7 rfl rfl)
theorem dX6_parted_81 : decode cX6_parted 81 = .ok (.if_icmp .ge 17, 3) := dk_162 0 17 (dk_at dksX6_parted_3 10 rfl rfl)
theorem dX6_parted_84 : decode cX6_parted 84 = .ok (.aload_n 0, 1) := dk_42 (dk_at dksX6_parted_3 13 rfl rfl)
theorem dX6_parted_85 : decode cX6_parted 85 = .ok (.getfield 120, 3) := dk_180 0 120 (dk_at dksX6_parted_3 14 rfl rfl)
theorem dX6_parted_88 : decode cX6_parted 88 = .ok (.iload 4, 2) := dk_21 4 (dk_at dksX6_parted_3 17 rfl rfl)
theorem dX6_parted_90 : decode cX6_parted 90 = .ok (.iconst (-1), 1) := dk_2 (dk_at dksX6_parted_3 19 rfl rfl)
theorem dX6_parted_91 : decode cX6_parted 91 = .ok (.iastore, 1) := dk_79 (dk_at dksX6_parted_3 20 rfl rfl)
theorem dX6_parted_92 : decode cX6_parted 92 = .ok (.iinc 4 1, 3) := dk_132 4 1 (dk_at dksX6_parted_3 21 rfl rfl)
theorem dX6_parted_95 : decode cX6_parted 95 = .ok (.goto (-20), 3) := dk_167 255 236 (dk_at dksX6_parted_4 0 rfl rfl)
theorem dX6_parted_98 : decode cX6_parted 98 = .ok (.aload_n 0, 1) := dk_42 (dk_at dksX6_parted_4 3 rfl rfl)
theorem dX6_parted_99 : decode cX6_parted 99 = .ok (.getfield 120, 3) := dk_180 0 120 (dk_at dksX6_parted_4 4 rfl rfl)
theorem dX6_parted_102 : decode cX6_parted 102 = .ok (.iload_n 1, 1) := dk_27 (dk_at dksX6_parted_4 7 rfl rfl)
theorem dX6_parted_103 : decode cX6_parted 103 = .ok (.iload_n 2, 1) := dk_28 (dk_at dksX6_parted_4 8 rfl rfl)
theorem dX6_parted_104 : decode cX6_parted 104 = .ok (.iastore, 1) := dk_79 (dk_at dksX6_parted_4 9 rfl rfl)
theorem dX6_parted_105 : decode cX6_parted 105 = .ok (.aload_n 0, 1) := dk_42 (dk_at dksX6_parted_4 10 rfl rfl)
theorem dX6_parted_106 : decode cX6_parted 106 = .ok (.getfield 120, 3) := dk_180 0 120 (dk_at dksX6_parted_4 11 rfl rfl)
theorem dX6_parted_109 : decode cX6_parted 109 = .ok (.iload_n 2, 1) := dk_28 (dk_at dksX6_parted_4 14 rfl rfl)
theorem dX6_parted_110 : decode cX6_parted 110 = .ok (.iload_n 1, 1) := dk_27 (dk_at dksX6_parted_4 15 rfl rfl)
theorem dX6_parted_111 : decode cX6_parted 111 = .ok (.iastore, 1) := dk_79 (dk_at dksX6_parted_4 16 rfl rfl)
theorem dX6_parted_112 : decode cX6_parted 112 = .ok (.aload_n 0, 1) := dk_42 (dk_at dksX6_parted_4 17 rfl rfl)
theorem dX6_parted_113 : decode cX6_parted 113 = .ok (.iconst 0, 1) := dk_3 (dk_at dksX6_parted_4 18 rfl rfl)
theorem dX6_parted_114 : decode cX6_parted 114 = .ok (.iconst 1, 1) := dk_4 (dk_at dksX6_parted_4 19 rfl rfl)
theorem dX6_parted_115 : decode cX6_parted 115 = .ok (.iload_n 1, 1) := dk_27 (dk_at dksX6_parted_4 20 rfl rfl)
theorem dX6_parted_116 : decode cX6_parted 116 = .ok (.ishl, 1) := dk_120 (dk_at dksX6_parted_4 21 rfl rfl)
theorem dX6_parted_117 : decode cX6_parted 117 = .ok (.iconst 1, 1) := dk_4 (dk_at dksX6_parted_4 22 rfl rfl)
theorem dX6_parted_118 : decode cX6_parted 118 = .ok (.iload_n 2, 1) := dk_28 (dk_at dksX6_parted_4 23 rfl rfl)
theorem dX6_parted_119 : decode cX6_parted 119 = .ok (.ishl, 1) := dk_120 (dk_at dksX6_parted_5 0 rfl rfl)
theorem dX6_parted_120 : decode cX6_parted 120 = .ok (.ior, 1) := dk_128 (dk_at dksX6_parted_5 1 rfl rfl)
theorem dX6_parted_121 : decode cX6_parted 121 = .ok (.invokevirtual 447, 3) := dk_182 1 191 (dk_at dksX6_parted_5 2 rfl rfl)
theorem dX6_parted_124 : decode cX6_parted 124 = .ok (.ifCond .eq 7, 3) := dk_153 0 7 (dk_at dksX6_parted_5 5 rfl rfl)
theorem dX6_parted_127 : decode cX6_parted 127 = .ok (.iconst 1, 1) := dk_4 (dk_at dksX6_parted_5 8 rfl rfl)
theorem dX6_parted_128 : decode cX6_parted 128 = .ok (.goto 4, 3) := dk_167 0 4 (dk_at dksX6_parted_5 9 rfl rfl)
theorem dX6_parted_131 : decode cX6_parted 131 = .ok (.iconst 0, 1) := dk_3 (dk_at dksX6_parted_5 12 rfl rfl)
theorem dX6_parted_132 : decode cX6_parted 132 = .ok (.ireturn, 1) := dk_172 (dk_at dksX6_parted_5 13 rfl rfl)
abbrev cX6_isBrought : ByteArray := prog_15_method_82_code
def yX6_isBrought : MethodName := ⟨RX6, "isBrought", "(II)Z"⟩
def dkwX6_isBrought_8 : List UInt8 := [3, 172]
abbrev dktX6_isBrought_8 : List UInt8 := dkwX6_isBrought_8 ++ []
def dkwX6_isBrought_7 : List UInt8 := [96, 4, 84, 132, 6, 1, 167, 255, 154, 132, 5, 1, 167, 255, 136, 132, 4, 1, 167, 255, 118, 167, 255, 106]
abbrev dktX6_isBrought_7 : List UInt8 := dkwX6_isBrought_7 ++ dktX6_isBrought_8
def dkwX6_isBrought_6 : List UInt8 := [21, 8, 96, 51, 154, 0, 7, 4, 167, 0, 4, 3, 62, 42, 180, 0, 117, 16, 8, 21, 7, 104, 21, 8]
abbrev dktX6_isBrought_6 : List UInt8 := dkwX6_isBrought_6 ++ dktX6_isBrought_7
def dkwX6_isBrought_5 : List UInt8 := [21, 5, 182, 1, 139, 153, 0, 5, 4, 172, 29, 154, 0, 19, 42, 180, 0, 117, 16, 8, 21, 7, 104]
abbrev dktX6_isBrought_5 : List UInt8 := dkwX6_isBrought_5 ++ dktX6_isBrought_6
def dkwX6_isBrought_4 : List UInt8 := [21, 6, 182, 1, 133, 54, 7, 42, 21, 5, 21, 6, 182, 1, 133, 54, 8, 42, 21, 7, 21, 8, 21, 4]
abbrev dktX6_isBrought_4 : List UInt8 := dkwX6_isBrought_4 ++ dktX6_isBrought_5
def dkwX6_isBrought_3 : List UInt8 := [8, 162, 0, 102, 42, 180, 0, 117, 16, 8, 21, 4, 104, 21, 5, 96, 51, 153, 0, 86, 42, 21, 4]
abbrev dktX6_isBrought_3 : List UInt8 := dkwX6_isBrought_3 ++ dktX6_isBrought_4
def dkwX6_isBrought_2 : List UInt8 := [42, 180, 1, 70, 162, 0, 135, 3, 54, 5, 21, 5, 42, 180, 1, 70, 162, 0, 117, 4, 54, 6, 21, 6]
abbrev dktX6_isBrought_2 : List UInt8 := dkwX6_isBrought_2 ++ dktX6_isBrought_3
def dkwX6_isBrought_1 : List UInt8 := [167, 0, 4, 3, 84, 132, 3, 1, 167, 255, 226, 4, 62, 29, 153, 0, 152, 3, 62, 3, 54, 4, 21, 4]
abbrev dktX6_isBrought_1 : List UInt8 := dkwX6_isBrought_1 ++ dktX6_isBrought_2
def dkwX6_isBrought_0 : List UInt8 := [3, 62, 29, 16, 64, 162, 0, 30, 42, 180, 0, 117, 29, 29, 16, 8, 27, 104, 28, 96, 160, 0, 7, 4]
abbrev dktX6_isBrought_0 : List UInt8 := dkwX6_isBrought_0 ++ dktX6_isBrought_1
theorem dksX6_isBrought_0 : cX6_isBrought.data.toList.drop 0 = dktX6_isBrought_0 := by decide +kernel
theorem dksX6_isBrought_1 : cX6_isBrought.data.toList.drop 24 = dktX6_isBrought_1 := dk_seg dksX6_isBrought_0 24 rfl rfl
theorem dksX6_isBrought_2 : cX6_isBrought.data.toList.drop 48 = dktX6_isBrought_2 := dk_seg dksX6_isBrought_1 24 rfl rfl
theorem dksX6_isBrought_3 : cX6_isBrought.data.toList.drop 72 = dktX6_isBrought_3 := dk_seg dksX6_isBrought_2 24 rfl rfl
theorem dksX6_isBrought_4 : cX6_isBrought.data.toList.drop 95 = dktX6_isBrought_4 := dk_seg dksX6_isBrought_3 23 rfl rfl
theorem dksX6_isBrought_5 : cX6_isBrought.data.toList.drop 119 = dktX6_isBrought_5 := dk_seg dksX6_isBrought_4 24 rfl rfl
theorem dksX6_isBrought_6 : cX6_isBrought.data.toList.drop 142 = dktX6_isBrought_6 := dk_seg dksX6_isBrought_5 23 rfl rfl
theorem dksX6_isBrought_7 : cX6_isBrought.data.toList.drop 166 = dktX6_isBrought_7 := dk_seg dksX6_isBrought_6 24 rfl rfl
theorem dksX6_isBrought_8 : cX6_isBrought.data.toList.drop 190 = dktX6_isBrought_8 := dk_seg dksX6_isBrought_7 24 rfl rfl
theorem dX6_isBrought_0 : decode cX6_isBrought 0 = .ok (.iconst 0, 1) := dk_3 (dk_at dksX6_isBrought_0 0 rfl rfl)
theorem dX6_isBrought_1 : decode cX6_isBrought 1 = .ok (.istore_n 3, 1) := dk_62 (dk_at dksX6_isBrought_0 1 rfl rfl)
theorem dX6_isBrought_2 : decode cX6_isBrought 2 = .ok (.iload_n 3, 1) := dk_29 (dk_at dksX6_isBrought_0 2 rfl rfl)
theorem dX6_isBrought_3 : decode cX6_isBrought 3 = .ok (.bipush 64, 2) := dk_16 64 (dk_at dksX6_isBrought_0 3 rfl rfl)
theorem dX6_isBrought_5 : decode cX6_isBrought 5 = .ok (.if_icmp .ge 30, 3) := dk_162 0 30 (dk_at dksX6_isBrought_0 5 rfl rfl)
theorem dX6_isBrought_8 : decode cX6_isBrought 8 = .ok (.aload_n 0, 1) := dk_42 (dk_at dksX6_isBrought_0 8 rfl rfl)
theorem dX6_isBrought_9 : decode cX6_isBrought 9 = .ok (.getfield 117, 3) := dk_180 0 117 (dk_at dksX6_isBrought_0 9 rfl rfl)
theorem dX6_isBrought_12 : decode cX6_isBrought 12 = .ok (.iload_n 3, 1) := dk_29 (dk_at dksX6_isBrought_0 12 rfl rfl)
theorem dX6_isBrought_13 : decode cX6_isBrought 13 = .ok (.iload_n 3, 1) := dk_29 (dk_at dksX6_isBrought_0 13 rfl rfl)
theorem dX6_isBrought_14 : decode cX6_isBrought 14 = .ok (.bipush 8, 2) := dk_16 8 (dk_at dksX6_isBrought_0 14 rfl rfl)
theorem dX6_isBrought_16 : decode cX6_isBrought 16 = .ok (.iload_n 1, 1) := dk_27 (dk_at dksX6_isBrought_0 16 rfl rfl)
theorem dX6_isBrought_17 : decode cX6_isBrought 17 = .ok (.imul, 1) := dk_104 (dk_at dksX6_isBrought_0 17 rfl rfl)
theorem dX6_isBrought_18 : decode cX6_isBrought 18 = .ok (.iload_n 2, 1) := dk_28 (dk_at dksX6_isBrought_0 18 rfl rfl)
theorem dX6_isBrought_19 : decode cX6_isBrought 19 = .ok (.iadd, 1) := dk_96 (dk_at dksX6_isBrought_0 19 rfl rfl)
theorem dX6_isBrought_20 : decode cX6_isBrought 20 = .ok (.if_icmp .ne 7, 3) := dk_160 0 7 (dk_at dksX6_isBrought_0 20 rfl rfl)
theorem dX6_isBrought_23 : decode cX6_isBrought 23 = .ok (.iconst 1, 1) := dk_4 (dk_at dksX6_isBrought_0 23 rfl rfl)
theorem dX6_isBrought_24 : decode cX6_isBrought 24 = .ok (.goto 4, 3) := dk_167 0 4 (dk_at dksX6_isBrought_1 0 rfl rfl)
theorem dX6_isBrought_27 : decode cX6_isBrought 27 = .ok (.iconst 0, 1) := dk_3 (dk_at dksX6_isBrought_1 3 rfl rfl)
theorem dX6_isBrought_28 : decode cX6_isBrought 28 = .ok (.bastore, 1) := dk_84 (dk_at dksX6_isBrought_1 4 rfl rfl)
theorem dX6_isBrought_29 : decode cX6_isBrought 29 = .ok (.iinc 3 1, 3) := dk_132 3 1 (dk_at dksX6_isBrought_1 5 rfl rfl)
theorem dX6_isBrought_32 : decode cX6_isBrought 32 = .ok (.goto (-30), 3) := dk_167 255 226 (dk_at dksX6_isBrought_1 8 rfl rfl)
theorem dX6_isBrought_35 : decode cX6_isBrought 35 = .ok (.iconst 1, 1) := dk_4 (dk_at dksX6_isBrought_1 11 rfl rfl)
theorem dX6_isBrought_36 : decode cX6_isBrought 36 = .ok (.istore_n 3, 1) := dk_62 (dk_at dksX6_isBrought_1 12 rfl rfl)
theorem dX6_isBrought_37 : decode cX6_isBrought 37 = .ok (.iload_n 3, 1) := dk_29 (dk_at dksX6_isBrought_1 13 rfl rfl)
theorem dX6_isBrought_38 : decode cX6_isBrought 38 = .ok (.ifCond .eq 152, 3) := dk_153 0 152 (dk_at dksX6_isBrought_1 14 rfl rfl)
theorem dX6_isBrought_41 : decode cX6_isBrought 41 = .ok (.iconst 0, 1) := dk_3 (dk_at dksX6_isBrought_1 17 rfl rfl)
theorem dX6_isBrought_42 : decode cX6_isBrought 42 = .ok (.istore_n 3, 1) := dk_62 (dk_at dksX6_isBrought_1 18 rfl rfl)
theorem dX6_isBrought_43 : decode cX6_isBrought 43 = .ok (.iconst 0, 1) := dk_3 (dk_at dksX6_isBrought_1 19 rfl rfl)
theorem dX6_isBrought_44 : decode cX6_isBrought 44 = .ok (.istore 4, 2) := dk_54 4 (dk_at dksX6_isBrought_1 20 rfl rfl)
theorem dX6_isBrought_46 : decode cX6_isBrought 46 = .ok (.iload 4, 2) := dk_21 4 (dk_at dksX6_isBrought_1 22 rfl rfl)
theorem dX6_isBrought_48 : decode cX6_isBrought 48 = .ok (.aload_n 0, 1) := dk_42 (dk_at dksX6_isBrought_2 0 rfl rfl)
theorem dX6_isBrought_49 : decode cX6_isBrought 49 = .ok (.getfield 326, 3) := dk_180 1 70 (dk_at dksX6_isBrought_2 1 rfl rfl)
theorem dX6_isBrought_52 : decode cX6_isBrought 52 = .ok (.if_icmp .ge 135, 3) := dk_162 0 135 (dk_at dksX6_isBrought_2 4 rfl rfl)
theorem dX6_isBrought_55 : decode cX6_isBrought 55 = .ok (.iconst 0, 1) := dk_3 (dk_at dksX6_isBrought_2 7 rfl rfl)
theorem dX6_isBrought_56 : decode cX6_isBrought 56 = .ok (.istore 5, 2) := dk_54 5 (dk_at dksX6_isBrought_2 8 rfl rfl)
theorem dX6_isBrought_58 : decode cX6_isBrought 58 = .ok (.iload 5, 2) := dk_21 5 (dk_at dksX6_isBrought_2 10 rfl rfl)
theorem dX6_isBrought_60 : decode cX6_isBrought 60 = .ok (.aload_n 0, 1) := dk_42 (dk_at dksX6_isBrought_2 12 rfl rfl)
theorem dX6_isBrought_61 : decode cX6_isBrought 61 = .ok (.getfield 326, 3) := dk_180 1 70 (dk_at dksX6_isBrought_2 13 rfl rfl)
theorem dX6_isBrought_64 : decode cX6_isBrought 64 = .ok (.if_icmp .ge 117, 3) := dk_162 0 117 (dk_at dksX6_isBrought_2 16 rfl rfl)
theorem dX6_isBrought_67 : decode cX6_isBrought 67 = .ok (.iconst 1, 1) := dk_4 (dk_at dksX6_isBrought_2 19 rfl rfl)
theorem dX6_isBrought_68 : decode cX6_isBrought 68 = .ok (.istore 6, 2) := dk_54 6 (dk_at dksX6_isBrought_2 20 rfl rfl)
theorem dX6_isBrought_70 : decode cX6_isBrought 70 = .ok (.iload 6, 2) := dk_21 6 (dk_at dksX6_isBrought_2 22 rfl rfl)
theorem dX6_isBrought_72 : decode cX6_isBrought 72 = .ok (.iconst 5, 1) := dk_8 (dk_at dksX6_isBrought_3 0 rfl rfl)
theorem dX6_isBrought_73 : decode cX6_isBrought 73 = .ok (.if_icmp .ge 102, 3) := dk_162 0 102 (dk_at dksX6_isBrought_3 1 rfl rfl)
theorem dX6_isBrought_76 : decode cX6_isBrought 76 = .ok (.aload_n 0, 1) := dk_42 (dk_at dksX6_isBrought_3 4 rfl rfl)
theorem dX6_isBrought_77 : decode cX6_isBrought 77 = .ok (.getfield 117, 3) := dk_180 0 117 (dk_at dksX6_isBrought_3 5 rfl rfl)
theorem dX6_isBrought_80 : decode cX6_isBrought 80 = .ok (.bipush 8, 2) := dk_16 8 (dk_at dksX6_isBrought_3 8 rfl rfl)
theorem dX6_isBrought_82 : decode cX6_isBrought 82 = .ok (.iload 4, 2) := dk_21 4 (dk_at dksX6_isBrought_3 10 rfl rfl)
theorem dX6_isBrought_84 : decode cX6_isBrought 84 = .ok (.imul, 1) := dk_104 (dk_at dksX6_isBrought_3 12 rfl rfl)
theorem dX6_isBrought_85 : decode cX6_isBrought 85 = .ok (.iload 5, 2) := dk_21 5 (dk_at dksX6_isBrought_3 13 rfl rfl)
theorem dX6_isBrought_87 : decode cX6_isBrought 87 = .ok (.iadd, 1) := dk_96 (dk_at dksX6_isBrought_3 15 rfl rfl)
theorem dX6_isBrought_88 : decode cX6_isBrought 88 = .ok (.baload, 1) := dk_51 (dk_at dksX6_isBrought_3 16 rfl rfl)
theorem dX6_isBrought_89 : decode cX6_isBrought 89 = .ok (.ifCond .eq 86, 3) := dk_153 0 86 (dk_at dksX6_isBrought_3 17 rfl rfl)
theorem dX6_isBrought_92 : decode cX6_isBrought 92 = .ok (.aload_n 0, 1) := dk_42 (dk_at dksX6_isBrought_3 20 rfl rfl)
theorem dX6_isBrought_93 : decode cX6_isBrought 93 = .ok (.iload 4, 2) := dk_21 4 (dk_at dksX6_isBrought_3 21 rfl rfl)
theorem dX6_isBrought_95 : decode cX6_isBrought 95 = .ok (.iload 6, 2) := dk_21 6 (dk_at dksX6_isBrought_4 0 rfl rfl)
theorem dX6_isBrought_97 : decode cX6_isBrought 97 = .ok (.invokevirtual 389, 3) := dk_182 1 133 (dk_at dksX6_isBrought_4 2 rfl rfl)
theorem dX6_isBrought_100 : decode cX6_isBrought 100 = .ok (.istore 7, 2) := dk_54 7 (dk_at dksX6_isBrought_4 5 rfl rfl)
theorem dX6_isBrought_102 : decode cX6_isBrought 102 = .ok (.aload_n 0, 1) := dk_42 (dk_at dksX6_isBrought_4 7 rfl rfl)
theorem dX6_isBrought_103 : decode cX6_isBrought 103 = .ok (.iload 5, 2) := dk_21 5 (dk_at dksX6_isBrought_4 8 rfl rfl)
theorem dX6_isBrought_105 : decode cX6_isBrought 105 = .ok (.iload 6, 2) := dk_21 6 (dk_at dksX6_isBrought_4 10 rfl rfl)
theorem dX6_isBrought_107 : decode cX6_isBrought 107 = .ok (.invokevirtual 389, 3) := dk_182 1 133 (dk_at dksX6_isBrought_4 12 rfl rfl)
theorem dX6_isBrought_110 : decode cX6_isBrought 110 = .ok (.istore 8, 2) := dk_54 8 (dk_at dksX6_isBrought_4 15 rfl rfl)
theorem dX6_isBrought_112 : decode cX6_isBrought 112 = .ok (.aload_n 0, 1) := dk_42 (dk_at dksX6_isBrought_4 17 rfl rfl)
theorem dX6_isBrought_113 : decode cX6_isBrought 113 = .ok (.iload 7, 2) := dk_21 7 (dk_at dksX6_isBrought_4 18 rfl rfl)
theorem dX6_isBrought_115 : decode cX6_isBrought 115 = .ok (.iload 8, 2) := dk_21 8 (dk_at dksX6_isBrought_4 20 rfl rfl)
theorem dX6_isBrought_117 : decode cX6_isBrought 117 = .ok (.iload 4, 2) := dk_21 4 (dk_at dksX6_isBrought_4 22 rfl rfl)
theorem dX6_isBrought_119 : decode cX6_isBrought 119 = .ok (.iload 5, 2) := dk_21 5 (dk_at dksX6_isBrought_5 0 rfl rfl)
theorem dX6_isBrought_121 : decode cX6_isBrought 121 = .ok (.invokevirtual 395, 3) := dk_182 1 139 (dk_at dksX6_isBrought_5 2 rfl rfl)
theorem dX6_isBrought_124 : decode cX6_isBrought 124 = .ok (.ifCond .eq 5, 3) := dk_153 0 5 (dk_at dksX6_isBrought_5 5 rfl rfl)
theorem dX6_isBrought_127 : decode cX6_isBrought 127 = .ok (.iconst 1, 1) := dk_4 (dk_at dksX6_isBrought_5 8 rfl rfl)
theorem dX6_isBrought_128 : decode cX6_isBrought 128 = .ok (.ireturn, 1) := dk_172 (dk_at dksX6_isBrought_5 9 rfl rfl)
theorem dX6_isBrought_129 : decode cX6_isBrought 129 = .ok (.iload_n 3, 1) := dk_29 (dk_at dksX6_isBrought_5 10 rfl rfl)
theorem dX6_isBrought_130 : decode cX6_isBrought 130 = .ok (.ifCond .ne 19, 3) := dk_154 0 19 (dk_at dksX6_isBrought_5 11 rfl rfl)
theorem dX6_isBrought_133 : decode cX6_isBrought 133 = .ok (.aload_n 0, 1) := dk_42 (dk_at dksX6_isBrought_5 14 rfl rfl)
theorem dX6_isBrought_134 : decode cX6_isBrought 134 = .ok (.getfield 117, 3) := dk_180 0 117 (dk_at dksX6_isBrought_5 15 rfl rfl)
theorem dX6_isBrought_137 : decode cX6_isBrought 137 = .ok (.bipush 8, 2) := dk_16 8 (dk_at dksX6_isBrought_5 18 rfl rfl)
theorem dX6_isBrought_139 : decode cX6_isBrought 139 = .ok (.iload 7, 2) := dk_21 7 (dk_at dksX6_isBrought_5 20 rfl rfl)
theorem dX6_isBrought_141 : decode cX6_isBrought 141 = .ok (.imul, 1) := dk_104 (dk_at dksX6_isBrought_5 22 rfl rfl)
theorem dX6_isBrought_142 : decode cX6_isBrought 142 = .ok (.iload 8, 2) := dk_21 8 (dk_at dksX6_isBrought_6 0 rfl rfl)
theorem dX6_isBrought_144 : decode cX6_isBrought 144 = .ok (.iadd, 1) := dk_96 (dk_at dksX6_isBrought_6 2 rfl rfl)
theorem dX6_isBrought_145 : decode cX6_isBrought 145 = .ok (.baload, 1) := dk_51 (dk_at dksX6_isBrought_6 3 rfl rfl)
theorem dX6_isBrought_146 : decode cX6_isBrought 146 = .ok (.ifCond .ne 7, 3) := dk_154 0 7 (dk_at dksX6_isBrought_6 4 rfl rfl)
theorem dX6_isBrought_149 : decode cX6_isBrought 149 = .ok (.iconst 1, 1) := dk_4 (dk_at dksX6_isBrought_6 7 rfl rfl)
theorem dX6_isBrought_150 : decode cX6_isBrought 150 = .ok (.goto 4, 3) := dk_167 0 4 (dk_at dksX6_isBrought_6 8 rfl rfl)
theorem dX6_isBrought_153 : decode cX6_isBrought 153 = .ok (.iconst 0, 1) := dk_3 (dk_at dksX6_isBrought_6 11 rfl rfl)
theorem dX6_isBrought_154 : decode cX6_isBrought 154 = .ok (.istore_n 3, 1) := dk_62 (dk_at dksX6_isBrought_6 12 rfl rfl)
theorem dX6_isBrought_155 : decode cX6_isBrought 155 = .ok (.aload_n 0, 1) := dk_42 (dk_at dksX6_isBrought_6 13 rfl rfl)
theorem dX6_isBrought_156 : decode cX6_isBrought 156 = .ok (.getfield 117, 3) := dk_180 0 117 (dk_at dksX6_isBrought_6 14 rfl rfl)
theorem dX6_isBrought_159 : decode cX6_isBrought 159 = .ok (.bipush 8, 2) := dk_16 8 (dk_at dksX6_isBrought_6 17 rfl rfl)
theorem dX6_isBrought_161 : decode cX6_isBrought 161 = .ok (.iload 7, 2) := dk_21 7 (dk_at dksX6_isBrought_6 19 rfl rfl)
theorem dX6_isBrought_163 : decode cX6_isBrought 163 = .ok (.imul, 1) := dk_104 (dk_at dksX6_isBrought_6 21 rfl rfl)
theorem dX6_isBrought_164 : decode cX6_isBrought 164 = .ok (.iload 8, 2) := dk_21 8 (dk_at dksX6_isBrought_6 22 rfl rfl)
theorem dX6_isBrought_166 : decode cX6_isBrought 166 = .ok (.iadd, 1) := dk_96 (dk_at dksX6_isBrought_7 0 rfl rfl)
theorem dX6_isBrought_167 : decode cX6_isBrought 167 = .ok (.iconst 1, 1) := dk_4 (dk_at dksX6_isBrought_7 1 rfl rfl)
theorem dX6_isBrought_168 : decode cX6_isBrought 168 = .ok (.bastore, 1) := dk_84 (dk_at dksX6_isBrought_7 2 rfl rfl)
theorem dX6_isBrought_169 : decode cX6_isBrought 169 = .ok (.iinc 6 1, 3) := dk_132 6 1 (dk_at dksX6_isBrought_7 3 rfl rfl)
theorem dX6_isBrought_172 : decode cX6_isBrought 172 = .ok (.goto (-102), 3) := dk_167 255 154 (dk_at dksX6_isBrought_7 6 rfl rfl)
theorem dX6_isBrought_175 : decode cX6_isBrought 175 = .ok (.iinc 5 1, 3) := dk_132 5 1 (dk_at dksX6_isBrought_7 9 rfl rfl)
theorem dX6_isBrought_178 : decode cX6_isBrought 178 = .ok (.goto (-120), 3) := dk_167 255 136 (dk_at dksX6_isBrought_7 12 rfl rfl)
theorem dX6_isBrought_181 : decode cX6_isBrought 181 = .ok (.iinc 4 1, 3) := dk_132 4 1 (dk_at dksX6_isBrought_7 15 rfl rfl)
theorem dX6_isBrought_184 : decode cX6_isBrought 184 = .ok (.goto (-138), 3) := dk_167 255 118 (dk_at dksX6_isBrought_7 18 rfl rfl)
theorem dX6_isBrought_187 : decode cX6_isBrought 187 = .ok (.goto (-150), 3) := dk_167 255 106 (dk_at dksX6_isBrought_7 21 rfl rfl)
theorem dX6_isBrought_190 : decode cX6_isBrought 190 = .ok (.iconst 0, 1) := dk_3 (dk_at dksX6_isBrought_8 0 rfl rfl)
theorem dX6_isBrought_191 : decode cX6_isBrought 191 = .ok (.ireturn, 1) := dk_172 (dk_at dksX6_isBrought_8 1 rfl rfl)
abbrev cX6_turns : ByteArray := prog_15_method_84_code
def yX6_turns : MethodName := ⟨RX6, "turns", "(II)Z"⟩
def dkwX6_turns_5 : List UInt8 := [167, 255, 194, 3, 172]
abbrev dktX6_turns_5 : List UInt8 := dkwX6_turns_5 ++ []
def dkwX6_turns_4 : List UInt8 := [96, 28, 4, 29, 120, 128, 182, 1, 191, 153, 0, 5, 4, 172, 42, 180, 0, 120, 27, 2, 79, 132, 3, 1]
abbrev dktX6_turns_4 : List UInt8 := dkwX6_turns_4 ++ dktX6_turns_5
def dkwX6_turns_3 : List UInt8 := [160, 0, 6, 167, 0, 42, 42, 180, 0, 120, 27, 29, 79, 42, 27, 182, 1, 188, 153, 0, 20, 42, 27, 4]
abbrev dktX6_turns_3 : List UInt8 := dkwX6_turns_3 ++ dktX6_turns_4
def dkwX6_turns_2 : List UInt8 := [4, 96, 28, 182, 1, 191, 172, 3, 62, 29, 42, 180, 1, 70, 162, 0, 60, 28, 29, 122, 4, 126, 4]
abbrev dktX6_turns_2 : List UInt8 := dkwX6_turns_2 ++ dktX6_turns_3
def dkwX6_turns_1 : List UInt8 := [154, 0, 5, 3, 172, 132, 3, 1, 167, 255, 235, 4, 172, 42, 180, 0, 120, 27, 46, 155, 0, 12, 42, 27]
abbrev dktX6_turns_1 : List UInt8 := dkwX6_turns_1 ++ dktX6_turns_2
def dkwX6_turns_0 : List UInt8 := [27, 42, 180, 1, 70, 160, 0, 31, 3, 62, 29, 42, 180, 1, 70, 162, 0, 19, 42, 29, 182, 1, 188]
abbrev dktX6_turns_0 : List UInt8 := dkwX6_turns_0 ++ dktX6_turns_1
theorem dksX6_turns_0 : cX6_turns.data.toList.drop 0 = dktX6_turns_0 := by decide +kernel
theorem dksX6_turns_1 : cX6_turns.data.toList.drop 23 = dktX6_turns_1 := dk_seg dksX6_turns_0 23 rfl rfl
theorem dksX6_turns_2 : cX6_turns.data.toList.drop 47 = dktX6_turns_2 := dk_seg dksX6_turns_1 24 rfl rfl
theorem dksX6_turns_3 : cX6_turns.data.toList.drop 70 = dktX6_turns_3 := dk_seg dksX6_turns_2 23 rfl rfl
theorem dksX6_turns_4 : cX6_turns.data.toList.drop 94 = dktX6_turns_4 := dk_seg dksX6_turns_3 24 rfl rfl
theorem dksX6_turns_5 : cX6_turns.data.toList.drop 118 = dktX6_turns_5 := dk_seg dksX6_turns_4 24 rfl rfl
theorem dX6_turns_0 : decode cX6_turns 0 = .ok (.iload_n 1, 1) := dk_27 (dk_at dksX6_turns_0 0 rfl rfl)
theorem dX6_turns_1 : decode cX6_turns 1 = .ok (.aload_n 0, 1) := dk_42 (dk_at dksX6_turns_0 1 rfl rfl)
theorem dX6_turns_2 : decode cX6_turns 2 = .ok (.getfield 326, 3) := dk_180 1 70 (dk_at dksX6_turns_0 2 rfl rfl)
theorem dX6_turns_5 : decode cX6_turns 5 = .ok (.if_icmp .ne 31, 3) := dk_160 0 31 (dk_at dksX6_turns_0 5 rfl rfl)
theorem dX6_turns_8 : decode cX6_turns 8 = .ok (.iconst 0, 1) := dk_3 (dk_at dksX6_turns_0 8 rfl rfl)
theorem dX6_turns_9 : decode cX6_turns 9 = .ok (.istore_n 3, 1) := dk_62 (dk_at dksX6_turns_0 9 rfl rfl)
theorem dX6_turns_10 : decode cX6_turns 10 = .ok (.iload_n 3, 1) := dk_29 (dk_at dksX6_turns_0 10 rfl rfl)
theorem dX6_turns_11 : decode cX6_turns 11 = .ok (.aload_n 0, 1) := dk_42 (dk_at dksX6_turns_0 11 rfl rfl)
theorem dX6_turns_12 : decode cX6_turns 12 = .ok (.getfield 326, 3) := dk_180 1 70 (dk_at dksX6_turns_0 12 rfl rfl)
theorem dX6_turns_15 : decode cX6_turns 15 = .ok (.if_icmp .ge 19, 3) := dk_162 0 19 (dk_at dksX6_turns_0 15 rfl rfl)
theorem dX6_turns_18 : decode cX6_turns 18 = .ok (.aload_n 0, 1) := dk_42 (dk_at dksX6_turns_0 18 rfl rfl)
theorem dX6_turns_19 : decode cX6_turns 19 = .ok (.iload_n 3, 1) := dk_29 (dk_at dksX6_turns_0 19 rfl rfl)
theorem dX6_turns_20 : decode cX6_turns 20 = .ok (.invokevirtual 444, 3) := dk_182 1 188 (dk_at dksX6_turns_0 20 rfl rfl)
theorem dX6_turns_23 : decode cX6_turns 23 = .ok (.ifCond .ne 5, 3) := dk_154 0 5 (dk_at dksX6_turns_1 0 rfl rfl)
theorem dX6_turns_26 : decode cX6_turns 26 = .ok (.iconst 0, 1) := dk_3 (dk_at dksX6_turns_1 3 rfl rfl)
theorem dX6_turns_27 : decode cX6_turns 27 = .ok (.ireturn, 1) := dk_172 (dk_at dksX6_turns_1 4 rfl rfl)
theorem dX6_turns_28 : decode cX6_turns 28 = .ok (.iinc 3 1, 3) := dk_132 3 1 (dk_at dksX6_turns_1 5 rfl rfl)
theorem dX6_turns_31 : decode cX6_turns 31 = .ok (.goto (-21), 3) := dk_167 255 235 (dk_at dksX6_turns_1 8 rfl rfl)
theorem dX6_turns_34 : decode cX6_turns 34 = .ok (.iconst 1, 1) := dk_4 (dk_at dksX6_turns_1 11 rfl rfl)
theorem dX6_turns_35 : decode cX6_turns 35 = .ok (.ireturn, 1) := dk_172 (dk_at dksX6_turns_1 12 rfl rfl)
theorem dX6_turns_36 : decode cX6_turns 36 = .ok (.aload_n 0, 1) := dk_42 (dk_at dksX6_turns_1 13 rfl rfl)
theorem dX6_turns_37 : decode cX6_turns 37 = .ok (.getfield 120, 3) := dk_180 0 120 (dk_at dksX6_turns_1 14 rfl rfl)
theorem dX6_turns_40 : decode cX6_turns 40 = .ok (.iload_n 1, 1) := dk_27 (dk_at dksX6_turns_1 17 rfl rfl)
theorem dX6_turns_41 : decode cX6_turns 41 = .ok (.iaload, 1) := dk_46 (dk_at dksX6_turns_1 18 rfl rfl)
theorem dX6_turns_42 : decode cX6_turns 42 = .ok (.ifCond .lt 12, 3) := dk_155 0 12 (dk_at dksX6_turns_1 19 rfl rfl)
theorem dX6_turns_45 : decode cX6_turns 45 = .ok (.aload_n 0, 1) := dk_42 (dk_at dksX6_turns_1 22 rfl rfl)
theorem dX6_turns_46 : decode cX6_turns 46 = .ok (.iload_n 1, 1) := dk_27 (dk_at dksX6_turns_1 23 rfl rfl)
theorem dX6_turns_47 : decode cX6_turns 47 = .ok (.iconst 1, 1) := dk_4 (dk_at dksX6_turns_2 0 rfl rfl)
theorem dX6_turns_48 : decode cX6_turns 48 = .ok (.iadd, 1) := dk_96 (dk_at dksX6_turns_2 1 rfl rfl)
theorem dX6_turns_49 : decode cX6_turns 49 = .ok (.iload_n 2, 1) := dk_28 (dk_at dksX6_turns_2 2 rfl rfl)
theorem dX6_turns_50 : decode cX6_turns 50 = .ok (.invokevirtual 447, 3) := dk_182 1 191 (dk_at dksX6_turns_2 3 rfl rfl)
theorem dX6_turns_53 : decode cX6_turns 53 = .ok (.ireturn, 1) := dk_172 (dk_at dksX6_turns_2 6 rfl rfl)
theorem dX6_turns_54 : decode cX6_turns 54 = .ok (.iconst 0, 1) := dk_3 (dk_at dksX6_turns_2 7 rfl rfl)
theorem dX6_turns_55 : decode cX6_turns 55 = .ok (.istore_n 3, 1) := dk_62 (dk_at dksX6_turns_2 8 rfl rfl)
theorem dX6_turns_56 : decode cX6_turns 56 = .ok (.iload_n 3, 1) := dk_29 (dk_at dksX6_turns_2 9 rfl rfl)
theorem dX6_turns_57 : decode cX6_turns 57 = .ok (.aload_n 0, 1) := dk_42 (dk_at dksX6_turns_2 10 rfl rfl)
theorem dX6_turns_58 : decode cX6_turns 58 = .ok (.getfield 326, 3) := dk_180 1 70 (dk_at dksX6_turns_2 11 rfl rfl)
theorem dX6_turns_61 : decode cX6_turns 61 = .ok (.if_icmp .ge 60, 3) := dk_162 0 60 (dk_at dksX6_turns_2 14 rfl rfl)
theorem dX6_turns_64 : decode cX6_turns 64 = .ok (.iload_n 2, 1) := dk_28 (dk_at dksX6_turns_2 17 rfl rfl)
theorem dX6_turns_65 : decode cX6_turns 65 = .ok (.iload_n 3, 1) := dk_29 (dk_at dksX6_turns_2 18 rfl rfl)
theorem dX6_turns_66 : decode cX6_turns 66 = .ok (.ishr, 1) := dk_122 (dk_at dksX6_turns_2 19 rfl rfl)
theorem dX6_turns_67 : decode cX6_turns 67 = .ok (.iconst 1, 1) := dk_4 (dk_at dksX6_turns_2 20 rfl rfl)
theorem dX6_turns_68 : decode cX6_turns 68 = .ok (.iand, 1) := dk_126 (dk_at dksX6_turns_2 21 rfl rfl)
theorem dX6_turns_69 : decode cX6_turns 69 = .ok (.iconst 1, 1) := dk_4 (dk_at dksX6_turns_2 22 rfl rfl)
theorem dX6_turns_70 : decode cX6_turns 70 = .ok (.if_icmp .ne 6, 3) := dk_160 0 6 (dk_at dksX6_turns_3 0 rfl rfl)
theorem dX6_turns_73 : decode cX6_turns 73 = .ok (.goto 42, 3) := dk_167 0 42 (dk_at dksX6_turns_3 3 rfl rfl)
theorem dX6_turns_76 : decode cX6_turns 76 = .ok (.aload_n 0, 1) := dk_42 (dk_at dksX6_turns_3 6 rfl rfl)
theorem dX6_turns_77 : decode cX6_turns 77 = .ok (.getfield 120, 3) := dk_180 0 120 (dk_at dksX6_turns_3 7 rfl rfl)
theorem dX6_turns_80 : decode cX6_turns 80 = .ok (.iload_n 1, 1) := dk_27 (dk_at dksX6_turns_3 10 rfl rfl)
theorem dX6_turns_81 : decode cX6_turns 81 = .ok (.iload_n 3, 1) := dk_29 (dk_at dksX6_turns_3 11 rfl rfl)
theorem dX6_turns_82 : decode cX6_turns 82 = .ok (.iastore, 1) := dk_79 (dk_at dksX6_turns_3 12 rfl rfl)
theorem dX6_turns_83 : decode cX6_turns 83 = .ok (.aload_n 0, 1) := dk_42 (dk_at dksX6_turns_3 13 rfl rfl)
theorem dX6_turns_84 : decode cX6_turns 84 = .ok (.iload_n 1, 1) := dk_27 (dk_at dksX6_turns_3 14 rfl rfl)
theorem dX6_turns_85 : decode cX6_turns 85 = .ok (.invokevirtual 444, 3) := dk_182 1 188 (dk_at dksX6_turns_3 15 rfl rfl)
theorem dX6_turns_88 : decode cX6_turns 88 = .ok (.ifCond .eq 20, 3) := dk_153 0 20 (dk_at dksX6_turns_3 18 rfl rfl)
theorem dX6_turns_91 : decode cX6_turns 91 = .ok (.aload_n 0, 1) := dk_42 (dk_at dksX6_turns_3 21 rfl rfl)
theorem dX6_turns_92 : decode cX6_turns 92 = .ok (.iload_n 1, 1) := dk_27 (dk_at dksX6_turns_3 22 rfl rfl)
theorem dX6_turns_93 : decode cX6_turns 93 = .ok (.iconst 1, 1) := dk_4 (dk_at dksX6_turns_3 23 rfl rfl)
theorem dX6_turns_94 : decode cX6_turns 94 = .ok (.iadd, 1) := dk_96 (dk_at dksX6_turns_4 0 rfl rfl)
theorem dX6_turns_95 : decode cX6_turns 95 = .ok (.iload_n 2, 1) := dk_28 (dk_at dksX6_turns_4 1 rfl rfl)
theorem dX6_turns_96 : decode cX6_turns 96 = .ok (.iconst 1, 1) := dk_4 (dk_at dksX6_turns_4 2 rfl rfl)
theorem dX6_turns_97 : decode cX6_turns 97 = .ok (.iload_n 3, 1) := dk_29 (dk_at dksX6_turns_4 3 rfl rfl)
theorem dX6_turns_98 : decode cX6_turns 98 = .ok (.ishl, 1) := dk_120 (dk_at dksX6_turns_4 4 rfl rfl)
theorem dX6_turns_99 : decode cX6_turns 99 = .ok (.ior, 1) := dk_128 (dk_at dksX6_turns_4 5 rfl rfl)
theorem dX6_turns_100 : decode cX6_turns 100 = .ok (.invokevirtual 447, 3) := dk_182 1 191 (dk_at dksX6_turns_4 6 rfl rfl)
theorem dX6_turns_103 : decode cX6_turns 103 = .ok (.ifCond .eq 5, 3) := dk_153 0 5 (dk_at dksX6_turns_4 9 rfl rfl)
theorem dX6_turns_106 : decode cX6_turns 106 = .ok (.iconst 1, 1) := dk_4 (dk_at dksX6_turns_4 12 rfl rfl)
theorem dX6_turns_107 : decode cX6_turns 107 = .ok (.ireturn, 1) := dk_172 (dk_at dksX6_turns_4 13 rfl rfl)
theorem dX6_turns_108 : decode cX6_turns 108 = .ok (.aload_n 0, 1) := dk_42 (dk_at dksX6_turns_4 14 rfl rfl)
theorem dX6_turns_109 : decode cX6_turns 109 = .ok (.getfield 120, 3) := dk_180 0 120 (dk_at dksX6_turns_4 15 rfl rfl)
theorem dX6_turns_112 : decode cX6_turns 112 = .ok (.iload_n 1, 1) := dk_27 (dk_at dksX6_turns_4 18 rfl rfl)
theorem dX6_turns_113 : decode cX6_turns 113 = .ok (.iconst (-1), 1) := dk_2 (dk_at dksX6_turns_4 19 rfl rfl)
theorem dX6_turns_114 : decode cX6_turns 114 = .ok (.iastore, 1) := dk_79 (dk_at dksX6_turns_4 20 rfl rfl)
theorem dX6_turns_115 : decode cX6_turns 115 = .ok (.iinc 3 1, 3) := dk_132 3 1 (dk_at dksX6_turns_4 21 rfl rfl)
theorem dX6_turns_118 : decode cX6_turns 118 = .ok (.goto (-62), 3) := dk_167 255 194 (dk_at dksX6_turns_5 0 rfl rfl)
theorem dX6_turns_121 : decode cX6_turns 121 = .ok (.iconst 0, 1) := dk_3 (dk_at dksX6_turns_5 3 rfl rfl)
theorem dX6_turns_122 : decode cX6_turns 122 = .ok (.ireturn, 1) := dk_172 (dk_at dksX6_turns_5 4 rfl rfl)
abbrev cX6_fitsTurn : ByteArray := prog_15_method_83_code
def yX6_fitsTurn : MethodName := ⟨RX6, "fitsTurn", "(I)Z"⟩
def dkwX6_fitsTurn_4 : List UInt8 := [46, 28, 182, 1, 95, 159, 0, 5, 3, 172, 132, 2, 1, 167, 255, 176, 4, 172]
abbrev dktX6_fitsTurn_4 : List UInt8 := dkwX6_fitsTurn_4 ++ []
def dkwX6_fitsTurn_3 : List UInt8 := [182, 1, 95, 46, 155, 0, 30, 42, 180, 0, 120, 42, 27, 28, 182, 1, 95, 46, 42, 42, 180, 0, 120, 27]
abbrev dktX6_fitsTurn_3 : List UInt8 := dkwX6_fitsTurn_3 ++ dktX6_fitsTurn_4
def dkwX6_fitsTurn_2 : List UInt8 := [182, 1, 91, 159, 0, 5, 3, 172, 42, 27, 28, 182, 1, 91, 153, 0, 44, 42, 180, 0, 120, 42, 27, 28]
abbrev dktX6_fitsTurn_2 : List UInt8 := dkwX6_fitsTurn_2 ++ dktX6_fitsTurn_3
def dkwX6_fitsTurn_1 : List UInt8 := [3, 172, 3, 61, 28, 7, 162, 0, 81, 42, 27, 28, 182, 1, 91, 42, 42, 180, 0, 120, 27, 46, 28]
abbrev dktX6_fitsTurn_1 : List UInt8 := dkwX6_fitsTurn_1 ++ dktX6_fitsTurn_2
def dkwX6_fitsTurn_0 : List UInt8 := [42, 180, 0, 38, 6, 27, 104, 46, 42, 180, 0, 38, 6, 42, 180, 0, 120, 27, 46, 104, 46, 159, 0, 5]
abbrev dktX6_fitsTurn_0 : List UInt8 := dkwX6_fitsTurn_0 ++ dktX6_fitsTurn_1
theorem dksX6_fitsTurn_0 : cX6_fitsTurn.data.toList.drop 0 = dktX6_fitsTurn_0 := by decide +kernel
theorem dksX6_fitsTurn_1 : cX6_fitsTurn.data.toList.drop 24 = dktX6_fitsTurn_1 := dk_seg dksX6_fitsTurn_0 24 rfl rfl
theorem dksX6_fitsTurn_2 : cX6_fitsTurn.data.toList.drop 47 = dktX6_fitsTurn_2 := dk_seg dksX6_fitsTurn_1 23 rfl rfl
theorem dksX6_fitsTurn_3 : cX6_fitsTurn.data.toList.drop 71 = dktX6_fitsTurn_3 := dk_seg dksX6_fitsTurn_2 24 rfl rfl
theorem dksX6_fitsTurn_4 : cX6_fitsTurn.data.toList.drop 95 = dktX6_fitsTurn_4 := dk_seg dksX6_fitsTurn_3 24 rfl rfl
theorem dX6_fitsTurn_0 : decode cX6_fitsTurn 0 = .ok (.aload_n 0, 1) := dk_42 (dk_at dksX6_fitsTurn_0 0 rfl rfl)
theorem dX6_fitsTurn_1 : decode cX6_fitsTurn 1 = .ok (.getfield 38, 3) := dk_180 0 38 (dk_at dksX6_fitsTurn_0 1 rfl rfl)
theorem dX6_fitsTurn_4 : decode cX6_fitsTurn 4 = .ok (.iconst 3, 1) := dk_6 (dk_at dksX6_fitsTurn_0 4 rfl rfl)
theorem dX6_fitsTurn_5 : decode cX6_fitsTurn 5 = .ok (.iload_n 1, 1) := dk_27 (dk_at dksX6_fitsTurn_0 5 rfl rfl)
theorem dX6_fitsTurn_6 : decode cX6_fitsTurn 6 = .ok (.imul, 1) := dk_104 (dk_at dksX6_fitsTurn_0 6 rfl rfl)
theorem dX6_fitsTurn_7 : decode cX6_fitsTurn 7 = .ok (.iaload, 1) := dk_46 (dk_at dksX6_fitsTurn_0 7 rfl rfl)
theorem dX6_fitsTurn_8 : decode cX6_fitsTurn 8 = .ok (.aload_n 0, 1) := dk_42 (dk_at dksX6_fitsTurn_0 8 rfl rfl)
theorem dX6_fitsTurn_9 : decode cX6_fitsTurn 9 = .ok (.getfield 38, 3) := dk_180 0 38 (dk_at dksX6_fitsTurn_0 9 rfl rfl)
theorem dX6_fitsTurn_12 : decode cX6_fitsTurn 12 = .ok (.iconst 3, 1) := dk_6 (dk_at dksX6_fitsTurn_0 12 rfl rfl)
theorem dX6_fitsTurn_13 : decode cX6_fitsTurn 13 = .ok (.aload_n 0, 1) := dk_42 (dk_at dksX6_fitsTurn_0 13 rfl rfl)
theorem dX6_fitsTurn_14 : decode cX6_fitsTurn 14 = .ok (.getfield 120, 3) := dk_180 0 120 (dk_at dksX6_fitsTurn_0 14 rfl rfl)
theorem dX6_fitsTurn_17 : decode cX6_fitsTurn 17 = .ok (.iload_n 1, 1) := dk_27 (dk_at dksX6_fitsTurn_0 17 rfl rfl)
theorem dX6_fitsTurn_18 : decode cX6_fitsTurn 18 = .ok (.iaload, 1) := dk_46 (dk_at dksX6_fitsTurn_0 18 rfl rfl)
theorem dX6_fitsTurn_19 : decode cX6_fitsTurn 19 = .ok (.imul, 1) := dk_104 (dk_at dksX6_fitsTurn_0 19 rfl rfl)
theorem dX6_fitsTurn_20 : decode cX6_fitsTurn 20 = .ok (.iaload, 1) := dk_46 (dk_at dksX6_fitsTurn_0 20 rfl rfl)
theorem dX6_fitsTurn_21 : decode cX6_fitsTurn 21 = .ok (.if_icmp .eq 5, 3) := dk_159 0 5 (dk_at dksX6_fitsTurn_0 21 rfl rfl)
theorem dX6_fitsTurn_24 : decode cX6_fitsTurn 24 = .ok (.iconst 0, 1) := dk_3 (dk_at dksX6_fitsTurn_1 0 rfl rfl)
theorem dX6_fitsTurn_25 : decode cX6_fitsTurn 25 = .ok (.ireturn, 1) := dk_172 (dk_at dksX6_fitsTurn_1 1 rfl rfl)
theorem dX6_fitsTurn_26 : decode cX6_fitsTurn 26 = .ok (.iconst 0, 1) := dk_3 (dk_at dksX6_fitsTurn_1 2 rfl rfl)
theorem dX6_fitsTurn_27 : decode cX6_fitsTurn 27 = .ok (.istore_n 2, 1) := dk_61 (dk_at dksX6_fitsTurn_1 3 rfl rfl)
theorem dX6_fitsTurn_28 : decode cX6_fitsTurn 28 = .ok (.iload_n 2, 1) := dk_28 (dk_at dksX6_fitsTurn_1 4 rfl rfl)
theorem dX6_fitsTurn_29 : decode cX6_fitsTurn 29 = .ok (.iconst 4, 1) := dk_7 (dk_at dksX6_fitsTurn_1 5 rfl rfl)
theorem dX6_fitsTurn_30 : decode cX6_fitsTurn 30 = .ok (.if_icmp .ge 81, 3) := dk_162 0 81 (dk_at dksX6_fitsTurn_1 6 rfl rfl)
theorem dX6_fitsTurn_33 : decode cX6_fitsTurn 33 = .ok (.aload_n 0, 1) := dk_42 (dk_at dksX6_fitsTurn_1 9 rfl rfl)
theorem dX6_fitsTurn_34 : decode cX6_fitsTurn 34 = .ok (.iload_n 1, 1) := dk_27 (dk_at dksX6_fitsTurn_1 10 rfl rfl)
theorem dX6_fitsTurn_35 : decode cX6_fitsTurn 35 = .ok (.iload_n 2, 1) := dk_28 (dk_at dksX6_fitsTurn_1 11 rfl rfl)
theorem dX6_fitsTurn_36 : decode cX6_fitsTurn 36 = .ok (.invokevirtual 347, 3) := dk_182 1 91 (dk_at dksX6_fitsTurn_1 12 rfl rfl)
theorem dX6_fitsTurn_39 : decode cX6_fitsTurn 39 = .ok (.aload_n 0, 1) := dk_42 (dk_at dksX6_fitsTurn_1 15 rfl rfl)
theorem dX6_fitsTurn_40 : decode cX6_fitsTurn 40 = .ok (.aload_n 0, 1) := dk_42 (dk_at dksX6_fitsTurn_1 16 rfl rfl)
theorem dX6_fitsTurn_41 : decode cX6_fitsTurn 41 = .ok (.getfield 120, 3) := dk_180 0 120 (dk_at dksX6_fitsTurn_1 17 rfl rfl)
theorem dX6_fitsTurn_44 : decode cX6_fitsTurn 44 = .ok (.iload_n 1, 1) := dk_27 (dk_at dksX6_fitsTurn_1 20 rfl rfl)
theorem dX6_fitsTurn_45 : decode cX6_fitsTurn 45 = .ok (.iaload, 1) := dk_46 (dk_at dksX6_fitsTurn_1 21 rfl rfl)
theorem dX6_fitsTurn_46 : decode cX6_fitsTurn 46 = .ok (.iload_n 2, 1) := dk_28 (dk_at dksX6_fitsTurn_1 22 rfl rfl)
theorem dX6_fitsTurn_47 : decode cX6_fitsTurn 47 = .ok (.invokevirtual 347, 3) := dk_182 1 91 (dk_at dksX6_fitsTurn_2 0 rfl rfl)
theorem dX6_fitsTurn_50 : decode cX6_fitsTurn 50 = .ok (.if_icmp .eq 5, 3) := dk_159 0 5 (dk_at dksX6_fitsTurn_2 3 rfl rfl)
theorem dX6_fitsTurn_53 : decode cX6_fitsTurn 53 = .ok (.iconst 0, 1) := dk_3 (dk_at dksX6_fitsTurn_2 6 rfl rfl)
theorem dX6_fitsTurn_54 : decode cX6_fitsTurn 54 = .ok (.ireturn, 1) := dk_172 (dk_at dksX6_fitsTurn_2 7 rfl rfl)
theorem dX6_fitsTurn_55 : decode cX6_fitsTurn 55 = .ok (.aload_n 0, 1) := dk_42 (dk_at dksX6_fitsTurn_2 8 rfl rfl)
theorem dX6_fitsTurn_56 : decode cX6_fitsTurn 56 = .ok (.iload_n 1, 1) := dk_27 (dk_at dksX6_fitsTurn_2 9 rfl rfl)
theorem dX6_fitsTurn_57 : decode cX6_fitsTurn 57 = .ok (.iload_n 2, 1) := dk_28 (dk_at dksX6_fitsTurn_2 10 rfl rfl)
theorem dX6_fitsTurn_58 : decode cX6_fitsTurn 58 = .ok (.invokevirtual 347, 3) := dk_182 1 91 (dk_at dksX6_fitsTurn_2 11 rfl rfl)
theorem dX6_fitsTurn_61 : decode cX6_fitsTurn 61 = .ok (.ifCond .eq 44, 3) := dk_153 0 44 (dk_at dksX6_fitsTurn_2 14 rfl rfl)
theorem dX6_fitsTurn_64 : decode cX6_fitsTurn 64 = .ok (.aload_n 0, 1) := dk_42 (dk_at dksX6_fitsTurn_2 17 rfl rfl)
theorem dX6_fitsTurn_65 : decode cX6_fitsTurn 65 = .ok (.getfield 120, 3) := dk_180 0 120 (dk_at dksX6_fitsTurn_2 18 rfl rfl)
theorem dX6_fitsTurn_68 : decode cX6_fitsTurn 68 = .ok (.aload_n 0, 1) := dk_42 (dk_at dksX6_fitsTurn_2 21 rfl rfl)
theorem dX6_fitsTurn_69 : decode cX6_fitsTurn 69 = .ok (.iload_n 1, 1) := dk_27 (dk_at dksX6_fitsTurn_2 22 rfl rfl)
theorem dX6_fitsTurn_70 : decode cX6_fitsTurn 70 = .ok (.iload_n 2, 1) := dk_28 (dk_at dksX6_fitsTurn_2 23 rfl rfl)
theorem dX6_fitsTurn_71 : decode cX6_fitsTurn 71 = .ok (.invokevirtual 351, 3) := dk_182 1 95 (dk_at dksX6_fitsTurn_3 0 rfl rfl)
theorem dX6_fitsTurn_74 : decode cX6_fitsTurn 74 = .ok (.iaload, 1) := dk_46 (dk_at dksX6_fitsTurn_3 3 rfl rfl)
theorem dX6_fitsTurn_75 : decode cX6_fitsTurn 75 = .ok (.ifCond .lt 30, 3) := dk_155 0 30 (dk_at dksX6_fitsTurn_3 4 rfl rfl)
theorem dX6_fitsTurn_78 : decode cX6_fitsTurn 78 = .ok (.aload_n 0, 1) := dk_42 (dk_at dksX6_fitsTurn_3 7 rfl rfl)
theorem dX6_fitsTurn_79 : decode cX6_fitsTurn 79 = .ok (.getfield 120, 3) := dk_180 0 120 (dk_at dksX6_fitsTurn_3 8 rfl rfl)
theorem dX6_fitsTurn_82 : decode cX6_fitsTurn 82 = .ok (.aload_n 0, 1) := dk_42 (dk_at dksX6_fitsTurn_3 11 rfl rfl)
theorem dX6_fitsTurn_83 : decode cX6_fitsTurn 83 = .ok (.iload_n 1, 1) := dk_27 (dk_at dksX6_fitsTurn_3 12 rfl rfl)
theorem dX6_fitsTurn_84 : decode cX6_fitsTurn 84 = .ok (.iload_n 2, 1) := dk_28 (dk_at dksX6_fitsTurn_3 13 rfl rfl)
theorem dX6_fitsTurn_85 : decode cX6_fitsTurn 85 = .ok (.invokevirtual 351, 3) := dk_182 1 95 (dk_at dksX6_fitsTurn_3 14 rfl rfl)
theorem dX6_fitsTurn_88 : decode cX6_fitsTurn 88 = .ok (.iaload, 1) := dk_46 (dk_at dksX6_fitsTurn_3 17 rfl rfl)
theorem dX6_fitsTurn_89 : decode cX6_fitsTurn 89 = .ok (.aload_n 0, 1) := dk_42 (dk_at dksX6_fitsTurn_3 18 rfl rfl)
theorem dX6_fitsTurn_90 : decode cX6_fitsTurn 90 = .ok (.aload_n 0, 1) := dk_42 (dk_at dksX6_fitsTurn_3 19 rfl rfl)
theorem dX6_fitsTurn_91 : decode cX6_fitsTurn 91 = .ok (.getfield 120, 3) := dk_180 0 120 (dk_at dksX6_fitsTurn_3 20 rfl rfl)
theorem dX6_fitsTurn_94 : decode cX6_fitsTurn 94 = .ok (.iload_n 1, 1) := dk_27 (dk_at dksX6_fitsTurn_3 23 rfl rfl)
theorem dX6_fitsTurn_95 : decode cX6_fitsTurn 95 = .ok (.iaload, 1) := dk_46 (dk_at dksX6_fitsTurn_4 0 rfl rfl)
theorem dX6_fitsTurn_96 : decode cX6_fitsTurn 96 = .ok (.iload_n 2, 1) := dk_28 (dk_at dksX6_fitsTurn_4 1 rfl rfl)
theorem dX6_fitsTurn_97 : decode cX6_fitsTurn 97 = .ok (.invokevirtual 351, 3) := dk_182 1 95 (dk_at dksX6_fitsTurn_4 2 rfl rfl)
theorem dX6_fitsTurn_100 : decode cX6_fitsTurn 100 = .ok (.if_icmp .eq 5, 3) := dk_159 0 5 (dk_at dksX6_fitsTurn_4 5 rfl rfl)
theorem dX6_fitsTurn_103 : decode cX6_fitsTurn 103 = .ok (.iconst 0, 1) := dk_3 (dk_at dksX6_fitsTurn_4 8 rfl rfl)
theorem dX6_fitsTurn_104 : decode cX6_fitsTurn 104 = .ok (.ireturn, 1) := dk_172 (dk_at dksX6_fitsTurn_4 9 rfl rfl)
theorem dX6_fitsTurn_105 : decode cX6_fitsTurn 105 = .ok (.iinc 2 1, 3) := dk_132 2 1 (dk_at dksX6_fitsTurn_4 10 rfl rfl)
theorem dX6_fitsTurn_108 : decode cX6_fitsTurn 108 = .ok (.goto (-80), 3) := dk_167 255 176 (dk_at dksX6_fitsTurn_4 13 rfl rfl)
theorem dX6_fitsTurn_111 : decode cX6_fitsTurn 111 = .ok (.iconst 1, 1) := dk_4 (dk_at dksX6_fitsTurn_4 16 rfl rfl)
theorem dX6_fitsTurn_112 : decode cX6_fitsTurn 112 = .ok (.ireturn, 1) := dk_172 (dk_at dksX6_fitsTurn_4 17 rfl rfl)
abbrev cX6_drawn : ByteArray := prog_15_method_90_code
def yX6_drawn : MethodName := ⟨RX6, "drawn", "(IIIII)Z"⟩
def dkwX6_drawn_2 : List UInt8 := [182, 1, 162, 4, 172]
abbrev dktX6_drawn_2 : List UInt8 := dkwX6_drawn_2 ++ []
def dkwX6_drawn_1 : List UInt8 := [158, 0, 5, 3, 172, 42, 42, 27, 28, 29, 21, 4, 21, 5, 182, 1, 208, 42, 21, 5, 182, 1, 212]
abbrev dktX6_drawn_1 : List UInt8 := dkwX6_drawn_1 ++ dktX6_drawn_2
def dkwX6_drawn_0 : List UInt8 := [42, 3, 181, 0, 144, 42, 42, 27, 28, 29, 21, 4, 21, 5, 182, 1, 205, 181, 0, 147, 42, 180, 0, 147]
abbrev dktX6_drawn_0 : List UInt8 := dkwX6_drawn_0 ++ dktX6_drawn_1
theorem dksX6_drawn_0 : cX6_drawn.data.toList.drop 0 = dktX6_drawn_0 := by decide +kernel
theorem dksX6_drawn_1 : cX6_drawn.data.toList.drop 24 = dktX6_drawn_1 := dk_seg dksX6_drawn_0 24 rfl rfl
theorem dksX6_drawn_2 : cX6_drawn.data.toList.drop 47 = dktX6_drawn_2 := dk_seg dksX6_drawn_1 23 rfl rfl
theorem dX6_drawn_0 : decode cX6_drawn 0 = .ok (.aload_n 0, 1) := dk_42 (dk_at dksX6_drawn_0 0 rfl rfl)
theorem dX6_drawn_1 : decode cX6_drawn 1 = .ok (.iconst 0, 1) := dk_3 (dk_at dksX6_drawn_0 1 rfl rfl)
theorem dX6_drawn_2 : decode cX6_drawn 2 = .ok (.putfield 144, 3) := dk_181 0 144 (dk_at dksX6_drawn_0 2 rfl rfl)
theorem dX6_drawn_5 : decode cX6_drawn 5 = .ok (.aload_n 0, 1) := dk_42 (dk_at dksX6_drawn_0 5 rfl rfl)
theorem dX6_drawn_6 : decode cX6_drawn 6 = .ok (.aload_n 0, 1) := dk_42 (dk_at dksX6_drawn_0 6 rfl rfl)
theorem dX6_drawn_7 : decode cX6_drawn 7 = .ok (.iload_n 1, 1) := dk_27 (dk_at dksX6_drawn_0 7 rfl rfl)
theorem dX6_drawn_8 : decode cX6_drawn 8 = .ok (.iload_n 2, 1) := dk_28 (dk_at dksX6_drawn_0 8 rfl rfl)
theorem dX6_drawn_9 : decode cX6_drawn 9 = .ok (.iload_n 3, 1) := dk_29 (dk_at dksX6_drawn_0 9 rfl rfl)
theorem dX6_drawn_10 : decode cX6_drawn 10 = .ok (.iload 4, 2) := dk_21 4 (dk_at dksX6_drawn_0 10 rfl rfl)
theorem dX6_drawn_12 : decode cX6_drawn 12 = .ok (.iload 5, 2) := dk_21 5 (dk_at dksX6_drawn_0 12 rfl rfl)
theorem dX6_drawn_14 : decode cX6_drawn 14 = .ok (.invokevirtual 461, 3) := dk_182 1 205 (dk_at dksX6_drawn_0 14 rfl rfl)
theorem dX6_drawn_17 : decode cX6_drawn 17 = .ok (.putfield 147, 3) := dk_181 0 147 (dk_at dksX6_drawn_0 17 rfl rfl)
theorem dX6_drawn_20 : decode cX6_drawn 20 = .ok (.aload_n 0, 1) := dk_42 (dk_at dksX6_drawn_0 20 rfl rfl)
theorem dX6_drawn_21 : decode cX6_drawn 21 = .ok (.getfield 147, 3) := dk_180 0 147 (dk_at dksX6_drawn_0 21 rfl rfl)
theorem dX6_drawn_24 : decode cX6_drawn 24 = .ok (.ifCond .le 5, 3) := dk_158 0 5 (dk_at dksX6_drawn_1 0 rfl rfl)
theorem dX6_drawn_27 : decode cX6_drawn 27 = .ok (.iconst 0, 1) := dk_3 (dk_at dksX6_drawn_1 3 rfl rfl)
theorem dX6_drawn_28 : decode cX6_drawn 28 = .ok (.ireturn, 1) := dk_172 (dk_at dksX6_drawn_1 4 rfl rfl)
theorem dX6_drawn_29 : decode cX6_drawn 29 = .ok (.aload_n 0, 1) := dk_42 (dk_at dksX6_drawn_1 5 rfl rfl)
theorem dX6_drawn_30 : decode cX6_drawn 30 = .ok (.aload_n 0, 1) := dk_42 (dk_at dksX6_drawn_1 6 rfl rfl)
theorem dX6_drawn_31 : decode cX6_drawn 31 = .ok (.iload_n 1, 1) := dk_27 (dk_at dksX6_drawn_1 7 rfl rfl)
theorem dX6_drawn_32 : decode cX6_drawn 32 = .ok (.iload_n 2, 1) := dk_28 (dk_at dksX6_drawn_1 8 rfl rfl)
theorem dX6_drawn_33 : decode cX6_drawn 33 = .ok (.iload_n 3, 1) := dk_29 (dk_at dksX6_drawn_1 9 rfl rfl)
theorem dX6_drawn_34 : decode cX6_drawn 34 = .ok (.iload 4, 2) := dk_21 4 (dk_at dksX6_drawn_1 10 rfl rfl)
theorem dX6_drawn_36 : decode cX6_drawn 36 = .ok (.iload 5, 2) := dk_21 5 (dk_at dksX6_drawn_1 12 rfl rfl)
theorem dX6_drawn_38 : decode cX6_drawn 38 = .ok (.invokevirtual 464, 3) := dk_182 1 208 (dk_at dksX6_drawn_1 14 rfl rfl)
theorem dX6_drawn_41 : decode cX6_drawn 41 = .ok (.aload_n 0, 1) := dk_42 (dk_at dksX6_drawn_1 17 rfl rfl)
theorem dX6_drawn_42 : decode cX6_drawn 42 = .ok (.iload 5, 2) := dk_21 5 (dk_at dksX6_drawn_1 18 rfl rfl)
theorem dX6_drawn_44 : decode cX6_drawn 44 = .ok (.invokevirtual 468, 3) := dk_182 1 212 (dk_at dksX6_drawn_1 20 rfl rfl)
theorem dX6_drawn_47 : decode cX6_drawn 47 = .ok (.invokevirtual 418, 3) := dk_182 1 162 (dk_at dksX6_drawn_2 0 rfl rfl)
theorem dX6_drawn_50 : decode cX6_drawn 50 = .ok (.iconst 1, 1) := dk_4 (dk_at dksX6_drawn_2 3 rfl rfl)
theorem dX6_drawn_51 : decode cX6_drawn 51 = .ok (.ireturn, 1) := dk_172 (dk_at dksX6_drawn_2 4 rfl rfl)
abbrev cX6_asksDrawn : ByteArray := prog_15_method_88_code
def yX6_asksDrawn : MethodName := ⟨RX6, "asksDrawn", "(IIIII)I"⟩
def dkwX6_asksDrawn_3 : List UInt8 := [167, 0, 4, 3, 172]
abbrev dktX6_asksDrawn_3 : List UInt8 := dkwX6_asksDrawn_3 ++ []
def dkwX6_asksDrawn_2 : List UInt8 := [20, 1, 101, 184, 1, 6, 154, 0, 5, 8, 172, 42, 182, 1, 155, 9, 148, 154, 0, 8, 16, 9]
abbrev dktX6_asksDrawn_2 : List UInt8 := dkwX6_asksDrawn_2 ++ dktX6_asksDrawn_3
def dkwX6_asksDrawn_1 : List UInt8 := [184, 1, 6, 153, 0, 29, 21, 4, 133, 10, 20, 1, 109, 184, 1, 6, 153, 0, 16, 21, 5, 133, 10]
abbrev dktX6_asksDrawn_1 : List UInt8 := dkwX6_asksDrawn_1 ++ dktX6_asksDrawn_2
def dkwX6_asksDrawn_0 : List UInt8 := [42, 27, 182, 1, 143, 153, 0, 11, 42, 28, 182, 1, 143, 154, 0, 5, 5, 172, 29, 133, 9, 20, 1, 203]
abbrev dktX6_asksDrawn_0 : List UInt8 := dkwX6_asksDrawn_0 ++ dktX6_asksDrawn_1
theorem dksX6_asksDrawn_0 : cX6_asksDrawn.data.toList.drop 0 = dktX6_asksDrawn_0 := by decide +kernel
theorem dksX6_asksDrawn_1 : cX6_asksDrawn.data.toList.drop 24 = dktX6_asksDrawn_1 := dk_seg dksX6_asksDrawn_0 24 rfl rfl
theorem dksX6_asksDrawn_2 : cX6_asksDrawn.data.toList.drop 47 = dktX6_asksDrawn_2 := dk_seg dksX6_asksDrawn_1 23 rfl rfl
theorem dksX6_asksDrawn_3 : cX6_asksDrawn.data.toList.drop 69 = dktX6_asksDrawn_3 := dk_seg dksX6_asksDrawn_2 22 rfl rfl
theorem dX6_asksDrawn_0 : decode cX6_asksDrawn 0 = .ok (.aload_n 0, 1) := dk_42 (dk_at dksX6_asksDrawn_0 0 rfl rfl)
theorem dX6_asksDrawn_1 : decode cX6_asksDrawn 1 = .ok (.iload_n 1, 1) := dk_27 (dk_at dksX6_asksDrawn_0 1 rfl rfl)
theorem dX6_asksDrawn_2 : decode cX6_asksDrawn 2 = .ok (.invokevirtual 399, 3) := dk_182 1 143 (dk_at dksX6_asksDrawn_0 2 rfl rfl)
theorem dX6_asksDrawn_5 : decode cX6_asksDrawn 5 = .ok (.ifCond .eq 11, 3) := dk_153 0 11 (dk_at dksX6_asksDrawn_0 5 rfl rfl)
theorem dX6_asksDrawn_8 : decode cX6_asksDrawn 8 = .ok (.aload_n 0, 1) := dk_42 (dk_at dksX6_asksDrawn_0 8 rfl rfl)
theorem dX6_asksDrawn_9 : decode cX6_asksDrawn 9 = .ok (.iload_n 2, 1) := dk_28 (dk_at dksX6_asksDrawn_0 9 rfl rfl)
theorem dX6_asksDrawn_10 : decode cX6_asksDrawn 10 = .ok (.invokevirtual 399, 3) := dk_182 1 143 (dk_at dksX6_asksDrawn_0 10 rfl rfl)
theorem dX6_asksDrawn_13 : decode cX6_asksDrawn 13 = .ok (.ifCond .ne 5, 3) := dk_154 0 5 (dk_at dksX6_asksDrawn_0 13 rfl rfl)
theorem dX6_asksDrawn_16 : decode cX6_asksDrawn 16 = .ok (.iconst 2, 1) := dk_5 (dk_at dksX6_asksDrawn_0 16 rfl rfl)
theorem dX6_asksDrawn_17 : decode cX6_asksDrawn 17 = .ok (.ireturn, 1) := dk_172 (dk_at dksX6_asksDrawn_0 17 rfl rfl)
theorem dX6_asksDrawn_18 : decode cX6_asksDrawn 18 = .ok (.iload_n 3, 1) := dk_29 (dk_at dksX6_asksDrawn_0 18 rfl rfl)
theorem dX6_asksDrawn_19 : decode cX6_asksDrawn 19 = .ok (.i2l, 1) := dk_133 (dk_at dksX6_asksDrawn_0 19 rfl rfl)
theorem dX6_asksDrawn_20 : decode cX6_asksDrawn 20 = .ok (.lconst 0, 1) := dk_9 (dk_at dksX6_asksDrawn_0 20 rfl rfl)
theorem dX6_asksDrawn_21 : decode cX6_asksDrawn 21 = .ok (.ldc2_w 459, 3) := dk_20 1 203 (dk_at dksX6_asksDrawn_0 21 rfl rfl)
theorem dX6_asksDrawn_24 : decode cX6_asksDrawn 24 = .ok (.invokestatic 262, 3) := dk_184 1 6 (dk_at dksX6_asksDrawn_1 0 rfl rfl)
theorem dX6_asksDrawn_27 : decode cX6_asksDrawn 27 = .ok (.ifCond .eq 29, 3) := dk_153 0 29 (dk_at dksX6_asksDrawn_1 3 rfl rfl)
theorem dX6_asksDrawn_30 : decode cX6_asksDrawn 30 = .ok (.iload 4, 2) := dk_21 4 (dk_at dksX6_asksDrawn_1 6 rfl rfl)
theorem dX6_asksDrawn_32 : decode cX6_asksDrawn 32 = .ok (.i2l, 1) := dk_133 (dk_at dksX6_asksDrawn_1 8 rfl rfl)
theorem dX6_asksDrawn_33 : decode cX6_asksDrawn 33 = .ok (.lconst 1, 1) := dk_10 (dk_at dksX6_asksDrawn_1 9 rfl rfl)
theorem dX6_asksDrawn_34 : decode cX6_asksDrawn 34 = .ok (.ldc2_w 365, 3) := dk_20 1 109 (dk_at dksX6_asksDrawn_1 10 rfl rfl)
theorem dX6_asksDrawn_37 : decode cX6_asksDrawn 37 = .ok (.invokestatic 262, 3) := dk_184 1 6 (dk_at dksX6_asksDrawn_1 13 rfl rfl)
theorem dX6_asksDrawn_40 : decode cX6_asksDrawn 40 = .ok (.ifCond .eq 16, 3) := dk_153 0 16 (dk_at dksX6_asksDrawn_1 16 rfl rfl)
theorem dX6_asksDrawn_43 : decode cX6_asksDrawn 43 = .ok (.iload 5, 2) := dk_21 5 (dk_at dksX6_asksDrawn_1 19 rfl rfl)
theorem dX6_asksDrawn_45 : decode cX6_asksDrawn 45 = .ok (.i2l, 1) := dk_133 (dk_at dksX6_asksDrawn_1 21 rfl rfl)
theorem dX6_asksDrawn_46 : decode cX6_asksDrawn 46 = .ok (.lconst 1, 1) := dk_10 (dk_at dksX6_asksDrawn_1 22 rfl rfl)
theorem dX6_asksDrawn_47 : decode cX6_asksDrawn 47 = .ok (.ldc2_w 357, 3) := dk_20 1 101 (dk_at dksX6_asksDrawn_2 0 rfl rfl)
theorem dX6_asksDrawn_50 : decode cX6_asksDrawn 50 = .ok (.invokestatic 262, 3) := dk_184 1 6 (dk_at dksX6_asksDrawn_2 3 rfl rfl)
theorem dX6_asksDrawn_53 : decode cX6_asksDrawn 53 = .ok (.ifCond .ne 5, 3) := dk_154 0 5 (dk_at dksX6_asksDrawn_2 6 rfl rfl)
theorem dX6_asksDrawn_56 : decode cX6_asksDrawn 56 = .ok (.iconst 5, 1) := dk_8 (dk_at dksX6_asksDrawn_2 9 rfl rfl)
theorem dX6_asksDrawn_57 : decode cX6_asksDrawn 57 = .ok (.ireturn, 1) := dk_172 (dk_at dksX6_asksDrawn_2 10 rfl rfl)
theorem dX6_asksDrawn_58 : decode cX6_asksDrawn 58 = .ok (.aload_n 0, 1) := dk_42 (dk_at dksX6_asksDrawn_2 11 rfl rfl)
theorem dX6_asksDrawn_59 : decode cX6_asksDrawn 59 = .ok (.invokevirtual 411, 3) := dk_182 1 155 (dk_at dksX6_asksDrawn_2 12 rfl rfl)
theorem dX6_asksDrawn_62 : decode cX6_asksDrawn 62 = .ok (.lconst 0, 1) := dk_9 (dk_at dksX6_asksDrawn_2 15 rfl rfl)
theorem dX6_asksDrawn_63 : decode cX6_asksDrawn 63 = .ok (.lcmp, 1) := dk_148 (dk_at dksX6_asksDrawn_2 16 rfl rfl)
theorem dX6_asksDrawn_64 : decode cX6_asksDrawn 64 = .ok (.ifCond .ne 8, 3) := dk_154 0 8 (dk_at dksX6_asksDrawn_2 17 rfl rfl)
theorem dX6_asksDrawn_67 : decode cX6_asksDrawn 67 = .ok (.bipush 9, 2) := dk_16 9 (dk_at dksX6_asksDrawn_2 20 rfl rfl)
theorem dX6_asksDrawn_69 : decode cX6_asksDrawn 69 = .ok (.goto 4, 3) := dk_167 0 4 (dk_at dksX6_asksDrawn_3 0 rfl rfl)
theorem dX6_asksDrawn_72 : decode cX6_asksDrawn 72 = .ok (.iconst 0, 1) := dk_3 (dk_at dksX6_asksDrawn_3 3 rfl rfl)
theorem dX6_asksDrawn_73 : decode cX6_asksDrawn 73 = .ok (.ireturn, 1) := dk_172 (dk_at dksX6_asksDrawn_3 4 rfl rfl)
abbrev cX6_metOf : ByteArray := prog_15_method_87_code
def yX6_metOf : MethodName := ⟨RX6, "metOf", "(IIIII)J"⟩
def dkwX6_metOf_16 : List UInt8 := [173]
abbrev dktX6_metOf_16 : List UInt8 := dkwX6_metOf_16 ++ []
def dkwX6_metOf_15 : List UInt8 := [21, 9, 42, 180, 0, 126, 21, 9, 47, 80, 132, 9, 1, 167, 255, 232, 132, 8, 1, 167, 255, 17, 22, 6]
abbrev dktX6_metOf_15 : List UInt8 := dkwX6_metOf_15 ++ dktX6_metOf_16
def dkwX6_metOf_14 : List UInt8 := [167, 255, 126, 132, 9, 1, 167, 255, 95, 3, 54, 9, 21, 9, 16, 64, 162, 0, 23, 42, 180, 0, 123]
abbrev dktX6_metOf_14 : List UInt8 := dkwX6_metOf_14 ++ dktX6_metOf_15
def dkwX6_metOf_13 : List UInt8 := [22, 11, 97, 55, 6, 167, 0, 15, 42, 180, 0, 126, 21, 13, 92, 47, 22, 11, 97, 80, 132, 10, 1]
abbrev dktX6_metOf_13 : List UInt8 := dkwX6_metOf_13 ++ dktX6_metOf_14
def dkwX6_metOf_12 : List UInt8 := [21, 9, 16, 8, 108, 21, 9, 16, 8, 112, 21, 4, 182, 1, 199, 54, 13, 21, 13, 156, 0, 13, 22, 6]
abbrev dktX6_metOf_12 : List UInt8 := dkwX6_metOf_12 ++ dktX6_metOf_13
def dkwX6_metOf_11 : List UInt8 := [21, 10, 5, 162, 0, 7, 27, 167, 0, 4, 28, 21, 10, 5, 112, 154, 0, 7, 27, 167, 0, 4, 28]
abbrev dktX6_metOf_11 : List UInt8 := dkwX6_metOf_11 ++ dktX6_metOf_12
def dkwX6_metOf_10 : List UInt8 := [167, 0, 7, 16, 16, 29, 100, 133, 105, 55, 11, 22, 11, 9, 148, 154, 0, 7, 3, 167, 0, 42, 42]
abbrev dktX6_metOf_10 : List UInt8 := dkwX6_metOf_10 ++ dktX6_metOf_11
def dkwX6_metOf_9 : List UInt8 := [21, 10, 5, 162, 0, 7, 29, 167, 0, 7, 16, 16, 29, 100, 133, 105, 21, 10, 5, 112, 154, 0, 7, 29]
abbrev dktX6_metOf_9 : List UInt8 := dkwX6_metOf_9 ++ dktX6_metOf_10
def dkwX6_metOf_8 : List UInt8 := [148, 154, 0, 6, 167, 0, 139, 3, 54, 10, 21, 10, 7, 162, 0, 130, 42, 180, 0, 123, 21, 9, 47]
abbrev dktX6_metOf_8 : List UInt8 := dkwX6_metOf_8 ++ dktX6_metOf_9
def dkwX6_metOf_7 : List UInt8 := [132, 9, 1, 167, 255, 238, 3, 54, 9, 21, 9, 16, 64, 162, 0, 160, 42, 180, 0, 123, 21, 9, 47, 9]
abbrev dktX6_metOf_7 : List UInt8 := dkwX6_metOf_7 ++ dktX6_metOf_8
def dkwX6_metOf_6 : List UInt8 := [20, 1, 197, 105, 55, 6, 3, 54, 9, 21, 9, 16, 64, 162, 0, 17, 42, 180, 0, 126, 21, 9, 9, 80]
abbrev dktX6_metOf_6 : List UInt8 := dkwX6_metOf_6 ++ dktX6_metOf_7
def dkwX6_metOf_5 : List UInt8 := [132, 9, 1, 167, 255, 155, 132, 8, 1, 167, 255, 139, 3, 54, 8, 21, 8, 21, 5, 162, 0, 238, 22, 6]
abbrev dktX6_metOf_5 : List UInt8 := dkwX6_metOf_5 ++ dktX6_metOf_6
def dkwX6_metOf_4 : List UInt8 := [21, 8, 21, 9, 160, 0, 14, 42, 21, 8, 21, 9, 182, 1, 152, 167, 0, 4, 9, 97, 55, 6]
abbrev dktX6_metOf_4 : List UInt8 := dkwX6_metOf_4 ++ dktX6_metOf_5
def dkwX6_metOf_3 : List UInt8 := [159, 0, 14, 42, 21, 8, 21, 9, 182, 1, 152, 167, 0, 4, 9, 80, 22, 6, 21, 10, 153, 0, 21]
abbrev dktX6_metOf_3 : List UInt8 := dkwX6_metOf_3 ++ dktX6_metOf_4
def dkwX6_metOf_2 : List UInt8 := [54, 10, 42, 180, 0, 123, 16, 8, 21, 8, 104, 21, 9, 96, 21, 10, 153, 0, 21, 21, 8, 21, 9]
abbrev dktX6_metOf_2 : List UInt8 := dkwX6_metOf_2 ++ dktX6_metOf_3
def dkwX6_metOf_1 : List UInt8 := [21, 8, 42, 180, 1, 70, 162, 0, 16, 21, 9, 42, 180, 1, 70, 162, 0, 7, 4, 167, 0, 4, 3]
abbrev dktX6_metOf_1 : List UInt8 := dkwX6_metOf_1 ++ dktX6_metOf_2
def dkwX6_metOf_0 : List UInt8 := [9, 55, 6, 3, 54, 8, 21, 8, 16, 8, 162, 0, 116, 3, 54, 9, 21, 9, 16, 8, 162, 0, 100]
abbrev dktX6_metOf_0 : List UInt8 := dkwX6_metOf_0 ++ dktX6_metOf_1
theorem dksX6_metOf_0 : cX6_metOf.data.toList.drop 0 = dktX6_metOf_0 := by decide +kernel
theorem dksX6_metOf_1 : cX6_metOf.data.toList.drop 23 = dktX6_metOf_1 := dk_seg dksX6_metOf_0 23 rfl rfl
theorem dksX6_metOf_2 : cX6_metOf.data.toList.drop 46 = dktX6_metOf_2 := dk_seg dksX6_metOf_1 23 rfl rfl
theorem dksX6_metOf_3 : cX6_metOf.data.toList.drop 69 = dktX6_metOf_3 := dk_seg dksX6_metOf_2 23 rfl rfl
theorem dksX6_metOf_4 : cX6_metOf.data.toList.drop 92 = dktX6_metOf_4 := dk_seg dksX6_metOf_3 23 rfl rfl
theorem dksX6_metOf_5 : cX6_metOf.data.toList.drop 114 = dktX6_metOf_5 := dk_seg dksX6_metOf_4 22 rfl rfl
theorem dksX6_metOf_6 : cX6_metOf.data.toList.drop 138 = dktX6_metOf_6 := dk_seg dksX6_metOf_5 24 rfl rfl
theorem dksX6_metOf_7 : cX6_metOf.data.toList.drop 162 = dktX6_metOf_7 := dk_seg dksX6_metOf_6 24 rfl rfl
theorem dksX6_metOf_8 : cX6_metOf.data.toList.drop 186 = dktX6_metOf_8 := dk_seg dksX6_metOf_7 24 rfl rfl
theorem dksX6_metOf_9 : cX6_metOf.data.toList.drop 209 = dktX6_metOf_9 := dk_seg dksX6_metOf_8 23 rfl rfl
theorem dksX6_metOf_10 : cX6_metOf.data.toList.drop 233 = dktX6_metOf_10 := dk_seg dksX6_metOf_9 24 rfl rfl
theorem dksX6_metOf_11 : cX6_metOf.data.toList.drop 256 = dktX6_metOf_11 := dk_seg dksX6_metOf_10 23 rfl rfl
theorem dksX6_metOf_12 : cX6_metOf.data.toList.drop 279 = dktX6_metOf_12 := dk_seg dksX6_metOf_11 23 rfl rfl
theorem dksX6_metOf_13 : cX6_metOf.data.toList.drop 303 = dktX6_metOf_13 := dk_seg dksX6_metOf_12 24 rfl rfl
theorem dksX6_metOf_14 : cX6_metOf.data.toList.drop 326 = dktX6_metOf_14 := dk_seg dksX6_metOf_13 23 rfl rfl
theorem dksX6_metOf_15 : cX6_metOf.data.toList.drop 349 = dktX6_metOf_15 := dk_seg dksX6_metOf_14 23 rfl rfl
theorem dksX6_metOf_16 : cX6_metOf.data.toList.drop 373 = dktX6_metOf_16 := dk_seg dksX6_metOf_15 24 rfl rfl
theorem dX6_metOf_0 : decode cX6_metOf 0 = .ok (.lconst 0, 1) := dk_9 (dk_at dksX6_metOf_0 0 rfl rfl)
theorem dX6_metOf_1 : decode cX6_metOf 1 = .ok (.lstore 6, 2) := dk_55 6 (dk_at dksX6_metOf_0 1 rfl rfl)
theorem dX6_metOf_3 : decode cX6_metOf 3 = .ok (.iconst 0, 1) := dk_3 (dk_at dksX6_metOf_0 3 rfl rfl)
theorem dX6_metOf_4 : decode cX6_metOf 4 = .ok (.istore 8, 2) := dk_54 8 (dk_at dksX6_metOf_0 4 rfl rfl)
theorem dX6_metOf_6 : decode cX6_metOf 6 = .ok (.iload 8, 2) := dk_21 8 (dk_at dksX6_metOf_0 6 rfl rfl)
theorem dX6_metOf_8 : decode cX6_metOf 8 = .ok (.bipush 8, 2) := dk_16 8 (dk_at dksX6_metOf_0 8 rfl rfl)
theorem dX6_metOf_10 : decode cX6_metOf 10 = .ok (.if_icmp .ge 116, 3) := dk_162 0 116 (dk_at dksX6_metOf_0 10 rfl rfl)
theorem dX6_metOf_13 : decode cX6_metOf 13 = .ok (.iconst 0, 1) := dk_3 (dk_at dksX6_metOf_0 13 rfl rfl)
theorem dX6_metOf_14 : decode cX6_metOf 14 = .ok (.istore 9, 2) := dk_54 9 (dk_at dksX6_metOf_0 14 rfl rfl)
theorem dX6_metOf_16 : decode cX6_metOf 16 = .ok (.iload 9, 2) := dk_21 9 (dk_at dksX6_metOf_0 16 rfl rfl)
theorem dX6_metOf_18 : decode cX6_metOf 18 = .ok (.bipush 8, 2) := dk_16 8 (dk_at dksX6_metOf_0 18 rfl rfl)
theorem dX6_metOf_20 : decode cX6_metOf 20 = .ok (.if_icmp .ge 100, 3) := dk_162 0 100 (dk_at dksX6_metOf_0 20 rfl rfl)
theorem dX6_metOf_23 : decode cX6_metOf 23 = .ok (.iload 8, 2) := dk_21 8 (dk_at dksX6_metOf_1 0 rfl rfl)
theorem dX6_metOf_25 : decode cX6_metOf 25 = .ok (.aload_n 0, 1) := dk_42 (dk_at dksX6_metOf_1 2 rfl rfl)
theorem dX6_metOf_26 : decode cX6_metOf 26 = .ok (.getfield 326, 3) := dk_180 1 70 (dk_at dksX6_metOf_1 3 rfl rfl)
theorem dX6_metOf_29 : decode cX6_metOf 29 = .ok (.if_icmp .ge 16, 3) := dk_162 0 16 (dk_at dksX6_metOf_1 6 rfl rfl)
theorem dX6_metOf_32 : decode cX6_metOf 32 = .ok (.iload 9, 2) := dk_21 9 (dk_at dksX6_metOf_1 9 rfl rfl)
theorem dX6_metOf_34 : decode cX6_metOf 34 = .ok (.aload_n 0, 1) := dk_42 (dk_at dksX6_metOf_1 11 rfl rfl)
theorem dX6_metOf_35 : decode cX6_metOf 35 = .ok (.getfield 326, 3) := dk_180 1 70 (dk_at dksX6_metOf_1 12 rfl rfl)
theorem dX6_metOf_38 : decode cX6_metOf 38 = .ok (.if_icmp .ge 7, 3) := dk_162 0 7 (dk_at dksX6_metOf_1 15 rfl rfl)
theorem dX6_metOf_41 : decode cX6_metOf 41 = .ok (.iconst 1, 1) := dk_4 (dk_at dksX6_metOf_1 18 rfl rfl)
theorem dX6_metOf_42 : decode cX6_metOf 42 = .ok (.goto 4, 3) := dk_167 0 4 (dk_at dksX6_metOf_1 19 rfl rfl)
theorem dX6_metOf_45 : decode cX6_metOf 45 = .ok (.iconst 0, 1) := dk_3 (dk_at dksX6_metOf_1 22 rfl rfl)
theorem dX6_metOf_46 : decode cX6_metOf 46 = .ok (.istore 10, 2) := dk_54 10 (dk_at dksX6_metOf_2 0 rfl rfl)
theorem dX6_metOf_48 : decode cX6_metOf 48 = .ok (.aload_n 0, 1) := dk_42 (dk_at dksX6_metOf_2 2 rfl rfl)
theorem dX6_metOf_49 : decode cX6_metOf 49 = .ok (.getfield 123, 3) := dk_180 0 123 (dk_at dksX6_metOf_2 3 rfl rfl)
theorem dX6_metOf_52 : decode cX6_metOf 52 = .ok (.bipush 8, 2) := dk_16 8 (dk_at dksX6_metOf_2 6 rfl rfl)
theorem dX6_metOf_54 : decode cX6_metOf 54 = .ok (.iload 8, 2) := dk_21 8 (dk_at dksX6_metOf_2 8 rfl rfl)
theorem dX6_metOf_56 : decode cX6_metOf 56 = .ok (.imul, 1) := dk_104 (dk_at dksX6_metOf_2 10 rfl rfl)
theorem dX6_metOf_57 : decode cX6_metOf 57 = .ok (.iload 9, 2) := dk_21 9 (dk_at dksX6_metOf_2 11 rfl rfl)
theorem dX6_metOf_59 : decode cX6_metOf 59 = .ok (.iadd, 1) := dk_96 (dk_at dksX6_metOf_2 13 rfl rfl)
theorem dX6_metOf_60 : decode cX6_metOf 60 = .ok (.iload 10, 2) := dk_21 10 (dk_at dksX6_metOf_2 14 rfl rfl)
theorem dX6_metOf_62 : decode cX6_metOf 62 = .ok (.ifCond .eq 21, 3) := dk_153 0 21 (dk_at dksX6_metOf_2 16 rfl rfl)
theorem dX6_metOf_65 : decode cX6_metOf 65 = .ok (.iload 8, 2) := dk_21 8 (dk_at dksX6_metOf_2 19 rfl rfl)
theorem dX6_metOf_67 : decode cX6_metOf 67 = .ok (.iload 9, 2) := dk_21 9 (dk_at dksX6_metOf_2 21 rfl rfl)
theorem dX6_metOf_69 : decode cX6_metOf 69 = .ok (.if_icmp .eq 14, 3) := dk_159 0 14 (dk_at dksX6_metOf_3 0 rfl rfl)
theorem dX6_metOf_72 : decode cX6_metOf 72 = .ok (.aload_n 0, 1) := dk_42 (dk_at dksX6_metOf_3 3 rfl rfl)
theorem dX6_metOf_73 : decode cX6_metOf 73 = .ok (.iload 8, 2) := dk_21 8 (dk_at dksX6_metOf_3 4 rfl rfl)
theorem dX6_metOf_75 : decode cX6_metOf 75 = .ok (.iload 9, 2) := dk_21 9 (dk_at dksX6_metOf_3 6 rfl rfl)
theorem dX6_metOf_77 : decode cX6_metOf 77 = .ok (.invokevirtual 408, 3) := dk_182 1 152 (dk_at dksX6_metOf_3 8 rfl rfl)
theorem dX6_metOf_80 : decode cX6_metOf 80 = .ok (.goto 4, 3) := dk_167 0 4 (dk_at dksX6_metOf_3 11 rfl rfl)
theorem dX6_metOf_83 : decode cX6_metOf 83 = .ok (.lconst 0, 1) := dk_9 (dk_at dksX6_metOf_3 14 rfl rfl)
theorem dX6_metOf_84 : decode cX6_metOf 84 = .ok (.lastore, 1) := dk_80 (dk_at dksX6_metOf_3 15 rfl rfl)
theorem dX6_metOf_85 : decode cX6_metOf 85 = .ok (.lload 6, 2) := dk_22 6 (dk_at dksX6_metOf_3 16 rfl rfl)
theorem dX6_metOf_87 : decode cX6_metOf 87 = .ok (.iload 10, 2) := dk_21 10 (dk_at dksX6_metOf_3 18 rfl rfl)
theorem dX6_metOf_89 : decode cX6_metOf 89 = .ok (.ifCond .eq 21, 3) := dk_153 0 21 (dk_at dksX6_metOf_3 20 rfl rfl)
theorem dX6_metOf_92 : decode cX6_metOf 92 = .ok (.iload 8, 2) := dk_21 8 (dk_at dksX6_metOf_4 0 rfl rfl)
theorem dX6_metOf_94 : decode cX6_metOf 94 = .ok (.iload 9, 2) := dk_21 9 (dk_at dksX6_metOf_4 2 rfl rfl)
theorem dX6_metOf_96 : decode cX6_metOf 96 = .ok (.if_icmp .ne 14, 3) := dk_160 0 14 (dk_at dksX6_metOf_4 4 rfl rfl)
theorem dX6_metOf_99 : decode cX6_metOf 99 = .ok (.aload_n 0, 1) := dk_42 (dk_at dksX6_metOf_4 7 rfl rfl)
theorem dX6_metOf_100 : decode cX6_metOf 100 = .ok (.iload 8, 2) := dk_21 8 (dk_at dksX6_metOf_4 8 rfl rfl)
theorem dX6_metOf_102 : decode cX6_metOf 102 = .ok (.iload 9, 2) := dk_21 9 (dk_at dksX6_metOf_4 10 rfl rfl)
theorem dX6_metOf_104 : decode cX6_metOf 104 = .ok (.invokevirtual 408, 3) := dk_182 1 152 (dk_at dksX6_metOf_4 12 rfl rfl)
theorem dX6_metOf_107 : decode cX6_metOf 107 = .ok (.goto 4, 3) := dk_167 0 4 (dk_at dksX6_metOf_4 15 rfl rfl)
theorem dX6_metOf_110 : decode cX6_metOf 110 = .ok (.lconst 0, 1) := dk_9 (dk_at dksX6_metOf_4 18 rfl rfl)
theorem dX6_metOf_111 : decode cX6_metOf 111 = .ok (.ladd, 1) := dk_97 (dk_at dksX6_metOf_4 19 rfl rfl)
theorem dX6_metOf_112 : decode cX6_metOf 112 = .ok (.lstore 6, 2) := dk_55 6 (dk_at dksX6_metOf_4 20 rfl rfl)
theorem dX6_metOf_114 : decode cX6_metOf 114 = .ok (.iinc 9 1, 3) := dk_132 9 1 (dk_at dksX6_metOf_5 0 rfl rfl)
theorem dX6_metOf_117 : decode cX6_metOf 117 = .ok (.goto (-101), 3) := dk_167 255 155 (dk_at dksX6_metOf_5 3 rfl rfl)
theorem dX6_metOf_120 : decode cX6_metOf 120 = .ok (.iinc 8 1, 3) := dk_132 8 1 (dk_at dksX6_metOf_5 6 rfl rfl)
theorem dX6_metOf_123 : decode cX6_metOf 123 = .ok (.goto (-117), 3) := dk_167 255 139 (dk_at dksX6_metOf_5 9 rfl rfl)
theorem dX6_metOf_126 : decode cX6_metOf 126 = .ok (.iconst 0, 1) := dk_3 (dk_at dksX6_metOf_5 12 rfl rfl)
theorem dX6_metOf_127 : decode cX6_metOf 127 = .ok (.istore 8, 2) := dk_54 8 (dk_at dksX6_metOf_5 13 rfl rfl)
theorem dX6_metOf_129 : decode cX6_metOf 129 = .ok (.iload 8, 2) := dk_21 8 (dk_at dksX6_metOf_5 15 rfl rfl)
theorem dX6_metOf_131 : decode cX6_metOf 131 = .ok (.iload 5, 2) := dk_21 5 (dk_at dksX6_metOf_5 17 rfl rfl)
theorem dX6_metOf_133 : decode cX6_metOf 133 = .ok (.if_icmp .ge 238, 3) := dk_162 0 238 (dk_at dksX6_metOf_5 19 rfl rfl)
theorem dX6_metOf_136 : decode cX6_metOf 136 = .ok (.lload 6, 2) := dk_22 6 (dk_at dksX6_metOf_5 22 rfl rfl)
theorem dX6_metOf_138 : decode cX6_metOf 138 = .ok (.ldc2_w 453, 3) := dk_20 1 197 (dk_at dksX6_metOf_6 0 rfl rfl)
theorem dX6_metOf_141 : decode cX6_metOf 141 = .ok (.lmul, 1) := dk_105 (dk_at dksX6_metOf_6 3 rfl rfl)
theorem dX6_metOf_142 : decode cX6_metOf 142 = .ok (.lstore 6, 2) := dk_55 6 (dk_at dksX6_metOf_6 4 rfl rfl)
theorem dX6_metOf_144 : decode cX6_metOf 144 = .ok (.iconst 0, 1) := dk_3 (dk_at dksX6_metOf_6 6 rfl rfl)
theorem dX6_metOf_145 : decode cX6_metOf 145 = .ok (.istore 9, 2) := dk_54 9 (dk_at dksX6_metOf_6 7 rfl rfl)
theorem dX6_metOf_147 : decode cX6_metOf 147 = .ok (.iload 9, 2) := dk_21 9 (dk_at dksX6_metOf_6 9 rfl rfl)
theorem dX6_metOf_149 : decode cX6_metOf 149 = .ok (.bipush 64, 2) := dk_16 64 (dk_at dksX6_metOf_6 11 rfl rfl)
theorem dX6_metOf_151 : decode cX6_metOf 151 = .ok (.if_icmp .ge 17, 3) := dk_162 0 17 (dk_at dksX6_metOf_6 13 rfl rfl)
theorem dX6_metOf_154 : decode cX6_metOf 154 = .ok (.aload_n 0, 1) := dk_42 (dk_at dksX6_metOf_6 16 rfl rfl)
theorem dX6_metOf_155 : decode cX6_metOf 155 = .ok (.getfield 126, 3) := dk_180 0 126 (dk_at dksX6_metOf_6 17 rfl rfl)
theorem dX6_metOf_158 : decode cX6_metOf 158 = .ok (.iload 9, 2) := dk_21 9 (dk_at dksX6_metOf_6 20 rfl rfl)
theorem dX6_metOf_160 : decode cX6_metOf 160 = .ok (.lconst 0, 1) := dk_9 (dk_at dksX6_metOf_6 22 rfl rfl)
theorem dX6_metOf_161 : decode cX6_metOf 161 = .ok (.lastore, 1) := dk_80 (dk_at dksX6_metOf_6 23 rfl rfl)
theorem dX6_metOf_162 : decode cX6_metOf 162 = .ok (.iinc 9 1, 3) := dk_132 9 1 (dk_at dksX6_metOf_7 0 rfl rfl)
theorem dX6_metOf_165 : decode cX6_metOf 165 = .ok (.goto (-18), 3) := dk_167 255 238 (dk_at dksX6_metOf_7 3 rfl rfl)
theorem dX6_metOf_168 : decode cX6_metOf 168 = .ok (.iconst 0, 1) := dk_3 (dk_at dksX6_metOf_7 6 rfl rfl)
theorem dX6_metOf_169 : decode cX6_metOf 169 = .ok (.istore 9, 2) := dk_54 9 (dk_at dksX6_metOf_7 7 rfl rfl)
theorem dX6_metOf_171 : decode cX6_metOf 171 = .ok (.iload 9, 2) := dk_21 9 (dk_at dksX6_metOf_7 9 rfl rfl)
theorem dX6_metOf_173 : decode cX6_metOf 173 = .ok (.bipush 64, 2) := dk_16 64 (dk_at dksX6_metOf_7 11 rfl rfl)
theorem dX6_metOf_175 : decode cX6_metOf 175 = .ok (.if_icmp .ge 160, 3) := dk_162 0 160 (dk_at dksX6_metOf_7 13 rfl rfl)
theorem dX6_metOf_178 : decode cX6_metOf 178 = .ok (.aload_n 0, 1) := dk_42 (dk_at dksX6_metOf_7 16 rfl rfl)
theorem dX6_metOf_179 : decode cX6_metOf 179 = .ok (.getfield 123, 3) := dk_180 0 123 (dk_at dksX6_metOf_7 17 rfl rfl)
theorem dX6_metOf_182 : decode cX6_metOf 182 = .ok (.iload 9, 2) := dk_21 9 (dk_at dksX6_metOf_7 20 rfl rfl)
theorem dX6_metOf_184 : decode cX6_metOf 184 = .ok (.laload, 1) := dk_47 (dk_at dksX6_metOf_7 22 rfl rfl)
theorem dX6_metOf_185 : decode cX6_metOf 185 = .ok (.lconst 0, 1) := dk_9 (dk_at dksX6_metOf_7 23 rfl rfl)
theorem dX6_metOf_186 : decode cX6_metOf 186 = .ok (.lcmp, 1) := dk_148 (dk_at dksX6_metOf_8 0 rfl rfl)
theorem dX6_metOf_187 : decode cX6_metOf 187 = .ok (.ifCond .ne 6, 3) := dk_154 0 6 (dk_at dksX6_metOf_8 1 rfl rfl)
theorem dX6_metOf_190 : decode cX6_metOf 190 = .ok (.goto 139, 3) := dk_167 0 139 (dk_at dksX6_metOf_8 4 rfl rfl)
theorem dX6_metOf_193 : decode cX6_metOf 193 = .ok (.iconst 0, 1) := dk_3 (dk_at dksX6_metOf_8 7 rfl rfl)
theorem dX6_metOf_194 : decode cX6_metOf 194 = .ok (.istore 10, 2) := dk_54 10 (dk_at dksX6_metOf_8 8 rfl rfl)
theorem dX6_metOf_196 : decode cX6_metOf 196 = .ok (.iload 10, 2) := dk_21 10 (dk_at dksX6_metOf_8 10 rfl rfl)
theorem dX6_metOf_198 : decode cX6_metOf 198 = .ok (.iconst 4, 1) := dk_7 (dk_at dksX6_metOf_8 12 rfl rfl)
theorem dX6_metOf_199 : decode cX6_metOf 199 = .ok (.if_icmp .ge 130, 3) := dk_162 0 130 (dk_at dksX6_metOf_8 13 rfl rfl)
theorem dX6_metOf_202 : decode cX6_metOf 202 = .ok (.aload_n 0, 1) := dk_42 (dk_at dksX6_metOf_8 16 rfl rfl)
theorem dX6_metOf_203 : decode cX6_metOf 203 = .ok (.getfield 123, 3) := dk_180 0 123 (dk_at dksX6_metOf_8 17 rfl rfl)
theorem dX6_metOf_206 : decode cX6_metOf 206 = .ok (.iload 9, 2) := dk_21 9 (dk_at dksX6_metOf_8 20 rfl rfl)
theorem dX6_metOf_208 : decode cX6_metOf 208 = .ok (.laload, 1) := dk_47 (dk_at dksX6_metOf_8 22 rfl rfl)
theorem dX6_metOf_209 : decode cX6_metOf 209 = .ok (.iload 10, 2) := dk_21 10 (dk_at dksX6_metOf_9 0 rfl rfl)
theorem dX6_metOf_211 : decode cX6_metOf 211 = .ok (.iconst 2, 1) := dk_5 (dk_at dksX6_metOf_9 2 rfl rfl)
theorem dX6_metOf_212 : decode cX6_metOf 212 = .ok (.if_icmp .ge 7, 3) := dk_162 0 7 (dk_at dksX6_metOf_9 3 rfl rfl)
theorem dX6_metOf_215 : decode cX6_metOf 215 = .ok (.iload_n 3, 1) := dk_29 (dk_at dksX6_metOf_9 6 rfl rfl)
theorem dX6_metOf_216 : decode cX6_metOf 216 = .ok (.goto 7, 3) := dk_167 0 7 (dk_at dksX6_metOf_9 7 rfl rfl)
theorem dX6_metOf_219 : decode cX6_metOf 219 = .ok (.bipush 16, 2) := dk_16 16 (dk_at dksX6_metOf_9 10 rfl rfl)
theorem dX6_metOf_221 : decode cX6_metOf 221 = .ok (.iload_n 3, 1) := dk_29 (dk_at dksX6_metOf_9 12 rfl rfl)
theorem dX6_metOf_222 : decode cX6_metOf 222 = .ok (.isub, 1) := dk_100 (dk_at dksX6_metOf_9 13 rfl rfl)
theorem dX6_metOf_223 : decode cX6_metOf 223 = .ok (.i2l, 1) := dk_133 (dk_at dksX6_metOf_9 14 rfl rfl)
theorem dX6_metOf_224 : decode cX6_metOf 224 = .ok (.lmul, 1) := dk_105 (dk_at dksX6_metOf_9 15 rfl rfl)
theorem dX6_metOf_225 : decode cX6_metOf 225 = .ok (.iload 10, 2) := dk_21 10 (dk_at dksX6_metOf_9 16 rfl rfl)
theorem dX6_metOf_227 : decode cX6_metOf 227 = .ok (.iconst 2, 1) := dk_5 (dk_at dksX6_metOf_9 18 rfl rfl)
theorem dX6_metOf_228 : decode cX6_metOf 228 = .ok (.irem, 1) := dk_112 (dk_at dksX6_metOf_9 19 rfl rfl)
theorem dX6_metOf_229 : decode cX6_metOf 229 = .ok (.ifCond .ne 7, 3) := dk_154 0 7 (dk_at dksX6_metOf_9 20 rfl rfl)
theorem dX6_metOf_232 : decode cX6_metOf 232 = .ok (.iload_n 3, 1) := dk_29 (dk_at dksX6_metOf_9 23 rfl rfl)
theorem dX6_metOf_233 : decode cX6_metOf 233 = .ok (.goto 7, 3) := dk_167 0 7 (dk_at dksX6_metOf_10 0 rfl rfl)
theorem dX6_metOf_236 : decode cX6_metOf 236 = .ok (.bipush 16, 2) := dk_16 16 (dk_at dksX6_metOf_10 3 rfl rfl)
theorem dX6_metOf_238 : decode cX6_metOf 238 = .ok (.iload_n 3, 1) := dk_29 (dk_at dksX6_metOf_10 5 rfl rfl)
theorem dX6_metOf_239 : decode cX6_metOf 239 = .ok (.isub, 1) := dk_100 (dk_at dksX6_metOf_10 6 rfl rfl)
theorem dX6_metOf_240 : decode cX6_metOf 240 = .ok (.i2l, 1) := dk_133 (dk_at dksX6_metOf_10 7 rfl rfl)
theorem dX6_metOf_241 : decode cX6_metOf 241 = .ok (.lmul, 1) := dk_105 (dk_at dksX6_metOf_10 8 rfl rfl)
theorem dX6_metOf_242 : decode cX6_metOf 242 = .ok (.lstore 11, 2) := dk_55 11 (dk_at dksX6_metOf_10 9 rfl rfl)
theorem dX6_metOf_244 : decode cX6_metOf 244 = .ok (.lload 11, 2) := dk_22 11 (dk_at dksX6_metOf_10 11 rfl rfl)
theorem dX6_metOf_246 : decode cX6_metOf 246 = .ok (.lconst 0, 1) := dk_9 (dk_at dksX6_metOf_10 13 rfl rfl)
theorem dX6_metOf_247 : decode cX6_metOf 247 = .ok (.lcmp, 1) := dk_148 (dk_at dksX6_metOf_10 14 rfl rfl)
theorem dX6_metOf_248 : decode cX6_metOf 248 = .ok (.ifCond .ne 7, 3) := dk_154 0 7 (dk_at dksX6_metOf_10 15 rfl rfl)
theorem dX6_metOf_251 : decode cX6_metOf 251 = .ok (.iconst 0, 1) := dk_3 (dk_at dksX6_metOf_10 18 rfl rfl)
theorem dX6_metOf_252 : decode cX6_metOf 252 = .ok (.goto 42, 3) := dk_167 0 42 (dk_at dksX6_metOf_10 19 rfl rfl)
theorem dX6_metOf_255 : decode cX6_metOf 255 = .ok (.aload_n 0, 1) := dk_42 (dk_at dksX6_metOf_10 22 rfl rfl)
theorem dX6_metOf_256 : decode cX6_metOf 256 = .ok (.iload 10, 2) := dk_21 10 (dk_at dksX6_metOf_11 0 rfl rfl)
theorem dX6_metOf_258 : decode cX6_metOf 258 = .ok (.iconst 2, 1) := dk_5 (dk_at dksX6_metOf_11 2 rfl rfl)
theorem dX6_metOf_259 : decode cX6_metOf 259 = .ok (.if_icmp .ge 7, 3) := dk_162 0 7 (dk_at dksX6_metOf_11 3 rfl rfl)
theorem dX6_metOf_262 : decode cX6_metOf 262 = .ok (.iload_n 1, 1) := dk_27 (dk_at dksX6_metOf_11 6 rfl rfl)
theorem dX6_metOf_263 : decode cX6_metOf 263 = .ok (.goto 4, 3) := dk_167 0 4 (dk_at dksX6_metOf_11 7 rfl rfl)
theorem dX6_metOf_266 : decode cX6_metOf 266 = .ok (.iload_n 2, 1) := dk_28 (dk_at dksX6_metOf_11 10 rfl rfl)
theorem dX6_metOf_267 : decode cX6_metOf 267 = .ok (.iload 10, 2) := dk_21 10 (dk_at dksX6_metOf_11 11 rfl rfl)
theorem dX6_metOf_269 : decode cX6_metOf 269 = .ok (.iconst 2, 1) := dk_5 (dk_at dksX6_metOf_11 13 rfl rfl)
theorem dX6_metOf_270 : decode cX6_metOf 270 = .ok (.irem, 1) := dk_112 (dk_at dksX6_metOf_11 14 rfl rfl)
theorem dX6_metOf_271 : decode cX6_metOf 271 = .ok (.ifCond .ne 7, 3) := dk_154 0 7 (dk_at dksX6_metOf_11 15 rfl rfl)
theorem dX6_metOf_274 : decode cX6_metOf 274 = .ok (.iload_n 1, 1) := dk_27 (dk_at dksX6_metOf_11 18 rfl rfl)
theorem dX6_metOf_275 : decode cX6_metOf 275 = .ok (.goto 4, 3) := dk_167 0 4 (dk_at dksX6_metOf_11 19 rfl rfl)
theorem dX6_metOf_278 : decode cX6_metOf 278 = .ok (.iload_n 2, 1) := dk_28 (dk_at dksX6_metOf_11 22 rfl rfl)
theorem dX6_metOf_279 : decode cX6_metOf 279 = .ok (.iload 9, 2) := dk_21 9 (dk_at dksX6_metOf_12 0 rfl rfl)
theorem dX6_metOf_281 : decode cX6_metOf 281 = .ok (.bipush 8, 2) := dk_16 8 (dk_at dksX6_metOf_12 2 rfl rfl)
theorem dX6_metOf_283 : decode cX6_metOf 283 = .ok (.idiv, 1) := dk_108 (dk_at dksX6_metOf_12 4 rfl rfl)
theorem dX6_metOf_284 : decode cX6_metOf 284 = .ok (.iload 9, 2) := dk_21 9 (dk_at dksX6_metOf_12 5 rfl rfl)
theorem dX6_metOf_286 : decode cX6_metOf 286 = .ok (.bipush 8, 2) := dk_16 8 (dk_at dksX6_metOf_12 7 rfl rfl)
theorem dX6_metOf_288 : decode cX6_metOf 288 = .ok (.irem, 1) := dk_112 (dk_at dksX6_metOf_12 9 rfl rfl)
theorem dX6_metOf_289 : decode cX6_metOf 289 = .ok (.iload 4, 2) := dk_21 4 (dk_at dksX6_metOf_12 10 rfl rfl)
theorem dX6_metOf_291 : decode cX6_metOf 291 = .ok (.invokevirtual 455, 3) := dk_182 1 199 (dk_at dksX6_metOf_12 12 rfl rfl)
theorem dX6_metOf_294 : decode cX6_metOf 294 = .ok (.istore 13, 2) := dk_54 13 (dk_at dksX6_metOf_12 15 rfl rfl)
theorem dX6_metOf_296 : decode cX6_metOf 296 = .ok (.iload 13, 2) := dk_21 13 (dk_at dksX6_metOf_12 17 rfl rfl)
theorem dX6_metOf_298 : decode cX6_metOf 298 = .ok (.ifCond .ge 13, 3) := dk_156 0 13 (dk_at dksX6_metOf_12 19 rfl rfl)
theorem dX6_metOf_301 : decode cX6_metOf 301 = .ok (.lload 6, 2) := dk_22 6 (dk_at dksX6_metOf_12 22 rfl rfl)
theorem dX6_metOf_303 : decode cX6_metOf 303 = .ok (.lload 11, 2) := dk_22 11 (dk_at dksX6_metOf_13 0 rfl rfl)
theorem dX6_metOf_305 : decode cX6_metOf 305 = .ok (.ladd, 1) := dk_97 (dk_at dksX6_metOf_13 2 rfl rfl)
theorem dX6_metOf_306 : decode cX6_metOf 306 = .ok (.lstore 6, 2) := dk_55 6 (dk_at dksX6_metOf_13 3 rfl rfl)
theorem dX6_metOf_308 : decode cX6_metOf 308 = .ok (.goto 15, 3) := dk_167 0 15 (dk_at dksX6_metOf_13 5 rfl rfl)
theorem dX6_metOf_311 : decode cX6_metOf 311 = .ok (.aload_n 0, 1) := dk_42 (dk_at dksX6_metOf_13 8 rfl rfl)
theorem dX6_metOf_312 : decode cX6_metOf 312 = .ok (.getfield 126, 3) := dk_180 0 126 (dk_at dksX6_metOf_13 9 rfl rfl)
theorem dX6_metOf_315 : decode cX6_metOf 315 = .ok (.iload 13, 2) := dk_21 13 (dk_at dksX6_metOf_13 12 rfl rfl)
theorem dX6_metOf_317 : decode cX6_metOf 317 = .ok (.dup2, 1) := dk_92 (dk_at dksX6_metOf_13 14 rfl rfl)
theorem dX6_metOf_318 : decode cX6_metOf 318 = .ok (.laload, 1) := dk_47 (dk_at dksX6_metOf_13 15 rfl rfl)
theorem dX6_metOf_319 : decode cX6_metOf 319 = .ok (.lload 11, 2) := dk_22 11 (dk_at dksX6_metOf_13 16 rfl rfl)
theorem dX6_metOf_321 : decode cX6_metOf 321 = .ok (.ladd, 1) := dk_97 (dk_at dksX6_metOf_13 18 rfl rfl)
theorem dX6_metOf_322 : decode cX6_metOf 322 = .ok (.lastore, 1) := dk_80 (dk_at dksX6_metOf_13 19 rfl rfl)
theorem dX6_metOf_323 : decode cX6_metOf 323 = .ok (.iinc 10 1, 3) := dk_132 10 1 (dk_at dksX6_metOf_13 20 rfl rfl)
theorem dX6_metOf_326 : decode cX6_metOf 326 = .ok (.goto (-130), 3) := dk_167 255 126 (dk_at dksX6_metOf_14 0 rfl rfl)
theorem dX6_metOf_329 : decode cX6_metOf 329 = .ok (.iinc 9 1, 3) := dk_132 9 1 (dk_at dksX6_metOf_14 3 rfl rfl)
theorem dX6_metOf_332 : decode cX6_metOf 332 = .ok (.goto (-161), 3) := dk_167 255 95 (dk_at dksX6_metOf_14 6 rfl rfl)
theorem dX6_metOf_335 : decode cX6_metOf 335 = .ok (.iconst 0, 1) := dk_3 (dk_at dksX6_metOf_14 9 rfl rfl)
theorem dX6_metOf_336 : decode cX6_metOf 336 = .ok (.istore 9, 2) := dk_54 9 (dk_at dksX6_metOf_14 10 rfl rfl)
theorem dX6_metOf_338 : decode cX6_metOf 338 = .ok (.iload 9, 2) := dk_21 9 (dk_at dksX6_metOf_14 12 rfl rfl)
theorem dX6_metOf_340 : decode cX6_metOf 340 = .ok (.bipush 64, 2) := dk_16 64 (dk_at dksX6_metOf_14 14 rfl rfl)
theorem dX6_metOf_342 : decode cX6_metOf 342 = .ok (.if_icmp .ge 23, 3) := dk_162 0 23 (dk_at dksX6_metOf_14 16 rfl rfl)
theorem dX6_metOf_345 : decode cX6_metOf 345 = .ok (.aload_n 0, 1) := dk_42 (dk_at dksX6_metOf_14 19 rfl rfl)
theorem dX6_metOf_346 : decode cX6_metOf 346 = .ok (.getfield 123, 3) := dk_180 0 123 (dk_at dksX6_metOf_14 20 rfl rfl)
theorem dX6_metOf_349 : decode cX6_metOf 349 = .ok (.iload 9, 2) := dk_21 9 (dk_at dksX6_metOf_15 0 rfl rfl)
theorem dX6_metOf_351 : decode cX6_metOf 351 = .ok (.aload_n 0, 1) := dk_42 (dk_at dksX6_metOf_15 2 rfl rfl)
theorem dX6_metOf_352 : decode cX6_metOf 352 = .ok (.getfield 126, 3) := dk_180 0 126 (dk_at dksX6_metOf_15 3 rfl rfl)
theorem dX6_metOf_355 : decode cX6_metOf 355 = .ok (.iload 9, 2) := dk_21 9 (dk_at dksX6_metOf_15 6 rfl rfl)
theorem dX6_metOf_357 : decode cX6_metOf 357 = .ok (.laload, 1) := dk_47 (dk_at dksX6_metOf_15 8 rfl rfl)
theorem dX6_metOf_358 : decode cX6_metOf 358 = .ok (.lastore, 1) := dk_80 (dk_at dksX6_metOf_15 9 rfl rfl)
theorem dX6_metOf_359 : decode cX6_metOf 359 = .ok (.iinc 9 1, 3) := dk_132 9 1 (dk_at dksX6_metOf_15 10 rfl rfl)
theorem dX6_metOf_362 : decode cX6_metOf 362 = .ok (.goto (-24), 3) := dk_167 255 232 (dk_at dksX6_metOf_15 13 rfl rfl)
theorem dX6_metOf_365 : decode cX6_metOf 365 = .ok (.iinc 8 1, 3) := dk_132 8 1 (dk_at dksX6_metOf_15 16 rfl rfl)
theorem dX6_metOf_368 : decode cX6_metOf 368 = .ok (.goto (-239), 3) := dk_167 255 17 (dk_at dksX6_metOf_15 19 rfl rfl)
theorem dX6_metOf_371 : decode cX6_metOf 371 = .ok (.lload 6, 2) := dk_22 6 (dk_at dksX6_metOf_15 22 rfl rfl)
theorem dX6_metOf_373 : decode cX6_metOf 373 = .ok (.lreturn, 1) := dk_173 (dk_at dksX6_metOf_16 0 rfl rfl)
abbrev cX6_play : ByteArray := prog_15_method_86_code
def yX6_play : MethodName := ⟨RX6, "play", "(IIIII)I"⟩
def dkwX6_play_5 : List UInt8 := [180, 0, 84, 4, 46, 96, 172]
abbrev dktX6_play_5 : List UInt8 := dkwX6_play_5 ++ []
def dkwX6_play_4 : List UInt8 := [182, 1, 139, 153, 0, 5, 2, 172, 132, 6, 1, 167, 255, 165, 16, 8, 42, 180, 0, 84, 3, 46, 104, 42]
abbrev dktX6_play_4 : List UInt8 := dkwX6_play_4 ++ dktX6_play_5
def dkwX6_play_3 : List UInt8 := [182, 1, 129, 182, 1, 133, 79, 42, 42, 180, 0, 84, 3, 46, 42, 180, 0, 84, 4, 46, 21, 7, 21, 8]
abbrev dktX6_play_3 : List UInt8 := dkwX6_play_3 ++ dktX6_play_4
def dkwX6_play_2 : List UInt8 := [27, 3, 21, 7, 182, 1, 129, 182, 1, 133, 79, 42, 180, 0, 84, 4, 42, 21, 8, 42, 28, 4, 21, 8]
abbrev dktX6_play_2 : List UInt8 := dkwX6_play_2 ++ dktX6_play_3
def dkwX6_play_1 : List UInt8 := [180, 0, 84, 3, 46, 54, 7, 42, 180, 0, 84, 4, 46, 54, 8, 42, 180, 0, 84, 3, 42, 21, 7, 42]
abbrev dktX6_play_1 : List UInt8 := dkwX6_play_1 ++ dktX6_play_2
def dkwX6_play_0 : List UInt8 := [42, 3, 29, 182, 1, 123, 42, 4, 21, 4, 182, 1, 123, 3, 54, 6, 21, 6, 21, 5, 162, 0, 90, 42]
abbrev dktX6_play_0 : List UInt8 := dkwX6_play_0 ++ dktX6_play_1
theorem dksX6_play_0 : cX6_play.data.toList.drop 0 = dktX6_play_0 := by decide +kernel
theorem dksX6_play_1 : cX6_play.data.toList.drop 24 = dktX6_play_1 := dk_seg dksX6_play_0 24 rfl rfl
theorem dksX6_play_2 : cX6_play.data.toList.drop 48 = dktX6_play_2 := dk_seg dksX6_play_1 24 rfl rfl
theorem dksX6_play_3 : cX6_play.data.toList.drop 72 = dktX6_play_3 := dk_seg dksX6_play_2 24 rfl rfl
theorem dksX6_play_4 : cX6_play.data.toList.drop 96 = dktX6_play_4 := dk_seg dksX6_play_3 24 rfl rfl
theorem dksX6_play_5 : cX6_play.data.toList.drop 120 = dktX6_play_5 := dk_seg dksX6_play_4 24 rfl rfl
theorem dX6_play_0 : decode cX6_play 0 = .ok (.aload_n 0, 1) := dk_42 (dk_at dksX6_play_0 0 rfl rfl)
theorem dX6_play_1 : decode cX6_play 1 = .ok (.iconst 0, 1) := dk_3 (dk_at dksX6_play_0 1 rfl rfl)
theorem dX6_play_2 : decode cX6_play 2 = .ok (.iload_n 3, 1) := dk_29 (dk_at dksX6_play_0 2 rfl rfl)
theorem dX6_play_3 : decode cX6_play 3 = .ok (.invokevirtual 379, 3) := dk_182 1 123 (dk_at dksX6_play_0 3 rfl rfl)
theorem dX6_play_6 : decode cX6_play 6 = .ok (.aload_n 0, 1) := dk_42 (dk_at dksX6_play_0 6 rfl rfl)
theorem dX6_play_7 : decode cX6_play 7 = .ok (.iconst 1, 1) := dk_4 (dk_at dksX6_play_0 7 rfl rfl)
theorem dX6_play_8 : decode cX6_play 8 = .ok (.iload 4, 2) := dk_21 4 (dk_at dksX6_play_0 8 rfl rfl)
theorem dX6_play_10 : decode cX6_play 10 = .ok (.invokevirtual 379, 3) := dk_182 1 123 (dk_at dksX6_play_0 10 rfl rfl)
theorem dX6_play_13 : decode cX6_play 13 = .ok (.iconst 0, 1) := dk_3 (dk_at dksX6_play_0 13 rfl rfl)
theorem dX6_play_14 : decode cX6_play 14 = .ok (.istore 6, 2) := dk_54 6 (dk_at dksX6_play_0 14 rfl rfl)
theorem dX6_play_16 : decode cX6_play 16 = .ok (.iload 6, 2) := dk_21 6 (dk_at dksX6_play_0 16 rfl rfl)
theorem dX6_play_18 : decode cX6_play 18 = .ok (.iload 5, 2) := dk_21 5 (dk_at dksX6_play_0 18 rfl rfl)
theorem dX6_play_20 : decode cX6_play 20 = .ok (.if_icmp .ge 90, 3) := dk_162 0 90 (dk_at dksX6_play_0 20 rfl rfl)
theorem dX6_play_23 : decode cX6_play 23 = .ok (.aload_n 0, 1) := dk_42 (dk_at dksX6_play_0 23 rfl rfl)
theorem dX6_play_24 : decode cX6_play 24 = .ok (.getfield 84, 3) := dk_180 0 84 (dk_at dksX6_play_1 0 rfl rfl)
theorem dX6_play_27 : decode cX6_play 27 = .ok (.iconst 0, 1) := dk_3 (dk_at dksX6_play_1 3 rfl rfl)
theorem dX6_play_28 : decode cX6_play 28 = .ok (.iaload, 1) := dk_46 (dk_at dksX6_play_1 4 rfl rfl)
theorem dX6_play_29 : decode cX6_play 29 = .ok (.istore 7, 2) := dk_54 7 (dk_at dksX6_play_1 5 rfl rfl)
theorem dX6_play_31 : decode cX6_play 31 = .ok (.aload_n 0, 1) := dk_42 (dk_at dksX6_play_1 7 rfl rfl)
theorem dX6_play_32 : decode cX6_play 32 = .ok (.getfield 84, 3) := dk_180 0 84 (dk_at dksX6_play_1 8 rfl rfl)
theorem dX6_play_35 : decode cX6_play 35 = .ok (.iconst 1, 1) := dk_4 (dk_at dksX6_play_1 11 rfl rfl)
theorem dX6_play_36 : decode cX6_play 36 = .ok (.iaload, 1) := dk_46 (dk_at dksX6_play_1 12 rfl rfl)
theorem dX6_play_37 : decode cX6_play 37 = .ok (.istore 8, 2) := dk_54 8 (dk_at dksX6_play_1 13 rfl rfl)
theorem dX6_play_39 : decode cX6_play 39 = .ok (.aload_n 0, 1) := dk_42 (dk_at dksX6_play_1 15 rfl rfl)
theorem dX6_play_40 : decode cX6_play 40 = .ok (.getfield 84, 3) := dk_180 0 84 (dk_at dksX6_play_1 16 rfl rfl)
theorem dX6_play_43 : decode cX6_play 43 = .ok (.iconst 0, 1) := dk_3 (dk_at dksX6_play_1 19 rfl rfl)
theorem dX6_play_44 : decode cX6_play 44 = .ok (.aload_n 0, 1) := dk_42 (dk_at dksX6_play_1 20 rfl rfl)
theorem dX6_play_45 : decode cX6_play 45 = .ok (.iload 7, 2) := dk_21 7 (dk_at dksX6_play_1 21 rfl rfl)
theorem dX6_play_47 : decode cX6_play 47 = .ok (.aload_n 0, 1) := dk_42 (dk_at dksX6_play_1 23 rfl rfl)
theorem dX6_play_48 : decode cX6_play 48 = .ok (.iload_n 1, 1) := dk_27 (dk_at dksX6_play_2 0 rfl rfl)
theorem dX6_play_49 : decode cX6_play 49 = .ok (.iconst 0, 1) := dk_3 (dk_at dksX6_play_2 1 rfl rfl)
theorem dX6_play_50 : decode cX6_play 50 = .ok (.iload 7, 2) := dk_21 7 (dk_at dksX6_play_2 2 rfl rfl)
theorem dX6_play_52 : decode cX6_play 52 = .ok (.invokevirtual 385, 3) := dk_182 1 129 (dk_at dksX6_play_2 4 rfl rfl)
theorem dX6_play_55 : decode cX6_play 55 = .ok (.invokevirtual 389, 3) := dk_182 1 133 (dk_at dksX6_play_2 7 rfl rfl)
theorem dX6_play_58 : decode cX6_play 58 = .ok (.iastore, 1) := dk_79 (dk_at dksX6_play_2 10 rfl rfl)
theorem dX6_play_59 : decode cX6_play 59 = .ok (.aload_n 0, 1) := dk_42 (dk_at dksX6_play_2 11 rfl rfl)
theorem dX6_play_60 : decode cX6_play 60 = .ok (.getfield 84, 3) := dk_180 0 84 (dk_at dksX6_play_2 12 rfl rfl)
theorem dX6_play_63 : decode cX6_play 63 = .ok (.iconst 1, 1) := dk_4 (dk_at dksX6_play_2 15 rfl rfl)
theorem dX6_play_64 : decode cX6_play 64 = .ok (.aload_n 0, 1) := dk_42 (dk_at dksX6_play_2 16 rfl rfl)
theorem dX6_play_65 : decode cX6_play 65 = .ok (.iload 8, 2) := dk_21 8 (dk_at dksX6_play_2 17 rfl rfl)
theorem dX6_play_67 : decode cX6_play 67 = .ok (.aload_n 0, 1) := dk_42 (dk_at dksX6_play_2 19 rfl rfl)
theorem dX6_play_68 : decode cX6_play 68 = .ok (.iload_n 2, 1) := dk_28 (dk_at dksX6_play_2 20 rfl rfl)
theorem dX6_play_69 : decode cX6_play 69 = .ok (.iconst 1, 1) := dk_4 (dk_at dksX6_play_2 21 rfl rfl)
theorem dX6_play_70 : decode cX6_play 70 = .ok (.iload 8, 2) := dk_21 8 (dk_at dksX6_play_2 22 rfl rfl)
theorem dX6_play_72 : decode cX6_play 72 = .ok (.invokevirtual 385, 3) := dk_182 1 129 (dk_at dksX6_play_3 0 rfl rfl)
theorem dX6_play_75 : decode cX6_play 75 = .ok (.invokevirtual 389, 3) := dk_182 1 133 (dk_at dksX6_play_3 3 rfl rfl)
theorem dX6_play_78 : decode cX6_play 78 = .ok (.iastore, 1) := dk_79 (dk_at dksX6_play_3 6 rfl rfl)
theorem dX6_play_79 : decode cX6_play 79 = .ok (.aload_n 0, 1) := dk_42 (dk_at dksX6_play_3 7 rfl rfl)
theorem dX6_play_80 : decode cX6_play 80 = .ok (.aload_n 0, 1) := dk_42 (dk_at dksX6_play_3 8 rfl rfl)
theorem dX6_play_81 : decode cX6_play 81 = .ok (.getfield 84, 3) := dk_180 0 84 (dk_at dksX6_play_3 9 rfl rfl)
theorem dX6_play_84 : decode cX6_play 84 = .ok (.iconst 0, 1) := dk_3 (dk_at dksX6_play_3 12 rfl rfl)
theorem dX6_play_85 : decode cX6_play 85 = .ok (.iaload, 1) := dk_46 (dk_at dksX6_play_3 13 rfl rfl)
theorem dX6_play_86 : decode cX6_play 86 = .ok (.aload_n 0, 1) := dk_42 (dk_at dksX6_play_3 14 rfl rfl)
theorem dX6_play_87 : decode cX6_play 87 = .ok (.getfield 84, 3) := dk_180 0 84 (dk_at dksX6_play_3 15 rfl rfl)
theorem dX6_play_90 : decode cX6_play 90 = .ok (.iconst 1, 1) := dk_4 (dk_at dksX6_play_3 18 rfl rfl)
theorem dX6_play_91 : decode cX6_play 91 = .ok (.iaload, 1) := dk_46 (dk_at dksX6_play_3 19 rfl rfl)
theorem dX6_play_92 : decode cX6_play 92 = .ok (.iload 7, 2) := dk_21 7 (dk_at dksX6_play_3 20 rfl rfl)
theorem dX6_play_94 : decode cX6_play 94 = .ok (.iload 8, 2) := dk_21 8 (dk_at dksX6_play_3 22 rfl rfl)
theorem dX6_play_96 : decode cX6_play 96 = .ok (.invokevirtual 395, 3) := dk_182 1 139 (dk_at dksX6_play_4 0 rfl rfl)
theorem dX6_play_99 : decode cX6_play 99 = .ok (.ifCond .eq 5, 3) := dk_153 0 5 (dk_at dksX6_play_4 3 rfl rfl)
theorem dX6_play_102 : decode cX6_play 102 = .ok (.iconst (-1), 1) := dk_2 (dk_at dksX6_play_4 6 rfl rfl)
theorem dX6_play_103 : decode cX6_play 103 = .ok (.ireturn, 1) := dk_172 (dk_at dksX6_play_4 7 rfl rfl)
theorem dX6_play_104 : decode cX6_play 104 = .ok (.iinc 6 1, 3) := dk_132 6 1 (dk_at dksX6_play_4 8 rfl rfl)
theorem dX6_play_107 : decode cX6_play 107 = .ok (.goto (-91), 3) := dk_167 255 165 (dk_at dksX6_play_4 11 rfl rfl)
theorem dX6_play_110 : decode cX6_play 110 = .ok (.bipush 8, 2) := dk_16 8 (dk_at dksX6_play_4 14 rfl rfl)
theorem dX6_play_112 : decode cX6_play 112 = .ok (.aload_n 0, 1) := dk_42 (dk_at dksX6_play_4 16 rfl rfl)
theorem dX6_play_113 : decode cX6_play 113 = .ok (.getfield 84, 3) := dk_180 0 84 (dk_at dksX6_play_4 17 rfl rfl)
theorem dX6_play_116 : decode cX6_play 116 = .ok (.iconst 0, 1) := dk_3 (dk_at dksX6_play_4 20 rfl rfl)
theorem dX6_play_117 : decode cX6_play 117 = .ok (.iaload, 1) := dk_46 (dk_at dksX6_play_4 21 rfl rfl)
theorem dX6_play_118 : decode cX6_play 118 = .ok (.imul, 1) := dk_104 (dk_at dksX6_play_4 22 rfl rfl)
theorem dX6_play_119 : decode cX6_play 119 = .ok (.aload_n 0, 1) := dk_42 (dk_at dksX6_play_4 23 rfl rfl)
theorem dX6_play_120 : decode cX6_play 120 = .ok (.getfield 84, 3) := dk_180 0 84 (dk_at dksX6_play_5 0 rfl rfl)
theorem dX6_play_123 : decode cX6_play 123 = .ok (.iconst 1, 1) := dk_4 (dk_at dksX6_play_5 3 rfl rfl)
theorem dX6_play_124 : decode cX6_play 124 = .ok (.iaload, 1) := dk_46 (dk_at dksX6_play_5 4 rfl rfl)
theorem dX6_play_125 : decode cX6_play 125 = .ok (.iadd, 1) := dk_96 (dk_at dksX6_play_5 5 rfl rfl)
theorem dX6_play_126 : decode cX6_play 126 = .ok (.ireturn, 1) := dk_172 (dk_at dksX6_play_5 6 rfl rfl)
abbrev cX6_wholeOf : ByteArray := prog_15_method_89_code
def yX6_wholeOf : MethodName := ⟨RX6, "wholeOf", "(I)J"⟩
def dkwX6_wholeOf_1 : List UInt8 := [167, 255, 241, 32, 173]
abbrev dktX6_wholeOf_1 : List UInt8 := dkwX6_wholeOf_1 ++ []
def dkwX6_wholeOf_0 : List UInt8 := [42, 182, 1, 155, 65, 3, 54, 4, 21, 4, 27, 162, 0, 15, 32, 20, 1, 197, 105, 65, 132, 4, 1]
abbrev dktX6_wholeOf_0 : List UInt8 := dkwX6_wholeOf_0 ++ dktX6_wholeOf_1
theorem dksX6_wholeOf_0 : cX6_wholeOf.data.toList.drop 0 = dktX6_wholeOf_0 := by decide +kernel
theorem dksX6_wholeOf_1 : cX6_wholeOf.data.toList.drop 23 = dktX6_wholeOf_1 := dk_seg dksX6_wholeOf_0 23 rfl rfl
theorem dX6_wholeOf_0 : decode cX6_wholeOf 0 = .ok (.aload_n 0, 1) := dk_42 (dk_at dksX6_wholeOf_0 0 rfl rfl)
theorem dX6_wholeOf_1 : decode cX6_wholeOf 1 = .ok (.invokevirtual 411, 3) := dk_182 1 155 (dk_at dksX6_wholeOf_0 1 rfl rfl)
theorem dX6_wholeOf_4 : decode cX6_wholeOf 4 = .ok (.lstore_n 2, 1) := dk_65 (dk_at dksX6_wholeOf_0 4 rfl rfl)
theorem dX6_wholeOf_5 : decode cX6_wholeOf 5 = .ok (.iconst 0, 1) := dk_3 (dk_at dksX6_wholeOf_0 5 rfl rfl)
theorem dX6_wholeOf_6 : decode cX6_wholeOf 6 = .ok (.istore 4, 2) := dk_54 4 (dk_at dksX6_wholeOf_0 6 rfl rfl)
theorem dX6_wholeOf_8 : decode cX6_wholeOf 8 = .ok (.iload 4, 2) := dk_21 4 (dk_at dksX6_wholeOf_0 8 rfl rfl)
theorem dX6_wholeOf_10 : decode cX6_wholeOf 10 = .ok (.iload_n 1, 1) := dk_27 (dk_at dksX6_wholeOf_0 10 rfl rfl)
theorem dX6_wholeOf_11 : decode cX6_wholeOf 11 = .ok (.if_icmp .ge 15, 3) := dk_162 0 15 (dk_at dksX6_wholeOf_0 11 rfl rfl)
theorem dX6_wholeOf_14 : decode cX6_wholeOf 14 = .ok (.lload_n 2, 1) := dk_32 (dk_at dksX6_wholeOf_0 14 rfl rfl)
theorem dX6_wholeOf_15 : decode cX6_wholeOf 15 = .ok (.ldc2_w 453, 3) := dk_20 1 197 (dk_at dksX6_wholeOf_0 15 rfl rfl)
theorem dX6_wholeOf_18 : decode cX6_wholeOf 18 = .ok (.lmul, 1) := dk_105 (dk_at dksX6_wholeOf_0 18 rfl rfl)
theorem dX6_wholeOf_19 : decode cX6_wholeOf 19 = .ok (.lstore_n 2, 1) := dk_65 (dk_at dksX6_wholeOf_0 19 rfl rfl)
theorem dX6_wholeOf_20 : decode cX6_wholeOf 20 = .ok (.iinc 4 1, 3) := dk_132 4 1 (dk_at dksX6_wholeOf_0 20 rfl rfl)
theorem dX6_wholeOf_23 : decode cX6_wholeOf 23 = .ok (.goto (-15), 3) := dk_167 255 241 (dk_at dksX6_wholeOf_1 0 rfl rfl)
theorem dX6_wholeOf_26 : decode cX6_wholeOf 26 = .ok (.lload_n 2, 1) := dk_32 (dk_at dksX6_wholeOf_1 3 rfl rfl)
theorem dX6_wholeOf_27 : decode cX6_wholeOf 27 = .ok (.lreturn, 1) := dk_173 (dk_at dksX6_wholeOf_1 4 rfl rfl)
abbrev cX6_bestDrawn : ByteArray := prog_15_method_91_code
def yX6_bestDrawn : MethodName := ⟨RX6, "bestDrawn", "(IIII)I"⟩
def dkwX6_bestDrawn_4 : List UInt8 := [42, 21, 4, 182, 1, 212, 182, 1, 162, 21, 5, 172]
abbrev dktX6_bestDrawn_4 : List UInt8 := dkwX6_bestDrawn_4 ++ []
def dkwX6_bestDrawn_3 : List UInt8 := [148, 157, 0, 6, 167, 0, 11, 22, 9, 55, 6, 21, 8, 54, 5, 132, 8, 1, 167, 255, 214, 42, 22, 6]
abbrev dktX6_bestDrawn_3 : List UInt8 := dkwX6_bestDrawn_3 ++ dktX6_bestDrawn_4
def dkwX6_bestDrawn_2 : List UInt8 := [21, 8, 16, 16, 163, 0, 41, 42, 27, 28, 21, 8, 29, 21, 4, 182, 1, 208, 55, 9, 22, 9, 22, 6]
abbrev dktX6_bestDrawn_2 : List UInt8 := dkwX6_bestDrawn_2 ++ dktX6_bestDrawn_3
def dkwX6_bestDrawn_1 : List UInt8 := [158, 0, 5, 2, 172, 3, 54, 5, 42, 27, 28, 3, 29, 21, 4, 182, 1, 208, 55, 6, 4, 54, 8]
abbrev dktX6_bestDrawn_1 : List UInt8 := dkwX6_bestDrawn_1 ++ dktX6_bestDrawn_2
def dkwX6_bestDrawn_0 : List UInt8 := [42, 3, 181, 0, 144, 42, 42, 27, 28, 3, 29, 21, 4, 182, 1, 205, 181, 0, 147, 42, 180, 0, 147]
abbrev dktX6_bestDrawn_0 : List UInt8 := dkwX6_bestDrawn_0 ++ dktX6_bestDrawn_1
theorem dksX6_bestDrawn_0 : cX6_bestDrawn.data.toList.drop 0 = dktX6_bestDrawn_0 := by decide +kernel
theorem dksX6_bestDrawn_1 : cX6_bestDrawn.data.toList.drop 23 = dktX6_bestDrawn_1 := dk_seg dksX6_bestDrawn_0 23 rfl rfl
theorem dksX6_bestDrawn_2 : cX6_bestDrawn.data.toList.drop 46 = dktX6_bestDrawn_2 := dk_seg dksX6_bestDrawn_1 23 rfl rfl
theorem dksX6_bestDrawn_3 : cX6_bestDrawn.data.toList.drop 70 = dktX6_bestDrawn_3 := dk_seg dksX6_bestDrawn_2 24 rfl rfl
theorem dksX6_bestDrawn_4 : cX6_bestDrawn.data.toList.drop 94 = dktX6_bestDrawn_4 := dk_seg dksX6_bestDrawn_3 24 rfl rfl
theorem dX6_bestDrawn_0 : decode cX6_bestDrawn 0 = .ok (.aload_n 0, 1) := dk_42 (dk_at dksX6_bestDrawn_0 0 rfl rfl)
theorem dX6_bestDrawn_1 : decode cX6_bestDrawn 1 = .ok (.iconst 0, 1) := dk_3 (dk_at dksX6_bestDrawn_0 1 rfl rfl)
theorem dX6_bestDrawn_2 : decode cX6_bestDrawn 2 = .ok (.putfield 144, 3) := dk_181 0 144 (dk_at dksX6_bestDrawn_0 2 rfl rfl)
theorem dX6_bestDrawn_5 : decode cX6_bestDrawn 5 = .ok (.aload_n 0, 1) := dk_42 (dk_at dksX6_bestDrawn_0 5 rfl rfl)
theorem dX6_bestDrawn_6 : decode cX6_bestDrawn 6 = .ok (.aload_n 0, 1) := dk_42 (dk_at dksX6_bestDrawn_0 6 rfl rfl)
theorem dX6_bestDrawn_7 : decode cX6_bestDrawn 7 = .ok (.iload_n 1, 1) := dk_27 (dk_at dksX6_bestDrawn_0 7 rfl rfl)
theorem dX6_bestDrawn_8 : decode cX6_bestDrawn 8 = .ok (.iload_n 2, 1) := dk_28 (dk_at dksX6_bestDrawn_0 8 rfl rfl)
theorem dX6_bestDrawn_9 : decode cX6_bestDrawn 9 = .ok (.iconst 0, 1) := dk_3 (dk_at dksX6_bestDrawn_0 9 rfl rfl)
theorem dX6_bestDrawn_10 : decode cX6_bestDrawn 10 = .ok (.iload_n 3, 1) := dk_29 (dk_at dksX6_bestDrawn_0 10 rfl rfl)
theorem dX6_bestDrawn_11 : decode cX6_bestDrawn 11 = .ok (.iload 4, 2) := dk_21 4 (dk_at dksX6_bestDrawn_0 11 rfl rfl)
theorem dX6_bestDrawn_13 : decode cX6_bestDrawn 13 = .ok (.invokevirtual 461, 3) := dk_182 1 205 (dk_at dksX6_bestDrawn_0 13 rfl rfl)
theorem dX6_bestDrawn_16 : decode cX6_bestDrawn 16 = .ok (.putfield 147, 3) := dk_181 0 147 (dk_at dksX6_bestDrawn_0 16 rfl rfl)
theorem dX6_bestDrawn_19 : decode cX6_bestDrawn 19 = .ok (.aload_n 0, 1) := dk_42 (dk_at dksX6_bestDrawn_0 19 rfl rfl)
theorem dX6_bestDrawn_20 : decode cX6_bestDrawn 20 = .ok (.getfield 147, 3) := dk_180 0 147 (dk_at dksX6_bestDrawn_0 20 rfl rfl)
theorem dX6_bestDrawn_23 : decode cX6_bestDrawn 23 = .ok (.ifCond .le 5, 3) := dk_158 0 5 (dk_at dksX6_bestDrawn_1 0 rfl rfl)
theorem dX6_bestDrawn_26 : decode cX6_bestDrawn 26 = .ok (.iconst (-1), 1) := dk_2 (dk_at dksX6_bestDrawn_1 3 rfl rfl)
theorem dX6_bestDrawn_27 : decode cX6_bestDrawn 27 = .ok (.ireturn, 1) := dk_172 (dk_at dksX6_bestDrawn_1 4 rfl rfl)
theorem dX6_bestDrawn_28 : decode cX6_bestDrawn 28 = .ok (.iconst 0, 1) := dk_3 (dk_at dksX6_bestDrawn_1 5 rfl rfl)
theorem dX6_bestDrawn_29 : decode cX6_bestDrawn 29 = .ok (.istore 5, 2) := dk_54 5 (dk_at dksX6_bestDrawn_1 6 rfl rfl)
theorem dX6_bestDrawn_31 : decode cX6_bestDrawn 31 = .ok (.aload_n 0, 1) := dk_42 (dk_at dksX6_bestDrawn_1 8 rfl rfl)
theorem dX6_bestDrawn_32 : decode cX6_bestDrawn 32 = .ok (.iload_n 1, 1) := dk_27 (dk_at dksX6_bestDrawn_1 9 rfl rfl)
theorem dX6_bestDrawn_33 : decode cX6_bestDrawn 33 = .ok (.iload_n 2, 1) := dk_28 (dk_at dksX6_bestDrawn_1 10 rfl rfl)
theorem dX6_bestDrawn_34 : decode cX6_bestDrawn 34 = .ok (.iconst 0, 1) := dk_3 (dk_at dksX6_bestDrawn_1 11 rfl rfl)
theorem dX6_bestDrawn_35 : decode cX6_bestDrawn 35 = .ok (.iload_n 3, 1) := dk_29 (dk_at dksX6_bestDrawn_1 12 rfl rfl)
theorem dX6_bestDrawn_36 : decode cX6_bestDrawn 36 = .ok (.iload 4, 2) := dk_21 4 (dk_at dksX6_bestDrawn_1 13 rfl rfl)
theorem dX6_bestDrawn_38 : decode cX6_bestDrawn 38 = .ok (.invokevirtual 464, 3) := dk_182 1 208 (dk_at dksX6_bestDrawn_1 15 rfl rfl)
theorem dX6_bestDrawn_41 : decode cX6_bestDrawn 41 = .ok (.lstore 6, 2) := dk_55 6 (dk_at dksX6_bestDrawn_1 18 rfl rfl)
theorem dX6_bestDrawn_43 : decode cX6_bestDrawn 43 = .ok (.iconst 1, 1) := dk_4 (dk_at dksX6_bestDrawn_1 20 rfl rfl)
theorem dX6_bestDrawn_44 : decode cX6_bestDrawn 44 = .ok (.istore 8, 2) := dk_54 8 (dk_at dksX6_bestDrawn_1 21 rfl rfl)
theorem dX6_bestDrawn_46 : decode cX6_bestDrawn 46 = .ok (.iload 8, 2) := dk_21 8 (dk_at dksX6_bestDrawn_2 0 rfl rfl)
theorem dX6_bestDrawn_48 : decode cX6_bestDrawn 48 = .ok (.bipush 16, 2) := dk_16 16 (dk_at dksX6_bestDrawn_2 2 rfl rfl)
theorem dX6_bestDrawn_50 : decode cX6_bestDrawn 50 = .ok (.if_icmp .gt 41, 3) := dk_163 0 41 (dk_at dksX6_bestDrawn_2 4 rfl rfl)
theorem dX6_bestDrawn_53 : decode cX6_bestDrawn 53 = .ok (.aload_n 0, 1) := dk_42 (dk_at dksX6_bestDrawn_2 7 rfl rfl)
theorem dX6_bestDrawn_54 : decode cX6_bestDrawn 54 = .ok (.iload_n 1, 1) := dk_27 (dk_at dksX6_bestDrawn_2 8 rfl rfl)
theorem dX6_bestDrawn_55 : decode cX6_bestDrawn 55 = .ok (.iload_n 2, 1) := dk_28 (dk_at dksX6_bestDrawn_2 9 rfl rfl)
theorem dX6_bestDrawn_56 : decode cX6_bestDrawn 56 = .ok (.iload 8, 2) := dk_21 8 (dk_at dksX6_bestDrawn_2 10 rfl rfl)
theorem dX6_bestDrawn_58 : decode cX6_bestDrawn 58 = .ok (.iload_n 3, 1) := dk_29 (dk_at dksX6_bestDrawn_2 12 rfl rfl)
theorem dX6_bestDrawn_59 : decode cX6_bestDrawn 59 = .ok (.iload 4, 2) := dk_21 4 (dk_at dksX6_bestDrawn_2 13 rfl rfl)
theorem dX6_bestDrawn_61 : decode cX6_bestDrawn 61 = .ok (.invokevirtual 464, 3) := dk_182 1 208 (dk_at dksX6_bestDrawn_2 15 rfl rfl)
theorem dX6_bestDrawn_64 : decode cX6_bestDrawn 64 = .ok (.lstore 9, 2) := dk_55 9 (dk_at dksX6_bestDrawn_2 18 rfl rfl)
theorem dX6_bestDrawn_66 : decode cX6_bestDrawn 66 = .ok (.lload 9, 2) := dk_22 9 (dk_at dksX6_bestDrawn_2 20 rfl rfl)
theorem dX6_bestDrawn_68 : decode cX6_bestDrawn 68 = .ok (.lload 6, 2) := dk_22 6 (dk_at dksX6_bestDrawn_2 22 rfl rfl)
theorem dX6_bestDrawn_70 : decode cX6_bestDrawn 70 = .ok (.lcmp, 1) := dk_148 (dk_at dksX6_bestDrawn_3 0 rfl rfl)
theorem dX6_bestDrawn_71 : decode cX6_bestDrawn 71 = .ok (.ifCond .gt 6, 3) := dk_157 0 6 (dk_at dksX6_bestDrawn_3 1 rfl rfl)
theorem dX6_bestDrawn_74 : decode cX6_bestDrawn 74 = .ok (.goto 11, 3) := dk_167 0 11 (dk_at dksX6_bestDrawn_3 4 rfl rfl)
theorem dX6_bestDrawn_77 : decode cX6_bestDrawn 77 = .ok (.lload 9, 2) := dk_22 9 (dk_at dksX6_bestDrawn_3 7 rfl rfl)
theorem dX6_bestDrawn_79 : decode cX6_bestDrawn 79 = .ok (.lstore 6, 2) := dk_55 6 (dk_at dksX6_bestDrawn_3 9 rfl rfl)
theorem dX6_bestDrawn_81 : decode cX6_bestDrawn 81 = .ok (.iload 8, 2) := dk_21 8 (dk_at dksX6_bestDrawn_3 11 rfl rfl)
theorem dX6_bestDrawn_83 : decode cX6_bestDrawn 83 = .ok (.istore 5, 2) := dk_54 5 (dk_at dksX6_bestDrawn_3 13 rfl rfl)
theorem dX6_bestDrawn_85 : decode cX6_bestDrawn 85 = .ok (.iinc 8 1, 3) := dk_132 8 1 (dk_at dksX6_bestDrawn_3 15 rfl rfl)
theorem dX6_bestDrawn_88 : decode cX6_bestDrawn 88 = .ok (.goto (-42), 3) := dk_167 255 214 (dk_at dksX6_bestDrawn_3 18 rfl rfl)
theorem dX6_bestDrawn_91 : decode cX6_bestDrawn 91 = .ok (.aload_n 0, 1) := dk_42 (dk_at dksX6_bestDrawn_3 21 rfl rfl)
theorem dX6_bestDrawn_92 : decode cX6_bestDrawn 92 = .ok (.lload 6, 2) := dk_22 6 (dk_at dksX6_bestDrawn_3 22 rfl rfl)
theorem dX6_bestDrawn_94 : decode cX6_bestDrawn 94 = .ok (.aload_n 0, 1) := dk_42 (dk_at dksX6_bestDrawn_4 0 rfl rfl)
theorem dX6_bestDrawn_95 : decode cX6_bestDrawn 95 = .ok (.iload 4, 2) := dk_21 4 (dk_at dksX6_bestDrawn_4 1 rfl rfl)
theorem dX6_bestDrawn_97 : decode cX6_bestDrawn 97 = .ok (.invokevirtual 468, 3) := dk_182 1 212 (dk_at dksX6_bestDrawn_4 3 rfl rfl)
theorem dX6_bestDrawn_100 : decode cX6_bestDrawn 100 = .ok (.invokevirtual 418, 3) := dk_182 1 162 (dk_at dksX6_bestDrawn_4 6 rfl rfl)
theorem dX6_bestDrawn_103 : decode cX6_bestDrawn 103 = .ok (.iload 5, 2) := dk_21 5 (dk_at dksX6_bestDrawn_4 9 rfl rfl)
theorem dX6_bestDrawn_105 : decode cX6_bestDrawn 105 = .ok (.ireturn, 1) := dk_172 (dk_at dksX6_bestDrawn_4 11 rfl rfl)
abbrev cX6_three : ByteArray := prog_15_method_93_code
def yX6_three : MethodName := ⟨RX6, "three", "(IIII)I"⟩
def dkwX6_three_12 : List UInt8 := [153, 0, 8, 21, 5, 4, 96, 172, 132, 5, 1, 167, 255, 146, 42, 16, 8, 182, 1, 55, 172]
abbrev dktX6_three_12 : List UInt8 := dkwX6_three_12 ++ []
def dkwX6_three_11 : List UInt8 := [180, 0, 84, 42, 180, 0, 129, 21, 6, 46, 46, 79, 132, 6, 1, 167, 255, 175, 42, 182, 1, 218]
abbrev dktX6_three_11 : List UInt8 := dkwX6_three_11 ++ dktX6_three_12
def dkwX6_three_10 : List UInt8 := [42, 180, 0, 84, 21, 6, 46, 182, 1, 129, 182, 1, 133, 79, 167, 0, 22, 42, 180, 0, 84, 21, 6, 42]
abbrev dktX6_three_10 : List UInt8 := dkwX6_three_10 ++ dktX6_three_11
def dkwX6_three_9 : List UInt8 := [42, 180, 0, 84, 21, 6, 42, 42, 180, 0, 84, 21, 6, 46, 42, 42, 180, 0, 132, 21, 6, 46, 21, 6]
abbrev dktX6_three_9 : List UInt8 := dkwX6_three_9 ++ dktX6_three_10
def dkwX6_three_8 : List UInt8 := [162, 0, 108, 3, 54, 6, 21, 6, 6, 162, 0, 81, 42, 180, 0, 129, 21, 6, 46, 21, 6, 160, 0, 44]
abbrev dktX6_three_8 : List UInt8 := dkwX6_three_8 ++ dktX6_three_9
def dkwX6_three_7 : List UInt8 := [132, 5, 1, 167, 255, 238, 42, 182, 1, 218, 153, 0, 5, 3, 172, 3, 54, 5, 21, 5, 17, 0, 200]
abbrev dktX6_three_7 : List UInt8 := dkwX6_three_7 ++ dktX6_three_8
def dkwX6_three_6 : List UInt8 := [16, 10, 112, 182, 1, 123, 3, 54, 5, 21, 5, 6, 162, 0, 18, 42, 180, 0, 129, 21, 5, 21, 5, 79]
abbrev dktX6_three_6 : List UInt8 := dkwX6_three_6 ++ dktX6_three_7
def dkwX6_three_5 : List UInt8 := [16, 100, 108, 182, 1, 123, 42, 4, 21, 4, 16, 10, 108, 16, 10, 112, 182, 1, 123, 42, 5, 21, 4]
abbrev dktX6_three_5 : List UInt8 := dkwX6_three_5 ++ dktX6_three_6
def dkwX6_three_4 : List UInt8 := [180, 0, 132, 3, 27, 79, 42, 180, 0, 132, 4, 28, 79, 42, 180, 0, 132, 5, 29, 79, 42, 3, 21, 4]
abbrev dktX6_three_4 : List UInt8 := dkwX6_three_4 ++ dktX6_three_5
def dkwX6_three_3 : List UInt8 := [153, 0, 15, 42, 21, 4, 16, 10, 112, 182, 1, 98, 154, 0, 9, 42, 5, 182, 1, 55, 172, 42]
abbrev dktX6_three_3 : List UInt8 := dkwX6_three_3 ++ dktX6_three_4
def dkwX6_three_2 : List UInt8 := [42, 21, 4, 16, 100, 108, 182, 1, 98, 153, 0, 30, 42, 21, 4, 16, 10, 108, 16, 10, 112, 182, 1, 98]
abbrev dktX6_three_2 : List UInt8 := dkwX6_three_2 ++ dktX6_three_3
def dkwX6_three_1 : List UInt8 := [153, 0, 63, 42, 29, 182, 1, 143, 153, 0, 55, 21, 4, 133, 9, 20, 1, 216, 184, 1, 6, 153, 0, 42]
abbrev dktX6_three_1 : List UInt8 := dkwX6_three_1 ++ dktX6_three_2
def dkwX6_three_0 : List UInt8 := [42, 3, 181, 0, 144, 42, 3, 181, 0, 147, 42, 27, 182, 1, 143, 153, 0, 71, 42, 28, 182, 1, 143]
abbrev dktX6_three_0 : List UInt8 := dkwX6_three_0 ++ dktX6_three_1
theorem dksX6_three_0 : cX6_three.data.toList.drop 0 = dktX6_three_0 := by decide +kernel
theorem dksX6_three_1 : cX6_three.data.toList.drop 23 = dktX6_three_1 := dk_seg dksX6_three_0 23 rfl rfl
theorem dksX6_three_2 : cX6_three.data.toList.drop 47 = dktX6_three_2 := dk_seg dksX6_three_1 24 rfl rfl
theorem dksX6_three_3 : cX6_three.data.toList.drop 71 = dktX6_three_3 := dk_seg dksX6_three_2 24 rfl rfl
theorem dksX6_three_4 : cX6_three.data.toList.drop 93 = dktX6_three_4 := dk_seg dksX6_three_3 22 rfl rfl
theorem dksX6_three_5 : cX6_three.data.toList.drop 117 = dktX6_three_5 := dk_seg dksX6_three_4 24 rfl rfl
theorem dksX6_three_6 : cX6_three.data.toList.drop 140 = dktX6_three_6 := dk_seg dksX6_three_5 23 rfl rfl
theorem dksX6_three_7 : cX6_three.data.toList.drop 164 = dktX6_three_7 := dk_seg dksX6_three_6 24 rfl rfl
theorem dksX6_three_8 : cX6_three.data.toList.drop 187 = dktX6_three_8 := dk_seg dksX6_three_7 23 rfl rfl
theorem dksX6_three_9 : cX6_three.data.toList.drop 211 = dktX6_three_9 := dk_seg dksX6_three_8 24 rfl rfl
theorem dksX6_three_10 : cX6_three.data.toList.drop 235 = dktX6_three_10 := dk_seg dksX6_three_9 24 rfl rfl
theorem dksX6_three_11 : cX6_three.data.toList.drop 259 = dktX6_three_11 := dk_seg dksX6_three_10 24 rfl rfl
theorem dksX6_three_12 : cX6_three.data.toList.drop 281 = dktX6_three_12 := dk_seg dksX6_three_11 22 rfl rfl
theorem dX6_three_0 : decode cX6_three 0 = .ok (.aload_n 0, 1) := dk_42 (dk_at dksX6_three_0 0 rfl rfl)
theorem dX6_three_1 : decode cX6_three 1 = .ok (.iconst 0, 1) := dk_3 (dk_at dksX6_three_0 1 rfl rfl)
theorem dX6_three_2 : decode cX6_three 2 = .ok (.putfield 144, 3) := dk_181 0 144 (dk_at dksX6_three_0 2 rfl rfl)
theorem dX6_three_5 : decode cX6_three 5 = .ok (.aload_n 0, 1) := dk_42 (dk_at dksX6_three_0 5 rfl rfl)
theorem dX6_three_6 : decode cX6_three 6 = .ok (.iconst 0, 1) := dk_3 (dk_at dksX6_three_0 6 rfl rfl)
theorem dX6_three_7 : decode cX6_three 7 = .ok (.putfield 147, 3) := dk_181 0 147 (dk_at dksX6_three_0 7 rfl rfl)
theorem dX6_three_10 : decode cX6_three 10 = .ok (.aload_n 0, 1) := dk_42 (dk_at dksX6_three_0 10 rfl rfl)
theorem dX6_three_11 : decode cX6_three 11 = .ok (.iload_n 1, 1) := dk_27 (dk_at dksX6_three_0 11 rfl rfl)
theorem dX6_three_12 : decode cX6_three 12 = .ok (.invokevirtual 399, 3) := dk_182 1 143 (dk_at dksX6_three_0 12 rfl rfl)
theorem dX6_three_15 : decode cX6_three 15 = .ok (.ifCond .eq 71, 3) := dk_153 0 71 (dk_at dksX6_three_0 15 rfl rfl)
theorem dX6_three_18 : decode cX6_three 18 = .ok (.aload_n 0, 1) := dk_42 (dk_at dksX6_three_0 18 rfl rfl)
theorem dX6_three_19 : decode cX6_three 19 = .ok (.iload_n 2, 1) := dk_28 (dk_at dksX6_three_0 19 rfl rfl)
theorem dX6_three_20 : decode cX6_three 20 = .ok (.invokevirtual 399, 3) := dk_182 1 143 (dk_at dksX6_three_0 20 rfl rfl)
theorem dX6_three_23 : decode cX6_three 23 = .ok (.ifCond .eq 63, 3) := dk_153 0 63 (dk_at dksX6_three_1 0 rfl rfl)
theorem dX6_three_26 : decode cX6_three 26 = .ok (.aload_n 0, 1) := dk_42 (dk_at dksX6_three_1 3 rfl rfl)
theorem dX6_three_27 : decode cX6_three 27 = .ok (.iload_n 3, 1) := dk_29 (dk_at dksX6_three_1 4 rfl rfl)
theorem dX6_three_28 : decode cX6_three 28 = .ok (.invokevirtual 399, 3) := dk_182 1 143 (dk_at dksX6_three_1 5 rfl rfl)
theorem dX6_three_31 : decode cX6_three 31 = .ok (.ifCond .eq 55, 3) := dk_153 0 55 (dk_at dksX6_three_1 8 rfl rfl)
theorem dX6_three_34 : decode cX6_three 34 = .ok (.iload 4, 2) := dk_21 4 (dk_at dksX6_three_1 11 rfl rfl)
theorem dX6_three_36 : decode cX6_three 36 = .ok (.i2l, 1) := dk_133 (dk_at dksX6_three_1 13 rfl rfl)
theorem dX6_three_37 : decode cX6_three 37 = .ok (.lconst 0, 1) := dk_9 (dk_at dksX6_three_1 14 rfl rfl)
theorem dX6_three_38 : decode cX6_three 38 = .ok (.ldc2_w 472, 3) := dk_20 1 216 (dk_at dksX6_three_1 15 rfl rfl)
theorem dX6_three_41 : decode cX6_three 41 = .ok (.invokestatic 262, 3) := dk_184 1 6 (dk_at dksX6_three_1 18 rfl rfl)
theorem dX6_three_44 : decode cX6_three 44 = .ok (.ifCond .eq 42, 3) := dk_153 0 42 (dk_at dksX6_three_1 21 rfl rfl)
theorem dX6_three_47 : decode cX6_three 47 = .ok (.aload_n 0, 1) := dk_42 (dk_at dksX6_three_2 0 rfl rfl)
theorem dX6_three_48 : decode cX6_three 48 = .ok (.iload 4, 2) := dk_21 4 (dk_at dksX6_three_2 1 rfl rfl)
theorem dX6_three_50 : decode cX6_three 50 = .ok (.bipush 100, 2) := dk_16 100 (dk_at dksX6_three_2 3 rfl rfl)
theorem dX6_three_52 : decode cX6_three 52 = .ok (.idiv, 1) := dk_108 (dk_at dksX6_three_2 5 rfl rfl)
theorem dX6_three_53 : decode cX6_three 53 = .ok (.invokevirtual 354, 3) := dk_182 1 98 (dk_at dksX6_three_2 6 rfl rfl)
theorem dX6_three_56 : decode cX6_three 56 = .ok (.ifCond .eq 30, 3) := dk_153 0 30 (dk_at dksX6_three_2 9 rfl rfl)
theorem dX6_three_59 : decode cX6_three 59 = .ok (.aload_n 0, 1) := dk_42 (dk_at dksX6_three_2 12 rfl rfl)
theorem dX6_three_60 : decode cX6_three 60 = .ok (.iload 4, 2) := dk_21 4 (dk_at dksX6_three_2 13 rfl rfl)
theorem dX6_three_62 : decode cX6_three 62 = .ok (.bipush 10, 2) := dk_16 10 (dk_at dksX6_three_2 15 rfl rfl)
theorem dX6_three_64 : decode cX6_three 64 = .ok (.idiv, 1) := dk_108 (dk_at dksX6_three_2 17 rfl rfl)
theorem dX6_three_65 : decode cX6_three 65 = .ok (.bipush 10, 2) := dk_16 10 (dk_at dksX6_three_2 18 rfl rfl)
theorem dX6_three_67 : decode cX6_three 67 = .ok (.irem, 1) := dk_112 (dk_at dksX6_three_2 20 rfl rfl)
theorem dX6_three_68 : decode cX6_three 68 = .ok (.invokevirtual 354, 3) := dk_182 1 98 (dk_at dksX6_three_2 21 rfl rfl)
theorem dX6_three_71 : decode cX6_three 71 = .ok (.ifCond .eq 15, 3) := dk_153 0 15 (dk_at dksX6_three_3 0 rfl rfl)
theorem dX6_three_74 : decode cX6_three 74 = .ok (.aload_n 0, 1) := dk_42 (dk_at dksX6_three_3 3 rfl rfl)
theorem dX6_three_75 : decode cX6_three 75 = .ok (.iload 4, 2) := dk_21 4 (dk_at dksX6_three_3 4 rfl rfl)
theorem dX6_three_77 : decode cX6_three 77 = .ok (.bipush 10, 2) := dk_16 10 (dk_at dksX6_three_3 6 rfl rfl)
theorem dX6_three_79 : decode cX6_three 79 = .ok (.irem, 1) := dk_112 (dk_at dksX6_three_3 8 rfl rfl)
theorem dX6_three_80 : decode cX6_three 80 = .ok (.invokevirtual 354, 3) := dk_182 1 98 (dk_at dksX6_three_3 9 rfl rfl)
theorem dX6_three_83 : decode cX6_three 83 = .ok (.ifCond .ne 9, 3) := dk_154 0 9 (dk_at dksX6_three_3 12 rfl rfl)
theorem dX6_three_86 : decode cX6_three 86 = .ok (.aload_n 0, 1) := dk_42 (dk_at dksX6_three_3 15 rfl rfl)
theorem dX6_three_87 : decode cX6_three 87 = .ok (.iconst 2, 1) := dk_5 (dk_at dksX6_three_3 16 rfl rfl)
theorem dX6_three_88 : decode cX6_three 88 = .ok (.invokevirtual 311, 3) := dk_182 1 55 (dk_at dksX6_three_3 17 rfl rfl)
theorem dX6_three_91 : decode cX6_three 91 = .ok (.ireturn, 1) := dk_172 (dk_at dksX6_three_3 20 rfl rfl)
theorem dX6_three_92 : decode cX6_three 92 = .ok (.aload_n 0, 1) := dk_42 (dk_at dksX6_three_3 21 rfl rfl)
theorem dX6_three_93 : decode cX6_three 93 = .ok (.getfield 132, 3) := dk_180 0 132 (dk_at dksX6_three_4 0 rfl rfl)
theorem dX6_three_96 : decode cX6_three 96 = .ok (.iconst 0, 1) := dk_3 (dk_at dksX6_three_4 3 rfl rfl)
theorem dX6_three_97 : decode cX6_three 97 = .ok (.iload_n 1, 1) := dk_27 (dk_at dksX6_three_4 4 rfl rfl)
theorem dX6_three_98 : decode cX6_three 98 = .ok (.iastore, 1) := dk_79 (dk_at dksX6_three_4 5 rfl rfl)
theorem dX6_three_99 : decode cX6_three 99 = .ok (.aload_n 0, 1) := dk_42 (dk_at dksX6_three_4 6 rfl rfl)
theorem dX6_three_100 : decode cX6_three 100 = .ok (.getfield 132, 3) := dk_180 0 132 (dk_at dksX6_three_4 7 rfl rfl)
theorem dX6_three_103 : decode cX6_three 103 = .ok (.iconst 1, 1) := dk_4 (dk_at dksX6_three_4 10 rfl rfl)
theorem dX6_three_104 : decode cX6_three 104 = .ok (.iload_n 2, 1) := dk_28 (dk_at dksX6_three_4 11 rfl rfl)
theorem dX6_three_105 : decode cX6_three 105 = .ok (.iastore, 1) := dk_79 (dk_at dksX6_three_4 12 rfl rfl)
theorem dX6_three_106 : decode cX6_three 106 = .ok (.aload_n 0, 1) := dk_42 (dk_at dksX6_three_4 13 rfl rfl)
theorem dX6_three_107 : decode cX6_three 107 = .ok (.getfield 132, 3) := dk_180 0 132 (dk_at dksX6_three_4 14 rfl rfl)
theorem dX6_three_110 : decode cX6_three 110 = .ok (.iconst 2, 1) := dk_5 (dk_at dksX6_three_4 17 rfl rfl)
theorem dX6_three_111 : decode cX6_three 111 = .ok (.iload_n 3, 1) := dk_29 (dk_at dksX6_three_4 18 rfl rfl)
theorem dX6_three_112 : decode cX6_three 112 = .ok (.iastore, 1) := dk_79 (dk_at dksX6_three_4 19 rfl rfl)
theorem dX6_three_113 : decode cX6_three 113 = .ok (.aload_n 0, 1) := dk_42 (dk_at dksX6_three_4 20 rfl rfl)
theorem dX6_three_114 : decode cX6_three 114 = .ok (.iconst 0, 1) := dk_3 (dk_at dksX6_three_4 21 rfl rfl)
theorem dX6_three_115 : decode cX6_three 115 = .ok (.iload 4, 2) := dk_21 4 (dk_at dksX6_three_4 22 rfl rfl)
theorem dX6_three_117 : decode cX6_three 117 = .ok (.bipush 100, 2) := dk_16 100 (dk_at dksX6_three_5 0 rfl rfl)
theorem dX6_three_119 : decode cX6_three 119 = .ok (.idiv, 1) := dk_108 (dk_at dksX6_three_5 2 rfl rfl)
theorem dX6_three_120 : decode cX6_three 120 = .ok (.invokevirtual 379, 3) := dk_182 1 123 (dk_at dksX6_three_5 3 rfl rfl)
theorem dX6_three_123 : decode cX6_three 123 = .ok (.aload_n 0, 1) := dk_42 (dk_at dksX6_three_5 6 rfl rfl)
theorem dX6_three_124 : decode cX6_three 124 = .ok (.iconst 1, 1) := dk_4 (dk_at dksX6_three_5 7 rfl rfl)
theorem dX6_three_125 : decode cX6_three 125 = .ok (.iload 4, 2) := dk_21 4 (dk_at dksX6_three_5 8 rfl rfl)
theorem dX6_three_127 : decode cX6_three 127 = .ok (.bipush 10, 2) := dk_16 10 (dk_at dksX6_three_5 10 rfl rfl)
theorem dX6_three_129 : decode cX6_three 129 = .ok (.idiv, 1) := dk_108 (dk_at dksX6_three_5 12 rfl rfl)
theorem dX6_three_130 : decode cX6_three 130 = .ok (.bipush 10, 2) := dk_16 10 (dk_at dksX6_three_5 13 rfl rfl)
theorem dX6_three_132 : decode cX6_three 132 = .ok (.irem, 1) := dk_112 (dk_at dksX6_three_5 15 rfl rfl)
theorem dX6_three_133 : decode cX6_three 133 = .ok (.invokevirtual 379, 3) := dk_182 1 123 (dk_at dksX6_three_5 16 rfl rfl)
theorem dX6_three_136 : decode cX6_three 136 = .ok (.aload_n 0, 1) := dk_42 (dk_at dksX6_three_5 19 rfl rfl)
theorem dX6_three_137 : decode cX6_three 137 = .ok (.iconst 2, 1) := dk_5 (dk_at dksX6_three_5 20 rfl rfl)
theorem dX6_three_138 : decode cX6_three 138 = .ok (.iload 4, 2) := dk_21 4 (dk_at dksX6_three_5 21 rfl rfl)
theorem dX6_three_140 : decode cX6_three 140 = .ok (.bipush 10, 2) := dk_16 10 (dk_at dksX6_three_6 0 rfl rfl)
theorem dX6_three_142 : decode cX6_three 142 = .ok (.irem, 1) := dk_112 (dk_at dksX6_three_6 2 rfl rfl)
theorem dX6_three_143 : decode cX6_three 143 = .ok (.invokevirtual 379, 3) := dk_182 1 123 (dk_at dksX6_three_6 3 rfl rfl)
theorem dX6_three_146 : decode cX6_three 146 = .ok (.iconst 0, 1) := dk_3 (dk_at dksX6_three_6 6 rfl rfl)
theorem dX6_three_147 : decode cX6_three 147 = .ok (.istore 5, 2) := dk_54 5 (dk_at dksX6_three_6 7 rfl rfl)
theorem dX6_three_149 : decode cX6_three 149 = .ok (.iload 5, 2) := dk_21 5 (dk_at dksX6_three_6 9 rfl rfl)
theorem dX6_three_151 : decode cX6_three 151 = .ok (.iconst 3, 1) := dk_6 (dk_at dksX6_three_6 11 rfl rfl)
theorem dX6_three_152 : decode cX6_three 152 = .ok (.if_icmp .ge 18, 3) := dk_162 0 18 (dk_at dksX6_three_6 12 rfl rfl)
theorem dX6_three_155 : decode cX6_three 155 = .ok (.aload_n 0, 1) := dk_42 (dk_at dksX6_three_6 15 rfl rfl)
theorem dX6_three_156 : decode cX6_three 156 = .ok (.getfield 129, 3) := dk_180 0 129 (dk_at dksX6_three_6 16 rfl rfl)
theorem dX6_three_159 : decode cX6_three 159 = .ok (.iload 5, 2) := dk_21 5 (dk_at dksX6_three_6 19 rfl rfl)
theorem dX6_three_161 : decode cX6_three 161 = .ok (.iload 5, 2) := dk_21 5 (dk_at dksX6_three_6 21 rfl rfl)
theorem dX6_three_163 : decode cX6_three 163 = .ok (.iastore, 1) := dk_79 (dk_at dksX6_three_6 23 rfl rfl)
theorem dX6_three_164 : decode cX6_three 164 = .ok (.iinc 5 1, 3) := dk_132 5 1 (dk_at dksX6_three_7 0 rfl rfl)
theorem dX6_three_167 : decode cX6_three 167 = .ok (.goto (-18), 3) := dk_167 255 238 (dk_at dksX6_three_7 3 rfl rfl)
theorem dX6_three_170 : decode cX6_three 170 = .ok (.aload_n 0, 1) := dk_42 (dk_at dksX6_three_7 6 rfl rfl)
theorem dX6_three_171 : decode cX6_three 171 = .ok (.invokevirtual 474, 3) := dk_182 1 218 (dk_at dksX6_three_7 7 rfl rfl)
theorem dX6_three_174 : decode cX6_three 174 = .ok (.ifCond .eq 5, 3) := dk_153 0 5 (dk_at dksX6_three_7 10 rfl rfl)
theorem dX6_three_177 : decode cX6_three 177 = .ok (.iconst 0, 1) := dk_3 (dk_at dksX6_three_7 13 rfl rfl)
theorem dX6_three_178 : decode cX6_three 178 = .ok (.ireturn, 1) := dk_172 (dk_at dksX6_three_7 14 rfl rfl)
theorem dX6_three_179 : decode cX6_three 179 = .ok (.iconst 0, 1) := dk_3 (dk_at dksX6_three_7 15 rfl rfl)
theorem dX6_three_180 : decode cX6_three 180 = .ok (.istore 5, 2) := dk_54 5 (dk_at dksX6_three_7 16 rfl rfl)
theorem dX6_three_182 : decode cX6_three 182 = .ok (.iload 5, 2) := dk_21 5 (dk_at dksX6_three_7 18 rfl rfl)
theorem dX6_three_184 : decode cX6_three 184 = .ok (.sipush 200, 3) := dk_17 0 200 (dk_at dksX6_three_7 20 rfl rfl)
theorem dX6_three_187 : decode cX6_three 187 = .ok (.if_icmp .ge 108, 3) := dk_162 0 108 (dk_at dksX6_three_8 0 rfl rfl)
theorem dX6_three_190 : decode cX6_three 190 = .ok (.iconst 0, 1) := dk_3 (dk_at dksX6_three_8 3 rfl rfl)
theorem dX6_three_191 : decode cX6_three 191 = .ok (.istore 6, 2) := dk_54 6 (dk_at dksX6_three_8 4 rfl rfl)
theorem dX6_three_193 : decode cX6_three 193 = .ok (.iload 6, 2) := dk_21 6 (dk_at dksX6_three_8 6 rfl rfl)
theorem dX6_three_195 : decode cX6_three 195 = .ok (.iconst 3, 1) := dk_6 (dk_at dksX6_three_8 8 rfl rfl)
theorem dX6_three_196 : decode cX6_three 196 = .ok (.if_icmp .ge 81, 3) := dk_162 0 81 (dk_at dksX6_three_8 9 rfl rfl)
theorem dX6_three_199 : decode cX6_three 199 = .ok (.aload_n 0, 1) := dk_42 (dk_at dksX6_three_8 12 rfl rfl)
theorem dX6_three_200 : decode cX6_three 200 = .ok (.getfield 129, 3) := dk_180 0 129 (dk_at dksX6_three_8 13 rfl rfl)
theorem dX6_three_203 : decode cX6_three 203 = .ok (.iload 6, 2) := dk_21 6 (dk_at dksX6_three_8 16 rfl rfl)
theorem dX6_three_205 : decode cX6_three 205 = .ok (.iaload, 1) := dk_46 (dk_at dksX6_three_8 18 rfl rfl)
theorem dX6_three_206 : decode cX6_three 206 = .ok (.iload 6, 2) := dk_21 6 (dk_at dksX6_three_8 19 rfl rfl)
theorem dX6_three_208 : decode cX6_three 208 = .ok (.if_icmp .ne 44, 3) := dk_160 0 44 (dk_at dksX6_three_8 21 rfl rfl)
theorem dX6_three_211 : decode cX6_three 211 = .ok (.aload_n 0, 1) := dk_42 (dk_at dksX6_three_9 0 rfl rfl)
theorem dX6_three_212 : decode cX6_three 212 = .ok (.getfield 84, 3) := dk_180 0 84 (dk_at dksX6_three_9 1 rfl rfl)
theorem dX6_three_215 : decode cX6_three 215 = .ok (.iload 6, 2) := dk_21 6 (dk_at dksX6_three_9 4 rfl rfl)
theorem dX6_three_217 : decode cX6_three 217 = .ok (.aload_n 0, 1) := dk_42 (dk_at dksX6_three_9 6 rfl rfl)
theorem dX6_three_218 : decode cX6_three 218 = .ok (.aload_n 0, 1) := dk_42 (dk_at dksX6_three_9 7 rfl rfl)
theorem dX6_three_219 : decode cX6_three 219 = .ok (.getfield 84, 3) := dk_180 0 84 (dk_at dksX6_three_9 8 rfl rfl)
theorem dX6_three_222 : decode cX6_three 222 = .ok (.iload 6, 2) := dk_21 6 (dk_at dksX6_three_9 11 rfl rfl)
theorem dX6_three_224 : decode cX6_three 224 = .ok (.iaload, 1) := dk_46 (dk_at dksX6_three_9 13 rfl rfl)
theorem dX6_three_225 : decode cX6_three 225 = .ok (.aload_n 0, 1) := dk_42 (dk_at dksX6_three_9 14 rfl rfl)
theorem dX6_three_226 : decode cX6_three 226 = .ok (.aload_n 0, 1) := dk_42 (dk_at dksX6_three_9 15 rfl rfl)
theorem dX6_three_227 : decode cX6_three 227 = .ok (.getfield 132, 3) := dk_180 0 132 (dk_at dksX6_three_9 16 rfl rfl)
theorem dX6_three_230 : decode cX6_three 230 = .ok (.iload 6, 2) := dk_21 6 (dk_at dksX6_three_9 19 rfl rfl)
theorem dX6_three_232 : decode cX6_three 232 = .ok (.iaload, 1) := dk_46 (dk_at dksX6_three_9 21 rfl rfl)
theorem dX6_three_233 : decode cX6_three 233 = .ok (.iload 6, 2) := dk_21 6 (dk_at dksX6_three_9 22 rfl rfl)
theorem dX6_three_235 : decode cX6_three 235 = .ok (.aload_n 0, 1) := dk_42 (dk_at dksX6_three_10 0 rfl rfl)
theorem dX6_three_236 : decode cX6_three 236 = .ok (.getfield 84, 3) := dk_180 0 84 (dk_at dksX6_three_10 1 rfl rfl)
theorem dX6_three_239 : decode cX6_three 239 = .ok (.iload 6, 2) := dk_21 6 (dk_at dksX6_three_10 4 rfl rfl)
theorem dX6_three_241 : decode cX6_three 241 = .ok (.iaload, 1) := dk_46 (dk_at dksX6_three_10 6 rfl rfl)
theorem dX6_three_242 : decode cX6_three 242 = .ok (.invokevirtual 385, 3) := dk_182 1 129 (dk_at dksX6_three_10 7 rfl rfl)
theorem dX6_three_245 : decode cX6_three 245 = .ok (.invokevirtual 389, 3) := dk_182 1 133 (dk_at dksX6_three_10 10 rfl rfl)
theorem dX6_three_248 : decode cX6_three 248 = .ok (.iastore, 1) := dk_79 (dk_at dksX6_three_10 13 rfl rfl)
theorem dX6_three_249 : decode cX6_three 249 = .ok (.goto 22, 3) := dk_167 0 22 (dk_at dksX6_three_10 14 rfl rfl)
theorem dX6_three_252 : decode cX6_three 252 = .ok (.aload_n 0, 1) := dk_42 (dk_at dksX6_three_10 17 rfl rfl)
theorem dX6_three_253 : decode cX6_three 253 = .ok (.getfield 84, 3) := dk_180 0 84 (dk_at dksX6_three_10 18 rfl rfl)
theorem dX6_three_256 : decode cX6_three 256 = .ok (.iload 6, 2) := dk_21 6 (dk_at dksX6_three_10 21 rfl rfl)
theorem dX6_three_258 : decode cX6_three 258 = .ok (.aload_n 0, 1) := dk_42 (dk_at dksX6_three_10 23 rfl rfl)
theorem dX6_three_259 : decode cX6_three 259 = .ok (.getfield 84, 3) := dk_180 0 84 (dk_at dksX6_three_11 0 rfl rfl)
theorem dX6_three_262 : decode cX6_three 262 = .ok (.aload_n 0, 1) := dk_42 (dk_at dksX6_three_11 3 rfl rfl)
theorem dX6_three_263 : decode cX6_three 263 = .ok (.getfield 129, 3) := dk_180 0 129 (dk_at dksX6_three_11 4 rfl rfl)
theorem dX6_three_266 : decode cX6_three 266 = .ok (.iload 6, 2) := dk_21 6 (dk_at dksX6_three_11 7 rfl rfl)
theorem dX6_three_268 : decode cX6_three 268 = .ok (.iaload, 1) := dk_46 (dk_at dksX6_three_11 9 rfl rfl)
theorem dX6_three_269 : decode cX6_three 269 = .ok (.iaload, 1) := dk_46 (dk_at dksX6_three_11 10 rfl rfl)
theorem dX6_three_270 : decode cX6_three 270 = .ok (.iastore, 1) := dk_79 (dk_at dksX6_three_11 11 rfl rfl)
theorem dX6_three_271 : decode cX6_three 271 = .ok (.iinc 6 1, 3) := dk_132 6 1 (dk_at dksX6_three_11 12 rfl rfl)
theorem dX6_three_274 : decode cX6_three 274 = .ok (.goto (-81), 3) := dk_167 255 175 (dk_at dksX6_three_11 15 rfl rfl)
theorem dX6_three_277 : decode cX6_three 277 = .ok (.aload_n 0, 1) := dk_42 (dk_at dksX6_three_11 18 rfl rfl)
theorem dX6_three_278 : decode cX6_three 278 = .ok (.invokevirtual 474, 3) := dk_182 1 218 (dk_at dksX6_three_11 19 rfl rfl)
theorem dX6_three_281 : decode cX6_three 281 = .ok (.ifCond .eq 8, 3) := dk_153 0 8 (dk_at dksX6_three_12 0 rfl rfl)
theorem dX6_three_284 : decode cX6_three 284 = .ok (.iload 5, 2) := dk_21 5 (dk_at dksX6_three_12 3 rfl rfl)
theorem dX6_three_286 : decode cX6_three 286 = .ok (.iconst 1, 1) := dk_4 (dk_at dksX6_three_12 5 rfl rfl)
theorem dX6_three_287 : decode cX6_three 287 = .ok (.iadd, 1) := dk_96 (dk_at dksX6_three_12 6 rfl rfl)
theorem dX6_three_288 : decode cX6_three 288 = .ok (.ireturn, 1) := dk_172 (dk_at dksX6_three_12 7 rfl rfl)
theorem dX6_three_289 : decode cX6_three 289 = .ok (.iinc 5 1, 3) := dk_132 5 1 (dk_at dksX6_three_12 8 rfl rfl)
theorem dX6_three_292 : decode cX6_three 292 = .ok (.goto (-110), 3) := dk_167 255 146 (dk_at dksX6_three_12 11 rfl rfl)
theorem dX6_three_295 : decode cX6_three 295 = .ok (.aload_n 0, 1) := dk_42 (dk_at dksX6_three_12 14 rfl rfl)
theorem dX6_three_296 : decode cX6_three 296 = .ok (.bipush 8, 2) := dk_16 8 (dk_at dksX6_three_12 15 rfl rfl)
theorem dX6_three_298 : decode cX6_three 298 = .ok (.invokevirtual 311, 3) := dk_182 1 55 (dk_at dksX6_three_12 17 rfl rfl)
theorem dX6_three_301 : decode cX6_three 301 = .ok (.ireturn, 1) := dk_172 (dk_at dksX6_three_12 20 rfl rfl)
abbrev cX6_holds : ByteArray := prog_15_method_92_code
def yX6_holds : MethodName := ⟨RX6, "holds", "()Z"⟩
def dkwX6_holds_3 : List UInt8 := [42, 180, 0, 84, 4, 46, 42, 180, 0, 84, 5, 46, 160, 0, 7, 4, 167, 0, 4, 3, 172]
abbrev dktX6_holds_3 : List UInt8 := dkwX6_holds_3 ++ []
def dkwX6_holds_2 : List UInt8 := [167, 255, 221, 132, 1, 1, 167, 255, 206, 42, 180, 0, 84, 3, 46, 42, 180, 0, 84, 4, 46, 160, 0, 22]
abbrev dktX6_holds_2 : List UInt8 := dkwX6_holds_2 ++ dktX6_holds_3
def dkwX6_holds_1 : List UInt8 := [180, 0, 84, 28, 46, 160, 0, 15, 42, 180, 0, 129, 28, 42, 180, 0, 129, 27, 46, 79, 132, 2, 1]
abbrev dktX6_holds_1 : List UInt8 := dkwX6_holds_1 ++ dktX6_holds_2
def dkwX6_holds_0 : List UInt8 := [3, 60, 27, 6, 162, 0, 51, 27, 4, 96, 61, 28, 6, 162, 0, 36, 42, 180, 0, 84, 27, 46, 42]
abbrev dktX6_holds_0 : List UInt8 := dkwX6_holds_0 ++ dktX6_holds_1
theorem dksX6_holds_0 : cX6_holds.data.toList.drop 0 = dktX6_holds_0 := by decide +kernel
theorem dksX6_holds_1 : cX6_holds.data.toList.drop 23 = dktX6_holds_1 := dk_seg dksX6_holds_0 23 rfl rfl
theorem dksX6_holds_2 : cX6_holds.data.toList.drop 46 = dktX6_holds_2 := dk_seg dksX6_holds_1 23 rfl rfl
theorem dksX6_holds_3 : cX6_holds.data.toList.drop 70 = dktX6_holds_3 := dk_seg dksX6_holds_2 24 rfl rfl
theorem dX6_holds_0 : decode cX6_holds 0 = .ok (.iconst 0, 1) := dk_3 (dk_at dksX6_holds_0 0 rfl rfl)
theorem dX6_holds_1 : decode cX6_holds 1 = .ok (.istore_n 1, 1) := dk_60 (dk_at dksX6_holds_0 1 rfl rfl)
theorem dX6_holds_2 : decode cX6_holds 2 = .ok (.iload_n 1, 1) := dk_27 (dk_at dksX6_holds_0 2 rfl rfl)
theorem dX6_holds_3 : decode cX6_holds 3 = .ok (.iconst 3, 1) := dk_6 (dk_at dksX6_holds_0 3 rfl rfl)
theorem dX6_holds_4 : decode cX6_holds 4 = .ok (.if_icmp .ge 51, 3) := dk_162 0 51 (dk_at dksX6_holds_0 4 rfl rfl)
theorem dX6_holds_7 : decode cX6_holds 7 = .ok (.iload_n 1, 1) := dk_27 (dk_at dksX6_holds_0 7 rfl rfl)
theorem dX6_holds_8 : decode cX6_holds 8 = .ok (.iconst 1, 1) := dk_4 (dk_at dksX6_holds_0 8 rfl rfl)
theorem dX6_holds_9 : decode cX6_holds 9 = .ok (.iadd, 1) := dk_96 (dk_at dksX6_holds_0 9 rfl rfl)
theorem dX6_holds_10 : decode cX6_holds 10 = .ok (.istore_n 2, 1) := dk_61 (dk_at dksX6_holds_0 10 rfl rfl)
theorem dX6_holds_11 : decode cX6_holds 11 = .ok (.iload_n 2, 1) := dk_28 (dk_at dksX6_holds_0 11 rfl rfl)
theorem dX6_holds_12 : decode cX6_holds 12 = .ok (.iconst 3, 1) := dk_6 (dk_at dksX6_holds_0 12 rfl rfl)
theorem dX6_holds_13 : decode cX6_holds 13 = .ok (.if_icmp .ge 36, 3) := dk_162 0 36 (dk_at dksX6_holds_0 13 rfl rfl)
theorem dX6_holds_16 : decode cX6_holds 16 = .ok (.aload_n 0, 1) := dk_42 (dk_at dksX6_holds_0 16 rfl rfl)
theorem dX6_holds_17 : decode cX6_holds 17 = .ok (.getfield 84, 3) := dk_180 0 84 (dk_at dksX6_holds_0 17 rfl rfl)
theorem dX6_holds_20 : decode cX6_holds 20 = .ok (.iload_n 1, 1) := dk_27 (dk_at dksX6_holds_0 20 rfl rfl)
theorem dX6_holds_21 : decode cX6_holds 21 = .ok (.iaload, 1) := dk_46 (dk_at dksX6_holds_0 21 rfl rfl)
theorem dX6_holds_22 : decode cX6_holds 22 = .ok (.aload_n 0, 1) := dk_42 (dk_at dksX6_holds_0 22 rfl rfl)
theorem dX6_holds_23 : decode cX6_holds 23 = .ok (.getfield 84, 3) := dk_180 0 84 (dk_at dksX6_holds_1 0 rfl rfl)
theorem dX6_holds_26 : decode cX6_holds 26 = .ok (.iload_n 2, 1) := dk_28 (dk_at dksX6_holds_1 3 rfl rfl)
theorem dX6_holds_27 : decode cX6_holds 27 = .ok (.iaload, 1) := dk_46 (dk_at dksX6_holds_1 4 rfl rfl)
theorem dX6_holds_28 : decode cX6_holds 28 = .ok (.if_icmp .ne 15, 3) := dk_160 0 15 (dk_at dksX6_holds_1 5 rfl rfl)
theorem dX6_holds_31 : decode cX6_holds 31 = .ok (.aload_n 0, 1) := dk_42 (dk_at dksX6_holds_1 8 rfl rfl)
theorem dX6_holds_32 : decode cX6_holds 32 = .ok (.getfield 129, 3) := dk_180 0 129 (dk_at dksX6_holds_1 9 rfl rfl)
theorem dX6_holds_35 : decode cX6_holds 35 = .ok (.iload_n 2, 1) := dk_28 (dk_at dksX6_holds_1 12 rfl rfl)
theorem dX6_holds_36 : decode cX6_holds 36 = .ok (.aload_n 0, 1) := dk_42 (dk_at dksX6_holds_1 13 rfl rfl)
theorem dX6_holds_37 : decode cX6_holds 37 = .ok (.getfield 129, 3) := dk_180 0 129 (dk_at dksX6_holds_1 14 rfl rfl)
theorem dX6_holds_40 : decode cX6_holds 40 = .ok (.iload_n 1, 1) := dk_27 (dk_at dksX6_holds_1 17 rfl rfl)
theorem dX6_holds_41 : decode cX6_holds 41 = .ok (.iaload, 1) := dk_46 (dk_at dksX6_holds_1 18 rfl rfl)
theorem dX6_holds_42 : decode cX6_holds 42 = .ok (.iastore, 1) := dk_79 (dk_at dksX6_holds_1 19 rfl rfl)
theorem dX6_holds_43 : decode cX6_holds 43 = .ok (.iinc 2 1, 3) := dk_132 2 1 (dk_at dksX6_holds_1 20 rfl rfl)
theorem dX6_holds_46 : decode cX6_holds 46 = .ok (.goto (-35), 3) := dk_167 255 221 (dk_at dksX6_holds_2 0 rfl rfl)
theorem dX6_holds_49 : decode cX6_holds 49 = .ok (.iinc 1 1, 3) := dk_132 1 1 (dk_at dksX6_holds_2 3 rfl rfl)
theorem dX6_holds_52 : decode cX6_holds 52 = .ok (.goto (-50), 3) := dk_167 255 206 (dk_at dksX6_holds_2 6 rfl rfl)
theorem dX6_holds_55 : decode cX6_holds 55 = .ok (.aload_n 0, 1) := dk_42 (dk_at dksX6_holds_2 9 rfl rfl)
theorem dX6_holds_56 : decode cX6_holds 56 = .ok (.getfield 84, 3) := dk_180 0 84 (dk_at dksX6_holds_2 10 rfl rfl)
theorem dX6_holds_59 : decode cX6_holds 59 = .ok (.iconst 0, 1) := dk_3 (dk_at dksX6_holds_2 13 rfl rfl)
theorem dX6_holds_60 : decode cX6_holds 60 = .ok (.iaload, 1) := dk_46 (dk_at dksX6_holds_2 14 rfl rfl)
theorem dX6_holds_61 : decode cX6_holds 61 = .ok (.aload_n 0, 1) := dk_42 (dk_at dksX6_holds_2 15 rfl rfl)
theorem dX6_holds_62 : decode cX6_holds 62 = .ok (.getfield 84, 3) := dk_180 0 84 (dk_at dksX6_holds_2 16 rfl rfl)
theorem dX6_holds_65 : decode cX6_holds 65 = .ok (.iconst 1, 1) := dk_4 (dk_at dksX6_holds_2 19 rfl rfl)
theorem dX6_holds_66 : decode cX6_holds 66 = .ok (.iaload, 1) := dk_46 (dk_at dksX6_holds_2 20 rfl rfl)
theorem dX6_holds_67 : decode cX6_holds 67 = .ok (.if_icmp .ne 22, 3) := dk_160 0 22 (dk_at dksX6_holds_2 21 rfl rfl)
theorem dX6_holds_70 : decode cX6_holds 70 = .ok (.aload_n 0, 1) := dk_42 (dk_at dksX6_holds_3 0 rfl rfl)
theorem dX6_holds_71 : decode cX6_holds 71 = .ok (.getfield 84, 3) := dk_180 0 84 (dk_at dksX6_holds_3 1 rfl rfl)
theorem dX6_holds_74 : decode cX6_holds 74 = .ok (.iconst 1, 1) := dk_4 (dk_at dksX6_holds_3 4 rfl rfl)
theorem dX6_holds_75 : decode cX6_holds 75 = .ok (.iaload, 1) := dk_46 (dk_at dksX6_holds_3 5 rfl rfl)
theorem dX6_holds_76 : decode cX6_holds 76 = .ok (.aload_n 0, 1) := dk_42 (dk_at dksX6_holds_3 6 rfl rfl)
theorem dX6_holds_77 : decode cX6_holds 77 = .ok (.getfield 84, 3) := dk_180 0 84 (dk_at dksX6_holds_3 7 rfl rfl)
theorem dX6_holds_80 : decode cX6_holds 80 = .ok (.iconst 2, 1) := dk_5 (dk_at dksX6_holds_3 10 rfl rfl)
theorem dX6_holds_81 : decode cX6_holds 81 = .ok (.iaload, 1) := dk_46 (dk_at dksX6_holds_3 11 rfl rfl)
theorem dX6_holds_82 : decode cX6_holds 82 = .ok (.if_icmp .ne 7, 3) := dk_160 0 7 (dk_at dksX6_holds_3 12 rfl rfl)
theorem dX6_holds_85 : decode cX6_holds 85 = .ok (.iconst 1, 1) := dk_4 (dk_at dksX6_holds_3 15 rfl rfl)
theorem dX6_holds_86 : decode cX6_holds 86 = .ok (.goto 4, 3) := dk_167 0 4 (dk_at dksX6_holds_3 16 rfl rfl)
theorem dX6_holds_89 : decode cX6_holds 89 = .ok (.iconst 0, 1) := dk_3 (dk_at dksX6_holds_3 19 rfl rfl)
theorem dX6_holds_90 : decode cX6_holds 90 = .ok (.ireturn, 1) := dk_172 (dk_at dksX6_holds_3 20 rfl rfl)
abbrev cX6_value : ByteArray := prog_15_method_105_code
def yX6_value : MethodName := ⟨RX6, "value", "(IIIIIII)Z"⟩
def dkwX6_value_6 : List UInt8 := [180, 1, 241, 42, 180, 1, 238, 182, 1, 162, 4, 172]
abbrev dktX6_value_6 : List UInt8 := dkwX6_value_6 ++ []
def dkwX6_value_5 : List UInt8 := [132, 9, 1, 167, 255, 191, 132, 8, 1, 167, 255, 176, 42, 182, 2, 17, 42, 182, 2, 20, 42, 42]
abbrev dktX6_value_5 : List UInt8 := dkwX6_value_5 ++ dktX6_value_6
def dkwX6_value_4 : List UInt8 := [21, 8, 104, 21, 9, 96, 21, 10, 156, 0, 8, 21, 7, 167, 0, 10, 21, 7, 21, 10, 184, 1, 103, 79]
abbrev dktX6_value_4 : List UInt8 := dkwX6_value_4 ++ dktX6_value_5
def dkwX6_value_3 : List UInt8 := [136, 42, 29, 21, 9, 182, 1, 111, 136, 21, 5, 21, 6, 182, 1, 146, 54, 10, 42, 180, 0, 135, 6]
abbrev dktX6_value_3 : List UInt8 := dkwX6_value_3 ++ dktX6_value_4
def dkwX6_value_2 : List UInt8 := [21, 8, 28, 162, 0, 80, 3, 54, 9, 21, 9, 21, 4, 162, 0, 64, 42, 42, 27, 21, 8, 182, 1, 111]
abbrev dktX6_value_2 : List UInt8 := dkwX6_value_2 ++ dktX6_value_3
def dkwX6_value_1 : List UInt8 := [42, 180, 0, 147, 158, 0, 5, 3, 172, 42, 28, 181, 1, 221, 42, 21, 4, 181, 1, 227, 3, 54, 8]
abbrev dktX6_value_1 : List UInt8 := dkwX6_value_1 ++ dktX6_value_2
def dkwX6_value_0 : List UInt8 := [42, 3, 181, 0, 144, 42, 42, 27, 28, 29, 21, 4, 21, 5, 21, 6, 21, 7, 182, 2, 13, 181, 0, 147]
abbrev dktX6_value_0 : List UInt8 := dkwX6_value_0 ++ dktX6_value_1
theorem dksX6_value_0 : cX6_value.data.toList.drop 0 = dktX6_value_0 := by decide +kernel
theorem dksX6_value_1 : cX6_value.data.toList.drop 24 = dktX6_value_1 := dk_seg dksX6_value_0 24 rfl rfl
theorem dksX6_value_2 : cX6_value.data.toList.drop 47 = dktX6_value_2 := dk_seg dksX6_value_1 23 rfl rfl
theorem dksX6_value_3 : cX6_value.data.toList.drop 71 = dktX6_value_3 := dk_seg dksX6_value_2 24 rfl rfl
theorem dksX6_value_4 : cX6_value.data.toList.drop 94 = dktX6_value_4 := dk_seg dksX6_value_3 23 rfl rfl
theorem dksX6_value_5 : cX6_value.data.toList.drop 118 = dktX6_value_5 := dk_seg dksX6_value_4 24 rfl rfl
theorem dksX6_value_6 : cX6_value.data.toList.drop 140 = dktX6_value_6 := dk_seg dksX6_value_5 22 rfl rfl
theorem dX6_value_0 : decode cX6_value 0 = .ok (.aload_n 0, 1) := dk_42 (dk_at dksX6_value_0 0 rfl rfl)
theorem dX6_value_1 : decode cX6_value 1 = .ok (.iconst 0, 1) := dk_3 (dk_at dksX6_value_0 1 rfl rfl)
theorem dX6_value_2 : decode cX6_value 2 = .ok (.putfield 144, 3) := dk_181 0 144 (dk_at dksX6_value_0 2 rfl rfl)
theorem dX6_value_5 : decode cX6_value 5 = .ok (.aload_n 0, 1) := dk_42 (dk_at dksX6_value_0 5 rfl rfl)
theorem dX6_value_6 : decode cX6_value 6 = .ok (.aload_n 0, 1) := dk_42 (dk_at dksX6_value_0 6 rfl rfl)
theorem dX6_value_7 : decode cX6_value 7 = .ok (.iload_n 1, 1) := dk_27 (dk_at dksX6_value_0 7 rfl rfl)
theorem dX6_value_8 : decode cX6_value 8 = .ok (.iload_n 2, 1) := dk_28 (dk_at dksX6_value_0 8 rfl rfl)
theorem dX6_value_9 : decode cX6_value 9 = .ok (.iload_n 3, 1) := dk_29 (dk_at dksX6_value_0 9 rfl rfl)
theorem dX6_value_10 : decode cX6_value 10 = .ok (.iload 4, 2) := dk_21 4 (dk_at dksX6_value_0 10 rfl rfl)
theorem dX6_value_12 : decode cX6_value 12 = .ok (.iload 5, 2) := dk_21 5 (dk_at dksX6_value_0 12 rfl rfl)
theorem dX6_value_14 : decode cX6_value 14 = .ok (.iload 6, 2) := dk_21 6 (dk_at dksX6_value_0 14 rfl rfl)
theorem dX6_value_16 : decode cX6_value 16 = .ok (.iload 7, 2) := dk_21 7 (dk_at dksX6_value_0 16 rfl rfl)
theorem dX6_value_18 : decode cX6_value 18 = .ok (.invokevirtual 525, 3) := dk_182 2 13 (dk_at dksX6_value_0 18 rfl rfl)
theorem dX6_value_21 : decode cX6_value 21 = .ok (.putfield 147, 3) := dk_181 0 147 (dk_at dksX6_value_0 21 rfl rfl)
theorem dX6_value_24 : decode cX6_value 24 = .ok (.aload_n 0, 1) := dk_42 (dk_at dksX6_value_1 0 rfl rfl)
theorem dX6_value_25 : decode cX6_value 25 = .ok (.getfield 147, 3) := dk_180 0 147 (dk_at dksX6_value_1 1 rfl rfl)
theorem dX6_value_28 : decode cX6_value 28 = .ok (.ifCond .le 5, 3) := dk_158 0 5 (dk_at dksX6_value_1 4 rfl rfl)
theorem dX6_value_31 : decode cX6_value 31 = .ok (.iconst 0, 1) := dk_3 (dk_at dksX6_value_1 7 rfl rfl)
theorem dX6_value_32 : decode cX6_value 32 = .ok (.ireturn, 1) := dk_172 (dk_at dksX6_value_1 8 rfl rfl)
theorem dX6_value_33 : decode cX6_value 33 = .ok (.aload_n 0, 1) := dk_42 (dk_at dksX6_value_1 9 rfl rfl)
theorem dX6_value_34 : decode cX6_value 34 = .ok (.iload_n 2, 1) := dk_28 (dk_at dksX6_value_1 10 rfl rfl)
theorem dX6_value_35 : decode cX6_value 35 = .ok (.putfield 477, 3) := dk_181 1 221 (dk_at dksX6_value_1 11 rfl rfl)
theorem dX6_value_38 : decode cX6_value 38 = .ok (.aload_n 0, 1) := dk_42 (dk_at dksX6_value_1 14 rfl rfl)
theorem dX6_value_39 : decode cX6_value 39 = .ok (.iload 4, 2) := dk_21 4 (dk_at dksX6_value_1 15 rfl rfl)
theorem dX6_value_41 : decode cX6_value 41 = .ok (.putfield 483, 3) := dk_181 1 227 (dk_at dksX6_value_1 17 rfl rfl)
theorem dX6_value_44 : decode cX6_value 44 = .ok (.iconst 0, 1) := dk_3 (dk_at dksX6_value_1 20 rfl rfl)
theorem dX6_value_45 : decode cX6_value 45 = .ok (.istore 8, 2) := dk_54 8 (dk_at dksX6_value_1 21 rfl rfl)
theorem dX6_value_47 : decode cX6_value 47 = .ok (.iload 8, 2) := dk_21 8 (dk_at dksX6_value_2 0 rfl rfl)
theorem dX6_value_49 : decode cX6_value 49 = .ok (.iload_n 2, 1) := dk_28 (dk_at dksX6_value_2 2 rfl rfl)
theorem dX6_value_50 : decode cX6_value 50 = .ok (.if_icmp .ge 80, 3) := dk_162 0 80 (dk_at dksX6_value_2 3 rfl rfl)
theorem dX6_value_53 : decode cX6_value 53 = .ok (.iconst 0, 1) := dk_3 (dk_at dksX6_value_2 6 rfl rfl)
theorem dX6_value_54 : decode cX6_value 54 = .ok (.istore 9, 2) := dk_54 9 (dk_at dksX6_value_2 7 rfl rfl)
theorem dX6_value_56 : decode cX6_value 56 = .ok (.iload 9, 2) := dk_21 9 (dk_at dksX6_value_2 9 rfl rfl)
theorem dX6_value_58 : decode cX6_value 58 = .ok (.iload 4, 2) := dk_21 4 (dk_at dksX6_value_2 11 rfl rfl)
theorem dX6_value_60 : decode cX6_value 60 = .ok (.if_icmp .ge 64, 3) := dk_162 0 64 (dk_at dksX6_value_2 13 rfl rfl)
theorem dX6_value_63 : decode cX6_value 63 = .ok (.aload_n 0, 1) := dk_42 (dk_at dksX6_value_2 16 rfl rfl)
theorem dX6_value_64 : decode cX6_value 64 = .ok (.aload_n 0, 1) := dk_42 (dk_at dksX6_value_2 17 rfl rfl)
theorem dX6_value_65 : decode cX6_value 65 = .ok (.iload_n 1, 1) := dk_27 (dk_at dksX6_value_2 18 rfl rfl)
theorem dX6_value_66 : decode cX6_value 66 = .ok (.iload 8, 2) := dk_21 8 (dk_at dksX6_value_2 19 rfl rfl)
theorem dX6_value_68 : decode cX6_value 68 = .ok (.invokevirtual 367, 3) := dk_182 1 111 (dk_at dksX6_value_2 21 rfl rfl)
theorem dX6_value_71 : decode cX6_value 71 = .ok (.l2i, 1) := dk_136 (dk_at dksX6_value_3 0 rfl rfl)
theorem dX6_value_72 : decode cX6_value 72 = .ok (.aload_n 0, 1) := dk_42 (dk_at dksX6_value_3 1 rfl rfl)
theorem dX6_value_73 : decode cX6_value 73 = .ok (.iload_n 3, 1) := dk_29 (dk_at dksX6_value_3 2 rfl rfl)
theorem dX6_value_74 : decode cX6_value 74 = .ok (.iload 9, 2) := dk_21 9 (dk_at dksX6_value_3 3 rfl rfl)
theorem dX6_value_76 : decode cX6_value 76 = .ok (.invokevirtual 367, 3) := dk_182 1 111 (dk_at dksX6_value_3 5 rfl rfl)
theorem dX6_value_79 : decode cX6_value 79 = .ok (.l2i, 1) := dk_136 (dk_at dksX6_value_3 8 rfl rfl)
theorem dX6_value_80 : decode cX6_value 80 = .ok (.iload 5, 2) := dk_21 5 (dk_at dksX6_value_3 9 rfl rfl)
theorem dX6_value_82 : decode cX6_value 82 = .ok (.iload 6, 2) := dk_21 6 (dk_at dksX6_value_3 11 rfl rfl)
theorem dX6_value_84 : decode cX6_value 84 = .ok (.invokevirtual 402, 3) := dk_182 1 146 (dk_at dksX6_value_3 13 rfl rfl)
theorem dX6_value_87 : decode cX6_value 87 = .ok (.istore 10, 2) := dk_54 10 (dk_at dksX6_value_3 16 rfl rfl)
theorem dX6_value_89 : decode cX6_value 89 = .ok (.aload_n 0, 1) := dk_42 (dk_at dksX6_value_3 18 rfl rfl)
theorem dX6_value_90 : decode cX6_value 90 = .ok (.getfield 135, 3) := dk_180 0 135 (dk_at dksX6_value_3 19 rfl rfl)
theorem dX6_value_93 : decode cX6_value 93 = .ok (.iconst 3, 1) := dk_6 (dk_at dksX6_value_3 22 rfl rfl)
theorem dX6_value_94 : decode cX6_value 94 = .ok (.iload 8, 2) := dk_21 8 (dk_at dksX6_value_4 0 rfl rfl)
theorem dX6_value_96 : decode cX6_value 96 = .ok (.imul, 1) := dk_104 (dk_at dksX6_value_4 2 rfl rfl)
theorem dX6_value_97 : decode cX6_value 97 = .ok (.iload 9, 2) := dk_21 9 (dk_at dksX6_value_4 3 rfl rfl)
theorem dX6_value_99 : decode cX6_value 99 = .ok (.iadd, 1) := dk_96 (dk_at dksX6_value_4 5 rfl rfl)
theorem dX6_value_100 : decode cX6_value 100 = .ok (.iload 10, 2) := dk_21 10 (dk_at dksX6_value_4 6 rfl rfl)
theorem dX6_value_102 : decode cX6_value 102 = .ok (.ifCond .ge 8, 3) := dk_156 0 8 (dk_at dksX6_value_4 8 rfl rfl)
theorem dX6_value_105 : decode cX6_value 105 = .ok (.iload 7, 2) := dk_21 7 (dk_at dksX6_value_4 11 rfl rfl)
theorem dX6_value_107 : decode cX6_value 107 = .ok (.goto 10, 3) := dk_167 0 10 (dk_at dksX6_value_4 13 rfl rfl)
theorem dX6_value_110 : decode cX6_value 110 = .ok (.iload 7, 2) := dk_21 7 (dk_at dksX6_value_4 16 rfl rfl)
theorem dX6_value_112 : decode cX6_value 112 = .ok (.iload 10, 2) := dk_21 10 (dk_at dksX6_value_4 18 rfl rfl)
theorem dX6_value_114 : decode cX6_value 114 = .ok (.invokestatic 359, 3) := dk_184 1 103 (dk_at dksX6_value_4 20 rfl rfl)
theorem dX6_value_117 : decode cX6_value 117 = .ok (.iastore, 1) := dk_79 (dk_at dksX6_value_4 23 rfl rfl)
theorem dX6_value_118 : decode cX6_value 118 = .ok (.iinc 9 1, 3) := dk_132 9 1 (dk_at dksX6_value_5 0 rfl rfl)
theorem dX6_value_121 : decode cX6_value 121 = .ok (.goto (-65), 3) := dk_167 255 191 (dk_at dksX6_value_5 3 rfl rfl)
theorem dX6_value_124 : decode cX6_value 124 = .ok (.iinc 8 1, 3) := dk_132 8 1 (dk_at dksX6_value_5 6 rfl rfl)
theorem dX6_value_127 : decode cX6_value 127 = .ok (.goto (-80), 3) := dk_167 255 176 (dk_at dksX6_value_5 9 rfl rfl)
theorem dX6_value_130 : decode cX6_value 130 = .ok (.aload_n 0, 1) := dk_42 (dk_at dksX6_value_5 12 rfl rfl)
theorem dX6_value_131 : decode cX6_value 131 = .ok (.invokevirtual 529, 3) := dk_182 2 17 (dk_at dksX6_value_5 13 rfl rfl)
theorem dX6_value_134 : decode cX6_value 134 = .ok (.aload_n 0, 1) := dk_42 (dk_at dksX6_value_5 16 rfl rfl)
theorem dX6_value_135 : decode cX6_value 135 = .ok (.invokevirtual 532, 3) := dk_182 2 20 (dk_at dksX6_value_5 17 rfl rfl)
theorem dX6_value_138 : decode cX6_value 138 = .ok (.aload_n 0, 1) := dk_42 (dk_at dksX6_value_5 20 rfl rfl)
theorem dX6_value_139 : decode cX6_value 139 = .ok (.aload_n 0, 1) := dk_42 (dk_at dksX6_value_5 21 rfl rfl)
theorem dX6_value_140 : decode cX6_value 140 = .ok (.getfield 497, 3) := dk_180 1 241 (dk_at dksX6_value_6 0 rfl rfl)
theorem dX6_value_143 : decode cX6_value 143 = .ok (.aload_n 0, 1) := dk_42 (dk_at dksX6_value_6 3 rfl rfl)
theorem dX6_value_144 : decode cX6_value 144 = .ok (.getfield 494, 3) := dk_180 1 238 (dk_at dksX6_value_6 4 rfl rfl)
theorem dX6_value_147 : decode cX6_value 147 = .ok (.invokevirtual 418, 3) := dk_182 1 162 (dk_at dksX6_value_6 7 rfl rfl)
theorem dX6_value_150 : decode cX6_value 150 = .ok (.iconst 1, 1) := dk_4 (dk_at dksX6_value_6 10 rfl rfl)
theorem dX6_value_151 : decode cX6_value 151 = .ok (.ireturn, 1) := dk_172 (dk_at dksX6_value_6 11 rfl rfl)
abbrev cX6_asksValue : ByteArray := prog_15_method_104_code
def yX6_asksValue : MethodName := ⟨RX6, "asksValue", "(IIIIIII)I"⟩
def dkwX6_asksValue_8 : List UInt8 := [184, 1, 6, 154, 0, 5, 5, 172, 132, 8, 1, 167, 255, 223, 3, 172]
abbrev dktX6_asksValue_8 : List UInt8 := dkwX6_asksValue_8 ++ []
def dkwX6_asksValue_7 : List UInt8 := [21, 8, 21, 4, 162, 0, 32, 42, 29, 21, 8, 182, 1, 111, 9, 42, 180, 1, 85, 4, 100, 133]
abbrev dktX6_asksValue_7 : List UInt8 := dkwX6_asksValue_7 ++ dktX6_asksValue_8
def dkwX6_asksValue_6 : List UInt8 := [42, 180, 1, 85, 4, 100, 133, 184, 1, 6, 154, 0, 5, 5, 172, 132, 8, 1, 167, 255, 224, 3, 54, 8]
abbrev dktX6_asksValue_6 : List UInt8 := dkwX6_asksValue_6 ++ dktX6_asksValue_7
def dkwX6_asksValue_5 : List UInt8 := [21, 4, 162, 0, 5, 7, 172, 3, 54, 8, 21, 8, 28, 162, 0, 32, 42, 27, 21, 8, 182, 1, 111, 9]
abbrev dktX6_asksValue_5 : List UInt8 := dkwX6_asksValue_5 ++ dktX6_asksValue_6
def dkwX6_asksValue_4 : List UInt8 := [184, 1, 6, 154, 0, 5, 8, 172, 42, 180, 0, 17, 27, 46, 28, 161, 0, 14, 42, 180, 0, 17, 29, 46]
abbrev dktX6_asksValue_4 : List UInt8 := dkwX6_asksValue_4 ++ dktX6_asksValue_5
def dkwX6_asksValue_3 : List UInt8 := [153, 0, 29, 21, 4, 133, 10, 20, 1, 150, 184, 1, 6, 153, 0, 16, 21, 7, 133, 10, 20, 2, 11]
abbrev dktX6_asksValue_3 : List UInt8 := dkwX6_asksValue_3 ++ dktX6_asksValue_4
def dkwX6_asksValue_2 : List UInt8 := [157, 0, 11, 42, 29, 182, 0, 167, 158, 0, 5, 6, 172, 28, 133, 10, 20, 1, 150, 184, 1, 6]
abbrev dktX6_asksValue_2 : List UInt8 := dkwX6_asksValue_2 ++ dktX6_asksValue_3
def dkwX6_asksValue_1 : List UInt8 := [182, 1, 98, 153, 0, 12, 42, 21, 6, 182, 1, 98, 154, 0, 5, 5, 172, 42, 27, 182, 0, 167]
abbrev dktX6_asksValue_1 : List UInt8 := dkwX6_asksValue_1 ++ dktX6_asksValue_2
def dkwX6_asksValue_0 : List UInt8 := [42, 27, 182, 0, 167, 4, 159, 0, 12, 42, 29, 182, 0, 167, 4, 160, 0, 5, 4, 172, 42, 21, 5]
abbrev dktX6_asksValue_0 : List UInt8 := dkwX6_asksValue_0 ++ dktX6_asksValue_1
theorem dksX6_asksValue_0 : cX6_asksValue.data.toList.drop 0 = dktX6_asksValue_0 := by decide +kernel
theorem dksX6_asksValue_1 : cX6_asksValue.data.toList.drop 23 = dktX6_asksValue_1 := dk_seg dksX6_asksValue_0 23 rfl rfl
theorem dksX6_asksValue_2 : cX6_asksValue.data.toList.drop 45 = dktX6_asksValue_2 := dk_seg dksX6_asksValue_1 22 rfl rfl
theorem dksX6_asksValue_3 : cX6_asksValue.data.toList.drop 67 = dktX6_asksValue_3 := dk_seg dksX6_asksValue_2 22 rfl rfl
theorem dksX6_asksValue_4 : cX6_asksValue.data.toList.drop 90 = dktX6_asksValue_4 := dk_seg dksX6_asksValue_3 23 rfl rfl
theorem dksX6_asksValue_5 : cX6_asksValue.data.toList.drop 114 = dktX6_asksValue_5 := dk_seg dksX6_asksValue_4 24 rfl rfl
theorem dksX6_asksValue_6 : cX6_asksValue.data.toList.drop 138 = dktX6_asksValue_6 := dk_seg dksX6_asksValue_5 24 rfl rfl
theorem dksX6_asksValue_7 : cX6_asksValue.data.toList.drop 162 = dktX6_asksValue_7 := dk_seg dksX6_asksValue_6 24 rfl rfl
theorem dksX6_asksValue_8 : cX6_asksValue.data.toList.drop 184 = dktX6_asksValue_8 := dk_seg dksX6_asksValue_7 22 rfl rfl
theorem dX6_asksValue_0 : decode cX6_asksValue 0 = .ok (.aload_n 0, 1) := dk_42 (dk_at dksX6_asksValue_0 0 rfl rfl)
theorem dX6_asksValue_1 : decode cX6_asksValue 1 = .ok (.iload_n 1, 1) := dk_27 (dk_at dksX6_asksValue_0 1 rfl rfl)
theorem dX6_asksValue_2 : decode cX6_asksValue 2 = .ok (.invokevirtual 167, 3) := dk_182 0 167 (dk_at dksX6_asksValue_0 2 rfl rfl)
theorem dX6_asksValue_5 : decode cX6_asksValue 5 = .ok (.iconst 1, 1) := dk_4 (dk_at dksX6_asksValue_0 5 rfl rfl)
theorem dX6_asksValue_6 : decode cX6_asksValue 6 = .ok (.if_icmp .eq 12, 3) := dk_159 0 12 (dk_at dksX6_asksValue_0 6 rfl rfl)
theorem dX6_asksValue_9 : decode cX6_asksValue 9 = .ok (.aload_n 0, 1) := dk_42 (dk_at dksX6_asksValue_0 9 rfl rfl)
theorem dX6_asksValue_10 : decode cX6_asksValue 10 = .ok (.iload_n 3, 1) := dk_29 (dk_at dksX6_asksValue_0 10 rfl rfl)
theorem dX6_asksValue_11 : decode cX6_asksValue 11 = .ok (.invokevirtual 167, 3) := dk_182 0 167 (dk_at dksX6_asksValue_0 11 rfl rfl)
theorem dX6_asksValue_14 : decode cX6_asksValue 14 = .ok (.iconst 1, 1) := dk_4 (dk_at dksX6_asksValue_0 14 rfl rfl)
theorem dX6_asksValue_15 : decode cX6_asksValue 15 = .ok (.if_icmp .ne 5, 3) := dk_160 0 5 (dk_at dksX6_asksValue_0 15 rfl rfl)
theorem dX6_asksValue_18 : decode cX6_asksValue 18 = .ok (.iconst 1, 1) := dk_4 (dk_at dksX6_asksValue_0 18 rfl rfl)
theorem dX6_asksValue_19 : decode cX6_asksValue 19 = .ok (.ireturn, 1) := dk_172 (dk_at dksX6_asksValue_0 19 rfl rfl)
theorem dX6_asksValue_20 : decode cX6_asksValue 20 = .ok (.aload_n 0, 1) := dk_42 (dk_at dksX6_asksValue_0 20 rfl rfl)
theorem dX6_asksValue_21 : decode cX6_asksValue 21 = .ok (.iload 5, 2) := dk_21 5 (dk_at dksX6_asksValue_0 21 rfl rfl)
theorem dX6_asksValue_23 : decode cX6_asksValue 23 = .ok (.invokevirtual 354, 3) := dk_182 1 98 (dk_at dksX6_asksValue_1 0 rfl rfl)
theorem dX6_asksValue_26 : decode cX6_asksValue 26 = .ok (.ifCond .eq 12, 3) := dk_153 0 12 (dk_at dksX6_asksValue_1 3 rfl rfl)
theorem dX6_asksValue_29 : decode cX6_asksValue 29 = .ok (.aload_n 0, 1) := dk_42 (dk_at dksX6_asksValue_1 6 rfl rfl)
theorem dX6_asksValue_30 : decode cX6_asksValue 30 = .ok (.iload 6, 2) := dk_21 6 (dk_at dksX6_asksValue_1 7 rfl rfl)
theorem dX6_asksValue_32 : decode cX6_asksValue 32 = .ok (.invokevirtual 354, 3) := dk_182 1 98 (dk_at dksX6_asksValue_1 9 rfl rfl)
theorem dX6_asksValue_35 : decode cX6_asksValue 35 = .ok (.ifCond .ne 5, 3) := dk_154 0 5 (dk_at dksX6_asksValue_1 12 rfl rfl)
theorem dX6_asksValue_38 : decode cX6_asksValue 38 = .ok (.iconst 2, 1) := dk_5 (dk_at dksX6_asksValue_1 15 rfl rfl)
theorem dX6_asksValue_39 : decode cX6_asksValue 39 = .ok (.ireturn, 1) := dk_172 (dk_at dksX6_asksValue_1 16 rfl rfl)
theorem dX6_asksValue_40 : decode cX6_asksValue 40 = .ok (.aload_n 0, 1) := dk_42 (dk_at dksX6_asksValue_1 17 rfl rfl)
theorem dX6_asksValue_41 : decode cX6_asksValue 41 = .ok (.iload_n 1, 1) := dk_27 (dk_at dksX6_asksValue_1 18 rfl rfl)
theorem dX6_asksValue_42 : decode cX6_asksValue 42 = .ok (.invokevirtual 167, 3) := dk_182 0 167 (dk_at dksX6_asksValue_1 19 rfl rfl)
theorem dX6_asksValue_45 : decode cX6_asksValue 45 = .ok (.ifCond .gt 11, 3) := dk_157 0 11 (dk_at dksX6_asksValue_2 0 rfl rfl)
theorem dX6_asksValue_48 : decode cX6_asksValue 48 = .ok (.aload_n 0, 1) := dk_42 (dk_at dksX6_asksValue_2 3 rfl rfl)
theorem dX6_asksValue_49 : decode cX6_asksValue 49 = .ok (.iload_n 3, 1) := dk_29 (dk_at dksX6_asksValue_2 4 rfl rfl)
theorem dX6_asksValue_50 : decode cX6_asksValue 50 = .ok (.invokevirtual 167, 3) := dk_182 0 167 (dk_at dksX6_asksValue_2 5 rfl rfl)
theorem dX6_asksValue_53 : decode cX6_asksValue 53 = .ok (.ifCond .le 5, 3) := dk_158 0 5 (dk_at dksX6_asksValue_2 8 rfl rfl)
theorem dX6_asksValue_56 : decode cX6_asksValue 56 = .ok (.iconst 3, 1) := dk_6 (dk_at dksX6_asksValue_2 11 rfl rfl)
theorem dX6_asksValue_57 : decode cX6_asksValue 57 = .ok (.ireturn, 1) := dk_172 (dk_at dksX6_asksValue_2 12 rfl rfl)
theorem dX6_asksValue_58 : decode cX6_asksValue 58 = .ok (.iload_n 2, 1) := dk_28 (dk_at dksX6_asksValue_2 13 rfl rfl)
theorem dX6_asksValue_59 : decode cX6_asksValue 59 = .ok (.i2l, 1) := dk_133 (dk_at dksX6_asksValue_2 14 rfl rfl)
theorem dX6_asksValue_60 : decode cX6_asksValue 60 = .ok (.lconst 1, 1) := dk_10 (dk_at dksX6_asksValue_2 15 rfl rfl)
theorem dX6_asksValue_61 : decode cX6_asksValue 61 = .ok (.ldc2_w 406, 3) := dk_20 1 150 (dk_at dksX6_asksValue_2 16 rfl rfl)
theorem dX6_asksValue_64 : decode cX6_asksValue 64 = .ok (.invokestatic 262, 3) := dk_184 1 6 (dk_at dksX6_asksValue_2 19 rfl rfl)
theorem dX6_asksValue_67 : decode cX6_asksValue 67 = .ok (.ifCond .eq 29, 3) := dk_153 0 29 (dk_at dksX6_asksValue_3 0 rfl rfl)
theorem dX6_asksValue_70 : decode cX6_asksValue 70 = .ok (.iload 4, 2) := dk_21 4 (dk_at dksX6_asksValue_3 3 rfl rfl)
theorem dX6_asksValue_72 : decode cX6_asksValue 72 = .ok (.i2l, 1) := dk_133 (dk_at dksX6_asksValue_3 5 rfl rfl)
theorem dX6_asksValue_73 : decode cX6_asksValue 73 = .ok (.lconst 1, 1) := dk_10 (dk_at dksX6_asksValue_3 6 rfl rfl)
theorem dX6_asksValue_74 : decode cX6_asksValue 74 = .ok (.ldc2_w 406, 3) := dk_20 1 150 (dk_at dksX6_asksValue_3 7 rfl rfl)
theorem dX6_asksValue_77 : decode cX6_asksValue 77 = .ok (.invokestatic 262, 3) := dk_184 1 6 (dk_at dksX6_asksValue_3 10 rfl rfl)
theorem dX6_asksValue_80 : decode cX6_asksValue 80 = .ok (.ifCond .eq 16, 3) := dk_153 0 16 (dk_at dksX6_asksValue_3 13 rfl rfl)
theorem dX6_asksValue_83 : decode cX6_asksValue 83 = .ok (.iload 7, 2) := dk_21 7 (dk_at dksX6_asksValue_3 16 rfl rfl)
theorem dX6_asksValue_85 : decode cX6_asksValue 85 = .ok (.i2l, 1) := dk_133 (dk_at dksX6_asksValue_3 18 rfl rfl)
theorem dX6_asksValue_86 : decode cX6_asksValue 86 = .ok (.lconst 1, 1) := dk_10 (dk_at dksX6_asksValue_3 19 rfl rfl)
theorem dX6_asksValue_87 : decode cX6_asksValue 87 = .ok (.ldc2_w 523, 3) := dk_20 2 11 (dk_at dksX6_asksValue_3 20 rfl rfl)
theorem dX6_asksValue_90 : decode cX6_asksValue 90 = .ok (.invokestatic 262, 3) := dk_184 1 6 (dk_at dksX6_asksValue_4 0 rfl rfl)
theorem dX6_asksValue_93 : decode cX6_asksValue 93 = .ok (.ifCond .ne 5, 3) := dk_154 0 5 (dk_at dksX6_asksValue_4 3 rfl rfl)
theorem dX6_asksValue_96 : decode cX6_asksValue 96 = .ok (.iconst 5, 1) := dk_8 (dk_at dksX6_asksValue_4 6 rfl rfl)
theorem dX6_asksValue_97 : decode cX6_asksValue 97 = .ok (.ireturn, 1) := dk_172 (dk_at dksX6_asksValue_4 7 rfl rfl)
theorem dX6_asksValue_98 : decode cX6_asksValue 98 = .ok (.aload_n 0, 1) := dk_42 (dk_at dksX6_asksValue_4 8 rfl rfl)
theorem dX6_asksValue_99 : decode cX6_asksValue 99 = .ok (.getfield 17, 3) := dk_180 0 17 (dk_at dksX6_asksValue_4 9 rfl rfl)
theorem dX6_asksValue_102 : decode cX6_asksValue 102 = .ok (.iload_n 1, 1) := dk_27 (dk_at dksX6_asksValue_4 12 rfl rfl)
theorem dX6_asksValue_103 : decode cX6_asksValue 103 = .ok (.iaload, 1) := dk_46 (dk_at dksX6_asksValue_4 13 rfl rfl)
theorem dX6_asksValue_104 : decode cX6_asksValue 104 = .ok (.iload_n 2, 1) := dk_28 (dk_at dksX6_asksValue_4 14 rfl rfl)
theorem dX6_asksValue_105 : decode cX6_asksValue 105 = .ok (.if_icmp .lt 14, 3) := dk_161 0 14 (dk_at dksX6_asksValue_4 15 rfl rfl)
theorem dX6_asksValue_108 : decode cX6_asksValue 108 = .ok (.aload_n 0, 1) := dk_42 (dk_at dksX6_asksValue_4 18 rfl rfl)
theorem dX6_asksValue_109 : decode cX6_asksValue 109 = .ok (.getfield 17, 3) := dk_180 0 17 (dk_at dksX6_asksValue_4 19 rfl rfl)
theorem dX6_asksValue_112 : decode cX6_asksValue 112 = .ok (.iload_n 3, 1) := dk_29 (dk_at dksX6_asksValue_4 22 rfl rfl)
theorem dX6_asksValue_113 : decode cX6_asksValue 113 = .ok (.iaload, 1) := dk_46 (dk_at dksX6_asksValue_4 23 rfl rfl)
theorem dX6_asksValue_114 : decode cX6_asksValue 114 = .ok (.iload 4, 2) := dk_21 4 (dk_at dksX6_asksValue_5 0 rfl rfl)
theorem dX6_asksValue_116 : decode cX6_asksValue 116 = .ok (.if_icmp .ge 5, 3) := dk_162 0 5 (dk_at dksX6_asksValue_5 2 rfl rfl)
theorem dX6_asksValue_119 : decode cX6_asksValue 119 = .ok (.iconst 4, 1) := dk_7 (dk_at dksX6_asksValue_5 5 rfl rfl)
theorem dX6_asksValue_120 : decode cX6_asksValue 120 = .ok (.ireturn, 1) := dk_172 (dk_at dksX6_asksValue_5 6 rfl rfl)
theorem dX6_asksValue_121 : decode cX6_asksValue 121 = .ok (.iconst 0, 1) := dk_3 (dk_at dksX6_asksValue_5 7 rfl rfl)
theorem dX6_asksValue_122 : decode cX6_asksValue 122 = .ok (.istore 8, 2) := dk_54 8 (dk_at dksX6_asksValue_5 8 rfl rfl)
theorem dX6_asksValue_124 : decode cX6_asksValue 124 = .ok (.iload 8, 2) := dk_21 8 (dk_at dksX6_asksValue_5 10 rfl rfl)
theorem dX6_asksValue_126 : decode cX6_asksValue 126 = .ok (.iload_n 2, 1) := dk_28 (dk_at dksX6_asksValue_5 12 rfl rfl)
theorem dX6_asksValue_127 : decode cX6_asksValue 127 = .ok (.if_icmp .ge 32, 3) := dk_162 0 32 (dk_at dksX6_asksValue_5 13 rfl rfl)
theorem dX6_asksValue_130 : decode cX6_asksValue 130 = .ok (.aload_n 0, 1) := dk_42 (dk_at dksX6_asksValue_5 16 rfl rfl)
theorem dX6_asksValue_131 : decode cX6_asksValue 131 = .ok (.iload_n 1, 1) := dk_27 (dk_at dksX6_asksValue_5 17 rfl rfl)
theorem dX6_asksValue_132 : decode cX6_asksValue 132 = .ok (.iload 8, 2) := dk_21 8 (dk_at dksX6_asksValue_5 18 rfl rfl)
theorem dX6_asksValue_134 : decode cX6_asksValue 134 = .ok (.invokevirtual 367, 3) := dk_182 1 111 (dk_at dksX6_asksValue_5 20 rfl rfl)
theorem dX6_asksValue_137 : decode cX6_asksValue 137 = .ok (.lconst 0, 1) := dk_9 (dk_at dksX6_asksValue_5 23 rfl rfl)
theorem dX6_asksValue_138 : decode cX6_asksValue 138 = .ok (.aload_n 0, 1) := dk_42 (dk_at dksX6_asksValue_6 0 rfl rfl)
theorem dX6_asksValue_139 : decode cX6_asksValue 139 = .ok (.getfield 341, 3) := dk_180 1 85 (dk_at dksX6_asksValue_6 1 rfl rfl)
theorem dX6_asksValue_142 : decode cX6_asksValue 142 = .ok (.iconst 1, 1) := dk_4 (dk_at dksX6_asksValue_6 4 rfl rfl)
theorem dX6_asksValue_143 : decode cX6_asksValue 143 = .ok (.isub, 1) := dk_100 (dk_at dksX6_asksValue_6 5 rfl rfl)
theorem dX6_asksValue_144 : decode cX6_asksValue 144 = .ok (.i2l, 1) := dk_133 (dk_at dksX6_asksValue_6 6 rfl rfl)
theorem dX6_asksValue_145 : decode cX6_asksValue 145 = .ok (.invokestatic 262, 3) := dk_184 1 6 (dk_at dksX6_asksValue_6 7 rfl rfl)
theorem dX6_asksValue_148 : decode cX6_asksValue 148 = .ok (.ifCond .ne 5, 3) := dk_154 0 5 (dk_at dksX6_asksValue_6 10 rfl rfl)
theorem dX6_asksValue_151 : decode cX6_asksValue 151 = .ok (.iconst 2, 1) := dk_5 (dk_at dksX6_asksValue_6 13 rfl rfl)
theorem dX6_asksValue_152 : decode cX6_asksValue 152 = .ok (.ireturn, 1) := dk_172 (dk_at dksX6_asksValue_6 14 rfl rfl)
theorem dX6_asksValue_153 : decode cX6_asksValue 153 = .ok (.iinc 8 1, 3) := dk_132 8 1 (dk_at dksX6_asksValue_6 15 rfl rfl)
theorem dX6_asksValue_156 : decode cX6_asksValue 156 = .ok (.goto (-32), 3) := dk_167 255 224 (dk_at dksX6_asksValue_6 18 rfl rfl)
theorem dX6_asksValue_159 : decode cX6_asksValue 159 = .ok (.iconst 0, 1) := dk_3 (dk_at dksX6_asksValue_6 21 rfl rfl)
theorem dX6_asksValue_160 : decode cX6_asksValue 160 = .ok (.istore 8, 2) := dk_54 8 (dk_at dksX6_asksValue_6 22 rfl rfl)
theorem dX6_asksValue_162 : decode cX6_asksValue 162 = .ok (.iload 8, 2) := dk_21 8 (dk_at dksX6_asksValue_7 0 rfl rfl)
theorem dX6_asksValue_164 : decode cX6_asksValue 164 = .ok (.iload 4, 2) := dk_21 4 (dk_at dksX6_asksValue_7 2 rfl rfl)
theorem dX6_asksValue_166 : decode cX6_asksValue 166 = .ok (.if_icmp .ge 32, 3) := dk_162 0 32 (dk_at dksX6_asksValue_7 4 rfl rfl)
theorem dX6_asksValue_169 : decode cX6_asksValue 169 = .ok (.aload_n 0, 1) := dk_42 (dk_at dksX6_asksValue_7 7 rfl rfl)
theorem dX6_asksValue_170 : decode cX6_asksValue 170 = .ok (.iload_n 3, 1) := dk_29 (dk_at dksX6_asksValue_7 8 rfl rfl)
theorem dX6_asksValue_171 : decode cX6_asksValue 171 = .ok (.iload 8, 2) := dk_21 8 (dk_at dksX6_asksValue_7 9 rfl rfl)
theorem dX6_asksValue_173 : decode cX6_asksValue 173 = .ok (.invokevirtual 367, 3) := dk_182 1 111 (dk_at dksX6_asksValue_7 11 rfl rfl)
theorem dX6_asksValue_176 : decode cX6_asksValue 176 = .ok (.lconst 0, 1) := dk_9 (dk_at dksX6_asksValue_7 14 rfl rfl)
theorem dX6_asksValue_177 : decode cX6_asksValue 177 = .ok (.aload_n 0, 1) := dk_42 (dk_at dksX6_asksValue_7 15 rfl rfl)
theorem dX6_asksValue_178 : decode cX6_asksValue 178 = .ok (.getfield 341, 3) := dk_180 1 85 (dk_at dksX6_asksValue_7 16 rfl rfl)
theorem dX6_asksValue_181 : decode cX6_asksValue 181 = .ok (.iconst 1, 1) := dk_4 (dk_at dksX6_asksValue_7 19 rfl rfl)
theorem dX6_asksValue_182 : decode cX6_asksValue 182 = .ok (.isub, 1) := dk_100 (dk_at dksX6_asksValue_7 20 rfl rfl)
theorem dX6_asksValue_183 : decode cX6_asksValue 183 = .ok (.i2l, 1) := dk_133 (dk_at dksX6_asksValue_7 21 rfl rfl)
theorem dX6_asksValue_184 : decode cX6_asksValue 184 = .ok (.invokestatic 262, 3) := dk_184 1 6 (dk_at dksX6_asksValue_8 0 rfl rfl)
theorem dX6_asksValue_187 : decode cX6_asksValue 187 = .ok (.ifCond .ne 5, 3) := dk_154 0 5 (dk_at dksX6_asksValue_8 3 rfl rfl)
theorem dX6_asksValue_190 : decode cX6_asksValue 190 = .ok (.iconst 2, 1) := dk_5 (dk_at dksX6_asksValue_8 6 rfl rfl)
theorem dX6_asksValue_191 : decode cX6_asksValue 191 = .ok (.ireturn, 1) := dk_172 (dk_at dksX6_asksValue_8 7 rfl rfl)
theorem dX6_asksValue_192 : decode cX6_asksValue 192 = .ok (.iinc 8 1, 3) := dk_132 8 1 (dk_at dksX6_asksValue_8 8 rfl rfl)
theorem dX6_asksValue_195 : decode cX6_asksValue 195 = .ok (.goto (-33), 3) := dk_167 255 223 (dk_at dksX6_asksValue_8 11 rfl rfl)
theorem dX6_asksValue_198 : decode cX6_asksValue 198 = .ok (.iconst 0, 1) := dk_3 (dk_at dksX6_asksValue_8 14 rfl rfl)
theorem dX6_asksValue_199 : decode cX6_asksValue 199 = .ok (.ireturn, 1) := dk_172 (dk_at dksX6_asksValue_8 15 rfl rfl)
abbrev cX6_findValue : ByteArray := prog_15_method_100_code
def yX6_findValue : MethodName := ⟨RX6, "findValue", "()V"⟩
def dkwX6_findValue_4 : List UInt8 := [154, 0, 6, 167, 0, 7, 42, 182, 1, 252, 132, 2, 1, 167, 255, 214, 132, 1, 1, 167, 255, 166, 177]
abbrev dktX6_findValue_4 : List UInt8 := dkwX6_findValue_4 ++ []
def dkwX6_findValue_3 : List UInt8 := [180, 1, 221, 6, 160, 0, 34, 42, 4, 28, 182, 1, 255, 153, 0, 19, 42, 3, 27, 182, 1, 255]
abbrev dktX6_findValue_3 : List UInt8 := dkwX6_findValue_3 ++ dktX6_findValue_4
def dkwX6_findValue_2 : List UInt8 := [180, 1, 221, 5, 160, 0, 7, 42, 182, 1, 252, 27, 4, 96, 61, 28, 16, 6, 162, 0, 42, 42]
abbrev dktX6_findValue_2 : List UInt8 := dkwX6_findValue_2 ++ dktX6_findValue_3
def dkwX6_findValue_1 : List UInt8 := [162, 0, 90, 42, 180, 1, 221, 4, 164, 0, 82, 42, 3, 27, 182, 1, 255, 154, 0, 6, 167, 0, 64, 42]
abbrev dktX6_findValue_1 : List UInt8 := dkwX6_findValue_1 ++ dktX6_findValue_2
def dkwX6_findValue_0 : List UInt8 := [42, 9, 181, 1, 238, 42, 180, 1, 221, 4, 160, 0, 7, 42, 182, 1, 252, 3, 60, 27, 16, 6]
abbrev dktX6_findValue_0 : List UInt8 := dkwX6_findValue_0 ++ dktX6_findValue_1
theorem dksX6_findValue_0 : cX6_findValue.data.toList.drop 0 = dktX6_findValue_0 := by decide +kernel
theorem dksX6_findValue_1 : cX6_findValue.data.toList.drop 22 = dktX6_findValue_1 := dk_seg dksX6_findValue_0 22 rfl rfl
theorem dksX6_findValue_2 : cX6_findValue.data.toList.drop 46 = dktX6_findValue_2 := dk_seg dksX6_findValue_1 24 rfl rfl
theorem dksX6_findValue_3 : cX6_findValue.data.toList.drop 68 = dktX6_findValue_3 := dk_seg dksX6_findValue_2 22 rfl rfl
theorem dksX6_findValue_4 : cX6_findValue.data.toList.drop 90 = dktX6_findValue_4 := dk_seg dksX6_findValue_3 22 rfl rfl
theorem dX6_findValue_0 : decode cX6_findValue 0 = .ok (.aload_n 0, 1) := dk_42 (dk_at dksX6_findValue_0 0 rfl rfl)
theorem dX6_findValue_1 : decode cX6_findValue 1 = .ok (.lconst 0, 1) := dk_9 (dk_at dksX6_findValue_0 1 rfl rfl)
theorem dX6_findValue_2 : decode cX6_findValue 2 = .ok (.putfield 494, 3) := dk_181 1 238 (dk_at dksX6_findValue_0 2 rfl rfl)
theorem dX6_findValue_5 : decode cX6_findValue 5 = .ok (.aload_n 0, 1) := dk_42 (dk_at dksX6_findValue_0 5 rfl rfl)
theorem dX6_findValue_6 : decode cX6_findValue 6 = .ok (.getfield 477, 3) := dk_180 1 221 (dk_at dksX6_findValue_0 6 rfl rfl)
theorem dX6_findValue_9 : decode cX6_findValue 9 = .ok (.iconst 1, 1) := dk_4 (dk_at dksX6_findValue_0 9 rfl rfl)
theorem dX6_findValue_10 : decode cX6_findValue 10 = .ok (.if_icmp .ne 7, 3) := dk_160 0 7 (dk_at dksX6_findValue_0 10 rfl rfl)
theorem dX6_findValue_13 : decode cX6_findValue 13 = .ok (.aload_n 0, 1) := dk_42 (dk_at dksX6_findValue_0 13 rfl rfl)
theorem dX6_findValue_14 : decode cX6_findValue 14 = .ok (.invokevirtual 508, 3) := dk_182 1 252 (dk_at dksX6_findValue_0 14 rfl rfl)
theorem dX6_findValue_17 : decode cX6_findValue 17 = .ok (.iconst 0, 1) := dk_3 (dk_at dksX6_findValue_0 17 rfl rfl)
theorem dX6_findValue_18 : decode cX6_findValue 18 = .ok (.istore_n 1, 1) := dk_60 (dk_at dksX6_findValue_0 18 rfl rfl)
theorem dX6_findValue_19 : decode cX6_findValue 19 = .ok (.iload_n 1, 1) := dk_27 (dk_at dksX6_findValue_0 19 rfl rfl)
theorem dX6_findValue_20 : decode cX6_findValue 20 = .ok (.bipush 6, 2) := dk_16 6 (dk_at dksX6_findValue_0 20 rfl rfl)
theorem dX6_findValue_22 : decode cX6_findValue 22 = .ok (.if_icmp .ge 90, 3) := dk_162 0 90 (dk_at dksX6_findValue_1 0 rfl rfl)
theorem dX6_findValue_25 : decode cX6_findValue 25 = .ok (.aload_n 0, 1) := dk_42 (dk_at dksX6_findValue_1 3 rfl rfl)
theorem dX6_findValue_26 : decode cX6_findValue 26 = .ok (.getfield 477, 3) := dk_180 1 221 (dk_at dksX6_findValue_1 4 rfl rfl)
theorem dX6_findValue_29 : decode cX6_findValue 29 = .ok (.iconst 1, 1) := dk_4 (dk_at dksX6_findValue_1 7 rfl rfl)
theorem dX6_findValue_30 : decode cX6_findValue 30 = .ok (.if_icmp .le 82, 3) := dk_164 0 82 (dk_at dksX6_findValue_1 8 rfl rfl)
theorem dX6_findValue_33 : decode cX6_findValue 33 = .ok (.aload_n 0, 1) := dk_42 (dk_at dksX6_findValue_1 11 rfl rfl)
theorem dX6_findValue_34 : decode cX6_findValue 34 = .ok (.iconst 0, 1) := dk_3 (dk_at dksX6_findValue_1 12 rfl rfl)
theorem dX6_findValue_35 : decode cX6_findValue 35 = .ok (.iload_n 1, 1) := dk_27 (dk_at dksX6_findValue_1 13 rfl rfl)
theorem dX6_findValue_36 : decode cX6_findValue 36 = .ok (.invokevirtual 511, 3) := dk_182 1 255 (dk_at dksX6_findValue_1 14 rfl rfl)
theorem dX6_findValue_39 : decode cX6_findValue 39 = .ok (.ifCond .ne 6, 3) := dk_154 0 6 (dk_at dksX6_findValue_1 17 rfl rfl)
theorem dX6_findValue_42 : decode cX6_findValue 42 = .ok (.goto 64, 3) := dk_167 0 64 (dk_at dksX6_findValue_1 20 rfl rfl)
theorem dX6_findValue_45 : decode cX6_findValue 45 = .ok (.aload_n 0, 1) := dk_42 (dk_at dksX6_findValue_1 23 rfl rfl)
theorem dX6_findValue_46 : decode cX6_findValue 46 = .ok (.getfield 477, 3) := dk_180 1 221 (dk_at dksX6_findValue_2 0 rfl rfl)
theorem dX6_findValue_49 : decode cX6_findValue 49 = .ok (.iconst 2, 1) := dk_5 (dk_at dksX6_findValue_2 3 rfl rfl)
theorem dX6_findValue_50 : decode cX6_findValue 50 = .ok (.if_icmp .ne 7, 3) := dk_160 0 7 (dk_at dksX6_findValue_2 4 rfl rfl)
theorem dX6_findValue_53 : decode cX6_findValue 53 = .ok (.aload_n 0, 1) := dk_42 (dk_at dksX6_findValue_2 7 rfl rfl)
theorem dX6_findValue_54 : decode cX6_findValue 54 = .ok (.invokevirtual 508, 3) := dk_182 1 252 (dk_at dksX6_findValue_2 8 rfl rfl)
theorem dX6_findValue_57 : decode cX6_findValue 57 = .ok (.iload_n 1, 1) := dk_27 (dk_at dksX6_findValue_2 11 rfl rfl)
theorem dX6_findValue_58 : decode cX6_findValue 58 = .ok (.iconst 1, 1) := dk_4 (dk_at dksX6_findValue_2 12 rfl rfl)
theorem dX6_findValue_59 : decode cX6_findValue 59 = .ok (.iadd, 1) := dk_96 (dk_at dksX6_findValue_2 13 rfl rfl)
theorem dX6_findValue_60 : decode cX6_findValue 60 = .ok (.istore_n 2, 1) := dk_61 (dk_at dksX6_findValue_2 14 rfl rfl)
theorem dX6_findValue_61 : decode cX6_findValue 61 = .ok (.iload_n 2, 1) := dk_28 (dk_at dksX6_findValue_2 15 rfl rfl)
theorem dX6_findValue_62 : decode cX6_findValue 62 = .ok (.bipush 6, 2) := dk_16 6 (dk_at dksX6_findValue_2 16 rfl rfl)
theorem dX6_findValue_64 : decode cX6_findValue 64 = .ok (.if_icmp .ge 42, 3) := dk_162 0 42 (dk_at dksX6_findValue_2 18 rfl rfl)
theorem dX6_findValue_67 : decode cX6_findValue 67 = .ok (.aload_n 0, 1) := dk_42 (dk_at dksX6_findValue_2 21 rfl rfl)
theorem dX6_findValue_68 : decode cX6_findValue 68 = .ok (.getfield 477, 3) := dk_180 1 221 (dk_at dksX6_findValue_3 0 rfl rfl)
theorem dX6_findValue_71 : decode cX6_findValue 71 = .ok (.iconst 3, 1) := dk_6 (dk_at dksX6_findValue_3 3 rfl rfl)
theorem dX6_findValue_72 : decode cX6_findValue 72 = .ok (.if_icmp .ne 34, 3) := dk_160 0 34 (dk_at dksX6_findValue_3 4 rfl rfl)
theorem dX6_findValue_75 : decode cX6_findValue 75 = .ok (.aload_n 0, 1) := dk_42 (dk_at dksX6_findValue_3 7 rfl rfl)
theorem dX6_findValue_76 : decode cX6_findValue 76 = .ok (.iconst 1, 1) := dk_4 (dk_at dksX6_findValue_3 8 rfl rfl)
theorem dX6_findValue_77 : decode cX6_findValue 77 = .ok (.iload_n 2, 1) := dk_28 (dk_at dksX6_findValue_3 9 rfl rfl)
theorem dX6_findValue_78 : decode cX6_findValue 78 = .ok (.invokevirtual 511, 3) := dk_182 1 255 (dk_at dksX6_findValue_3 10 rfl rfl)
theorem dX6_findValue_81 : decode cX6_findValue 81 = .ok (.ifCond .eq 19, 3) := dk_153 0 19 (dk_at dksX6_findValue_3 13 rfl rfl)
theorem dX6_findValue_84 : decode cX6_findValue 84 = .ok (.aload_n 0, 1) := dk_42 (dk_at dksX6_findValue_3 16 rfl rfl)
theorem dX6_findValue_85 : decode cX6_findValue 85 = .ok (.iconst 0, 1) := dk_3 (dk_at dksX6_findValue_3 17 rfl rfl)
theorem dX6_findValue_86 : decode cX6_findValue 86 = .ok (.iload_n 1, 1) := dk_27 (dk_at dksX6_findValue_3 18 rfl rfl)
theorem dX6_findValue_87 : decode cX6_findValue 87 = .ok (.invokevirtual 511, 3) := dk_182 1 255 (dk_at dksX6_findValue_3 19 rfl rfl)
theorem dX6_findValue_90 : decode cX6_findValue 90 = .ok (.ifCond .ne 6, 3) := dk_154 0 6 (dk_at dksX6_findValue_4 0 rfl rfl)
theorem dX6_findValue_93 : decode cX6_findValue 93 = .ok (.goto 7, 3) := dk_167 0 7 (dk_at dksX6_findValue_4 3 rfl rfl)
theorem dX6_findValue_96 : decode cX6_findValue 96 = .ok (.aload_n 0, 1) := dk_42 (dk_at dksX6_findValue_4 6 rfl rfl)
theorem dX6_findValue_97 : decode cX6_findValue 97 = .ok (.invokevirtual 508, 3) := dk_182 1 252 (dk_at dksX6_findValue_4 7 rfl rfl)
theorem dX6_findValue_100 : decode cX6_findValue 100 = .ok (.iinc 2 1, 3) := dk_132 2 1 (dk_at dksX6_findValue_4 10 rfl rfl)
theorem dX6_findValue_103 : decode cX6_findValue 103 = .ok (.goto (-42), 3) := dk_167 255 214 (dk_at dksX6_findValue_4 13 rfl rfl)
theorem dX6_findValue_106 : decode cX6_findValue 106 = .ok (.iinc 1 1, 3) := dk_132 1 1 (dk_at dksX6_findValue_4 16 rfl rfl)
theorem dX6_findValue_109 : decode cX6_findValue 109 = .ok (.goto (-90), 3) := dk_167 255 166 (dk_at dksX6_findValue_4 19 rfl rfl)
theorem dX6_findValue_112 : decode cX6_findValue 112 = .ok (.return_, 1) := dk_177 (dk_at dksX6_findValue_4 22 rfl rfl)
abbrev cX6_valued : ByteArray := prog_15_method_98_code
def yX6_valued : MethodName := ⟨RX6, "valued", "()V"⟩
def dkwX6_valued_2 : List UInt8 := [184, 0, 159, 66, 42, 31, 33, 109, 181, 1, 241, 42, 42, 180, 1, 224, 33, 109, 181, 1, 238, 177]
abbrev dktX6_valued_2 : List UInt8 := dkwX6_valued_2 ++ []
def dkwX6_valued_1 : List UInt8 := [180, 1, 238, 105, 42, 180, 1, 241, 42, 180, 1, 224, 105, 148, 155, 0, 4, 177, 31, 42, 180, 1, 224]
abbrev dktX6_valued_1 : List UInt8 := dkwX6_valued_1 ++ dktX6_valued_2
def dkwX6_valued_0 : List UInt8 := [42, 182, 1, 232, 154, 0, 4, 177, 42, 182, 1, 235, 64, 42, 180, 1, 238, 9, 148, 158, 0, 23, 31, 42]
abbrev dktX6_valued_0 : List UInt8 := dkwX6_valued_0 ++ dktX6_valued_1
theorem dksX6_valued_0 : cX6_valued.data.toList.drop 0 = dktX6_valued_0 := by decide +kernel
theorem dksX6_valued_1 : cX6_valued.data.toList.drop 24 = dktX6_valued_1 := dk_seg dksX6_valued_0 24 rfl rfl
theorem dksX6_valued_2 : cX6_valued.data.toList.drop 47 = dktX6_valued_2 := dk_seg dksX6_valued_1 23 rfl rfl
theorem dX6_valued_0 : decode cX6_valued 0 = .ok (.aload_n 0, 1) := dk_42 (dk_at dksX6_valued_0 0 rfl rfl)
theorem dX6_valued_1 : decode cX6_valued 1 = .ok (.invokevirtual 488, 3) := dk_182 1 232 (dk_at dksX6_valued_0 1 rfl rfl)
theorem dX6_valued_4 : decode cX6_valued 4 = .ok (.ifCond .ne 4, 3) := dk_154 0 4 (dk_at dksX6_valued_0 4 rfl rfl)
theorem dX6_valued_7 : decode cX6_valued 7 = .ok (.return_, 1) := dk_177 (dk_at dksX6_valued_0 7 rfl rfl)
theorem dX6_valued_8 : decode cX6_valued 8 = .ok (.aload_n 0, 1) := dk_42 (dk_at dksX6_valued_0 8 rfl rfl)
theorem dX6_valued_9 : decode cX6_valued 9 = .ok (.invokevirtual 491, 3) := dk_182 1 235 (dk_at dksX6_valued_0 9 rfl rfl)
theorem dX6_valued_12 : decode cX6_valued 12 = .ok (.lstore_n 1, 1) := dk_64 (dk_at dksX6_valued_0 12 rfl rfl)
theorem dX6_valued_13 : decode cX6_valued 13 = .ok (.aload_n 0, 1) := dk_42 (dk_at dksX6_valued_0 13 rfl rfl)
theorem dX6_valued_14 : decode cX6_valued 14 = .ok (.getfield 494, 3) := dk_180 1 238 (dk_at dksX6_valued_0 14 rfl rfl)
theorem dX6_valued_17 : decode cX6_valued 17 = .ok (.lconst 0, 1) := dk_9 (dk_at dksX6_valued_0 17 rfl rfl)
theorem dX6_valued_18 : decode cX6_valued 18 = .ok (.lcmp, 1) := dk_148 (dk_at dksX6_valued_0 18 rfl rfl)
theorem dX6_valued_19 : decode cX6_valued 19 = .ok (.ifCond .le 23, 3) := dk_158 0 23 (dk_at dksX6_valued_0 19 rfl rfl)
theorem dX6_valued_22 : decode cX6_valued 22 = .ok (.lload_n 1, 1) := dk_31 (dk_at dksX6_valued_0 22 rfl rfl)
theorem dX6_valued_23 : decode cX6_valued 23 = .ok (.aload_n 0, 1) := dk_42 (dk_at dksX6_valued_0 23 rfl rfl)
theorem dX6_valued_24 : decode cX6_valued 24 = .ok (.getfield 494, 3) := dk_180 1 238 (dk_at dksX6_valued_1 0 rfl rfl)
theorem dX6_valued_27 : decode cX6_valued 27 = .ok (.lmul, 1) := dk_105 (dk_at dksX6_valued_1 3 rfl rfl)
theorem dX6_valued_28 : decode cX6_valued 28 = .ok (.aload_n 0, 1) := dk_42 (dk_at dksX6_valued_1 4 rfl rfl)
theorem dX6_valued_29 : decode cX6_valued 29 = .ok (.getfield 497, 3) := dk_180 1 241 (dk_at dksX6_valued_1 5 rfl rfl)
theorem dX6_valued_32 : decode cX6_valued 32 = .ok (.aload_n 0, 1) := dk_42 (dk_at dksX6_valued_1 8 rfl rfl)
theorem dX6_valued_33 : decode cX6_valued 33 = .ok (.getfield 480, 3) := dk_180 1 224 (dk_at dksX6_valued_1 9 rfl rfl)
theorem dX6_valued_36 : decode cX6_valued 36 = .ok (.lmul, 1) := dk_105 (dk_at dksX6_valued_1 12 rfl rfl)
theorem dX6_valued_37 : decode cX6_valued 37 = .ok (.lcmp, 1) := dk_148 (dk_at dksX6_valued_1 13 rfl rfl)
theorem dX6_valued_38 : decode cX6_valued 38 = .ok (.ifCond .lt 4, 3) := dk_155 0 4 (dk_at dksX6_valued_1 14 rfl rfl)
theorem dX6_valued_41 : decode cX6_valued 41 = .ok (.return_, 1) := dk_177 (dk_at dksX6_valued_1 17 rfl rfl)
theorem dX6_valued_42 : decode cX6_valued 42 = .ok (.lload_n 1, 1) := dk_31 (dk_at dksX6_valued_1 18 rfl rfl)
theorem dX6_valued_43 : decode cX6_valued 43 = .ok (.aload_n 0, 1) := dk_42 (dk_at dksX6_valued_1 19 rfl rfl)
theorem dX6_valued_44 : decode cX6_valued 44 = .ok (.getfield 480, 3) := dk_180 1 224 (dk_at dksX6_valued_1 20 rfl rfl)
theorem dX6_valued_47 : decode cX6_valued 47 = .ok (.invokestatic 159, 3) := dk_184 0 159 (dk_at dksX6_valued_2 0 rfl rfl)
theorem dX6_valued_50 : decode cX6_valued 50 = .ok (.lstore_n 3, 1) := dk_66 (dk_at dksX6_valued_2 3 rfl rfl)
theorem dX6_valued_51 : decode cX6_valued 51 = .ok (.aload_n 0, 1) := dk_42 (dk_at dksX6_valued_2 4 rfl rfl)
theorem dX6_valued_52 : decode cX6_valued 52 = .ok (.lload_n 1, 1) := dk_31 (dk_at dksX6_valued_2 5 rfl rfl)
theorem dX6_valued_53 : decode cX6_valued 53 = .ok (.lload_n 3, 1) := dk_33 (dk_at dksX6_valued_2 6 rfl rfl)
theorem dX6_valued_54 : decode cX6_valued 54 = .ok (.ldiv, 1) := dk_109 (dk_at dksX6_valued_2 7 rfl rfl)
theorem dX6_valued_55 : decode cX6_valued 55 = .ok (.putfield 497, 3) := dk_181 1 241 (dk_at dksX6_valued_2 8 rfl rfl)
theorem dX6_valued_58 : decode cX6_valued 58 = .ok (.aload_n 0, 1) := dk_42 (dk_at dksX6_valued_2 11 rfl rfl)
theorem dX6_valued_59 : decode cX6_valued 59 = .ok (.aload_n 0, 1) := dk_42 (dk_at dksX6_valued_2 12 rfl rfl)
theorem dX6_valued_60 : decode cX6_valued 60 = .ok (.getfield 480, 3) := dk_180 1 224 (dk_at dksX6_valued_2 13 rfl rfl)
theorem dX6_valued_63 : decode cX6_valued 63 = .ok (.lload_n 3, 1) := dk_33 (dk_at dksX6_valued_2 16 rfl rfl)
theorem dX6_valued_64 : decode cX6_valued 64 = .ok (.ldiv, 1) := dk_109 (dk_at dksX6_valued_2 17 rfl rfl)
theorem dX6_valued_65 : decode cX6_valued 65 = .ok (.putfield 494, 3) := dk_181 1 238 (dk_at dksX6_valued_2 18 rfl rfl)
theorem dX6_valued_68 : decode cX6_valued 68 = .ok (.return_, 1) := dk_177 (dk_at dksX6_valued_2 21 rfl rfl)
abbrev cX6_isCorner : ByteArray := prog_15_method_96_code
def yX6_isCorner : MethodName := ⟨RX6, "isCorner", "()Z"⟩
def dkwX6_isCorner_12 : List UInt8 := [180, 0, 138, 5, 47, 9, 148, 155, 0, 7, 4, 167, 0, 4, 3, 172]
abbrev dktX6_isCorner_12 : List UInt8 := dkwX6_isCorner_12 ++ []
def dkwX6_isCorner_11 : List UInt8 := [180, 0, 138, 3, 47, 9, 148, 155, 0, 29, 42, 180, 0, 138, 4, 47, 9, 148, 155, 0, 18, 42]
abbrev dktX6_isCorner_11 : List UInt8 := dkwX6_isCorner_11 ++ dktX6_isCorner_12
def dkwX6_isCorner_10 : List UInt8 := [101, 42, 180, 1, 221, 6, 160, 0, 12, 42, 180, 0, 138, 4, 47, 167, 0, 4, 9, 101, 80, 42]
abbrev dktX6_isCorner_10 : List UInt8 := dkwX6_isCorner_10 ++ dktX6_isCorner_11
def dkwX6_isCorner_9 : List UInt8 := [4, 164, 0, 44, 42, 180, 0, 138, 42, 180, 1, 221, 4, 100, 42, 180, 1, 224, 42, 180, 0, 138, 3, 47]
abbrev dktX6_isCorner_9 : List UInt8 := dkwX6_isCorner_9 ++ dktX6_isCorner_10
def dkwX6_isCorner_8 : List UInt8 := [22, 7, 109, 80, 42, 180, 0, 138, 5, 9, 80, 42, 22, 5, 22, 7, 109, 181, 1, 224, 42, 180, 1, 221]
abbrev dktX6_isCorner_8 : List UInt8 := dkwX6_isCorner_8 ++ dktX6_isCorner_9
def dkwX6_isCorner_7 : List UInt8 := [22, 5, 184, 0, 159, 55, 7, 42, 180, 0, 138, 3, 31, 22, 7, 109, 80, 42, 180, 0, 138, 4, 33]
abbrev dktX6_isCorner_7 : List UInt8 := dkwX6_isCorner_7 ++ dktX6_isCorner_8
def dkwX6_isCorner_6 : List UInt8 := [22, 5, 9, 148, 156, 0, 14, 22, 5, 117, 55, 5, 31, 117, 64, 33, 117, 66, 31, 33, 184, 0, 159]
abbrev dktX6_isCorner_6 : List UInt8 := dkwX6_isCorner_6 ++ dktX6_isCorner_7
def dkwX6_isCorner_5 : List UInt8 := [180, 0, 141, 5, 47, 42, 180, 0, 141, 6, 47, 105, 101, 66, 22, 5, 9, 148, 154, 0, 5, 3, 172]
abbrev dktX6_isCorner_5 : List UInt8 := dkwX6_isCorner_5 ++ dktX6_isCorner_6
def dkwX6_isCorner_4 : List UInt8 := [180, 0, 141, 8, 47, 105, 101, 64, 42, 180, 0, 141, 3, 47, 42, 180, 0, 141, 8, 47, 105, 42]
abbrev dktX6_isCorner_4 : List UInt8 := dkwX6_isCorner_4 ++ dktX6_isCorner_5
def dkwX6_isCorner_3 : List UInt8 := [105, 101, 55, 5, 42, 180, 0, 141, 5, 47, 42, 180, 0, 141, 7, 47, 105, 42, 180, 0, 141, 4, 47, 42]
abbrev dktX6_isCorner_3 : List UInt8 := dkwX6_isCorner_3 ++ dktX6_isCorner_4
def dkwX6_isCorner_2 : List UInt8 := [180, 0, 141, 3, 47, 42, 180, 0, 141, 7, 47, 105, 42, 180, 0, 141, 4, 47, 42, 180, 0, 141, 6, 47]
abbrev dktX6_isCorner_2 : List UInt8 := dkwX6_isCorner_2 ++ dktX6_isCorner_3
def dkwX6_isCorner_1 : List UInt8 := [160, 0, 21, 42, 180, 0, 141, 3, 47, 55, 5, 42, 180, 0, 141, 5, 47, 64, 167, 0, 88, 42]
abbrev dktX6_isCorner_1 : List UInt8 := dkwX6_isCorner_1 ++ dktX6_isCorner_2
def dkwX6_isCorner_0 : List UInt8 := [9, 66, 10, 55, 5, 42, 180, 1, 221, 4, 160, 0, 8, 10, 64, 167, 0, 114, 42, 180, 1, 221, 5]
abbrev dktX6_isCorner_0 : List UInt8 := dkwX6_isCorner_0 ++ dktX6_isCorner_1
theorem dksX6_isCorner_0 : cX6_isCorner.data.toList.drop 0 = dktX6_isCorner_0 := by decide +kernel
theorem dksX6_isCorner_1 : cX6_isCorner.data.toList.drop 23 = dktX6_isCorner_1 := dk_seg dksX6_isCorner_0 23 rfl rfl
theorem dksX6_isCorner_2 : cX6_isCorner.data.toList.drop 45 = dktX6_isCorner_2 := dk_seg dksX6_isCorner_1 22 rfl rfl
theorem dksX6_isCorner_3 : cX6_isCorner.data.toList.drop 69 = dktX6_isCorner_3 := dk_seg dksX6_isCorner_2 24 rfl rfl
theorem dksX6_isCorner_4 : cX6_isCorner.data.toList.drop 93 = dktX6_isCorner_4 := dk_seg dksX6_isCorner_3 24 rfl rfl
theorem dksX6_isCorner_5 : cX6_isCorner.data.toList.drop 115 = dktX6_isCorner_5 := dk_seg dksX6_isCorner_4 22 rfl rfl
theorem dksX6_isCorner_6 : cX6_isCorner.data.toList.drop 138 = dktX6_isCorner_6 := dk_seg dksX6_isCorner_5 23 rfl rfl
theorem dksX6_isCorner_7 : cX6_isCorner.data.toList.drop 161 = dktX6_isCorner_7 := dk_seg dksX6_isCorner_6 23 rfl rfl
theorem dksX6_isCorner_8 : cX6_isCorner.data.toList.drop 184 = dktX6_isCorner_8 := dk_seg dksX6_isCorner_7 23 rfl rfl
theorem dksX6_isCorner_9 : cX6_isCorner.data.toList.drop 208 = dktX6_isCorner_9 := dk_seg dksX6_isCorner_8 24 rfl rfl
theorem dksX6_isCorner_10 : cX6_isCorner.data.toList.drop 232 = dktX6_isCorner_10 := dk_seg dksX6_isCorner_9 24 rfl rfl
theorem dksX6_isCorner_11 : cX6_isCorner.data.toList.drop 254 = dktX6_isCorner_11 := dk_seg dksX6_isCorner_10 22 rfl rfl
theorem dksX6_isCorner_12 : cX6_isCorner.data.toList.drop 276 = dktX6_isCorner_12 := dk_seg dksX6_isCorner_11 22 rfl rfl
theorem dX6_isCorner_0 : decode cX6_isCorner 0 = .ok (.lconst 0, 1) := dk_9 (dk_at dksX6_isCorner_0 0 rfl rfl)
theorem dX6_isCorner_1 : decode cX6_isCorner 1 = .ok (.lstore_n 3, 1) := dk_66 (dk_at dksX6_isCorner_0 1 rfl rfl)
theorem dX6_isCorner_2 : decode cX6_isCorner 2 = .ok (.lconst 1, 1) := dk_10 (dk_at dksX6_isCorner_0 2 rfl rfl)
theorem dX6_isCorner_3 : decode cX6_isCorner 3 = .ok (.lstore 5, 2) := dk_55 5 (dk_at dksX6_isCorner_0 3 rfl rfl)
theorem dX6_isCorner_5 : decode cX6_isCorner 5 = .ok (.aload_n 0, 1) := dk_42 (dk_at dksX6_isCorner_0 5 rfl rfl)
theorem dX6_isCorner_6 : decode cX6_isCorner 6 = .ok (.getfield 477, 3) := dk_180 1 221 (dk_at dksX6_isCorner_0 6 rfl rfl)
theorem dX6_isCorner_9 : decode cX6_isCorner 9 = .ok (.iconst 1, 1) := dk_4 (dk_at dksX6_isCorner_0 9 rfl rfl)
theorem dX6_isCorner_10 : decode cX6_isCorner 10 = .ok (.if_icmp .ne 8, 3) := dk_160 0 8 (dk_at dksX6_isCorner_0 10 rfl rfl)
theorem dX6_isCorner_13 : decode cX6_isCorner 13 = .ok (.lconst 1, 1) := dk_10 (dk_at dksX6_isCorner_0 13 rfl rfl)
theorem dX6_isCorner_14 : decode cX6_isCorner 14 = .ok (.lstore_n 1, 1) := dk_64 (dk_at dksX6_isCorner_0 14 rfl rfl)
theorem dX6_isCorner_15 : decode cX6_isCorner 15 = .ok (.goto 114, 3) := dk_167 0 114 (dk_at dksX6_isCorner_0 15 rfl rfl)
theorem dX6_isCorner_18 : decode cX6_isCorner 18 = .ok (.aload_n 0, 1) := dk_42 (dk_at dksX6_isCorner_0 18 rfl rfl)
theorem dX6_isCorner_19 : decode cX6_isCorner 19 = .ok (.getfield 477, 3) := dk_180 1 221 (dk_at dksX6_isCorner_0 19 rfl rfl)
theorem dX6_isCorner_22 : decode cX6_isCorner 22 = .ok (.iconst 2, 1) := dk_5 (dk_at dksX6_isCorner_0 22 rfl rfl)
theorem dX6_isCorner_23 : decode cX6_isCorner 23 = .ok (.if_icmp .ne 21, 3) := dk_160 0 21 (dk_at dksX6_isCorner_1 0 rfl rfl)
theorem dX6_isCorner_26 : decode cX6_isCorner 26 = .ok (.aload_n 0, 1) := dk_42 (dk_at dksX6_isCorner_1 3 rfl rfl)
theorem dX6_isCorner_27 : decode cX6_isCorner 27 = .ok (.getfield 141, 3) := dk_180 0 141 (dk_at dksX6_isCorner_1 4 rfl rfl)
theorem dX6_isCorner_30 : decode cX6_isCorner 30 = .ok (.iconst 0, 1) := dk_3 (dk_at dksX6_isCorner_1 7 rfl rfl)
theorem dX6_isCorner_31 : decode cX6_isCorner 31 = .ok (.laload, 1) := dk_47 (dk_at dksX6_isCorner_1 8 rfl rfl)
theorem dX6_isCorner_32 : decode cX6_isCorner 32 = .ok (.lstore 5, 2) := dk_55 5 (dk_at dksX6_isCorner_1 9 rfl rfl)
theorem dX6_isCorner_34 : decode cX6_isCorner 34 = .ok (.aload_n 0, 1) := dk_42 (dk_at dksX6_isCorner_1 11 rfl rfl)
theorem dX6_isCorner_35 : decode cX6_isCorner 35 = .ok (.getfield 141, 3) := dk_180 0 141 (dk_at dksX6_isCorner_1 12 rfl rfl)
theorem dX6_isCorner_38 : decode cX6_isCorner 38 = .ok (.iconst 2, 1) := dk_5 (dk_at dksX6_isCorner_1 15 rfl rfl)
theorem dX6_isCorner_39 : decode cX6_isCorner 39 = .ok (.laload, 1) := dk_47 (dk_at dksX6_isCorner_1 16 rfl rfl)
theorem dX6_isCorner_40 : decode cX6_isCorner 40 = .ok (.lstore_n 1, 1) := dk_64 (dk_at dksX6_isCorner_1 17 rfl rfl)
theorem dX6_isCorner_41 : decode cX6_isCorner 41 = .ok (.goto 88, 3) := dk_167 0 88 (dk_at dksX6_isCorner_1 18 rfl rfl)
theorem dX6_isCorner_44 : decode cX6_isCorner 44 = .ok (.aload_n 0, 1) := dk_42 (dk_at dksX6_isCorner_1 21 rfl rfl)
theorem dX6_isCorner_45 : decode cX6_isCorner 45 = .ok (.getfield 141, 3) := dk_180 0 141 (dk_at dksX6_isCorner_2 0 rfl rfl)
theorem dX6_isCorner_48 : decode cX6_isCorner 48 = .ok (.iconst 0, 1) := dk_3 (dk_at dksX6_isCorner_2 3 rfl rfl)
theorem dX6_isCorner_49 : decode cX6_isCorner 49 = .ok (.laload, 1) := dk_47 (dk_at dksX6_isCorner_2 4 rfl rfl)
theorem dX6_isCorner_50 : decode cX6_isCorner 50 = .ok (.aload_n 0, 1) := dk_42 (dk_at dksX6_isCorner_2 5 rfl rfl)
theorem dX6_isCorner_51 : decode cX6_isCorner 51 = .ok (.getfield 141, 3) := dk_180 0 141 (dk_at dksX6_isCorner_2 6 rfl rfl)
theorem dX6_isCorner_54 : decode cX6_isCorner 54 = .ok (.iconst 4, 1) := dk_7 (dk_at dksX6_isCorner_2 9 rfl rfl)
theorem dX6_isCorner_55 : decode cX6_isCorner 55 = .ok (.laload, 1) := dk_47 (dk_at dksX6_isCorner_2 10 rfl rfl)
theorem dX6_isCorner_56 : decode cX6_isCorner 56 = .ok (.lmul, 1) := dk_105 (dk_at dksX6_isCorner_2 11 rfl rfl)
theorem dX6_isCorner_57 : decode cX6_isCorner 57 = .ok (.aload_n 0, 1) := dk_42 (dk_at dksX6_isCorner_2 12 rfl rfl)
theorem dX6_isCorner_58 : decode cX6_isCorner 58 = .ok (.getfield 141, 3) := dk_180 0 141 (dk_at dksX6_isCorner_2 13 rfl rfl)
theorem dX6_isCorner_61 : decode cX6_isCorner 61 = .ok (.iconst 1, 1) := dk_4 (dk_at dksX6_isCorner_2 16 rfl rfl)
theorem dX6_isCorner_62 : decode cX6_isCorner 62 = .ok (.laload, 1) := dk_47 (dk_at dksX6_isCorner_2 17 rfl rfl)
theorem dX6_isCorner_63 : decode cX6_isCorner 63 = .ok (.aload_n 0, 1) := dk_42 (dk_at dksX6_isCorner_2 18 rfl rfl)
theorem dX6_isCorner_64 : decode cX6_isCorner 64 = .ok (.getfield 141, 3) := dk_180 0 141 (dk_at dksX6_isCorner_2 19 rfl rfl)
theorem dX6_isCorner_67 : decode cX6_isCorner 67 = .ok (.iconst 3, 1) := dk_6 (dk_at dksX6_isCorner_2 22 rfl rfl)
theorem dX6_isCorner_68 : decode cX6_isCorner 68 = .ok (.laload, 1) := dk_47 (dk_at dksX6_isCorner_2 23 rfl rfl)
theorem dX6_isCorner_69 : decode cX6_isCorner 69 = .ok (.lmul, 1) := dk_105 (dk_at dksX6_isCorner_3 0 rfl rfl)
theorem dX6_isCorner_70 : decode cX6_isCorner 70 = .ok (.lsub, 1) := dk_101 (dk_at dksX6_isCorner_3 1 rfl rfl)
theorem dX6_isCorner_71 : decode cX6_isCorner 71 = .ok (.lstore 5, 2) := dk_55 5 (dk_at dksX6_isCorner_3 2 rfl rfl)
theorem dX6_isCorner_73 : decode cX6_isCorner 73 = .ok (.aload_n 0, 1) := dk_42 (dk_at dksX6_isCorner_3 4 rfl rfl)
theorem dX6_isCorner_74 : decode cX6_isCorner 74 = .ok (.getfield 141, 3) := dk_180 0 141 (dk_at dksX6_isCorner_3 5 rfl rfl)
theorem dX6_isCorner_77 : decode cX6_isCorner 77 = .ok (.iconst 2, 1) := dk_5 (dk_at dksX6_isCorner_3 8 rfl rfl)
theorem dX6_isCorner_78 : decode cX6_isCorner 78 = .ok (.laload, 1) := dk_47 (dk_at dksX6_isCorner_3 9 rfl rfl)
theorem dX6_isCorner_79 : decode cX6_isCorner 79 = .ok (.aload_n 0, 1) := dk_42 (dk_at dksX6_isCorner_3 10 rfl rfl)
theorem dX6_isCorner_80 : decode cX6_isCorner 80 = .ok (.getfield 141, 3) := dk_180 0 141 (dk_at dksX6_isCorner_3 11 rfl rfl)
theorem dX6_isCorner_83 : decode cX6_isCorner 83 = .ok (.iconst 4, 1) := dk_7 (dk_at dksX6_isCorner_3 14 rfl rfl)
theorem dX6_isCorner_84 : decode cX6_isCorner 84 = .ok (.laload, 1) := dk_47 (dk_at dksX6_isCorner_3 15 rfl rfl)
theorem dX6_isCorner_85 : decode cX6_isCorner 85 = .ok (.lmul, 1) := dk_105 (dk_at dksX6_isCorner_3 16 rfl rfl)
theorem dX6_isCorner_86 : decode cX6_isCorner 86 = .ok (.aload_n 0, 1) := dk_42 (dk_at dksX6_isCorner_3 17 rfl rfl)
theorem dX6_isCorner_87 : decode cX6_isCorner 87 = .ok (.getfield 141, 3) := dk_180 0 141 (dk_at dksX6_isCorner_3 18 rfl rfl)
theorem dX6_isCorner_90 : decode cX6_isCorner 90 = .ok (.iconst 1, 1) := dk_4 (dk_at dksX6_isCorner_3 21 rfl rfl)
theorem dX6_isCorner_91 : decode cX6_isCorner 91 = .ok (.laload, 1) := dk_47 (dk_at dksX6_isCorner_3 22 rfl rfl)
theorem dX6_isCorner_92 : decode cX6_isCorner 92 = .ok (.aload_n 0, 1) := dk_42 (dk_at dksX6_isCorner_3 23 rfl rfl)
theorem dX6_isCorner_93 : decode cX6_isCorner 93 = .ok (.getfield 141, 3) := dk_180 0 141 (dk_at dksX6_isCorner_4 0 rfl rfl)
theorem dX6_isCorner_96 : decode cX6_isCorner 96 = .ok (.iconst 5, 1) := dk_8 (dk_at dksX6_isCorner_4 3 rfl rfl)
theorem dX6_isCorner_97 : decode cX6_isCorner 97 = .ok (.laload, 1) := dk_47 (dk_at dksX6_isCorner_4 4 rfl rfl)
theorem dX6_isCorner_98 : decode cX6_isCorner 98 = .ok (.lmul, 1) := dk_105 (dk_at dksX6_isCorner_4 5 rfl rfl)
theorem dX6_isCorner_99 : decode cX6_isCorner 99 = .ok (.lsub, 1) := dk_101 (dk_at dksX6_isCorner_4 6 rfl rfl)
theorem dX6_isCorner_100 : decode cX6_isCorner 100 = .ok (.lstore_n 1, 1) := dk_64 (dk_at dksX6_isCorner_4 7 rfl rfl)
theorem dX6_isCorner_101 : decode cX6_isCorner 101 = .ok (.aload_n 0, 1) := dk_42 (dk_at dksX6_isCorner_4 8 rfl rfl)
theorem dX6_isCorner_102 : decode cX6_isCorner 102 = .ok (.getfield 141, 3) := dk_180 0 141 (dk_at dksX6_isCorner_4 9 rfl rfl)
theorem dX6_isCorner_105 : decode cX6_isCorner 105 = .ok (.iconst 0, 1) := dk_3 (dk_at dksX6_isCorner_4 12 rfl rfl)
theorem dX6_isCorner_106 : decode cX6_isCorner 106 = .ok (.laload, 1) := dk_47 (dk_at dksX6_isCorner_4 13 rfl rfl)
theorem dX6_isCorner_107 : decode cX6_isCorner 107 = .ok (.aload_n 0, 1) := dk_42 (dk_at dksX6_isCorner_4 14 rfl rfl)
theorem dX6_isCorner_108 : decode cX6_isCorner 108 = .ok (.getfield 141, 3) := dk_180 0 141 (dk_at dksX6_isCorner_4 15 rfl rfl)
theorem dX6_isCorner_111 : decode cX6_isCorner 111 = .ok (.iconst 5, 1) := dk_8 (dk_at dksX6_isCorner_4 18 rfl rfl)
theorem dX6_isCorner_112 : decode cX6_isCorner 112 = .ok (.laload, 1) := dk_47 (dk_at dksX6_isCorner_4 19 rfl rfl)
theorem dX6_isCorner_113 : decode cX6_isCorner 113 = .ok (.lmul, 1) := dk_105 (dk_at dksX6_isCorner_4 20 rfl rfl)
theorem dX6_isCorner_114 : decode cX6_isCorner 114 = .ok (.aload_n 0, 1) := dk_42 (dk_at dksX6_isCorner_4 21 rfl rfl)
theorem dX6_isCorner_115 : decode cX6_isCorner 115 = .ok (.getfield 141, 3) := dk_180 0 141 (dk_at dksX6_isCorner_5 0 rfl rfl)
theorem dX6_isCorner_118 : decode cX6_isCorner 118 = .ok (.iconst 2, 1) := dk_5 (dk_at dksX6_isCorner_5 3 rfl rfl)
theorem dX6_isCorner_119 : decode cX6_isCorner 119 = .ok (.laload, 1) := dk_47 (dk_at dksX6_isCorner_5 4 rfl rfl)
theorem dX6_isCorner_120 : decode cX6_isCorner 120 = .ok (.aload_n 0, 1) := dk_42 (dk_at dksX6_isCorner_5 5 rfl rfl)
theorem dX6_isCorner_121 : decode cX6_isCorner 121 = .ok (.getfield 141, 3) := dk_180 0 141 (dk_at dksX6_isCorner_5 6 rfl rfl)
theorem dX6_isCorner_124 : decode cX6_isCorner 124 = .ok (.iconst 3, 1) := dk_6 (dk_at dksX6_isCorner_5 9 rfl rfl)
theorem dX6_isCorner_125 : decode cX6_isCorner 125 = .ok (.laload, 1) := dk_47 (dk_at dksX6_isCorner_5 10 rfl rfl)
theorem dX6_isCorner_126 : decode cX6_isCorner 126 = .ok (.lmul, 1) := dk_105 (dk_at dksX6_isCorner_5 11 rfl rfl)
theorem dX6_isCorner_127 : decode cX6_isCorner 127 = .ok (.lsub, 1) := dk_101 (dk_at dksX6_isCorner_5 12 rfl rfl)
theorem dX6_isCorner_128 : decode cX6_isCorner 128 = .ok (.lstore_n 3, 1) := dk_66 (dk_at dksX6_isCorner_5 13 rfl rfl)
theorem dX6_isCorner_129 : decode cX6_isCorner 129 = .ok (.lload 5, 2) := dk_22 5 (dk_at dksX6_isCorner_5 14 rfl rfl)
theorem dX6_isCorner_131 : decode cX6_isCorner 131 = .ok (.lconst 0, 1) := dk_9 (dk_at dksX6_isCorner_5 16 rfl rfl)
theorem dX6_isCorner_132 : decode cX6_isCorner 132 = .ok (.lcmp, 1) := dk_148 (dk_at dksX6_isCorner_5 17 rfl rfl)
theorem dX6_isCorner_133 : decode cX6_isCorner 133 = .ok (.ifCond .ne 5, 3) := dk_154 0 5 (dk_at dksX6_isCorner_5 18 rfl rfl)
theorem dX6_isCorner_136 : decode cX6_isCorner 136 = .ok (.iconst 0, 1) := dk_3 (dk_at dksX6_isCorner_5 21 rfl rfl)
theorem dX6_isCorner_137 : decode cX6_isCorner 137 = .ok (.ireturn, 1) := dk_172 (dk_at dksX6_isCorner_5 22 rfl rfl)
theorem dX6_isCorner_138 : decode cX6_isCorner 138 = .ok (.lload 5, 2) := dk_22 5 (dk_at dksX6_isCorner_6 0 rfl rfl)
theorem dX6_isCorner_140 : decode cX6_isCorner 140 = .ok (.lconst 0, 1) := dk_9 (dk_at dksX6_isCorner_6 2 rfl rfl)
theorem dX6_isCorner_141 : decode cX6_isCorner 141 = .ok (.lcmp, 1) := dk_148 (dk_at dksX6_isCorner_6 3 rfl rfl)
theorem dX6_isCorner_142 : decode cX6_isCorner 142 = .ok (.ifCond .ge 14, 3) := dk_156 0 14 (dk_at dksX6_isCorner_6 4 rfl rfl)
theorem dX6_isCorner_145 : decode cX6_isCorner 145 = .ok (.lload 5, 2) := dk_22 5 (dk_at dksX6_isCorner_6 7 rfl rfl)
theorem dX6_isCorner_147 : decode cX6_isCorner 147 = .ok (.lneg, 1) := dk_117 (dk_at dksX6_isCorner_6 9 rfl rfl)
theorem dX6_isCorner_148 : decode cX6_isCorner 148 = .ok (.lstore 5, 2) := dk_55 5 (dk_at dksX6_isCorner_6 10 rfl rfl)
theorem dX6_isCorner_150 : decode cX6_isCorner 150 = .ok (.lload_n 1, 1) := dk_31 (dk_at dksX6_isCorner_6 12 rfl rfl)
theorem dX6_isCorner_151 : decode cX6_isCorner 151 = .ok (.lneg, 1) := dk_117 (dk_at dksX6_isCorner_6 13 rfl rfl)
theorem dX6_isCorner_152 : decode cX6_isCorner 152 = .ok (.lstore_n 1, 1) := dk_64 (dk_at dksX6_isCorner_6 14 rfl rfl)
theorem dX6_isCorner_153 : decode cX6_isCorner 153 = .ok (.lload_n 3, 1) := dk_33 (dk_at dksX6_isCorner_6 15 rfl rfl)
theorem dX6_isCorner_154 : decode cX6_isCorner 154 = .ok (.lneg, 1) := dk_117 (dk_at dksX6_isCorner_6 16 rfl rfl)
theorem dX6_isCorner_155 : decode cX6_isCorner 155 = .ok (.lstore_n 3, 1) := dk_66 (dk_at dksX6_isCorner_6 17 rfl rfl)
theorem dX6_isCorner_156 : decode cX6_isCorner 156 = .ok (.lload_n 1, 1) := dk_31 (dk_at dksX6_isCorner_6 18 rfl rfl)
theorem dX6_isCorner_157 : decode cX6_isCorner 157 = .ok (.lload_n 3, 1) := dk_33 (dk_at dksX6_isCorner_6 19 rfl rfl)
theorem dX6_isCorner_158 : decode cX6_isCorner 158 = .ok (.invokestatic 159, 3) := dk_184 0 159 (dk_at dksX6_isCorner_6 20 rfl rfl)
theorem dX6_isCorner_161 : decode cX6_isCorner 161 = .ok (.lload 5, 2) := dk_22 5 (dk_at dksX6_isCorner_7 0 rfl rfl)
theorem dX6_isCorner_163 : decode cX6_isCorner 163 = .ok (.invokestatic 159, 3) := dk_184 0 159 (dk_at dksX6_isCorner_7 2 rfl rfl)
theorem dX6_isCorner_166 : decode cX6_isCorner 166 = .ok (.lstore 7, 2) := dk_55 7 (dk_at dksX6_isCorner_7 5 rfl rfl)
theorem dX6_isCorner_168 : decode cX6_isCorner 168 = .ok (.aload_n 0, 1) := dk_42 (dk_at dksX6_isCorner_7 7 rfl rfl)
theorem dX6_isCorner_169 : decode cX6_isCorner 169 = .ok (.getfield 138, 3) := dk_180 0 138 (dk_at dksX6_isCorner_7 8 rfl rfl)
theorem dX6_isCorner_172 : decode cX6_isCorner 172 = .ok (.iconst 0, 1) := dk_3 (dk_at dksX6_isCorner_7 11 rfl rfl)
theorem dX6_isCorner_173 : decode cX6_isCorner 173 = .ok (.lload_n 1, 1) := dk_31 (dk_at dksX6_isCorner_7 12 rfl rfl)
theorem dX6_isCorner_174 : decode cX6_isCorner 174 = .ok (.lload 7, 2) := dk_22 7 (dk_at dksX6_isCorner_7 13 rfl rfl)
theorem dX6_isCorner_176 : decode cX6_isCorner 176 = .ok (.ldiv, 1) := dk_109 (dk_at dksX6_isCorner_7 15 rfl rfl)
theorem dX6_isCorner_177 : decode cX6_isCorner 177 = .ok (.lastore, 1) := dk_80 (dk_at dksX6_isCorner_7 16 rfl rfl)
theorem dX6_isCorner_178 : decode cX6_isCorner 178 = .ok (.aload_n 0, 1) := dk_42 (dk_at dksX6_isCorner_7 17 rfl rfl)
theorem dX6_isCorner_179 : decode cX6_isCorner 179 = .ok (.getfield 138, 3) := dk_180 0 138 (dk_at dksX6_isCorner_7 18 rfl rfl)
theorem dX6_isCorner_182 : decode cX6_isCorner 182 = .ok (.iconst 1, 1) := dk_4 (dk_at dksX6_isCorner_7 21 rfl rfl)
theorem dX6_isCorner_183 : decode cX6_isCorner 183 = .ok (.lload_n 3, 1) := dk_33 (dk_at dksX6_isCorner_7 22 rfl rfl)
theorem dX6_isCorner_184 : decode cX6_isCorner 184 = .ok (.lload 7, 2) := dk_22 7 (dk_at dksX6_isCorner_8 0 rfl rfl)
theorem dX6_isCorner_186 : decode cX6_isCorner 186 = .ok (.ldiv, 1) := dk_109 (dk_at dksX6_isCorner_8 2 rfl rfl)
theorem dX6_isCorner_187 : decode cX6_isCorner 187 = .ok (.lastore, 1) := dk_80 (dk_at dksX6_isCorner_8 3 rfl rfl)
theorem dX6_isCorner_188 : decode cX6_isCorner 188 = .ok (.aload_n 0, 1) := dk_42 (dk_at dksX6_isCorner_8 4 rfl rfl)
theorem dX6_isCorner_189 : decode cX6_isCorner 189 = .ok (.getfield 138, 3) := dk_180 0 138 (dk_at dksX6_isCorner_8 5 rfl rfl)
theorem dX6_isCorner_192 : decode cX6_isCorner 192 = .ok (.iconst 2, 1) := dk_5 (dk_at dksX6_isCorner_8 8 rfl rfl)
theorem dX6_isCorner_193 : decode cX6_isCorner 193 = .ok (.lconst 0, 1) := dk_9 (dk_at dksX6_isCorner_8 9 rfl rfl)
theorem dX6_isCorner_194 : decode cX6_isCorner 194 = .ok (.lastore, 1) := dk_80 (dk_at dksX6_isCorner_8 10 rfl rfl)
theorem dX6_isCorner_195 : decode cX6_isCorner 195 = .ok (.aload_n 0, 1) := dk_42 (dk_at dksX6_isCorner_8 11 rfl rfl)
theorem dX6_isCorner_196 : decode cX6_isCorner 196 = .ok (.lload 5, 2) := dk_22 5 (dk_at dksX6_isCorner_8 12 rfl rfl)
theorem dX6_isCorner_198 : decode cX6_isCorner 198 = .ok (.lload 7, 2) := dk_22 7 (dk_at dksX6_isCorner_8 14 rfl rfl)
theorem dX6_isCorner_200 : decode cX6_isCorner 200 = .ok (.ldiv, 1) := dk_109 (dk_at dksX6_isCorner_8 16 rfl rfl)
theorem dX6_isCorner_201 : decode cX6_isCorner 201 = .ok (.putfield 480, 3) := dk_181 1 224 (dk_at dksX6_isCorner_8 17 rfl rfl)
theorem dX6_isCorner_204 : decode cX6_isCorner 204 = .ok (.aload_n 0, 1) := dk_42 (dk_at dksX6_isCorner_8 20 rfl rfl)
theorem dX6_isCorner_205 : decode cX6_isCorner 205 = .ok (.getfield 477, 3) := dk_180 1 221 (dk_at dksX6_isCorner_8 21 rfl rfl)
theorem dX6_isCorner_208 : decode cX6_isCorner 208 = .ok (.iconst 1, 1) := dk_4 (dk_at dksX6_isCorner_9 0 rfl rfl)
theorem dX6_isCorner_209 : decode cX6_isCorner 209 = .ok (.if_icmp .le 44, 3) := dk_164 0 44 (dk_at dksX6_isCorner_9 1 rfl rfl)
theorem dX6_isCorner_212 : decode cX6_isCorner 212 = .ok (.aload_n 0, 1) := dk_42 (dk_at dksX6_isCorner_9 4 rfl rfl)
theorem dX6_isCorner_213 : decode cX6_isCorner 213 = .ok (.getfield 138, 3) := dk_180 0 138 (dk_at dksX6_isCorner_9 5 rfl rfl)
theorem dX6_isCorner_216 : decode cX6_isCorner 216 = .ok (.aload_n 0, 1) := dk_42 (dk_at dksX6_isCorner_9 8 rfl rfl)
theorem dX6_isCorner_217 : decode cX6_isCorner 217 = .ok (.getfield 477, 3) := dk_180 1 221 (dk_at dksX6_isCorner_9 9 rfl rfl)
theorem dX6_isCorner_220 : decode cX6_isCorner 220 = .ok (.iconst 1, 1) := dk_4 (dk_at dksX6_isCorner_9 12 rfl rfl)
theorem dX6_isCorner_221 : decode cX6_isCorner 221 = .ok (.isub, 1) := dk_100 (dk_at dksX6_isCorner_9 13 rfl rfl)
theorem dX6_isCorner_222 : decode cX6_isCorner 222 = .ok (.aload_n 0, 1) := dk_42 (dk_at dksX6_isCorner_9 14 rfl rfl)
theorem dX6_isCorner_223 : decode cX6_isCorner 223 = .ok (.getfield 480, 3) := dk_180 1 224 (dk_at dksX6_isCorner_9 15 rfl rfl)
theorem dX6_isCorner_226 : decode cX6_isCorner 226 = .ok (.aload_n 0, 1) := dk_42 (dk_at dksX6_isCorner_9 18 rfl rfl)
theorem dX6_isCorner_227 : decode cX6_isCorner 227 = .ok (.getfield 138, 3) := dk_180 0 138 (dk_at dksX6_isCorner_9 19 rfl rfl)
theorem dX6_isCorner_230 : decode cX6_isCorner 230 = .ok (.iconst 0, 1) := dk_3 (dk_at dksX6_isCorner_9 22 rfl rfl)
theorem dX6_isCorner_231 : decode cX6_isCorner 231 = .ok (.laload, 1) := dk_47 (dk_at dksX6_isCorner_9 23 rfl rfl)
theorem dX6_isCorner_232 : decode cX6_isCorner 232 = .ok (.lsub, 1) := dk_101 (dk_at dksX6_isCorner_10 0 rfl rfl)
theorem dX6_isCorner_233 : decode cX6_isCorner 233 = .ok (.aload_n 0, 1) := dk_42 (dk_at dksX6_isCorner_10 1 rfl rfl)
theorem dX6_isCorner_234 : decode cX6_isCorner 234 = .ok (.getfield 477, 3) := dk_180 1 221 (dk_at dksX6_isCorner_10 2 rfl rfl)
theorem dX6_isCorner_237 : decode cX6_isCorner 237 = .ok (.iconst 3, 1) := dk_6 (dk_at dksX6_isCorner_10 5 rfl rfl)
theorem dX6_isCorner_238 : decode cX6_isCorner 238 = .ok (.if_icmp .ne 12, 3) := dk_160 0 12 (dk_at dksX6_isCorner_10 6 rfl rfl)
theorem dX6_isCorner_241 : decode cX6_isCorner 241 = .ok (.aload_n 0, 1) := dk_42 (dk_at dksX6_isCorner_10 9 rfl rfl)
theorem dX6_isCorner_242 : decode cX6_isCorner 242 = .ok (.getfield 138, 3) := dk_180 0 138 (dk_at dksX6_isCorner_10 10 rfl rfl)
theorem dX6_isCorner_245 : decode cX6_isCorner 245 = .ok (.iconst 1, 1) := dk_4 (dk_at dksX6_isCorner_10 13 rfl rfl)
theorem dX6_isCorner_246 : decode cX6_isCorner 246 = .ok (.laload, 1) := dk_47 (dk_at dksX6_isCorner_10 14 rfl rfl)
theorem dX6_isCorner_247 : decode cX6_isCorner 247 = .ok (.goto 4, 3) := dk_167 0 4 (dk_at dksX6_isCorner_10 15 rfl rfl)
theorem dX6_isCorner_250 : decode cX6_isCorner 250 = .ok (.lconst 0, 1) := dk_9 (dk_at dksX6_isCorner_10 18 rfl rfl)
theorem dX6_isCorner_251 : decode cX6_isCorner 251 = .ok (.lsub, 1) := dk_101 (dk_at dksX6_isCorner_10 19 rfl rfl)
theorem dX6_isCorner_252 : decode cX6_isCorner 252 = .ok (.lastore, 1) := dk_80 (dk_at dksX6_isCorner_10 20 rfl rfl)
theorem dX6_isCorner_253 : decode cX6_isCorner 253 = .ok (.aload_n 0, 1) := dk_42 (dk_at dksX6_isCorner_10 21 rfl rfl)
theorem dX6_isCorner_254 : decode cX6_isCorner 254 = .ok (.getfield 138, 3) := dk_180 0 138 (dk_at dksX6_isCorner_11 0 rfl rfl)
theorem dX6_isCorner_257 : decode cX6_isCorner 257 = .ok (.iconst 0, 1) := dk_3 (dk_at dksX6_isCorner_11 3 rfl rfl)
theorem dX6_isCorner_258 : decode cX6_isCorner 258 = .ok (.laload, 1) := dk_47 (dk_at dksX6_isCorner_11 4 rfl rfl)
theorem dX6_isCorner_259 : decode cX6_isCorner 259 = .ok (.lconst 0, 1) := dk_9 (dk_at dksX6_isCorner_11 5 rfl rfl)
theorem dX6_isCorner_260 : decode cX6_isCorner 260 = .ok (.lcmp, 1) := dk_148 (dk_at dksX6_isCorner_11 6 rfl rfl)
theorem dX6_isCorner_261 : decode cX6_isCorner 261 = .ok (.ifCond .lt 29, 3) := dk_155 0 29 (dk_at dksX6_isCorner_11 7 rfl rfl)
theorem dX6_isCorner_264 : decode cX6_isCorner 264 = .ok (.aload_n 0, 1) := dk_42 (dk_at dksX6_isCorner_11 10 rfl rfl)
theorem dX6_isCorner_265 : decode cX6_isCorner 265 = .ok (.getfield 138, 3) := dk_180 0 138 (dk_at dksX6_isCorner_11 11 rfl rfl)
theorem dX6_isCorner_268 : decode cX6_isCorner 268 = .ok (.iconst 1, 1) := dk_4 (dk_at dksX6_isCorner_11 14 rfl rfl)
theorem dX6_isCorner_269 : decode cX6_isCorner 269 = .ok (.laload, 1) := dk_47 (dk_at dksX6_isCorner_11 15 rfl rfl)
theorem dX6_isCorner_270 : decode cX6_isCorner 270 = .ok (.lconst 0, 1) := dk_9 (dk_at dksX6_isCorner_11 16 rfl rfl)
theorem dX6_isCorner_271 : decode cX6_isCorner 271 = .ok (.lcmp, 1) := dk_148 (dk_at dksX6_isCorner_11 17 rfl rfl)
theorem dX6_isCorner_272 : decode cX6_isCorner 272 = .ok (.ifCond .lt 18, 3) := dk_155 0 18 (dk_at dksX6_isCorner_11 18 rfl rfl)
theorem dX6_isCorner_275 : decode cX6_isCorner 275 = .ok (.aload_n 0, 1) := dk_42 (dk_at dksX6_isCorner_11 21 rfl rfl)
theorem dX6_isCorner_276 : decode cX6_isCorner 276 = .ok (.getfield 138, 3) := dk_180 0 138 (dk_at dksX6_isCorner_12 0 rfl rfl)
theorem dX6_isCorner_279 : decode cX6_isCorner 279 = .ok (.iconst 2, 1) := dk_5 (dk_at dksX6_isCorner_12 3 rfl rfl)
theorem dX6_isCorner_280 : decode cX6_isCorner 280 = .ok (.laload, 1) := dk_47 (dk_at dksX6_isCorner_12 4 rfl rfl)
theorem dX6_isCorner_281 : decode cX6_isCorner 281 = .ok (.lconst 0, 1) := dk_9 (dk_at dksX6_isCorner_12 5 rfl rfl)
theorem dX6_isCorner_282 : decode cX6_isCorner 282 = .ok (.lcmp, 1) := dk_148 (dk_at dksX6_isCorner_12 6 rfl rfl)
theorem dX6_isCorner_283 : decode cX6_isCorner 283 = .ok (.ifCond .lt 7, 3) := dk_155 0 7 (dk_at dksX6_isCorner_12 7 rfl rfl)
theorem dX6_isCorner_286 : decode cX6_isCorner 286 = .ok (.iconst 1, 1) := dk_4 (dk_at dksX6_isCorner_12 10 rfl rfl)
theorem dX6_isCorner_287 : decode cX6_isCorner 287 = .ok (.goto 4, 3) := dk_167 0 4 (dk_at dksX6_isCorner_12 11 rfl rfl)
theorem dX6_isCorner_290 : decode cX6_isCorner 290 = .ok (.iconst 0, 1) := dk_3 (dk_at dksX6_isCorner_12 14 rfl rfl)
theorem dX6_isCorner_291 : decode cX6_isCorner 291 = .ok (.ireturn, 1) := dk_172 (dk_at dksX6_isCorner_12 15 rfl rfl)
abbrev cX6_mostOf : ByteArray := prog_15_method_97_code
def yX6_mostOf : MethodName := ⟨RX6, "mostOf", "()J"⟩
def dkwX6_mostOf_3 : List UInt8 := [167, 255, 192, 31, 173]
abbrev dktX6_mostOf_3 : List UInt8 := dkwX6_mostOf_3 ++ []
def dkwX6_mostOf_2 : List UInt8 := [96, 46, 133, 105, 97, 55, 4, 132, 6, 1, 167, 255, 219, 31, 22, 4, 184, 1, 230, 64, 132, 3, 1]
abbrev dktX6_mostOf_2 : List UInt8 := dkwX6_mostOf_2 ++ dktX6_mostOf_3
def dkwX6_mostOf_1 : List UInt8 := [180, 1, 221, 162, 0, 34, 22, 4, 42, 180, 0, 138, 21, 6, 47, 42, 180, 0, 135, 6, 21, 6, 104, 29]
abbrev dktX6_mostOf_1 : List UInt8 := dkwX6_mostOf_1 ++ dktX6_mostOf_2
def dkwX6_mostOf_0 : List UInt8 := [20, 0, 179, 64, 3, 62, 29, 42, 180, 1, 227, 162, 0, 62, 9, 55, 4, 3, 54, 6, 21, 6, 42]
abbrev dktX6_mostOf_0 : List UInt8 := dkwX6_mostOf_0 ++ dktX6_mostOf_1
theorem dksX6_mostOf_0 : cX6_mostOf.data.toList.drop 0 = dktX6_mostOf_0 := by decide +kernel
theorem dksX6_mostOf_1 : cX6_mostOf.data.toList.drop 23 = dktX6_mostOf_1 := dk_seg dksX6_mostOf_0 23 rfl rfl
theorem dksX6_mostOf_2 : cX6_mostOf.data.toList.drop 47 = dktX6_mostOf_2 := dk_seg dksX6_mostOf_1 24 rfl rfl
theorem dksX6_mostOf_3 : cX6_mostOf.data.toList.drop 70 = dktX6_mostOf_3 := dk_seg dksX6_mostOf_2 23 rfl rfl
theorem dX6_mostOf_0 : decode cX6_mostOf 0 = .ok (.ldc2_w 179, 3) := dk_20 0 179 (dk_at dksX6_mostOf_0 0 rfl rfl)
theorem dX6_mostOf_3 : decode cX6_mostOf 3 = .ok (.lstore_n 1, 1) := dk_64 (dk_at dksX6_mostOf_0 3 rfl rfl)
theorem dX6_mostOf_4 : decode cX6_mostOf 4 = .ok (.iconst 0, 1) := dk_3 (dk_at dksX6_mostOf_0 4 rfl rfl)
theorem dX6_mostOf_5 : decode cX6_mostOf 5 = .ok (.istore_n 3, 1) := dk_62 (dk_at dksX6_mostOf_0 5 rfl rfl)
theorem dX6_mostOf_6 : decode cX6_mostOf 6 = .ok (.iload_n 3, 1) := dk_29 (dk_at dksX6_mostOf_0 6 rfl rfl)
theorem dX6_mostOf_7 : decode cX6_mostOf 7 = .ok (.aload_n 0, 1) := dk_42 (dk_at dksX6_mostOf_0 7 rfl rfl)
theorem dX6_mostOf_8 : decode cX6_mostOf 8 = .ok (.getfield 483, 3) := dk_180 1 227 (dk_at dksX6_mostOf_0 8 rfl rfl)
theorem dX6_mostOf_11 : decode cX6_mostOf 11 = .ok (.if_icmp .ge 62, 3) := dk_162 0 62 (dk_at dksX6_mostOf_0 11 rfl rfl)
theorem dX6_mostOf_14 : decode cX6_mostOf 14 = .ok (.lconst 0, 1) := dk_9 (dk_at dksX6_mostOf_0 14 rfl rfl)
theorem dX6_mostOf_15 : decode cX6_mostOf 15 = .ok (.lstore 4, 2) := dk_55 4 (dk_at dksX6_mostOf_0 15 rfl rfl)
theorem dX6_mostOf_17 : decode cX6_mostOf 17 = .ok (.iconst 0, 1) := dk_3 (dk_at dksX6_mostOf_0 17 rfl rfl)
theorem dX6_mostOf_18 : decode cX6_mostOf 18 = .ok (.istore 6, 2) := dk_54 6 (dk_at dksX6_mostOf_0 18 rfl rfl)
theorem dX6_mostOf_20 : decode cX6_mostOf 20 = .ok (.iload 6, 2) := dk_21 6 (dk_at dksX6_mostOf_0 20 rfl rfl)
theorem dX6_mostOf_22 : decode cX6_mostOf 22 = .ok (.aload_n 0, 1) := dk_42 (dk_at dksX6_mostOf_0 22 rfl rfl)
theorem dX6_mostOf_23 : decode cX6_mostOf 23 = .ok (.getfield 477, 3) := dk_180 1 221 (dk_at dksX6_mostOf_1 0 rfl rfl)
theorem dX6_mostOf_26 : decode cX6_mostOf 26 = .ok (.if_icmp .ge 34, 3) := dk_162 0 34 (dk_at dksX6_mostOf_1 3 rfl rfl)
theorem dX6_mostOf_29 : decode cX6_mostOf 29 = .ok (.lload 4, 2) := dk_22 4 (dk_at dksX6_mostOf_1 6 rfl rfl)
theorem dX6_mostOf_31 : decode cX6_mostOf 31 = .ok (.aload_n 0, 1) := dk_42 (dk_at dksX6_mostOf_1 8 rfl rfl)
theorem dX6_mostOf_32 : decode cX6_mostOf 32 = .ok (.getfield 138, 3) := dk_180 0 138 (dk_at dksX6_mostOf_1 9 rfl rfl)
theorem dX6_mostOf_35 : decode cX6_mostOf 35 = .ok (.iload 6, 2) := dk_21 6 (dk_at dksX6_mostOf_1 12 rfl rfl)
theorem dX6_mostOf_37 : decode cX6_mostOf 37 = .ok (.laload, 1) := dk_47 (dk_at dksX6_mostOf_1 14 rfl rfl)
theorem dX6_mostOf_38 : decode cX6_mostOf 38 = .ok (.aload_n 0, 1) := dk_42 (dk_at dksX6_mostOf_1 15 rfl rfl)
theorem dX6_mostOf_39 : decode cX6_mostOf 39 = .ok (.getfield 135, 3) := dk_180 0 135 (dk_at dksX6_mostOf_1 16 rfl rfl)
theorem dX6_mostOf_42 : decode cX6_mostOf 42 = .ok (.iconst 3, 1) := dk_6 (dk_at dksX6_mostOf_1 19 rfl rfl)
theorem dX6_mostOf_43 : decode cX6_mostOf 43 = .ok (.iload 6, 2) := dk_21 6 (dk_at dksX6_mostOf_1 20 rfl rfl)
theorem dX6_mostOf_45 : decode cX6_mostOf 45 = .ok (.imul, 1) := dk_104 (dk_at dksX6_mostOf_1 22 rfl rfl)
theorem dX6_mostOf_46 : decode cX6_mostOf 46 = .ok (.iload_n 3, 1) := dk_29 (dk_at dksX6_mostOf_1 23 rfl rfl)
theorem dX6_mostOf_47 : decode cX6_mostOf 47 = .ok (.iadd, 1) := dk_96 (dk_at dksX6_mostOf_2 0 rfl rfl)
theorem dX6_mostOf_48 : decode cX6_mostOf 48 = .ok (.iaload, 1) := dk_46 (dk_at dksX6_mostOf_2 1 rfl rfl)
theorem dX6_mostOf_49 : decode cX6_mostOf 49 = .ok (.i2l, 1) := dk_133 (dk_at dksX6_mostOf_2 2 rfl rfl)
theorem dX6_mostOf_50 : decode cX6_mostOf 50 = .ok (.lmul, 1) := dk_105 (dk_at dksX6_mostOf_2 3 rfl rfl)
theorem dX6_mostOf_51 : decode cX6_mostOf 51 = .ok (.ladd, 1) := dk_97 (dk_at dksX6_mostOf_2 4 rfl rfl)
theorem dX6_mostOf_52 : decode cX6_mostOf 52 = .ok (.lstore 4, 2) := dk_55 4 (dk_at dksX6_mostOf_2 5 rfl rfl)
theorem dX6_mostOf_54 : decode cX6_mostOf 54 = .ok (.iinc 6 1, 3) := dk_132 6 1 (dk_at dksX6_mostOf_2 7 rfl rfl)
theorem dX6_mostOf_57 : decode cX6_mostOf 57 = .ok (.goto (-37), 3) := dk_167 255 219 (dk_at dksX6_mostOf_2 10 rfl rfl)
theorem dX6_mostOf_60 : decode cX6_mostOf 60 = .ok (.lload_n 1, 1) := dk_31 (dk_at dksX6_mostOf_2 13 rfl rfl)
theorem dX6_mostOf_61 : decode cX6_mostOf 61 = .ok (.lload 4, 2) := dk_22 4 (dk_at dksX6_mostOf_2 14 rfl rfl)
theorem dX6_mostOf_63 : decode cX6_mostOf 63 = .ok (.invokestatic 486, 3) := dk_184 1 230 (dk_at dksX6_mostOf_2 16 rfl rfl)
theorem dX6_mostOf_66 : decode cX6_mostOf 66 = .ok (.lstore_n 1, 1) := dk_64 (dk_at dksX6_mostOf_2 19 rfl rfl)
theorem dX6_mostOf_67 : decode cX6_mostOf 67 = .ok (.iinc 3 1, 3) := dk_132 3 1 (dk_at dksX6_mostOf_2 20 rfl rfl)
theorem dX6_mostOf_70 : decode cX6_mostOf 70 = .ok (.goto (-64), 3) := dk_167 255 192 (dk_at dksX6_mostOf_3 0 rfl rfl)
theorem dX6_mostOf_73 : decode cX6_mostOf 73 = .ok (.lload_n 1, 1) := dk_31 (dk_at dksX6_mostOf_3 3 rfl rfl)
theorem dX6_mostOf_74 : decode cX6_mostOf 74 = .ok (.lreturn, 1) := dk_173 (dk_at dksX6_mostOf_3 4 rfl rfl)
abbrev cX6_isSet : ByteArray := prog_15_method_99_code
def yX6_isSet : MethodName := ⟨RX6, "isSet", "(II)Z"⟩
def dkwX6_isSet_2 : List UInt8 := [21, 4, 42, 180, 1, 227, 161, 0, 5, 3, 172, 42, 27, 29, 21, 4, 182, 1, 248, 4, 172]
abbrev dktX6_isSet_2 : List UInt8 := dkwX6_isSet_2 ++ []
def dkwX6_isSet_1 : List UInt8 := [172, 28, 8, 160, 0, 7, 4, 167, 0, 4, 3, 62, 28, 6, 160, 0, 7, 4, 167, 0, 4, 5, 54, 4]
abbrev dktX6_isSet_1 : List UInt8 := dkwX6_isSet_1 ++ dktX6_isSet_2
def dkwX6_isSet_0 : List UInt8 := [28, 6, 162, 0, 23, 28, 42, 180, 1, 221, 161, 0, 5, 3, 172, 42, 27, 28, 9, 10, 182, 1, 244, 4]
abbrev dktX6_isSet_0 : List UInt8 := dkwX6_isSet_0 ++ dktX6_isSet_1
theorem dksX6_isSet_0 : cX6_isSet.data.toList.drop 0 = dktX6_isSet_0 := by decide +kernel
theorem dksX6_isSet_1 : cX6_isSet.data.toList.drop 24 = dktX6_isSet_1 := dk_seg dksX6_isSet_0 24 rfl rfl
theorem dksX6_isSet_2 : cX6_isSet.data.toList.drop 48 = dktX6_isSet_2 := dk_seg dksX6_isSet_1 24 rfl rfl
theorem dX6_isSet_0 : decode cX6_isSet 0 = .ok (.iload_n 2, 1) := dk_28 (dk_at dksX6_isSet_0 0 rfl rfl)
theorem dX6_isSet_1 : decode cX6_isSet 1 = .ok (.iconst 3, 1) := dk_6 (dk_at dksX6_isSet_0 1 rfl rfl)
theorem dX6_isSet_2 : decode cX6_isSet 2 = .ok (.if_icmp .ge 23, 3) := dk_162 0 23 (dk_at dksX6_isSet_0 2 rfl rfl)
theorem dX6_isSet_5 : decode cX6_isSet 5 = .ok (.iload_n 2, 1) := dk_28 (dk_at dksX6_isSet_0 5 rfl rfl)
theorem dX6_isSet_6 : decode cX6_isSet 6 = .ok (.aload_n 0, 1) := dk_42 (dk_at dksX6_isSet_0 6 rfl rfl)
theorem dX6_isSet_7 : decode cX6_isSet 7 = .ok (.getfield 477, 3) := dk_180 1 221 (dk_at dksX6_isSet_0 7 rfl rfl)
theorem dX6_isSet_10 : decode cX6_isSet 10 = .ok (.if_icmp .lt 5, 3) := dk_161 0 5 (dk_at dksX6_isSet_0 10 rfl rfl)
theorem dX6_isSet_13 : decode cX6_isSet 13 = .ok (.iconst 0, 1) := dk_3 (dk_at dksX6_isSet_0 13 rfl rfl)
theorem dX6_isSet_14 : decode cX6_isSet 14 = .ok (.ireturn, 1) := dk_172 (dk_at dksX6_isSet_0 14 rfl rfl)
theorem dX6_isSet_15 : decode cX6_isSet 15 = .ok (.aload_n 0, 1) := dk_42 (dk_at dksX6_isSet_0 15 rfl rfl)
theorem dX6_isSet_16 : decode cX6_isSet 16 = .ok (.iload_n 1, 1) := dk_27 (dk_at dksX6_isSet_0 16 rfl rfl)
theorem dX6_isSet_17 : decode cX6_isSet 17 = .ok (.iload_n 2, 1) := dk_28 (dk_at dksX6_isSet_0 17 rfl rfl)
theorem dX6_isSet_18 : decode cX6_isSet 18 = .ok (.lconst 0, 1) := dk_9 (dk_at dksX6_isSet_0 18 rfl rfl)
theorem dX6_isSet_19 : decode cX6_isSet 19 = .ok (.lconst 1, 1) := dk_10 (dk_at dksX6_isSet_0 19 rfl rfl)
theorem dX6_isSet_20 : decode cX6_isSet 20 = .ok (.invokevirtual 500, 3) := dk_182 1 244 (dk_at dksX6_isSet_0 20 rfl rfl)
theorem dX6_isSet_23 : decode cX6_isSet 23 = .ok (.iconst 1, 1) := dk_4 (dk_at dksX6_isSet_0 23 rfl rfl)
theorem dX6_isSet_24 : decode cX6_isSet 24 = .ok (.ireturn, 1) := dk_172 (dk_at dksX6_isSet_1 0 rfl rfl)
theorem dX6_isSet_25 : decode cX6_isSet 25 = .ok (.iload_n 2, 1) := dk_28 (dk_at dksX6_isSet_1 1 rfl rfl)
theorem dX6_isSet_26 : decode cX6_isSet 26 = .ok (.iconst 5, 1) := dk_8 (dk_at dksX6_isSet_1 2 rfl rfl)
theorem dX6_isSet_27 : decode cX6_isSet 27 = .ok (.if_icmp .ne 7, 3) := dk_160 0 7 (dk_at dksX6_isSet_1 3 rfl rfl)
theorem dX6_isSet_30 : decode cX6_isSet 30 = .ok (.iconst 1, 1) := dk_4 (dk_at dksX6_isSet_1 6 rfl rfl)
theorem dX6_isSet_31 : decode cX6_isSet 31 = .ok (.goto 4, 3) := dk_167 0 4 (dk_at dksX6_isSet_1 7 rfl rfl)
theorem dX6_isSet_34 : decode cX6_isSet 34 = .ok (.iconst 0, 1) := dk_3 (dk_at dksX6_isSet_1 10 rfl rfl)
theorem dX6_isSet_35 : decode cX6_isSet 35 = .ok (.istore_n 3, 1) := dk_62 (dk_at dksX6_isSet_1 11 rfl rfl)
theorem dX6_isSet_36 : decode cX6_isSet 36 = .ok (.iload_n 2, 1) := dk_28 (dk_at dksX6_isSet_1 12 rfl rfl)
theorem dX6_isSet_37 : decode cX6_isSet 37 = .ok (.iconst 3, 1) := dk_6 (dk_at dksX6_isSet_1 13 rfl rfl)
theorem dX6_isSet_38 : decode cX6_isSet 38 = .ok (.if_icmp .ne 7, 3) := dk_160 0 7 (dk_at dksX6_isSet_1 14 rfl rfl)
theorem dX6_isSet_41 : decode cX6_isSet 41 = .ok (.iconst 1, 1) := dk_4 (dk_at dksX6_isSet_1 17 rfl rfl)
theorem dX6_isSet_42 : decode cX6_isSet 42 = .ok (.goto 4, 3) := dk_167 0 4 (dk_at dksX6_isSet_1 18 rfl rfl)
theorem dX6_isSet_45 : decode cX6_isSet 45 = .ok (.iconst 2, 1) := dk_5 (dk_at dksX6_isSet_1 21 rfl rfl)
theorem dX6_isSet_46 : decode cX6_isSet 46 = .ok (.istore 4, 2) := dk_54 4 (dk_at dksX6_isSet_1 22 rfl rfl)
theorem dX6_isSet_48 : decode cX6_isSet 48 = .ok (.iload 4, 2) := dk_21 4 (dk_at dksX6_isSet_2 0 rfl rfl)
theorem dX6_isSet_50 : decode cX6_isSet 50 = .ok (.aload_n 0, 1) := dk_42 (dk_at dksX6_isSet_2 2 rfl rfl)
theorem dX6_isSet_51 : decode cX6_isSet 51 = .ok (.getfield 483, 3) := dk_180 1 227 (dk_at dksX6_isSet_2 3 rfl rfl)
theorem dX6_isSet_54 : decode cX6_isSet 54 = .ok (.if_icmp .lt 5, 3) := dk_161 0 5 (dk_at dksX6_isSet_2 6 rfl rfl)
theorem dX6_isSet_57 : decode cX6_isSet 57 = .ok (.iconst 0, 1) := dk_3 (dk_at dksX6_isSet_2 9 rfl rfl)
theorem dX6_isSet_58 : decode cX6_isSet 58 = .ok (.ireturn, 1) := dk_172 (dk_at dksX6_isSet_2 10 rfl rfl)
theorem dX6_isSet_59 : decode cX6_isSet 59 = .ok (.aload_n 0, 1) := dk_42 (dk_at dksX6_isSet_2 11 rfl rfl)
theorem dX6_isSet_60 : decode cX6_isSet 60 = .ok (.iload_n 1, 1) := dk_27 (dk_at dksX6_isSet_2 12 rfl rfl)
theorem dX6_isSet_61 : decode cX6_isSet 61 = .ok (.iload_n 3, 1) := dk_29 (dk_at dksX6_isSet_2 13 rfl rfl)
theorem dX6_isSet_62 : decode cX6_isSet 62 = .ok (.iload 4, 2) := dk_21 4 (dk_at dksX6_isSet_2 14 rfl rfl)
theorem dX6_isSet_64 : decode cX6_isSet 64 = .ok (.invokevirtual 504, 3) := dk_182 1 248 (dk_at dksX6_isSet_2 16 rfl rfl)
theorem dX6_isSet_67 : decode cX6_isSet 67 = .ok (.iconst 1, 1) := dk_4 (dk_at dksX6_isSet_2 19 rfl rfl)
theorem dX6_isSet_68 : decode cX6_isSet 68 = .ok (.ireturn, 1) := dk_172 (dk_at dksX6_isSet_2 20 rfl rfl)
abbrev cX6_equate : ByteArray := prog_15_method_94_code
def yX6_equate : MethodName := ⟨RX6, "equate", "(IIJJ)V"⟩
def dkwX6_equate_8 : List UInt8 := [180, 0, 135, 6, 21, 7, 104, 21, 8, 96, 46, 133, 105, 101, 80, 177]
abbrev dktX6_equate_8 : List UInt8 := dkwX6_equate_8 ++ []
def dkwX6_equate_7 : List UInt8 := [21, 7, 104, 21, 8, 96, 46, 100, 133, 105, 80, 42, 180, 0, 141, 6, 27, 104, 5, 96, 33, 22, 5, 42]
abbrev dktX6_equate_7 : List UInt8 := dkwX6_equate_7 ++ dktX6_equate_8
def dkwX6_equate_6 : List UInt8 := [6, 162, 0, 7, 9, 167, 0, 29, 22, 5, 42, 180, 0, 135, 6, 21, 8, 96, 46, 42, 180, 0, 135, 6]
abbrev dktX6_equate_6 : List UInt8 := dkwX6_equate_6 ++ dktX6_equate_7
def dkwX6_equate_5 : List UInt8 := [21, 7, 104, 21, 8, 96, 46, 100, 133, 105, 80, 42, 180, 0, 141, 6, 27, 104, 4, 96, 42, 180, 1, 221]
abbrev dktX6_equate_5 : List UInt8 := dkwX6_equate_5 ++ dktX6_equate_6
def dkwX6_equate_4 : List UInt8 := [54, 8, 42, 180, 0, 141, 6, 27, 104, 22, 5, 42, 180, 0, 135, 21, 8, 46, 42, 180, 0, 135, 6]
abbrev dktX6_equate_4 : List UInt8 := dkwX6_equate_4 ++ dktX6_equate_5
def dkwX6_equate_3 : List UInt8 := [180, 0, 141, 6, 27, 104, 5, 96, 28, 21, 7, 160, 0, 7, 10, 167, 0, 4, 9, 80, 177, 28, 6, 100]
abbrev dktX6_equate_3 : List UInt8 := dkwX6_equate_3 ++ dktX6_equate_4
def dkwX6_equate_2 : List UInt8 := [4, 96, 28, 21, 7, 160, 0, 7, 10, 167, 0, 13, 28, 4, 160, 0, 7, 10, 167, 0, 4, 9, 80, 42]
abbrev dktX6_equate_2 : List UInt8 := dkwX6_equate_2 ++ dktX6_equate_3
def dkwX6_equate_1 : List UInt8 := [160, 0, 7, 10, 167, 0, 12, 28, 154, 0, 7, 10, 167, 0, 4, 9, 80, 42, 180, 0, 141, 6, 27, 104]
abbrev dktX6_equate_1 : List UInt8 := dkwX6_equate_1 ++ dktX6_equate_2
def dkwX6_equate_0 : List UInt8 := [42, 180, 1, 221, 4, 100, 54, 7, 28, 6, 162, 0, 82, 42, 180, 0, 141, 6, 27, 104, 28, 21, 7]
abbrev dktX6_equate_0 : List UInt8 := dkwX6_equate_0 ++ dktX6_equate_1
theorem dksX6_equate_0 : cX6_equate.data.toList.drop 0 = dktX6_equate_0 := by decide +kernel
theorem dksX6_equate_1 : cX6_equate.data.toList.drop 23 = dktX6_equate_1 := dk_seg dksX6_equate_0 23 rfl rfl
theorem dksX6_equate_2 : cX6_equate.data.toList.drop 47 = dktX6_equate_2 := dk_seg dksX6_equate_1 24 rfl rfl
theorem dksX6_equate_3 : cX6_equate.data.toList.drop 71 = dktX6_equate_3 := dk_seg dksX6_equate_2 24 rfl rfl
theorem dksX6_equate_4 : cX6_equate.data.toList.drop 95 = dktX6_equate_4 := dk_seg dksX6_equate_3 24 rfl rfl
theorem dksX6_equate_5 : cX6_equate.data.toList.drop 118 = dktX6_equate_5 := dk_seg dksX6_equate_4 23 rfl rfl
theorem dksX6_equate_6 : cX6_equate.data.toList.drop 142 = dktX6_equate_6 := dk_seg dksX6_equate_5 24 rfl rfl
theorem dksX6_equate_7 : cX6_equate.data.toList.drop 166 = dktX6_equate_7 := dk_seg dksX6_equate_6 24 rfl rfl
theorem dksX6_equate_8 : cX6_equate.data.toList.drop 190 = dktX6_equate_8 := dk_seg dksX6_equate_7 24 rfl rfl
theorem dX6_equate_0 : decode cX6_equate 0 = .ok (.aload_n 0, 1) := dk_42 (dk_at dksX6_equate_0 0 rfl rfl)
theorem dX6_equate_1 : decode cX6_equate 1 = .ok (.getfield 477, 3) := dk_180 1 221 (dk_at dksX6_equate_0 1 rfl rfl)
theorem dX6_equate_4 : decode cX6_equate 4 = .ok (.iconst 1, 1) := dk_4 (dk_at dksX6_equate_0 4 rfl rfl)
theorem dX6_equate_5 : decode cX6_equate 5 = .ok (.isub, 1) := dk_100 (dk_at dksX6_equate_0 5 rfl rfl)
theorem dX6_equate_6 : decode cX6_equate 6 = .ok (.istore 7, 2) := dk_54 7 (dk_at dksX6_equate_0 6 rfl rfl)
theorem dX6_equate_8 : decode cX6_equate 8 = .ok (.iload_n 2, 1) := dk_28 (dk_at dksX6_equate_0 8 rfl rfl)
theorem dX6_equate_9 : decode cX6_equate 9 = .ok (.iconst 3, 1) := dk_6 (dk_at dksX6_equate_0 9 rfl rfl)
theorem dX6_equate_10 : decode cX6_equate 10 = .ok (.if_icmp .ge 82, 3) := dk_162 0 82 (dk_at dksX6_equate_0 10 rfl rfl)
theorem dX6_equate_13 : decode cX6_equate 13 = .ok (.aload_n 0, 1) := dk_42 (dk_at dksX6_equate_0 13 rfl rfl)
theorem dX6_equate_14 : decode cX6_equate 14 = .ok (.getfield 141, 3) := dk_180 0 141 (dk_at dksX6_equate_0 14 rfl rfl)
theorem dX6_equate_17 : decode cX6_equate 17 = .ok (.iconst 3, 1) := dk_6 (dk_at dksX6_equate_0 17 rfl rfl)
theorem dX6_equate_18 : decode cX6_equate 18 = .ok (.iload_n 1, 1) := dk_27 (dk_at dksX6_equate_0 18 rfl rfl)
theorem dX6_equate_19 : decode cX6_equate 19 = .ok (.imul, 1) := dk_104 (dk_at dksX6_equate_0 19 rfl rfl)
theorem dX6_equate_20 : decode cX6_equate 20 = .ok (.iload_n 2, 1) := dk_28 (dk_at dksX6_equate_0 20 rfl rfl)
theorem dX6_equate_21 : decode cX6_equate 21 = .ok (.iload 7, 2) := dk_21 7 (dk_at dksX6_equate_0 21 rfl rfl)
theorem dX6_equate_23 : decode cX6_equate 23 = .ok (.if_icmp .ne 7, 3) := dk_160 0 7 (dk_at dksX6_equate_1 0 rfl rfl)
theorem dX6_equate_26 : decode cX6_equate 26 = .ok (.lconst 1, 1) := dk_10 (dk_at dksX6_equate_1 3 rfl rfl)
theorem dX6_equate_27 : decode cX6_equate 27 = .ok (.goto 12, 3) := dk_167 0 12 (dk_at dksX6_equate_1 4 rfl rfl)
theorem dX6_equate_30 : decode cX6_equate 30 = .ok (.iload_n 2, 1) := dk_28 (dk_at dksX6_equate_1 7 rfl rfl)
theorem dX6_equate_31 : decode cX6_equate 31 = .ok (.ifCond .ne 7, 3) := dk_154 0 7 (dk_at dksX6_equate_1 8 rfl rfl)
theorem dX6_equate_34 : decode cX6_equate 34 = .ok (.lconst 1, 1) := dk_10 (dk_at dksX6_equate_1 11 rfl rfl)
theorem dX6_equate_35 : decode cX6_equate 35 = .ok (.goto 4, 3) := dk_167 0 4 (dk_at dksX6_equate_1 12 rfl rfl)
theorem dX6_equate_38 : decode cX6_equate 38 = .ok (.lconst 0, 1) := dk_9 (dk_at dksX6_equate_1 15 rfl rfl)
theorem dX6_equate_39 : decode cX6_equate 39 = .ok (.lastore, 1) := dk_80 (dk_at dksX6_equate_1 16 rfl rfl)
theorem dX6_equate_40 : decode cX6_equate 40 = .ok (.aload_n 0, 1) := dk_42 (dk_at dksX6_equate_1 17 rfl rfl)
theorem dX6_equate_41 : decode cX6_equate 41 = .ok (.getfield 141, 3) := dk_180 0 141 (dk_at dksX6_equate_1 18 rfl rfl)
theorem dX6_equate_44 : decode cX6_equate 44 = .ok (.iconst 3, 1) := dk_6 (dk_at dksX6_equate_1 21 rfl rfl)
theorem dX6_equate_45 : decode cX6_equate 45 = .ok (.iload_n 1, 1) := dk_27 (dk_at dksX6_equate_1 22 rfl rfl)
theorem dX6_equate_46 : decode cX6_equate 46 = .ok (.imul, 1) := dk_104 (dk_at dksX6_equate_1 23 rfl rfl)
theorem dX6_equate_47 : decode cX6_equate 47 = .ok (.iconst 1, 1) := dk_4 (dk_at dksX6_equate_2 0 rfl rfl)
theorem dX6_equate_48 : decode cX6_equate 48 = .ok (.iadd, 1) := dk_96 (dk_at dksX6_equate_2 1 rfl rfl)
theorem dX6_equate_49 : decode cX6_equate 49 = .ok (.iload_n 2, 1) := dk_28 (dk_at dksX6_equate_2 2 rfl rfl)
theorem dX6_equate_50 : decode cX6_equate 50 = .ok (.iload 7, 2) := dk_21 7 (dk_at dksX6_equate_2 3 rfl rfl)
theorem dX6_equate_52 : decode cX6_equate 52 = .ok (.if_icmp .ne 7, 3) := dk_160 0 7 (dk_at dksX6_equate_2 5 rfl rfl)
theorem dX6_equate_55 : decode cX6_equate 55 = .ok (.lconst 1, 1) := dk_10 (dk_at dksX6_equate_2 8 rfl rfl)
theorem dX6_equate_56 : decode cX6_equate 56 = .ok (.goto 13, 3) := dk_167 0 13 (dk_at dksX6_equate_2 9 rfl rfl)
theorem dX6_equate_59 : decode cX6_equate 59 = .ok (.iload_n 2, 1) := dk_28 (dk_at dksX6_equate_2 12 rfl rfl)
theorem dX6_equate_60 : decode cX6_equate 60 = .ok (.iconst 1, 1) := dk_4 (dk_at dksX6_equate_2 13 rfl rfl)
theorem dX6_equate_61 : decode cX6_equate 61 = .ok (.if_icmp .ne 7, 3) := dk_160 0 7 (dk_at dksX6_equate_2 14 rfl rfl)
theorem dX6_equate_64 : decode cX6_equate 64 = .ok (.lconst 1, 1) := dk_10 (dk_at dksX6_equate_2 17 rfl rfl)
theorem dX6_equate_65 : decode cX6_equate 65 = .ok (.goto 4, 3) := dk_167 0 4 (dk_at dksX6_equate_2 18 rfl rfl)
theorem dX6_equate_68 : decode cX6_equate 68 = .ok (.lconst 0, 1) := dk_9 (dk_at dksX6_equate_2 21 rfl rfl)
theorem dX6_equate_69 : decode cX6_equate 69 = .ok (.lastore, 1) := dk_80 (dk_at dksX6_equate_2 22 rfl rfl)
theorem dX6_equate_70 : decode cX6_equate 70 = .ok (.aload_n 0, 1) := dk_42 (dk_at dksX6_equate_2 23 rfl rfl)
theorem dX6_equate_71 : decode cX6_equate 71 = .ok (.getfield 141, 3) := dk_180 0 141 (dk_at dksX6_equate_3 0 rfl rfl)
theorem dX6_equate_74 : decode cX6_equate 74 = .ok (.iconst 3, 1) := dk_6 (dk_at dksX6_equate_3 3 rfl rfl)
theorem dX6_equate_75 : decode cX6_equate 75 = .ok (.iload_n 1, 1) := dk_27 (dk_at dksX6_equate_3 4 rfl rfl)
theorem dX6_equate_76 : decode cX6_equate 76 = .ok (.imul, 1) := dk_104 (dk_at dksX6_equate_3 5 rfl rfl)
theorem dX6_equate_77 : decode cX6_equate 77 = .ok (.iconst 2, 1) := dk_5 (dk_at dksX6_equate_3 6 rfl rfl)
theorem dX6_equate_78 : decode cX6_equate 78 = .ok (.iadd, 1) := dk_96 (dk_at dksX6_equate_3 7 rfl rfl)
theorem dX6_equate_79 : decode cX6_equate 79 = .ok (.iload_n 2, 1) := dk_28 (dk_at dksX6_equate_3 8 rfl rfl)
theorem dX6_equate_80 : decode cX6_equate 80 = .ok (.iload 7, 2) := dk_21 7 (dk_at dksX6_equate_3 9 rfl rfl)
theorem dX6_equate_82 : decode cX6_equate 82 = .ok (.if_icmp .ne 7, 3) := dk_160 0 7 (dk_at dksX6_equate_3 11 rfl rfl)
theorem dX6_equate_85 : decode cX6_equate 85 = .ok (.lconst 1, 1) := dk_10 (dk_at dksX6_equate_3 14 rfl rfl)
theorem dX6_equate_86 : decode cX6_equate 86 = .ok (.goto 4, 3) := dk_167 0 4 (dk_at dksX6_equate_3 15 rfl rfl)
theorem dX6_equate_89 : decode cX6_equate 89 = .ok (.lconst 0, 1) := dk_9 (dk_at dksX6_equate_3 18 rfl rfl)
theorem dX6_equate_90 : decode cX6_equate 90 = .ok (.lastore, 1) := dk_80 (dk_at dksX6_equate_3 19 rfl rfl)
theorem dX6_equate_91 : decode cX6_equate 91 = .ok (.return_, 1) := dk_177 (dk_at dksX6_equate_3 20 rfl rfl)
theorem dX6_equate_92 : decode cX6_equate 92 = .ok (.iload_n 2, 1) := dk_28 (dk_at dksX6_equate_3 21 rfl rfl)
theorem dX6_equate_93 : decode cX6_equate 93 = .ok (.iconst 3, 1) := dk_6 (dk_at dksX6_equate_3 22 rfl rfl)
theorem dX6_equate_94 : decode cX6_equate 94 = .ok (.isub, 1) := dk_100 (dk_at dksX6_equate_3 23 rfl rfl)
theorem dX6_equate_95 : decode cX6_equate 95 = .ok (.istore 8, 2) := dk_54 8 (dk_at dksX6_equate_4 0 rfl rfl)
theorem dX6_equate_97 : decode cX6_equate 97 = .ok (.aload_n 0, 1) := dk_42 (dk_at dksX6_equate_4 2 rfl rfl)
theorem dX6_equate_98 : decode cX6_equate 98 = .ok (.getfield 141, 3) := dk_180 0 141 (dk_at dksX6_equate_4 3 rfl rfl)
theorem dX6_equate_101 : decode cX6_equate 101 = .ok (.iconst 3, 1) := dk_6 (dk_at dksX6_equate_4 6 rfl rfl)
theorem dX6_equate_102 : decode cX6_equate 102 = .ok (.iload_n 1, 1) := dk_27 (dk_at dksX6_equate_4 7 rfl rfl)
theorem dX6_equate_103 : decode cX6_equate 103 = .ok (.imul, 1) := dk_104 (dk_at dksX6_equate_4 8 rfl rfl)
theorem dX6_equate_104 : decode cX6_equate 104 = .ok (.lload 5, 2) := dk_22 5 (dk_at dksX6_equate_4 9 rfl rfl)
theorem dX6_equate_106 : decode cX6_equate 106 = .ok (.aload_n 0, 1) := dk_42 (dk_at dksX6_equate_4 11 rfl rfl)
theorem dX6_equate_107 : decode cX6_equate 107 = .ok (.getfield 135, 3) := dk_180 0 135 (dk_at dksX6_equate_4 12 rfl rfl)
theorem dX6_equate_110 : decode cX6_equate 110 = .ok (.iload 8, 2) := dk_21 8 (dk_at dksX6_equate_4 15 rfl rfl)
theorem dX6_equate_112 : decode cX6_equate 112 = .ok (.iaload, 1) := dk_46 (dk_at dksX6_equate_4 17 rfl rfl)
theorem dX6_equate_113 : decode cX6_equate 113 = .ok (.aload_n 0, 1) := dk_42 (dk_at dksX6_equate_4 18 rfl rfl)
theorem dX6_equate_114 : decode cX6_equate 114 = .ok (.getfield 135, 3) := dk_180 0 135 (dk_at dksX6_equate_4 19 rfl rfl)
theorem dX6_equate_117 : decode cX6_equate 117 = .ok (.iconst 3, 1) := dk_6 (dk_at dksX6_equate_4 22 rfl rfl)
theorem dX6_equate_118 : decode cX6_equate 118 = .ok (.iload 7, 2) := dk_21 7 (dk_at dksX6_equate_5 0 rfl rfl)
theorem dX6_equate_120 : decode cX6_equate 120 = .ok (.imul, 1) := dk_104 (dk_at dksX6_equate_5 2 rfl rfl)
theorem dX6_equate_121 : decode cX6_equate 121 = .ok (.iload 8, 2) := dk_21 8 (dk_at dksX6_equate_5 3 rfl rfl)
theorem dX6_equate_123 : decode cX6_equate 123 = .ok (.iadd, 1) := dk_96 (dk_at dksX6_equate_5 5 rfl rfl)
theorem dX6_equate_124 : decode cX6_equate 124 = .ok (.iaload, 1) := dk_46 (dk_at dksX6_equate_5 6 rfl rfl)
theorem dX6_equate_125 : decode cX6_equate 125 = .ok (.isub, 1) := dk_100 (dk_at dksX6_equate_5 7 rfl rfl)
theorem dX6_equate_126 : decode cX6_equate 126 = .ok (.i2l, 1) := dk_133 (dk_at dksX6_equate_5 8 rfl rfl)
theorem dX6_equate_127 : decode cX6_equate 127 = .ok (.lmul, 1) := dk_105 (dk_at dksX6_equate_5 9 rfl rfl)
theorem dX6_equate_128 : decode cX6_equate 128 = .ok (.lastore, 1) := dk_80 (dk_at dksX6_equate_5 10 rfl rfl)
theorem dX6_equate_129 : decode cX6_equate 129 = .ok (.aload_n 0, 1) := dk_42 (dk_at dksX6_equate_5 11 rfl rfl)
theorem dX6_equate_130 : decode cX6_equate 130 = .ok (.getfield 141, 3) := dk_180 0 141 (dk_at dksX6_equate_5 12 rfl rfl)
theorem dX6_equate_133 : decode cX6_equate 133 = .ok (.iconst 3, 1) := dk_6 (dk_at dksX6_equate_5 15 rfl rfl)
theorem dX6_equate_134 : decode cX6_equate 134 = .ok (.iload_n 1, 1) := dk_27 (dk_at dksX6_equate_5 16 rfl rfl)
theorem dX6_equate_135 : decode cX6_equate 135 = .ok (.imul, 1) := dk_104 (dk_at dksX6_equate_5 17 rfl rfl)
theorem dX6_equate_136 : decode cX6_equate 136 = .ok (.iconst 1, 1) := dk_4 (dk_at dksX6_equate_5 18 rfl rfl)
theorem dX6_equate_137 : decode cX6_equate 137 = .ok (.iadd, 1) := dk_96 (dk_at dksX6_equate_5 19 rfl rfl)
theorem dX6_equate_138 : decode cX6_equate 138 = .ok (.aload_n 0, 1) := dk_42 (dk_at dksX6_equate_5 20 rfl rfl)
theorem dX6_equate_139 : decode cX6_equate 139 = .ok (.getfield 477, 3) := dk_180 1 221 (dk_at dksX6_equate_5 21 rfl rfl)
theorem dX6_equate_142 : decode cX6_equate 142 = .ok (.iconst 3, 1) := dk_6 (dk_at dksX6_equate_6 0 rfl rfl)
theorem dX6_equate_143 : decode cX6_equate 143 = .ok (.if_icmp .ge 7, 3) := dk_162 0 7 (dk_at dksX6_equate_6 1 rfl rfl)
theorem dX6_equate_146 : decode cX6_equate 146 = .ok (.lconst 0, 1) := dk_9 (dk_at dksX6_equate_6 4 rfl rfl)
theorem dX6_equate_147 : decode cX6_equate 147 = .ok (.goto 29, 3) := dk_167 0 29 (dk_at dksX6_equate_6 5 rfl rfl)
theorem dX6_equate_150 : decode cX6_equate 150 = .ok (.lload 5, 2) := dk_22 5 (dk_at dksX6_equate_6 8 rfl rfl)
theorem dX6_equate_152 : decode cX6_equate 152 = .ok (.aload_n 0, 1) := dk_42 (dk_at dksX6_equate_6 10 rfl rfl)
theorem dX6_equate_153 : decode cX6_equate 153 = .ok (.getfield 135, 3) := dk_180 0 135 (dk_at dksX6_equate_6 11 rfl rfl)
theorem dX6_equate_156 : decode cX6_equate 156 = .ok (.iconst 3, 1) := dk_6 (dk_at dksX6_equate_6 14 rfl rfl)
theorem dX6_equate_157 : decode cX6_equate 157 = .ok (.iload 8, 2) := dk_21 8 (dk_at dksX6_equate_6 15 rfl rfl)
theorem dX6_equate_159 : decode cX6_equate 159 = .ok (.iadd, 1) := dk_96 (dk_at dksX6_equate_6 17 rfl rfl)
theorem dX6_equate_160 : decode cX6_equate 160 = .ok (.iaload, 1) := dk_46 (dk_at dksX6_equate_6 18 rfl rfl)
theorem dX6_equate_161 : decode cX6_equate 161 = .ok (.aload_n 0, 1) := dk_42 (dk_at dksX6_equate_6 19 rfl rfl)
theorem dX6_equate_162 : decode cX6_equate 162 = .ok (.getfield 135, 3) := dk_180 0 135 (dk_at dksX6_equate_6 20 rfl rfl)
theorem dX6_equate_165 : decode cX6_equate 165 = .ok (.iconst 3, 1) := dk_6 (dk_at dksX6_equate_6 23 rfl rfl)
theorem dX6_equate_166 : decode cX6_equate 166 = .ok (.iload 7, 2) := dk_21 7 (dk_at dksX6_equate_7 0 rfl rfl)
theorem dX6_equate_168 : decode cX6_equate 168 = .ok (.imul, 1) := dk_104 (dk_at dksX6_equate_7 2 rfl rfl)
theorem dX6_equate_169 : decode cX6_equate 169 = .ok (.iload 8, 2) := dk_21 8 (dk_at dksX6_equate_7 3 rfl rfl)
theorem dX6_equate_171 : decode cX6_equate 171 = .ok (.iadd, 1) := dk_96 (dk_at dksX6_equate_7 5 rfl rfl)
theorem dX6_equate_172 : decode cX6_equate 172 = .ok (.iaload, 1) := dk_46 (dk_at dksX6_equate_7 6 rfl rfl)
theorem dX6_equate_173 : decode cX6_equate 173 = .ok (.isub, 1) := dk_100 (dk_at dksX6_equate_7 7 rfl rfl)
theorem dX6_equate_174 : decode cX6_equate 174 = .ok (.i2l, 1) := dk_133 (dk_at dksX6_equate_7 8 rfl rfl)
theorem dX6_equate_175 : decode cX6_equate 175 = .ok (.lmul, 1) := dk_105 (dk_at dksX6_equate_7 9 rfl rfl)
theorem dX6_equate_176 : decode cX6_equate 176 = .ok (.lastore, 1) := dk_80 (dk_at dksX6_equate_7 10 rfl rfl)
theorem dX6_equate_177 : decode cX6_equate 177 = .ok (.aload_n 0, 1) := dk_42 (dk_at dksX6_equate_7 11 rfl rfl)
theorem dX6_equate_178 : decode cX6_equate 178 = .ok (.getfield 141, 3) := dk_180 0 141 (dk_at dksX6_equate_7 12 rfl rfl)
theorem dX6_equate_181 : decode cX6_equate 181 = .ok (.iconst 3, 1) := dk_6 (dk_at dksX6_equate_7 15 rfl rfl)
theorem dX6_equate_182 : decode cX6_equate 182 = .ok (.iload_n 1, 1) := dk_27 (dk_at dksX6_equate_7 16 rfl rfl)
theorem dX6_equate_183 : decode cX6_equate 183 = .ok (.imul, 1) := dk_104 (dk_at dksX6_equate_7 17 rfl rfl)
theorem dX6_equate_184 : decode cX6_equate 184 = .ok (.iconst 2, 1) := dk_5 (dk_at dksX6_equate_7 18 rfl rfl)
theorem dX6_equate_185 : decode cX6_equate 185 = .ok (.iadd, 1) := dk_96 (dk_at dksX6_equate_7 19 rfl rfl)
theorem dX6_equate_186 : decode cX6_equate 186 = .ok (.lload_n 3, 1) := dk_33 (dk_at dksX6_equate_7 20 rfl rfl)
theorem dX6_equate_187 : decode cX6_equate 187 = .ok (.lload 5, 2) := dk_22 5 (dk_at dksX6_equate_7 21 rfl rfl)
theorem dX6_equate_189 : decode cX6_equate 189 = .ok (.aload_n 0, 1) := dk_42 (dk_at dksX6_equate_7 23 rfl rfl)
theorem dX6_equate_190 : decode cX6_equate 190 = .ok (.getfield 135, 3) := dk_180 0 135 (dk_at dksX6_equate_8 0 rfl rfl)
theorem dX6_equate_193 : decode cX6_equate 193 = .ok (.iconst 3, 1) := dk_6 (dk_at dksX6_equate_8 3 rfl rfl)
theorem dX6_equate_194 : decode cX6_equate 194 = .ok (.iload 7, 2) := dk_21 7 (dk_at dksX6_equate_8 4 rfl rfl)
theorem dX6_equate_196 : decode cX6_equate 196 = .ok (.imul, 1) := dk_104 (dk_at dksX6_equate_8 6 rfl rfl)
theorem dX6_equate_197 : decode cX6_equate 197 = .ok (.iload 8, 2) := dk_21 8 (dk_at dksX6_equate_8 7 rfl rfl)
theorem dX6_equate_199 : decode cX6_equate 199 = .ok (.iadd, 1) := dk_96 (dk_at dksX6_equate_8 9 rfl rfl)
theorem dX6_equate_200 : decode cX6_equate 200 = .ok (.iaload, 1) := dk_46 (dk_at dksX6_equate_8 10 rfl rfl)
theorem dX6_equate_201 : decode cX6_equate 201 = .ok (.i2l, 1) := dk_133 (dk_at dksX6_equate_8 11 rfl rfl)
theorem dX6_equate_202 : decode cX6_equate 202 = .ok (.lmul, 1) := dk_105 (dk_at dksX6_equate_8 12 rfl rfl)
theorem dX6_equate_203 : decode cX6_equate 203 = .ok (.lsub, 1) := dk_101 (dk_at dksX6_equate_8 13 rfl rfl)
theorem dX6_equate_204 : decode cX6_equate 204 = .ok (.lastore, 1) := dk_80 (dk_at dksX6_equate_8 14 rfl rfl)
theorem dX6_equate_205 : decode cX6_equate 205 = .ok (.return_, 1) := dk_177 (dk_at dksX6_equate_8 15 rfl rfl)
abbrev cX6_balance : ByteArray := prog_15_method_95_code
def yX6_balance : MethodName := ⟨RX6, "balance", "(III)V"⟩
def dkwX6_balance_4 : List UInt8 := [100, 133, 22, 5, 101, 80, 42, 180, 0, 141, 6, 27, 104, 5, 96, 22, 5, 117, 80, 177]
abbrev dktX6_balance_4 : List UInt8 := dkwX6_balance_4 ++ []
def dkwX6_balance_3 : List UInt8 := [6, 162, 0, 7, 9, 167, 0, 24, 42, 180, 0, 135, 6, 28, 96, 46, 42, 180, 0, 135, 6, 29, 96, 46]
abbrev dktX6_balance_3 : List UInt8 := dkwX6_balance_3 ++ dktX6_balance_4
def dkwX6_balance_2 : List UInt8 := [180, 0, 135, 29, 46, 100, 133, 22, 5, 101, 80, 42, 180, 0, 141, 6, 27, 104, 4, 96, 42, 180, 1, 221]
abbrev dktX6_balance_2 : List UInt8 := dkwX6_balance_2 ++ dktX6_balance_3
def dkwX6_balance_1 : List UInt8 := [21, 4, 104, 29, 96, 46, 100, 133, 55, 5, 42, 180, 0, 141, 6, 27, 104, 42, 180, 0, 135, 28, 46, 42]
abbrev dktX6_balance_1 : List UInt8 := dkwX6_balance_1 ++ dktX6_balance_2
def dkwX6_balance_0 : List UInt8 := [42, 180, 1, 221, 4, 100, 54, 4, 42, 180, 0, 135, 6, 21, 4, 104, 28, 96, 46, 42, 180, 0, 135, 6]
abbrev dktX6_balance_0 : List UInt8 := dkwX6_balance_0 ++ dktX6_balance_1
theorem dksX6_balance_0 : cX6_balance.data.toList.drop 0 = dktX6_balance_0 := by decide +kernel
theorem dksX6_balance_1 : cX6_balance.data.toList.drop 24 = dktX6_balance_1 := dk_seg dksX6_balance_0 24 rfl rfl
theorem dksX6_balance_2 : cX6_balance.data.toList.drop 48 = dktX6_balance_2 := dk_seg dksX6_balance_1 24 rfl rfl
theorem dksX6_balance_3 : cX6_balance.data.toList.drop 72 = dktX6_balance_3 := dk_seg dksX6_balance_2 24 rfl rfl
theorem dksX6_balance_4 : cX6_balance.data.toList.drop 96 = dktX6_balance_4 := dk_seg dksX6_balance_3 24 rfl rfl
theorem dX6_balance_0 : decode cX6_balance 0 = .ok (.aload_n 0, 1) := dk_42 (dk_at dksX6_balance_0 0 rfl rfl)
theorem dX6_balance_1 : decode cX6_balance 1 = .ok (.getfield 477, 3) := dk_180 1 221 (dk_at dksX6_balance_0 1 rfl rfl)
theorem dX6_balance_4 : decode cX6_balance 4 = .ok (.iconst 1, 1) := dk_4 (dk_at dksX6_balance_0 4 rfl rfl)
theorem dX6_balance_5 : decode cX6_balance 5 = .ok (.isub, 1) := dk_100 (dk_at dksX6_balance_0 5 rfl rfl)
theorem dX6_balance_6 : decode cX6_balance 6 = .ok (.istore 4, 2) := dk_54 4 (dk_at dksX6_balance_0 6 rfl rfl)
theorem dX6_balance_8 : decode cX6_balance 8 = .ok (.aload_n 0, 1) := dk_42 (dk_at dksX6_balance_0 8 rfl rfl)
theorem dX6_balance_9 : decode cX6_balance 9 = .ok (.getfield 135, 3) := dk_180 0 135 (dk_at dksX6_balance_0 9 rfl rfl)
theorem dX6_balance_12 : decode cX6_balance 12 = .ok (.iconst 3, 1) := dk_6 (dk_at dksX6_balance_0 12 rfl rfl)
theorem dX6_balance_13 : decode cX6_balance 13 = .ok (.iload 4, 2) := dk_21 4 (dk_at dksX6_balance_0 13 rfl rfl)
theorem dX6_balance_15 : decode cX6_balance 15 = .ok (.imul, 1) := dk_104 (dk_at dksX6_balance_0 15 rfl rfl)
theorem dX6_balance_16 : decode cX6_balance 16 = .ok (.iload_n 2, 1) := dk_28 (dk_at dksX6_balance_0 16 rfl rfl)
theorem dX6_balance_17 : decode cX6_balance 17 = .ok (.iadd, 1) := dk_96 (dk_at dksX6_balance_0 17 rfl rfl)
theorem dX6_balance_18 : decode cX6_balance 18 = .ok (.iaload, 1) := dk_46 (dk_at dksX6_balance_0 18 rfl rfl)
theorem dX6_balance_19 : decode cX6_balance 19 = .ok (.aload_n 0, 1) := dk_42 (dk_at dksX6_balance_0 19 rfl rfl)
theorem dX6_balance_20 : decode cX6_balance 20 = .ok (.getfield 135, 3) := dk_180 0 135 (dk_at dksX6_balance_0 20 rfl rfl)
theorem dX6_balance_23 : decode cX6_balance 23 = .ok (.iconst 3, 1) := dk_6 (dk_at dksX6_balance_0 23 rfl rfl)
theorem dX6_balance_24 : decode cX6_balance 24 = .ok (.iload 4, 2) := dk_21 4 (dk_at dksX6_balance_1 0 rfl rfl)
theorem dX6_balance_26 : decode cX6_balance 26 = .ok (.imul, 1) := dk_104 (dk_at dksX6_balance_1 2 rfl rfl)
theorem dX6_balance_27 : decode cX6_balance 27 = .ok (.iload_n 3, 1) := dk_29 (dk_at dksX6_balance_1 3 rfl rfl)
theorem dX6_balance_28 : decode cX6_balance 28 = .ok (.iadd, 1) := dk_96 (dk_at dksX6_balance_1 4 rfl rfl)
theorem dX6_balance_29 : decode cX6_balance 29 = .ok (.iaload, 1) := dk_46 (dk_at dksX6_balance_1 5 rfl rfl)
theorem dX6_balance_30 : decode cX6_balance 30 = .ok (.isub, 1) := dk_100 (dk_at dksX6_balance_1 6 rfl rfl)
theorem dX6_balance_31 : decode cX6_balance 31 = .ok (.i2l, 1) := dk_133 (dk_at dksX6_balance_1 7 rfl rfl)
theorem dX6_balance_32 : decode cX6_balance 32 = .ok (.lstore 5, 2) := dk_55 5 (dk_at dksX6_balance_1 8 rfl rfl)
theorem dX6_balance_34 : decode cX6_balance 34 = .ok (.aload_n 0, 1) := dk_42 (dk_at dksX6_balance_1 10 rfl rfl)
theorem dX6_balance_35 : decode cX6_balance 35 = .ok (.getfield 141, 3) := dk_180 0 141 (dk_at dksX6_balance_1 11 rfl rfl)
theorem dX6_balance_38 : decode cX6_balance 38 = .ok (.iconst 3, 1) := dk_6 (dk_at dksX6_balance_1 14 rfl rfl)
theorem dX6_balance_39 : decode cX6_balance 39 = .ok (.iload_n 1, 1) := dk_27 (dk_at dksX6_balance_1 15 rfl rfl)
theorem dX6_balance_40 : decode cX6_balance 40 = .ok (.imul, 1) := dk_104 (dk_at dksX6_balance_1 16 rfl rfl)
theorem dX6_balance_41 : decode cX6_balance 41 = .ok (.aload_n 0, 1) := dk_42 (dk_at dksX6_balance_1 17 rfl rfl)
theorem dX6_balance_42 : decode cX6_balance 42 = .ok (.getfield 135, 3) := dk_180 0 135 (dk_at dksX6_balance_1 18 rfl rfl)
theorem dX6_balance_45 : decode cX6_balance 45 = .ok (.iload_n 2, 1) := dk_28 (dk_at dksX6_balance_1 21 rfl rfl)
theorem dX6_balance_46 : decode cX6_balance 46 = .ok (.iaload, 1) := dk_46 (dk_at dksX6_balance_1 22 rfl rfl)
theorem dX6_balance_47 : decode cX6_balance 47 = .ok (.aload_n 0, 1) := dk_42 (dk_at dksX6_balance_1 23 rfl rfl)
theorem dX6_balance_48 : decode cX6_balance 48 = .ok (.getfield 135, 3) := dk_180 0 135 (dk_at dksX6_balance_2 0 rfl rfl)
theorem dX6_balance_51 : decode cX6_balance 51 = .ok (.iload_n 3, 1) := dk_29 (dk_at dksX6_balance_2 3 rfl rfl)
theorem dX6_balance_52 : decode cX6_balance 52 = .ok (.iaload, 1) := dk_46 (dk_at dksX6_balance_2 4 rfl rfl)
theorem dX6_balance_53 : decode cX6_balance 53 = .ok (.isub, 1) := dk_100 (dk_at dksX6_balance_2 5 rfl rfl)
theorem dX6_balance_54 : decode cX6_balance 54 = .ok (.i2l, 1) := dk_133 (dk_at dksX6_balance_2 6 rfl rfl)
theorem dX6_balance_55 : decode cX6_balance 55 = .ok (.lload 5, 2) := dk_22 5 (dk_at dksX6_balance_2 7 rfl rfl)
theorem dX6_balance_57 : decode cX6_balance 57 = .ok (.lsub, 1) := dk_101 (dk_at dksX6_balance_2 9 rfl rfl)
theorem dX6_balance_58 : decode cX6_balance 58 = .ok (.lastore, 1) := dk_80 (dk_at dksX6_balance_2 10 rfl rfl)
theorem dX6_balance_59 : decode cX6_balance 59 = .ok (.aload_n 0, 1) := dk_42 (dk_at dksX6_balance_2 11 rfl rfl)
theorem dX6_balance_60 : decode cX6_balance 60 = .ok (.getfield 141, 3) := dk_180 0 141 (dk_at dksX6_balance_2 12 rfl rfl)
theorem dX6_balance_63 : decode cX6_balance 63 = .ok (.iconst 3, 1) := dk_6 (dk_at dksX6_balance_2 15 rfl rfl)
theorem dX6_balance_64 : decode cX6_balance 64 = .ok (.iload_n 1, 1) := dk_27 (dk_at dksX6_balance_2 16 rfl rfl)
theorem dX6_balance_65 : decode cX6_balance 65 = .ok (.imul, 1) := dk_104 (dk_at dksX6_balance_2 17 rfl rfl)
theorem dX6_balance_66 : decode cX6_balance 66 = .ok (.iconst 1, 1) := dk_4 (dk_at dksX6_balance_2 18 rfl rfl)
theorem dX6_balance_67 : decode cX6_balance 67 = .ok (.iadd, 1) := dk_96 (dk_at dksX6_balance_2 19 rfl rfl)
theorem dX6_balance_68 : decode cX6_balance 68 = .ok (.aload_n 0, 1) := dk_42 (dk_at dksX6_balance_2 20 rfl rfl)
theorem dX6_balance_69 : decode cX6_balance 69 = .ok (.getfield 477, 3) := dk_180 1 221 (dk_at dksX6_balance_2 21 rfl rfl)
theorem dX6_balance_72 : decode cX6_balance 72 = .ok (.iconst 3, 1) := dk_6 (dk_at dksX6_balance_3 0 rfl rfl)
theorem dX6_balance_73 : decode cX6_balance 73 = .ok (.if_icmp .ge 7, 3) := dk_162 0 7 (dk_at dksX6_balance_3 1 rfl rfl)
theorem dX6_balance_76 : decode cX6_balance 76 = .ok (.lconst 0, 1) := dk_9 (dk_at dksX6_balance_3 4 rfl rfl)
theorem dX6_balance_77 : decode cX6_balance 77 = .ok (.goto 24, 3) := dk_167 0 24 (dk_at dksX6_balance_3 5 rfl rfl)
theorem dX6_balance_80 : decode cX6_balance 80 = .ok (.aload_n 0, 1) := dk_42 (dk_at dksX6_balance_3 8 rfl rfl)
theorem dX6_balance_81 : decode cX6_balance 81 = .ok (.getfield 135, 3) := dk_180 0 135 (dk_at dksX6_balance_3 9 rfl rfl)
theorem dX6_balance_84 : decode cX6_balance 84 = .ok (.iconst 3, 1) := dk_6 (dk_at dksX6_balance_3 12 rfl rfl)
theorem dX6_balance_85 : decode cX6_balance 85 = .ok (.iload_n 2, 1) := dk_28 (dk_at dksX6_balance_3 13 rfl rfl)
theorem dX6_balance_86 : decode cX6_balance 86 = .ok (.iadd, 1) := dk_96 (dk_at dksX6_balance_3 14 rfl rfl)
theorem dX6_balance_87 : decode cX6_balance 87 = .ok (.iaload, 1) := dk_46 (dk_at dksX6_balance_3 15 rfl rfl)
theorem dX6_balance_88 : decode cX6_balance 88 = .ok (.aload_n 0, 1) := dk_42 (dk_at dksX6_balance_3 16 rfl rfl)
theorem dX6_balance_89 : decode cX6_balance 89 = .ok (.getfield 135, 3) := dk_180 0 135 (dk_at dksX6_balance_3 17 rfl rfl)
theorem dX6_balance_92 : decode cX6_balance 92 = .ok (.iconst 3, 1) := dk_6 (dk_at dksX6_balance_3 20 rfl rfl)
theorem dX6_balance_93 : decode cX6_balance 93 = .ok (.iload_n 3, 1) := dk_29 (dk_at dksX6_balance_3 21 rfl rfl)
theorem dX6_balance_94 : decode cX6_balance 94 = .ok (.iadd, 1) := dk_96 (dk_at dksX6_balance_3 22 rfl rfl)
theorem dX6_balance_95 : decode cX6_balance 95 = .ok (.iaload, 1) := dk_46 (dk_at dksX6_balance_3 23 rfl rfl)
theorem dX6_balance_96 : decode cX6_balance 96 = .ok (.isub, 1) := dk_100 (dk_at dksX6_balance_4 0 rfl rfl)
theorem dX6_balance_97 : decode cX6_balance 97 = .ok (.i2l, 1) := dk_133 (dk_at dksX6_balance_4 1 rfl rfl)
theorem dX6_balance_98 : decode cX6_balance 98 = .ok (.lload 5, 2) := dk_22 5 (dk_at dksX6_balance_4 2 rfl rfl)
theorem dX6_balance_100 : decode cX6_balance 100 = .ok (.lsub, 1) := dk_101 (dk_at dksX6_balance_4 4 rfl rfl)
theorem dX6_balance_101 : decode cX6_balance 101 = .ok (.lastore, 1) := dk_80 (dk_at dksX6_balance_4 5 rfl rfl)
theorem dX6_balance_102 : decode cX6_balance 102 = .ok (.aload_n 0, 1) := dk_42 (dk_at dksX6_balance_4 6 rfl rfl)
theorem dX6_balance_103 : decode cX6_balance 103 = .ok (.getfield 141, 3) := dk_180 0 141 (dk_at dksX6_balance_4 7 rfl rfl)
theorem dX6_balance_106 : decode cX6_balance 106 = .ok (.iconst 3, 1) := dk_6 (dk_at dksX6_balance_4 10 rfl rfl)
theorem dX6_balance_107 : decode cX6_balance 107 = .ok (.iload_n 1, 1) := dk_27 (dk_at dksX6_balance_4 11 rfl rfl)
theorem dX6_balance_108 : decode cX6_balance 108 = .ok (.imul, 1) := dk_104 (dk_at dksX6_balance_4 12 rfl rfl)
theorem dX6_balance_109 : decode cX6_balance 109 = .ok (.iconst 2, 1) := dk_5 (dk_at dksX6_balance_4 13 rfl rfl)
theorem dX6_balance_110 : decode cX6_balance 110 = .ok (.iadd, 1) := dk_96 (dk_at dksX6_balance_4 14 rfl rfl)
theorem dX6_balance_111 : decode cX6_balance 111 = .ok (.lload 5, 2) := dk_22 5 (dk_at dksX6_balance_4 15 rfl rfl)
theorem dX6_balance_113 : decode cX6_balance 113 = .ok (.lneg, 1) := dk_117 (dk_at dksX6_balance_4 17 rfl rfl)
theorem dX6_balance_114 : decode cX6_balance 114 = .ok (.lastore, 1) := dk_80 (dk_at dksX6_balance_4 18 rfl rfl)
theorem dX6_balance_115 : decode cX6_balance 115 = .ok (.return_, 1) := dk_177 (dk_at dksX6_balance_4 19 rfl rfl)
abbrev cX6_findChances : ByteArray := prog_15_method_103_code
def yX6_findChances : MethodName := ⟨RX6, "findChances", "()V"⟩
def dkwX6_findChances_4 : List UInt8 := [167, 255, 226, 132, 1, 1, 167, 255, 178, 177]
abbrev dktX6_findChances_4 : List UInt8 := dkwX6_findChances_4 ++ []
def dkwX6_findChances_3 : List UInt8 := [180, 1, 221, 6, 160, 0, 22, 42, 4, 28, 182, 2, 8, 153, 0, 7, 42, 182, 2, 5, 132, 2, 1]
abbrev dktX6_findChances_3 : List UInt8 := dkwX6_findChances_3 ++ dktX6_findChances_4
def dkwX6_findChances_2 : List UInt8 := [180, 1, 221, 5, 160, 0, 7, 42, 182, 2, 5, 27, 4, 96, 61, 28, 16, 6, 162, 0, 30, 42]
abbrev dktX6_findChances_2 : List UInt8 := dkwX6_findChances_2 ++ dktX6_findChances_3
def dkwX6_findChances_1 : List UInt8 := [162, 0, 78, 42, 180, 1, 221, 4, 164, 0, 70, 42, 3, 27, 182, 2, 8, 154, 0, 6, 167, 0, 52, 42]
abbrev dktX6_findChances_1 : List UInt8 := dkwX6_findChances_1 ++ dktX6_findChances_2
def dkwX6_findChances_0 : List UInt8 := [42, 3, 181, 2, 2, 42, 180, 1, 221, 4, 160, 0, 7, 42, 182, 2, 5, 3, 60, 27, 16, 6]
abbrev dktX6_findChances_0 : List UInt8 := dkwX6_findChances_0 ++ dktX6_findChances_1
theorem dksX6_findChances_0 : cX6_findChances.data.toList.drop 0 = dktX6_findChances_0 := by decide +kernel
theorem dksX6_findChances_1 : cX6_findChances.data.toList.drop 22 = dktX6_findChances_1 := dk_seg dksX6_findChances_0 22 rfl rfl
theorem dksX6_findChances_2 : cX6_findChances.data.toList.drop 46 = dktX6_findChances_2 := dk_seg dksX6_findChances_1 24 rfl rfl
theorem dksX6_findChances_3 : cX6_findChances.data.toList.drop 68 = dktX6_findChances_3 := dk_seg dksX6_findChances_2 22 rfl rfl
theorem dksX6_findChances_4 : cX6_findChances.data.toList.drop 91 = dktX6_findChances_4 := dk_seg dksX6_findChances_3 23 rfl rfl
theorem dX6_findChances_0 : decode cX6_findChances 0 = .ok (.aload_n 0, 1) := dk_42 (dk_at dksX6_findChances_0 0 rfl rfl)
theorem dX6_findChances_1 : decode cX6_findChances 1 = .ok (.iconst 0, 1) := dk_3 (dk_at dksX6_findChances_0 1 rfl rfl)
theorem dX6_findChances_2 : decode cX6_findChances 2 = .ok (.putfield 514, 3) := dk_181 2 2 (dk_at dksX6_findChances_0 2 rfl rfl)
theorem dX6_findChances_5 : decode cX6_findChances 5 = .ok (.aload_n 0, 1) := dk_42 (dk_at dksX6_findChances_0 5 rfl rfl)
theorem dX6_findChances_6 : decode cX6_findChances 6 = .ok (.getfield 477, 3) := dk_180 1 221 (dk_at dksX6_findChances_0 6 rfl rfl)
theorem dX6_findChances_9 : decode cX6_findChances 9 = .ok (.iconst 1, 1) := dk_4 (dk_at dksX6_findChances_0 9 rfl rfl)
theorem dX6_findChances_10 : decode cX6_findChances 10 = .ok (.if_icmp .ne 7, 3) := dk_160 0 7 (dk_at dksX6_findChances_0 10 rfl rfl)
theorem dX6_findChances_13 : decode cX6_findChances 13 = .ok (.aload_n 0, 1) := dk_42 (dk_at dksX6_findChances_0 13 rfl rfl)
theorem dX6_findChances_14 : decode cX6_findChances 14 = .ok (.invokevirtual 517, 3) := dk_182 2 5 (dk_at dksX6_findChances_0 14 rfl rfl)
theorem dX6_findChances_17 : decode cX6_findChances 17 = .ok (.iconst 0, 1) := dk_3 (dk_at dksX6_findChances_0 17 rfl rfl)
theorem dX6_findChances_18 : decode cX6_findChances 18 = .ok (.istore_n 1, 1) := dk_60 (dk_at dksX6_findChances_0 18 rfl rfl)
theorem dX6_findChances_19 : decode cX6_findChances 19 = .ok (.iload_n 1, 1) := dk_27 (dk_at dksX6_findChances_0 19 rfl rfl)
theorem dX6_findChances_20 : decode cX6_findChances 20 = .ok (.bipush 6, 2) := dk_16 6 (dk_at dksX6_findChances_0 20 rfl rfl)
theorem dX6_findChances_22 : decode cX6_findChances 22 = .ok (.if_icmp .ge 78, 3) := dk_162 0 78 (dk_at dksX6_findChances_1 0 rfl rfl)
theorem dX6_findChances_25 : decode cX6_findChances 25 = .ok (.aload_n 0, 1) := dk_42 (dk_at dksX6_findChances_1 3 rfl rfl)
theorem dX6_findChances_26 : decode cX6_findChances 26 = .ok (.getfield 477, 3) := dk_180 1 221 (dk_at dksX6_findChances_1 4 rfl rfl)
theorem dX6_findChances_29 : decode cX6_findChances 29 = .ok (.iconst 1, 1) := dk_4 (dk_at dksX6_findChances_1 7 rfl rfl)
theorem dX6_findChances_30 : decode cX6_findChances 30 = .ok (.if_icmp .le 70, 3) := dk_164 0 70 (dk_at dksX6_findChances_1 8 rfl rfl)
theorem dX6_findChances_33 : decode cX6_findChances 33 = .ok (.aload_n 0, 1) := dk_42 (dk_at dksX6_findChances_1 11 rfl rfl)
theorem dX6_findChances_34 : decode cX6_findChances 34 = .ok (.iconst 0, 1) := dk_3 (dk_at dksX6_findChances_1 12 rfl rfl)
theorem dX6_findChances_35 : decode cX6_findChances 35 = .ok (.iload_n 1, 1) := dk_27 (dk_at dksX6_findChances_1 13 rfl rfl)
theorem dX6_findChances_36 : decode cX6_findChances 36 = .ok (.invokevirtual 520, 3) := dk_182 2 8 (dk_at dksX6_findChances_1 14 rfl rfl)
theorem dX6_findChances_39 : decode cX6_findChances 39 = .ok (.ifCond .ne 6, 3) := dk_154 0 6 (dk_at dksX6_findChances_1 17 rfl rfl)
theorem dX6_findChances_42 : decode cX6_findChances 42 = .ok (.goto 52, 3) := dk_167 0 52 (dk_at dksX6_findChances_1 20 rfl rfl)
theorem dX6_findChances_45 : decode cX6_findChances 45 = .ok (.aload_n 0, 1) := dk_42 (dk_at dksX6_findChances_1 23 rfl rfl)
theorem dX6_findChances_46 : decode cX6_findChances 46 = .ok (.getfield 477, 3) := dk_180 1 221 (dk_at dksX6_findChances_2 0 rfl rfl)
theorem dX6_findChances_49 : decode cX6_findChances 49 = .ok (.iconst 2, 1) := dk_5 (dk_at dksX6_findChances_2 3 rfl rfl)
theorem dX6_findChances_50 : decode cX6_findChances 50 = .ok (.if_icmp .ne 7, 3) := dk_160 0 7 (dk_at dksX6_findChances_2 4 rfl rfl)
theorem dX6_findChances_53 : decode cX6_findChances 53 = .ok (.aload_n 0, 1) := dk_42 (dk_at dksX6_findChances_2 7 rfl rfl)
theorem dX6_findChances_54 : decode cX6_findChances 54 = .ok (.invokevirtual 517, 3) := dk_182 2 5 (dk_at dksX6_findChances_2 8 rfl rfl)
theorem dX6_findChances_57 : decode cX6_findChances 57 = .ok (.iload_n 1, 1) := dk_27 (dk_at dksX6_findChances_2 11 rfl rfl)
theorem dX6_findChances_58 : decode cX6_findChances 58 = .ok (.iconst 1, 1) := dk_4 (dk_at dksX6_findChances_2 12 rfl rfl)
theorem dX6_findChances_59 : decode cX6_findChances 59 = .ok (.iadd, 1) := dk_96 (dk_at dksX6_findChances_2 13 rfl rfl)
theorem dX6_findChances_60 : decode cX6_findChances 60 = .ok (.istore_n 2, 1) := dk_61 (dk_at dksX6_findChances_2 14 rfl rfl)
theorem dX6_findChances_61 : decode cX6_findChances 61 = .ok (.iload_n 2, 1) := dk_28 (dk_at dksX6_findChances_2 15 rfl rfl)
theorem dX6_findChances_62 : decode cX6_findChances 62 = .ok (.bipush 6, 2) := dk_16 6 (dk_at dksX6_findChances_2 16 rfl rfl)
theorem dX6_findChances_64 : decode cX6_findChances 64 = .ok (.if_icmp .ge 30, 3) := dk_162 0 30 (dk_at dksX6_findChances_2 18 rfl rfl)
theorem dX6_findChances_67 : decode cX6_findChances 67 = .ok (.aload_n 0, 1) := dk_42 (dk_at dksX6_findChances_2 21 rfl rfl)
theorem dX6_findChances_68 : decode cX6_findChances 68 = .ok (.getfield 477, 3) := dk_180 1 221 (dk_at dksX6_findChances_3 0 rfl rfl)
theorem dX6_findChances_71 : decode cX6_findChances 71 = .ok (.iconst 3, 1) := dk_6 (dk_at dksX6_findChances_3 3 rfl rfl)
theorem dX6_findChances_72 : decode cX6_findChances 72 = .ok (.if_icmp .ne 22, 3) := dk_160 0 22 (dk_at dksX6_findChances_3 4 rfl rfl)
theorem dX6_findChances_75 : decode cX6_findChances 75 = .ok (.aload_n 0, 1) := dk_42 (dk_at dksX6_findChances_3 7 rfl rfl)
theorem dX6_findChances_76 : decode cX6_findChances 76 = .ok (.iconst 1, 1) := dk_4 (dk_at dksX6_findChances_3 8 rfl rfl)
theorem dX6_findChances_77 : decode cX6_findChances 77 = .ok (.iload_n 2, 1) := dk_28 (dk_at dksX6_findChances_3 9 rfl rfl)
theorem dX6_findChances_78 : decode cX6_findChances 78 = .ok (.invokevirtual 520, 3) := dk_182 2 8 (dk_at dksX6_findChances_3 10 rfl rfl)
theorem dX6_findChances_81 : decode cX6_findChances 81 = .ok (.ifCond .eq 7, 3) := dk_153 0 7 (dk_at dksX6_findChances_3 13 rfl rfl)
theorem dX6_findChances_84 : decode cX6_findChances 84 = .ok (.aload_n 0, 1) := dk_42 (dk_at dksX6_findChances_3 16 rfl rfl)
theorem dX6_findChances_85 : decode cX6_findChances 85 = .ok (.invokevirtual 517, 3) := dk_182 2 5 (dk_at dksX6_findChances_3 17 rfl rfl)
theorem dX6_findChances_88 : decode cX6_findChances 88 = .ok (.iinc 2 1, 3) := dk_132 2 1 (dk_at dksX6_findChances_3 20 rfl rfl)
theorem dX6_findChances_91 : decode cX6_findChances 91 = .ok (.goto (-30), 3) := dk_167 255 226 (dk_at dksX6_findChances_4 0 rfl rfl)
theorem dX6_findChances_94 : decode cX6_findChances 94 = .ok (.iinc 1 1, 3) := dk_132 1 1 (dk_at dksX6_findChances_4 3 rfl rfl)
theorem dX6_findChances_97 : decode cX6_findChances 97 = .ok (.goto (-78), 3) := dk_167 255 178 (dk_at dksX6_findChances_4 6 rfl rfl)
theorem dX6_findChances_100 : decode cX6_findChances 100 = .ok (.return_, 1) := dk_177 (dk_at dksX6_findChances_4 9 rfl rfl)
abbrev cX6_chosen : ByteArray := prog_15_method_101_code
def yX6_chosen : MethodName := ⟨RX6, "chosen", "()V"⟩
def dkwX6_chosen_7 : List UInt8 := [132, 2, 1, 167, 255, 236, 177]
abbrev dktX6_chosen_7 : List UInt8 := dkwX6_chosen_7 ++ []
def dkwX6_chosen_6 : List UInt8 := [181, 0, 111, 3, 61, 28, 6, 162, 0, 21, 42, 180, 0, 108, 28, 42, 180, 0, 138, 28, 47, 80]
abbrev dktX6_chosen_6 : List UInt8 := dkwX6_chosen_6 ++ dktX6_chosen_7
def dkwX6_chosen_5 : List UInt8 := [167, 0, 4, 3, 60, 27, 154, 0, 4, 177, 42, 42, 180, 1, 221, 181, 2, 2, 42, 42, 180, 1, 224]
abbrev dktX6_chosen_5 : List UInt8 := dkwX6_chosen_5 ++ dktX6_chosen_6
def dkwX6_chosen_4 : List UInt8 := [47, 42, 180, 0, 111, 105, 42, 180, 0, 108, 4, 47, 42, 180, 1, 224, 105, 148, 158, 0, 7, 4]
abbrev dktX6_chosen_4 : List UInt8 := dkwX6_chosen_4 ++ dktX6_chosen_5
def dkwX6_chosen_3 : List UInt8 := [180, 0, 111, 105, 42, 180, 0, 108, 3, 47, 42, 180, 1, 224, 105, 148, 154, 0, 33, 42, 180, 0, 138, 4]
abbrev dktX6_chosen_3 : List UInt8 := dkwX6_chosen_3 ++ dktX6_chosen_4
def dkwX6_chosen_2 : List UInt8 := [42, 180, 0, 108, 3, 47, 42, 180, 1, 224, 105, 148, 157, 0, 55, 42, 180, 0, 138, 3, 47, 42]
abbrev dktX6_chosen_2 : List UInt8 := dkwX6_chosen_2 ++ dktX6_chosen_3
def dkwX6_chosen_1 : List UInt8 := [105, 148, 158, 0, 4, 177, 42, 180, 2, 2, 153, 0, 81, 42, 180, 0, 138, 3, 47, 42, 180, 0, 111, 105]
abbrev dktX6_chosen_1 : List UInt8 := dkwX6_chosen_1 ++ dktX6_chosen_2
def dkwX6_chosen_0 : List UInt8 := [42, 182, 1, 232, 153, 0, 25, 42, 182, 1, 235, 42, 180, 1, 238, 105, 42, 180, 1, 241, 42, 180, 1, 224]
abbrev dktX6_chosen_0 : List UInt8 := dkwX6_chosen_0 ++ dktX6_chosen_1
theorem dksX6_chosen_0 : cX6_chosen.data.toList.drop 0 = dktX6_chosen_0 := by decide +kernel
theorem dksX6_chosen_1 : cX6_chosen.data.toList.drop 24 = dktX6_chosen_1 := dk_seg dksX6_chosen_0 24 rfl rfl
theorem dksX6_chosen_2 : cX6_chosen.data.toList.drop 48 = dktX6_chosen_2 := dk_seg dksX6_chosen_1 24 rfl rfl
theorem dksX6_chosen_3 : cX6_chosen.data.toList.drop 70 = dktX6_chosen_3 := dk_seg dksX6_chosen_2 22 rfl rfl
theorem dksX6_chosen_4 : cX6_chosen.data.toList.drop 94 = dktX6_chosen_4 := dk_seg dksX6_chosen_3 24 rfl rfl
theorem dksX6_chosen_5 : cX6_chosen.data.toList.drop 116 = dktX6_chosen_5 := dk_seg dksX6_chosen_4 22 rfl rfl
theorem dksX6_chosen_6 : cX6_chosen.data.toList.drop 139 = dktX6_chosen_6 := dk_seg dksX6_chosen_5 23 rfl rfl
theorem dksX6_chosen_7 : cX6_chosen.data.toList.drop 161 = dktX6_chosen_7 := dk_seg dksX6_chosen_6 22 rfl rfl
theorem dX6_chosen_0 : decode cX6_chosen 0 = .ok (.aload_n 0, 1) := dk_42 (dk_at dksX6_chosen_0 0 rfl rfl)
theorem dX6_chosen_1 : decode cX6_chosen 1 = .ok (.invokevirtual 488, 3) := dk_182 1 232 (dk_at dksX6_chosen_0 1 rfl rfl)
theorem dX6_chosen_4 : decode cX6_chosen 4 = .ok (.ifCond .eq 25, 3) := dk_153 0 25 (dk_at dksX6_chosen_0 4 rfl rfl)
theorem dX6_chosen_7 : decode cX6_chosen 7 = .ok (.aload_n 0, 1) := dk_42 (dk_at dksX6_chosen_0 7 rfl rfl)
theorem dX6_chosen_8 : decode cX6_chosen 8 = .ok (.invokevirtual 491, 3) := dk_182 1 235 (dk_at dksX6_chosen_0 8 rfl rfl)
theorem dX6_chosen_11 : decode cX6_chosen 11 = .ok (.aload_n 0, 1) := dk_42 (dk_at dksX6_chosen_0 11 rfl rfl)
theorem dX6_chosen_12 : decode cX6_chosen 12 = .ok (.getfield 494, 3) := dk_180 1 238 (dk_at dksX6_chosen_0 12 rfl rfl)
theorem dX6_chosen_15 : decode cX6_chosen 15 = .ok (.lmul, 1) := dk_105 (dk_at dksX6_chosen_0 15 rfl rfl)
theorem dX6_chosen_16 : decode cX6_chosen 16 = .ok (.aload_n 0, 1) := dk_42 (dk_at dksX6_chosen_0 16 rfl rfl)
theorem dX6_chosen_17 : decode cX6_chosen 17 = .ok (.getfield 497, 3) := dk_180 1 241 (dk_at dksX6_chosen_0 17 rfl rfl)
theorem dX6_chosen_20 : decode cX6_chosen 20 = .ok (.aload_n 0, 1) := dk_42 (dk_at dksX6_chosen_0 20 rfl rfl)
theorem dX6_chosen_21 : decode cX6_chosen 21 = .ok (.getfield 480, 3) := dk_180 1 224 (dk_at dksX6_chosen_0 21 rfl rfl)
theorem dX6_chosen_24 : decode cX6_chosen 24 = .ok (.lmul, 1) := dk_105 (dk_at dksX6_chosen_1 0 rfl rfl)
theorem dX6_chosen_25 : decode cX6_chosen 25 = .ok (.lcmp, 1) := dk_148 (dk_at dksX6_chosen_1 1 rfl rfl)
theorem dX6_chosen_26 : decode cX6_chosen 26 = .ok (.ifCond .le 4, 3) := dk_158 0 4 (dk_at dksX6_chosen_1 2 rfl rfl)
theorem dX6_chosen_29 : decode cX6_chosen 29 = .ok (.return_, 1) := dk_177 (dk_at dksX6_chosen_1 5 rfl rfl)
theorem dX6_chosen_30 : decode cX6_chosen 30 = .ok (.aload_n 0, 1) := dk_42 (dk_at dksX6_chosen_1 6 rfl rfl)
theorem dX6_chosen_31 : decode cX6_chosen 31 = .ok (.getfield 514, 3) := dk_180 2 2 (dk_at dksX6_chosen_1 7 rfl rfl)
theorem dX6_chosen_34 : decode cX6_chosen 34 = .ok (.ifCond .eq 81, 3) := dk_153 0 81 (dk_at dksX6_chosen_1 10 rfl rfl)
theorem dX6_chosen_37 : decode cX6_chosen 37 = .ok (.aload_n 0, 1) := dk_42 (dk_at dksX6_chosen_1 13 rfl rfl)
theorem dX6_chosen_38 : decode cX6_chosen 38 = .ok (.getfield 138, 3) := dk_180 0 138 (dk_at dksX6_chosen_1 14 rfl rfl)
theorem dX6_chosen_41 : decode cX6_chosen 41 = .ok (.iconst 0, 1) := dk_3 (dk_at dksX6_chosen_1 17 rfl rfl)
theorem dX6_chosen_42 : decode cX6_chosen 42 = .ok (.laload, 1) := dk_47 (dk_at dksX6_chosen_1 18 rfl rfl)
theorem dX6_chosen_43 : decode cX6_chosen 43 = .ok (.aload_n 0, 1) := dk_42 (dk_at dksX6_chosen_1 19 rfl rfl)
theorem dX6_chosen_44 : decode cX6_chosen 44 = .ok (.getfield 111, 3) := dk_180 0 111 (dk_at dksX6_chosen_1 20 rfl rfl)
theorem dX6_chosen_47 : decode cX6_chosen 47 = .ok (.lmul, 1) := dk_105 (dk_at dksX6_chosen_1 23 rfl rfl)
theorem dX6_chosen_48 : decode cX6_chosen 48 = .ok (.aload_n 0, 1) := dk_42 (dk_at dksX6_chosen_2 0 rfl rfl)
theorem dX6_chosen_49 : decode cX6_chosen 49 = .ok (.getfield 108, 3) := dk_180 0 108 (dk_at dksX6_chosen_2 1 rfl rfl)
theorem dX6_chosen_52 : decode cX6_chosen 52 = .ok (.iconst 0, 1) := dk_3 (dk_at dksX6_chosen_2 4 rfl rfl)
theorem dX6_chosen_53 : decode cX6_chosen 53 = .ok (.laload, 1) := dk_47 (dk_at dksX6_chosen_2 5 rfl rfl)
theorem dX6_chosen_54 : decode cX6_chosen 54 = .ok (.aload_n 0, 1) := dk_42 (dk_at dksX6_chosen_2 6 rfl rfl)
theorem dX6_chosen_55 : decode cX6_chosen 55 = .ok (.getfield 480, 3) := dk_180 1 224 (dk_at dksX6_chosen_2 7 rfl rfl)
theorem dX6_chosen_58 : decode cX6_chosen 58 = .ok (.lmul, 1) := dk_105 (dk_at dksX6_chosen_2 10 rfl rfl)
theorem dX6_chosen_59 : decode cX6_chosen 59 = .ok (.lcmp, 1) := dk_148 (dk_at dksX6_chosen_2 11 rfl rfl)
theorem dX6_chosen_60 : decode cX6_chosen 60 = .ok (.ifCond .gt 55, 3) := dk_157 0 55 (dk_at dksX6_chosen_2 12 rfl rfl)
theorem dX6_chosen_63 : decode cX6_chosen 63 = .ok (.aload_n 0, 1) := dk_42 (dk_at dksX6_chosen_2 15 rfl rfl)
theorem dX6_chosen_64 : decode cX6_chosen 64 = .ok (.getfield 138, 3) := dk_180 0 138 (dk_at dksX6_chosen_2 16 rfl rfl)
theorem dX6_chosen_67 : decode cX6_chosen 67 = .ok (.iconst 0, 1) := dk_3 (dk_at dksX6_chosen_2 19 rfl rfl)
theorem dX6_chosen_68 : decode cX6_chosen 68 = .ok (.laload, 1) := dk_47 (dk_at dksX6_chosen_2 20 rfl rfl)
theorem dX6_chosen_69 : decode cX6_chosen 69 = .ok (.aload_n 0, 1) := dk_42 (dk_at dksX6_chosen_2 21 rfl rfl)
theorem dX6_chosen_70 : decode cX6_chosen 70 = .ok (.getfield 111, 3) := dk_180 0 111 (dk_at dksX6_chosen_3 0 rfl rfl)
theorem dX6_chosen_73 : decode cX6_chosen 73 = .ok (.lmul, 1) := dk_105 (dk_at dksX6_chosen_3 3 rfl rfl)
theorem dX6_chosen_74 : decode cX6_chosen 74 = .ok (.aload_n 0, 1) := dk_42 (dk_at dksX6_chosen_3 4 rfl rfl)
theorem dX6_chosen_75 : decode cX6_chosen 75 = .ok (.getfield 108, 3) := dk_180 0 108 (dk_at dksX6_chosen_3 5 rfl rfl)
theorem dX6_chosen_78 : decode cX6_chosen 78 = .ok (.iconst 0, 1) := dk_3 (dk_at dksX6_chosen_3 8 rfl rfl)
theorem dX6_chosen_79 : decode cX6_chosen 79 = .ok (.laload, 1) := dk_47 (dk_at dksX6_chosen_3 9 rfl rfl)
theorem dX6_chosen_80 : decode cX6_chosen 80 = .ok (.aload_n 0, 1) := dk_42 (dk_at dksX6_chosen_3 10 rfl rfl)
theorem dX6_chosen_81 : decode cX6_chosen 81 = .ok (.getfield 480, 3) := dk_180 1 224 (dk_at dksX6_chosen_3 11 rfl rfl)
theorem dX6_chosen_84 : decode cX6_chosen 84 = .ok (.lmul, 1) := dk_105 (dk_at dksX6_chosen_3 14 rfl rfl)
theorem dX6_chosen_85 : decode cX6_chosen 85 = .ok (.lcmp, 1) := dk_148 (dk_at dksX6_chosen_3 15 rfl rfl)
theorem dX6_chosen_86 : decode cX6_chosen 86 = .ok (.ifCond .ne 33, 3) := dk_154 0 33 (dk_at dksX6_chosen_3 16 rfl rfl)
theorem dX6_chosen_89 : decode cX6_chosen 89 = .ok (.aload_n 0, 1) := dk_42 (dk_at dksX6_chosen_3 19 rfl rfl)
theorem dX6_chosen_90 : decode cX6_chosen 90 = .ok (.getfield 138, 3) := dk_180 0 138 (dk_at dksX6_chosen_3 20 rfl rfl)
theorem dX6_chosen_93 : decode cX6_chosen 93 = .ok (.iconst 1, 1) := dk_4 (dk_at dksX6_chosen_3 23 rfl rfl)
theorem dX6_chosen_94 : decode cX6_chosen 94 = .ok (.laload, 1) := dk_47 (dk_at dksX6_chosen_4 0 rfl rfl)
theorem dX6_chosen_95 : decode cX6_chosen 95 = .ok (.aload_n 0, 1) := dk_42 (dk_at dksX6_chosen_4 1 rfl rfl)
theorem dX6_chosen_96 : decode cX6_chosen 96 = .ok (.getfield 111, 3) := dk_180 0 111 (dk_at dksX6_chosen_4 2 rfl rfl)
theorem dX6_chosen_99 : decode cX6_chosen 99 = .ok (.lmul, 1) := dk_105 (dk_at dksX6_chosen_4 5 rfl rfl)
theorem dX6_chosen_100 : decode cX6_chosen 100 = .ok (.aload_n 0, 1) := dk_42 (dk_at dksX6_chosen_4 6 rfl rfl)
theorem dX6_chosen_101 : decode cX6_chosen 101 = .ok (.getfield 108, 3) := dk_180 0 108 (dk_at dksX6_chosen_4 7 rfl rfl)
theorem dX6_chosen_104 : decode cX6_chosen 104 = .ok (.iconst 1, 1) := dk_4 (dk_at dksX6_chosen_4 10 rfl rfl)
theorem dX6_chosen_105 : decode cX6_chosen 105 = .ok (.laload, 1) := dk_47 (dk_at dksX6_chosen_4 11 rfl rfl)
theorem dX6_chosen_106 : decode cX6_chosen 106 = .ok (.aload_n 0, 1) := dk_42 (dk_at dksX6_chosen_4 12 rfl rfl)
theorem dX6_chosen_107 : decode cX6_chosen 107 = .ok (.getfield 480, 3) := dk_180 1 224 (dk_at dksX6_chosen_4 13 rfl rfl)
theorem dX6_chosen_110 : decode cX6_chosen 110 = .ok (.lmul, 1) := dk_105 (dk_at dksX6_chosen_4 16 rfl rfl)
theorem dX6_chosen_111 : decode cX6_chosen 111 = .ok (.lcmp, 1) := dk_148 (dk_at dksX6_chosen_4 17 rfl rfl)
theorem dX6_chosen_112 : decode cX6_chosen 112 = .ok (.ifCond .le 7, 3) := dk_158 0 7 (dk_at dksX6_chosen_4 18 rfl rfl)
theorem dX6_chosen_115 : decode cX6_chosen 115 = .ok (.iconst 1, 1) := dk_4 (dk_at dksX6_chosen_4 21 rfl rfl)
theorem dX6_chosen_116 : decode cX6_chosen 116 = .ok (.goto 4, 3) := dk_167 0 4 (dk_at dksX6_chosen_5 0 rfl rfl)
theorem dX6_chosen_119 : decode cX6_chosen 119 = .ok (.iconst 0, 1) := dk_3 (dk_at dksX6_chosen_5 3 rfl rfl)
theorem dX6_chosen_120 : decode cX6_chosen 120 = .ok (.istore_n 1, 1) := dk_60 (dk_at dksX6_chosen_5 4 rfl rfl)
theorem dX6_chosen_121 : decode cX6_chosen 121 = .ok (.iload_n 1, 1) := dk_27 (dk_at dksX6_chosen_5 5 rfl rfl)
theorem dX6_chosen_122 : decode cX6_chosen 122 = .ok (.ifCond .ne 4, 3) := dk_154 0 4 (dk_at dksX6_chosen_5 6 rfl rfl)
theorem dX6_chosen_125 : decode cX6_chosen 125 = .ok (.return_, 1) := dk_177 (dk_at dksX6_chosen_5 9 rfl rfl)
theorem dX6_chosen_126 : decode cX6_chosen 126 = .ok (.aload_n 0, 1) := dk_42 (dk_at dksX6_chosen_5 10 rfl rfl)
theorem dX6_chosen_127 : decode cX6_chosen 127 = .ok (.aload_n 0, 1) := dk_42 (dk_at dksX6_chosen_5 11 rfl rfl)
theorem dX6_chosen_128 : decode cX6_chosen 128 = .ok (.getfield 477, 3) := dk_180 1 221 (dk_at dksX6_chosen_5 12 rfl rfl)
theorem dX6_chosen_131 : decode cX6_chosen 131 = .ok (.putfield 514, 3) := dk_181 2 2 (dk_at dksX6_chosen_5 15 rfl rfl)
theorem dX6_chosen_134 : decode cX6_chosen 134 = .ok (.aload_n 0, 1) := dk_42 (dk_at dksX6_chosen_5 18 rfl rfl)
theorem dX6_chosen_135 : decode cX6_chosen 135 = .ok (.aload_n 0, 1) := dk_42 (dk_at dksX6_chosen_5 19 rfl rfl)
theorem dX6_chosen_136 : decode cX6_chosen 136 = .ok (.getfield 480, 3) := dk_180 1 224 (dk_at dksX6_chosen_5 20 rfl rfl)
theorem dX6_chosen_139 : decode cX6_chosen 139 = .ok (.putfield 111, 3) := dk_181 0 111 (dk_at dksX6_chosen_6 0 rfl rfl)
theorem dX6_chosen_142 : decode cX6_chosen 142 = .ok (.iconst 0, 1) := dk_3 (dk_at dksX6_chosen_6 3 rfl rfl)
theorem dX6_chosen_143 : decode cX6_chosen 143 = .ok (.istore_n 2, 1) := dk_61 (dk_at dksX6_chosen_6 4 rfl rfl)
theorem dX6_chosen_144 : decode cX6_chosen 144 = .ok (.iload_n 2, 1) := dk_28 (dk_at dksX6_chosen_6 5 rfl rfl)
theorem dX6_chosen_145 : decode cX6_chosen 145 = .ok (.iconst 3, 1) := dk_6 (dk_at dksX6_chosen_6 6 rfl rfl)
theorem dX6_chosen_146 : decode cX6_chosen 146 = .ok (.if_icmp .ge 21, 3) := dk_162 0 21 (dk_at dksX6_chosen_6 7 rfl rfl)
theorem dX6_chosen_149 : decode cX6_chosen 149 = .ok (.aload_n 0, 1) := dk_42 (dk_at dksX6_chosen_6 10 rfl rfl)
theorem dX6_chosen_150 : decode cX6_chosen 150 = .ok (.getfield 108, 3) := dk_180 0 108 (dk_at dksX6_chosen_6 11 rfl rfl)
theorem dX6_chosen_153 : decode cX6_chosen 153 = .ok (.iload_n 2, 1) := dk_28 (dk_at dksX6_chosen_6 14 rfl rfl)
theorem dX6_chosen_154 : decode cX6_chosen 154 = .ok (.aload_n 0, 1) := dk_42 (dk_at dksX6_chosen_6 15 rfl rfl)
theorem dX6_chosen_155 : decode cX6_chosen 155 = .ok (.getfield 138, 3) := dk_180 0 138 (dk_at dksX6_chosen_6 16 rfl rfl)
theorem dX6_chosen_158 : decode cX6_chosen 158 = .ok (.iload_n 2, 1) := dk_28 (dk_at dksX6_chosen_6 19 rfl rfl)
theorem dX6_chosen_159 : decode cX6_chosen 159 = .ok (.laload, 1) := dk_47 (dk_at dksX6_chosen_6 20 rfl rfl)
theorem dX6_chosen_160 : decode cX6_chosen 160 = .ok (.lastore, 1) := dk_80 (dk_at dksX6_chosen_6 21 rfl rfl)
theorem dX6_chosen_161 : decode cX6_chosen 161 = .ok (.iinc 2 1, 3) := dk_132 2 1 (dk_at dksX6_chosen_7 0 rfl rfl)
theorem dX6_chosen_164 : decode cX6_chosen 164 = .ok (.goto (-20), 3) := dk_167 255 236 (dk_at dksX6_chosen_7 3 rfl rfl)
theorem dX6_chosen_167 : decode cX6_chosen 167 = .ok (.return_, 1) := dk_177 (dk_at dksX6_chosen_7 6 rfl rfl)
abbrev cX6_isTight : ByteArray := prog_15_method_102_code
def yX6_isTight : MethodName := ⟨RX6, "isTight", "(II)Z"⟩
def dkwX6_isTight_1 : List UInt8 := [161, 0, 5, 3, 172, 42, 27, 28, 42, 180, 1, 241, 42, 180, 1, 238, 182, 1, 244, 4, 172]
abbrev dktX6_isTight_1 : List UInt8 := dkwX6_isTight_1 ++ []
def dkwX6_isTight_0 : List UInt8 := [28, 6, 162, 0, 14, 28, 42, 180, 1, 221, 161, 0, 18, 167, 0, 13, 28, 6, 100, 42, 180, 1, 227]
abbrev dktX6_isTight_0 : List UInt8 := dkwX6_isTight_0 ++ dktX6_isTight_1
theorem dksX6_isTight_0 : cX6_isTight.data.toList.drop 0 = dktX6_isTight_0 := by decide +kernel
theorem dksX6_isTight_1 : cX6_isTight.data.toList.drop 23 = dktX6_isTight_1 := dk_seg dksX6_isTight_0 23 rfl rfl
theorem dX6_isTight_0 : decode cX6_isTight 0 = .ok (.iload_n 2, 1) := dk_28 (dk_at dksX6_isTight_0 0 rfl rfl)
theorem dX6_isTight_1 : decode cX6_isTight 1 = .ok (.iconst 3, 1) := dk_6 (dk_at dksX6_isTight_0 1 rfl rfl)
theorem dX6_isTight_2 : decode cX6_isTight 2 = .ok (.if_icmp .ge 14, 3) := dk_162 0 14 (dk_at dksX6_isTight_0 2 rfl rfl)
theorem dX6_isTight_5 : decode cX6_isTight 5 = .ok (.iload_n 2, 1) := dk_28 (dk_at dksX6_isTight_0 5 rfl rfl)
theorem dX6_isTight_6 : decode cX6_isTight 6 = .ok (.aload_n 0, 1) := dk_42 (dk_at dksX6_isTight_0 6 rfl rfl)
theorem dX6_isTight_7 : decode cX6_isTight 7 = .ok (.getfield 477, 3) := dk_180 1 221 (dk_at dksX6_isTight_0 7 rfl rfl)
theorem dX6_isTight_10 : decode cX6_isTight 10 = .ok (.if_icmp .lt 18, 3) := dk_161 0 18 (dk_at dksX6_isTight_0 10 rfl rfl)
theorem dX6_isTight_13 : decode cX6_isTight 13 = .ok (.goto 13, 3) := dk_167 0 13 (dk_at dksX6_isTight_0 13 rfl rfl)
theorem dX6_isTight_16 : decode cX6_isTight 16 = .ok (.iload_n 2, 1) := dk_28 (dk_at dksX6_isTight_0 16 rfl rfl)
theorem dX6_isTight_17 : decode cX6_isTight 17 = .ok (.iconst 3, 1) := dk_6 (dk_at dksX6_isTight_0 17 rfl rfl)
theorem dX6_isTight_18 : decode cX6_isTight 18 = .ok (.isub, 1) := dk_100 (dk_at dksX6_isTight_0 18 rfl rfl)
theorem dX6_isTight_19 : decode cX6_isTight 19 = .ok (.aload_n 0, 1) := dk_42 (dk_at dksX6_isTight_0 19 rfl rfl)
theorem dX6_isTight_20 : decode cX6_isTight 20 = .ok (.getfield 483, 3) := dk_180 1 227 (dk_at dksX6_isTight_0 20 rfl rfl)
theorem dX6_isTight_23 : decode cX6_isTight 23 = .ok (.if_icmp .lt 5, 3) := dk_161 0 5 (dk_at dksX6_isTight_1 0 rfl rfl)
theorem dX6_isTight_26 : decode cX6_isTight 26 = .ok (.iconst 0, 1) := dk_3 (dk_at dksX6_isTight_1 3 rfl rfl)
theorem dX6_isTight_27 : decode cX6_isTight 27 = .ok (.ireturn, 1) := dk_172 (dk_at dksX6_isTight_1 4 rfl rfl)
theorem dX6_isTight_28 : decode cX6_isTight 28 = .ok (.aload_n 0, 1) := dk_42 (dk_at dksX6_isTight_1 5 rfl rfl)
theorem dX6_isTight_29 : decode cX6_isTight 29 = .ok (.iload_n 1, 1) := dk_27 (dk_at dksX6_isTight_1 6 rfl rfl)
theorem dX6_isTight_30 : decode cX6_isTight 30 = .ok (.iload_n 2, 1) := dk_28 (dk_at dksX6_isTight_1 7 rfl rfl)
theorem dX6_isTight_31 : decode cX6_isTight 31 = .ok (.aload_n 0, 1) := dk_42 (dk_at dksX6_isTight_1 8 rfl rfl)
theorem dX6_isTight_32 : decode cX6_isTight 32 = .ok (.getfield 497, 3) := dk_180 1 241 (dk_at dksX6_isTight_1 9 rfl rfl)
theorem dX6_isTight_35 : decode cX6_isTight 35 = .ok (.aload_n 0, 1) := dk_42 (dk_at dksX6_isTight_1 12 rfl rfl)
theorem dX6_isTight_36 : decode cX6_isTight 36 = .ok (.getfield 494, 3) := dk_180 1 238 (dk_at dksX6_isTight_1 13 rfl rfl)
theorem dX6_isTight_39 : decode cX6_isTight 39 = .ok (.invokevirtual 500, 3) := dk_182 1 244 (dk_at dksX6_isTight_1 16 rfl rfl)
theorem dX6_isTight_42 : decode cX6_isTight 42 = .ok (.iconst 1, 1) := dk_4 (dk_at dksX6_isTight_1 19 rfl rfl)
theorem dX6_isTight_43 : decode cX6_isTight 43 = .ok (.ireturn, 1) := dk_172 (dk_at dksX6_isTight_1 20 rfl rfl)
abbrev cX6_chance : ByteArray := prog_15_method_106_code
def yX6_chance : MethodName := ⟨RX6, "chance", "(I)Z"⟩
def dkwX6_chance_2 : List UInt8 := [4, 172]
abbrev dktX6_chance_2 : List UInt8 := dkwX6_chance_2 ++ []
def dkwX6_chance_1 : List UInt8 := [154, 0, 10, 42, 16, 8, 182, 0, 163, 172, 42, 42, 180, 0, 108, 27, 47, 42, 180, 0, 111, 182, 1, 162]
abbrev dktX6_chance_1 : List UInt8 := dkwX6_chance_1 ++ dktX6_chance_2
def dkwX6_chance_0 : List UInt8 := [42, 3, 181, 0, 144, 42, 3, 181, 0, 147, 27, 133, 9, 42, 180, 2, 2, 4, 100, 133, 184, 1, 6]
abbrev dktX6_chance_0 : List UInt8 := dkwX6_chance_0 ++ dktX6_chance_1
theorem dksX6_chance_0 : cX6_chance.data.toList.drop 0 = dktX6_chance_0 := by decide +kernel
theorem dksX6_chance_1 : cX6_chance.data.toList.drop 23 = dktX6_chance_1 := dk_seg dksX6_chance_0 23 rfl rfl
theorem dksX6_chance_2 : cX6_chance.data.toList.drop 47 = dktX6_chance_2 := dk_seg dksX6_chance_1 24 rfl rfl
theorem dX6_chance_0 : decode cX6_chance 0 = .ok (.aload_n 0, 1) := dk_42 (dk_at dksX6_chance_0 0 rfl rfl)
theorem dX6_chance_1 : decode cX6_chance 1 = .ok (.iconst 0, 1) := dk_3 (dk_at dksX6_chance_0 1 rfl rfl)
theorem dX6_chance_2 : decode cX6_chance 2 = .ok (.putfield 144, 3) := dk_181 0 144 (dk_at dksX6_chance_0 2 rfl rfl)
theorem dX6_chance_5 : decode cX6_chance 5 = .ok (.aload_n 0, 1) := dk_42 (dk_at dksX6_chance_0 5 rfl rfl)
theorem dX6_chance_6 : decode cX6_chance 6 = .ok (.iconst 0, 1) := dk_3 (dk_at dksX6_chance_0 6 rfl rfl)
theorem dX6_chance_7 : decode cX6_chance 7 = .ok (.putfield 147, 3) := dk_181 0 147 (dk_at dksX6_chance_0 7 rfl rfl)
theorem dX6_chance_10 : decode cX6_chance 10 = .ok (.iload_n 1, 1) := dk_27 (dk_at dksX6_chance_0 10 rfl rfl)
theorem dX6_chance_11 : decode cX6_chance 11 = .ok (.i2l, 1) := dk_133 (dk_at dksX6_chance_0 11 rfl rfl)
theorem dX6_chance_12 : decode cX6_chance 12 = .ok (.lconst 0, 1) := dk_9 (dk_at dksX6_chance_0 12 rfl rfl)
theorem dX6_chance_13 : decode cX6_chance 13 = .ok (.aload_n 0, 1) := dk_42 (dk_at dksX6_chance_0 13 rfl rfl)
theorem dX6_chance_14 : decode cX6_chance 14 = .ok (.getfield 514, 3) := dk_180 2 2 (dk_at dksX6_chance_0 14 rfl rfl)
theorem dX6_chance_17 : decode cX6_chance 17 = .ok (.iconst 1, 1) := dk_4 (dk_at dksX6_chance_0 17 rfl rfl)
theorem dX6_chance_18 : decode cX6_chance 18 = .ok (.isub, 1) := dk_100 (dk_at dksX6_chance_0 18 rfl rfl)
theorem dX6_chance_19 : decode cX6_chance 19 = .ok (.i2l, 1) := dk_133 (dk_at dksX6_chance_0 19 rfl rfl)
theorem dX6_chance_20 : decode cX6_chance 20 = .ok (.invokestatic 262, 3) := dk_184 1 6 (dk_at dksX6_chance_0 20 rfl rfl)
theorem dX6_chance_23 : decode cX6_chance 23 = .ok (.ifCond .ne 10, 3) := dk_154 0 10 (dk_at dksX6_chance_1 0 rfl rfl)
theorem dX6_chance_26 : decode cX6_chance 26 = .ok (.aload_n 0, 1) := dk_42 (dk_at dksX6_chance_1 3 rfl rfl)
theorem dX6_chance_27 : decode cX6_chance 27 = .ok (.bipush 8, 2) := dk_16 8 (dk_at dksX6_chance_1 4 rfl rfl)
theorem dX6_chance_29 : decode cX6_chance 29 = .ok (.invokevirtual 163, 3) := dk_182 0 163 (dk_at dksX6_chance_1 6 rfl rfl)
theorem dX6_chance_32 : decode cX6_chance 32 = .ok (.ireturn, 1) := dk_172 (dk_at dksX6_chance_1 9 rfl rfl)
theorem dX6_chance_33 : decode cX6_chance 33 = .ok (.aload_n 0, 1) := dk_42 (dk_at dksX6_chance_1 10 rfl rfl)
theorem dX6_chance_34 : decode cX6_chance 34 = .ok (.aload_n 0, 1) := dk_42 (dk_at dksX6_chance_1 11 rfl rfl)
theorem dX6_chance_35 : decode cX6_chance 35 = .ok (.getfield 108, 3) := dk_180 0 108 (dk_at dksX6_chance_1 12 rfl rfl)
theorem dX6_chance_38 : decode cX6_chance 38 = .ok (.iload_n 1, 1) := dk_27 (dk_at dksX6_chance_1 15 rfl rfl)
theorem dX6_chance_39 : decode cX6_chance 39 = .ok (.laload, 1) := dk_47 (dk_at dksX6_chance_1 16 rfl rfl)
theorem dX6_chance_40 : decode cX6_chance 40 = .ok (.aload_n 0, 1) := dk_42 (dk_at dksX6_chance_1 17 rfl rfl)
theorem dX6_chance_41 : decode cX6_chance 41 = .ok (.getfield 111, 3) := dk_180 0 111 (dk_at dksX6_chance_1 18 rfl rfl)
theorem dX6_chance_44 : decode cX6_chance 44 = .ok (.invokevirtual 418, 3) := dk_182 1 162 (dk_at dksX6_chance_1 21 rfl rfl)
theorem dX6_chance_47 : decode cX6_chance 47 = .ok (.iconst 1, 1) := dk_4 (dk_at dksX6_chance_2 0 rfl rfl)
theorem dX6_chance_48 : decode cX6_chance 48 = .ok (.ireturn, 1) := dk_172 (dk_at dksX6_chance_2 1 rfl rfl)
abbrev cX6_door : ByteArray := prog_15_method_107_code
def yX6_door : MethodName := ⟨RX6, "door", "(II)I"⟩
def dkwX6_door_6 : List UInt8 := [172, 42, 22, 4, 42, 182, 1, 155, 182, 1, 162, 29, 172]
abbrev dktX6_door_6 : List UInt8 := dkwX6_door_6 ++ []
def dkwX6_door_5 : List UInt8 := [55, 4, 21, 6, 62, 132, 6, 1, 167, 255, 175, 22, 4, 9, 148, 156, 0, 10, 42, 16, 9, 182, 1, 55]
abbrev dktX6_door_5 : List UInt8 := dkwX6_door_5 ++ dktX6_door_6
def dkwX6_door_4 : List UInt8 := [155, 0, 28, 22, 4, 9, 148, 155, 0, 14, 22, 7, 22, 4, 148, 155, 0, 6, 167, 0, 10, 22, 7]
abbrev dktX6_door_4 : List UInt8 := dkwX6_door_4 ++ dktX6_door_5
def dkwX6_door_3 : List UInt8 := [21, 6, 4, 84, 42, 27, 28, 182, 1, 159, 55, 7, 42, 180, 0, 68, 21, 6, 3, 84, 22, 7, 9, 148]
abbrev dktX6_door_3 : List UInt8 := dkwX6_door_3 ++ dktX6_door_4
def dkwX6_door_2 : List UInt8 := [42, 180, 1, 73, 162, 0, 78, 42, 180, 0, 68, 21, 6, 51, 153, 0, 6, 167, 0, 59, 42, 180, 0, 68]
abbrev dktX6_door_2 : List UInt8 := dkwX6_door_2 ++ dktX6_door_3
def dkwX6_door_1 : List UInt8 := [154, 0, 9, 42, 5, 182, 1, 55, 172, 2, 62, 42, 27, 28, 182, 1, 159, 55, 4, 3, 54, 6, 21, 6]
abbrev dktX6_door_1 : List UInt8 := dkwX6_door_1 ++ dktX6_door_2
def dkwX6_door_0 : List UInt8 := [42, 3, 181, 0, 144, 42, 3, 181, 0, 147, 42, 27, 182, 1, 143, 153, 0, 11, 42, 28, 182, 1, 143]
abbrev dktX6_door_0 : List UInt8 := dkwX6_door_0 ++ dktX6_door_1
theorem dksX6_door_0 : cX6_door.data.toList.drop 0 = dktX6_door_0 := by decide +kernel
theorem dksX6_door_1 : cX6_door.data.toList.drop 23 = dktX6_door_1 := dk_seg dksX6_door_0 23 rfl rfl
theorem dksX6_door_2 : cX6_door.data.toList.drop 47 = dktX6_door_2 := dk_seg dksX6_door_1 24 rfl rfl
theorem dksX6_door_3 : cX6_door.data.toList.drop 71 = dktX6_door_3 := dk_seg dksX6_door_2 24 rfl rfl
theorem dksX6_door_4 : cX6_door.data.toList.drop 95 = dktX6_door_4 := dk_seg dksX6_door_3 24 rfl rfl
theorem dksX6_door_5 : cX6_door.data.toList.drop 118 = dktX6_door_5 := dk_seg dksX6_door_4 23 rfl rfl
theorem dksX6_door_6 : cX6_door.data.toList.drop 142 = dktX6_door_6 := dk_seg dksX6_door_5 24 rfl rfl
theorem dX6_door_0 : decode cX6_door 0 = .ok (.aload_n 0, 1) := dk_42 (dk_at dksX6_door_0 0 rfl rfl)
theorem dX6_door_1 : decode cX6_door 1 = .ok (.iconst 0, 1) := dk_3 (dk_at dksX6_door_0 1 rfl rfl)
theorem dX6_door_2 : decode cX6_door 2 = .ok (.putfield 144, 3) := dk_181 0 144 (dk_at dksX6_door_0 2 rfl rfl)
theorem dX6_door_5 : decode cX6_door 5 = .ok (.aload_n 0, 1) := dk_42 (dk_at dksX6_door_0 5 rfl rfl)
theorem dX6_door_6 : decode cX6_door 6 = .ok (.iconst 0, 1) := dk_3 (dk_at dksX6_door_0 6 rfl rfl)
theorem dX6_door_7 : decode cX6_door 7 = .ok (.putfield 147, 3) := dk_181 0 147 (dk_at dksX6_door_0 7 rfl rfl)
theorem dX6_door_10 : decode cX6_door 10 = .ok (.aload_n 0, 1) := dk_42 (dk_at dksX6_door_0 10 rfl rfl)
theorem dX6_door_11 : decode cX6_door 11 = .ok (.iload_n 1, 1) := dk_27 (dk_at dksX6_door_0 11 rfl rfl)
theorem dX6_door_12 : decode cX6_door 12 = .ok (.invokevirtual 399, 3) := dk_182 1 143 (dk_at dksX6_door_0 12 rfl rfl)
theorem dX6_door_15 : decode cX6_door 15 = .ok (.ifCond .eq 11, 3) := dk_153 0 11 (dk_at dksX6_door_0 15 rfl rfl)
theorem dX6_door_18 : decode cX6_door 18 = .ok (.aload_n 0, 1) := dk_42 (dk_at dksX6_door_0 18 rfl rfl)
theorem dX6_door_19 : decode cX6_door 19 = .ok (.iload_n 2, 1) := dk_28 (dk_at dksX6_door_0 19 rfl rfl)
theorem dX6_door_20 : decode cX6_door 20 = .ok (.invokevirtual 399, 3) := dk_182 1 143 (dk_at dksX6_door_0 20 rfl rfl)
theorem dX6_door_23 : decode cX6_door 23 = .ok (.ifCond .ne 9, 3) := dk_154 0 9 (dk_at dksX6_door_1 0 rfl rfl)
theorem dX6_door_26 : decode cX6_door 26 = .ok (.aload_n 0, 1) := dk_42 (dk_at dksX6_door_1 3 rfl rfl)
theorem dX6_door_27 : decode cX6_door 27 = .ok (.iconst 2, 1) := dk_5 (dk_at dksX6_door_1 4 rfl rfl)
theorem dX6_door_28 : decode cX6_door 28 = .ok (.invokevirtual 311, 3) := dk_182 1 55 (dk_at dksX6_door_1 5 rfl rfl)
theorem dX6_door_31 : decode cX6_door 31 = .ok (.ireturn, 1) := dk_172 (dk_at dksX6_door_1 8 rfl rfl)
theorem dX6_door_32 : decode cX6_door 32 = .ok (.iconst (-1), 1) := dk_2 (dk_at dksX6_door_1 9 rfl rfl)
theorem dX6_door_33 : decode cX6_door 33 = .ok (.istore_n 3, 1) := dk_62 (dk_at dksX6_door_1 10 rfl rfl)
theorem dX6_door_34 : decode cX6_door 34 = .ok (.aload_n 0, 1) := dk_42 (dk_at dksX6_door_1 11 rfl rfl)
theorem dX6_door_35 : decode cX6_door 35 = .ok (.iload_n 1, 1) := dk_27 (dk_at dksX6_door_1 12 rfl rfl)
theorem dX6_door_36 : decode cX6_door 36 = .ok (.iload_n 2, 1) := dk_28 (dk_at dksX6_door_1 13 rfl rfl)
theorem dX6_door_37 : decode cX6_door 37 = .ok (.invokevirtual 415, 3) := dk_182 1 159 (dk_at dksX6_door_1 14 rfl rfl)
theorem dX6_door_40 : decode cX6_door 40 = .ok (.lstore 4, 2) := dk_55 4 (dk_at dksX6_door_1 17 rfl rfl)
theorem dX6_door_42 : decode cX6_door 42 = .ok (.iconst 0, 1) := dk_3 (dk_at dksX6_door_1 19 rfl rfl)
theorem dX6_door_43 : decode cX6_door 43 = .ok (.istore 6, 2) := dk_54 6 (dk_at dksX6_door_1 20 rfl rfl)
theorem dX6_door_45 : decode cX6_door 45 = .ok (.iload 6, 2) := dk_21 6 (dk_at dksX6_door_1 22 rfl rfl)
theorem dX6_door_47 : decode cX6_door 47 = .ok (.aload_n 0, 1) := dk_42 (dk_at dksX6_door_2 0 rfl rfl)
theorem dX6_door_48 : decode cX6_door 48 = .ok (.getfield 329, 3) := dk_180 1 73 (dk_at dksX6_door_2 1 rfl rfl)
theorem dX6_door_51 : decode cX6_door 51 = .ok (.if_icmp .ge 78, 3) := dk_162 0 78 (dk_at dksX6_door_2 4 rfl rfl)
theorem dX6_door_54 : decode cX6_door 54 = .ok (.aload_n 0, 1) := dk_42 (dk_at dksX6_door_2 7 rfl rfl)
theorem dX6_door_55 : decode cX6_door 55 = .ok (.getfield 68, 3) := dk_180 0 68 (dk_at dksX6_door_2 8 rfl rfl)
theorem dX6_door_58 : decode cX6_door 58 = .ok (.iload 6, 2) := dk_21 6 (dk_at dksX6_door_2 11 rfl rfl)
theorem dX6_door_60 : decode cX6_door 60 = .ok (.baload, 1) := dk_51 (dk_at dksX6_door_2 13 rfl rfl)
theorem dX6_door_61 : decode cX6_door 61 = .ok (.ifCond .eq 6, 3) := dk_153 0 6 (dk_at dksX6_door_2 14 rfl rfl)
theorem dX6_door_64 : decode cX6_door 64 = .ok (.goto 59, 3) := dk_167 0 59 (dk_at dksX6_door_2 17 rfl rfl)
theorem dX6_door_67 : decode cX6_door 67 = .ok (.aload_n 0, 1) := dk_42 (dk_at dksX6_door_2 20 rfl rfl)
theorem dX6_door_68 : decode cX6_door 68 = .ok (.getfield 68, 3) := dk_180 0 68 (dk_at dksX6_door_2 21 rfl rfl)
theorem dX6_door_71 : decode cX6_door 71 = .ok (.iload 6, 2) := dk_21 6 (dk_at dksX6_door_3 0 rfl rfl)
theorem dX6_door_73 : decode cX6_door 73 = .ok (.iconst 1, 1) := dk_4 (dk_at dksX6_door_3 2 rfl rfl)
theorem dX6_door_74 : decode cX6_door 74 = .ok (.bastore, 1) := dk_84 (dk_at dksX6_door_3 3 rfl rfl)
theorem dX6_door_75 : decode cX6_door 75 = .ok (.aload_n 0, 1) := dk_42 (dk_at dksX6_door_3 4 rfl rfl)
theorem dX6_door_76 : decode cX6_door 76 = .ok (.iload_n 1, 1) := dk_27 (dk_at dksX6_door_3 5 rfl rfl)
theorem dX6_door_77 : decode cX6_door 77 = .ok (.iload_n 2, 1) := dk_28 (dk_at dksX6_door_3 6 rfl rfl)
theorem dX6_door_78 : decode cX6_door 78 = .ok (.invokevirtual 415, 3) := dk_182 1 159 (dk_at dksX6_door_3 7 rfl rfl)
theorem dX6_door_81 : decode cX6_door 81 = .ok (.lstore 7, 2) := dk_55 7 (dk_at dksX6_door_3 10 rfl rfl)
theorem dX6_door_83 : decode cX6_door 83 = .ok (.aload_n 0, 1) := dk_42 (dk_at dksX6_door_3 12 rfl rfl)
theorem dX6_door_84 : decode cX6_door 84 = .ok (.getfield 68, 3) := dk_180 0 68 (dk_at dksX6_door_3 13 rfl rfl)
theorem dX6_door_87 : decode cX6_door 87 = .ok (.iload 6, 2) := dk_21 6 (dk_at dksX6_door_3 16 rfl rfl)
theorem dX6_door_89 : decode cX6_door 89 = .ok (.iconst 0, 1) := dk_3 (dk_at dksX6_door_3 18 rfl rfl)
theorem dX6_door_90 : decode cX6_door 90 = .ok (.bastore, 1) := dk_84 (dk_at dksX6_door_3 19 rfl rfl)
theorem dX6_door_91 : decode cX6_door 91 = .ok (.lload 7, 2) := dk_22 7 (dk_at dksX6_door_3 20 rfl rfl)
theorem dX6_door_93 : decode cX6_door 93 = .ok (.lconst 0, 1) := dk_9 (dk_at dksX6_door_3 22 rfl rfl)
theorem dX6_door_94 : decode cX6_door 94 = .ok (.lcmp, 1) := dk_148 (dk_at dksX6_door_3 23 rfl rfl)
theorem dX6_door_95 : decode cX6_door 95 = .ok (.ifCond .lt 28, 3) := dk_155 0 28 (dk_at dksX6_door_4 0 rfl rfl)
theorem dX6_door_98 : decode cX6_door 98 = .ok (.lload 4, 2) := dk_22 4 (dk_at dksX6_door_4 3 rfl rfl)
theorem dX6_door_100 : decode cX6_door 100 = .ok (.lconst 0, 1) := dk_9 (dk_at dksX6_door_4 5 rfl rfl)
theorem dX6_door_101 : decode cX6_door 101 = .ok (.lcmp, 1) := dk_148 (dk_at dksX6_door_4 6 rfl rfl)
theorem dX6_door_102 : decode cX6_door 102 = .ok (.ifCond .lt 14, 3) := dk_155 0 14 (dk_at dksX6_door_4 7 rfl rfl)
theorem dX6_door_105 : decode cX6_door 105 = .ok (.lload 7, 2) := dk_22 7 (dk_at dksX6_door_4 10 rfl rfl)
theorem dX6_door_107 : decode cX6_door 107 = .ok (.lload 4, 2) := dk_22 4 (dk_at dksX6_door_4 12 rfl rfl)
theorem dX6_door_109 : decode cX6_door 109 = .ok (.lcmp, 1) := dk_148 (dk_at dksX6_door_4 14 rfl rfl)
theorem dX6_door_110 : decode cX6_door 110 = .ok (.ifCond .lt 6, 3) := dk_155 0 6 (dk_at dksX6_door_4 15 rfl rfl)
theorem dX6_door_113 : decode cX6_door 113 = .ok (.goto 10, 3) := dk_167 0 10 (dk_at dksX6_door_4 18 rfl rfl)
theorem dX6_door_116 : decode cX6_door 116 = .ok (.lload 7, 2) := dk_22 7 (dk_at dksX6_door_4 21 rfl rfl)
theorem dX6_door_118 : decode cX6_door 118 = .ok (.lstore 4, 2) := dk_55 4 (dk_at dksX6_door_5 0 rfl rfl)
theorem dX6_door_120 : decode cX6_door 120 = .ok (.iload 6, 2) := dk_21 6 (dk_at dksX6_door_5 2 rfl rfl)
theorem dX6_door_122 : decode cX6_door 122 = .ok (.istore_n 3, 1) := dk_62 (dk_at dksX6_door_5 4 rfl rfl)
theorem dX6_door_123 : decode cX6_door 123 = .ok (.iinc 6 1, 3) := dk_132 6 1 (dk_at dksX6_door_5 5 rfl rfl)
theorem dX6_door_126 : decode cX6_door 126 = .ok (.goto (-81), 3) := dk_167 255 175 (dk_at dksX6_door_5 8 rfl rfl)
theorem dX6_door_129 : decode cX6_door 129 = .ok (.lload 4, 2) := dk_22 4 (dk_at dksX6_door_5 11 rfl rfl)
theorem dX6_door_131 : decode cX6_door 131 = .ok (.lconst 0, 1) := dk_9 (dk_at dksX6_door_5 13 rfl rfl)
theorem dX6_door_132 : decode cX6_door 132 = .ok (.lcmp, 1) := dk_148 (dk_at dksX6_door_5 14 rfl rfl)
theorem dX6_door_133 : decode cX6_door 133 = .ok (.ifCond .ge 10, 3) := dk_156 0 10 (dk_at dksX6_door_5 15 rfl rfl)
theorem dX6_door_136 : decode cX6_door 136 = .ok (.aload_n 0, 1) := dk_42 (dk_at dksX6_door_5 18 rfl rfl)
theorem dX6_door_137 : decode cX6_door 137 = .ok (.bipush 9, 2) := dk_16 9 (dk_at dksX6_door_5 19 rfl rfl)
theorem dX6_door_139 : decode cX6_door 139 = .ok (.invokevirtual 311, 3) := dk_182 1 55 (dk_at dksX6_door_5 21 rfl rfl)
theorem dX6_door_142 : decode cX6_door 142 = .ok (.ireturn, 1) := dk_172 (dk_at dksX6_door_6 0 rfl rfl)
theorem dX6_door_143 : decode cX6_door 143 = .ok (.aload_n 0, 1) := dk_42 (dk_at dksX6_door_6 1 rfl rfl)
theorem dX6_door_144 : decode cX6_door 144 = .ok (.lload 4, 2) := dk_22 4 (dk_at dksX6_door_6 2 rfl rfl)
theorem dX6_door_146 : decode cX6_door 146 = .ok (.aload_n 0, 1) := dk_42 (dk_at dksX6_door_6 4 rfl rfl)
theorem dX6_door_147 : decode cX6_door 147 = .ok (.invokevirtual 411, 3) := dk_182 1 155 (dk_at dksX6_door_6 5 rfl rfl)
theorem dX6_door_150 : decode cX6_door 150 = .ok (.invokevirtual 418, 3) := dk_182 1 162 (dk_at dksX6_door_6 8 rfl rfl)
theorem dX6_door_153 : decode cX6_door 153 = .ok (.iload_n 3, 1) := dk_29 (dk_at dksX6_door_6 11 rfl rfl)
theorem dX6_door_154 : decode cX6_door 154 = .ok (.ireturn, 1) := dk_172 (dk_at dksX6_door_6 12 rfl rfl)
abbrev cX6_wander : ByteArray := prog_15_method_108_code
def yX6_wander : MethodName := ⟨RX6, "wander", "(III)I"⟩
def dkwX6_wander_7 : List UInt8 := [153, 0, 6, 21, 8, 172, 132, 8, 1, 167, 255, 149, 42, 16, 8, 182, 1, 55, 172]
abbrev dktX6_wander_7 : List UInt8 := dkwX6_wander_7 ++ []
def dkwX6_wander_6 : List UInt8 := [20, 1, 101, 113, 136, 182, 1, 133, 54, 7, 42, 21, 6, 21, 7, 21, 9, 21, 10, 182, 1, 139]
abbrev dktX6_wander_6 : List UInt8 := dkwX6_wander_6 ++ dktX6_wander_7
def dkwX6_wander_5 : List UInt8 := [20, 2, 23, 105, 20, 2, 25, 97, 20, 2, 27, 113, 55, 4, 42, 21, 7, 22, 4, 20, 2, 29, 109]
abbrev dktX6_wander_5 : List UInt8 := dkwX6_wander_5 ++ dktX6_wander_6
def dkwX6_wander_4 : List UInt8 := [113, 55, 4, 42, 21, 6, 22, 4, 20, 2, 29, 109, 20, 1, 101, 113, 136, 182, 1, 133, 54, 6, 22, 4]
abbrev dktX6_wander_4 : List UInt8 := dkwX6_wander_4 ++ dktX6_wander_5
def dkwX6_wander_3 : List UInt8 := [163, 0, 105, 21, 6, 54, 9, 21, 7, 54, 10, 22, 4, 20, 2, 23, 105, 20, 2, 25, 97, 20, 2, 27]
abbrev dktX6_wander_3 : List UInt8 := dkwX6_wander_3 ++ dktX6_wander_4
def dkwX6_wander_2 : List UInt8 := [54, 6, 29, 54, 7, 21, 6, 21, 7, 160, 0, 5, 3, 172, 4, 54, 8, 21, 8, 17, 3, 232]
abbrev dktX6_wander_2 : List UInt8 := dkwX6_wander_2 ++ dktX6_wander_3
def dkwX6_wander_1 : List UInt8 := [154, 0, 9, 42, 5, 182, 1, 55, 172, 27, 156, 0, 9, 42, 8, 182, 1, 55, 172, 27, 133, 55, 4, 28]
abbrev dktX6_wander_1 : List UInt8 := dkwX6_wander_1 ++ dktX6_wander_2
def dkwX6_wander_0 : List UInt8 := [42, 3, 181, 0, 144, 42, 3, 181, 0, 147, 42, 28, 182, 1, 98, 153, 0, 11, 42, 29, 182, 1, 98]
abbrev dktX6_wander_0 : List UInt8 := dkwX6_wander_0 ++ dktX6_wander_1
theorem dksX6_wander_0 : cX6_wander.data.toList.drop 0 = dktX6_wander_0 := by decide +kernel
theorem dksX6_wander_1 : cX6_wander.data.toList.drop 23 = dktX6_wander_1 := dk_seg dksX6_wander_0 23 rfl rfl
theorem dksX6_wander_2 : cX6_wander.data.toList.drop 47 = dktX6_wander_2 := dk_seg dksX6_wander_1 24 rfl rfl
theorem dksX6_wander_3 : cX6_wander.data.toList.drop 69 = dktX6_wander_3 := dk_seg dksX6_wander_2 22 rfl rfl
theorem dksX6_wander_4 : cX6_wander.data.toList.drop 93 = dktX6_wander_4 := dk_seg dksX6_wander_3 24 rfl rfl
theorem dksX6_wander_5 : cX6_wander.data.toList.drop 117 = dktX6_wander_5 := dk_seg dksX6_wander_4 24 rfl rfl
theorem dksX6_wander_6 : cX6_wander.data.toList.drop 140 = dktX6_wander_6 := dk_seg dksX6_wander_5 23 rfl rfl
theorem dksX6_wander_7 : cX6_wander.data.toList.drop 162 = dktX6_wander_7 := dk_seg dksX6_wander_6 22 rfl rfl
theorem dX6_wander_0 : decode cX6_wander 0 = .ok (.aload_n 0, 1) := dk_42 (dk_at dksX6_wander_0 0 rfl rfl)
theorem dX6_wander_1 : decode cX6_wander 1 = .ok (.iconst 0, 1) := dk_3 (dk_at dksX6_wander_0 1 rfl rfl)
theorem dX6_wander_2 : decode cX6_wander 2 = .ok (.putfield 144, 3) := dk_181 0 144 (dk_at dksX6_wander_0 2 rfl rfl)
theorem dX6_wander_5 : decode cX6_wander 5 = .ok (.aload_n 0, 1) := dk_42 (dk_at dksX6_wander_0 5 rfl rfl)
theorem dX6_wander_6 : decode cX6_wander 6 = .ok (.iconst 0, 1) := dk_3 (dk_at dksX6_wander_0 6 rfl rfl)
theorem dX6_wander_7 : decode cX6_wander 7 = .ok (.putfield 147, 3) := dk_181 0 147 (dk_at dksX6_wander_0 7 rfl rfl)
theorem dX6_wander_10 : decode cX6_wander 10 = .ok (.aload_n 0, 1) := dk_42 (dk_at dksX6_wander_0 10 rfl rfl)
theorem dX6_wander_11 : decode cX6_wander 11 = .ok (.iload_n 2, 1) := dk_28 (dk_at dksX6_wander_0 11 rfl rfl)
theorem dX6_wander_12 : decode cX6_wander 12 = .ok (.invokevirtual 354, 3) := dk_182 1 98 (dk_at dksX6_wander_0 12 rfl rfl)
theorem dX6_wander_15 : decode cX6_wander 15 = .ok (.ifCond .eq 11, 3) := dk_153 0 11 (dk_at dksX6_wander_0 15 rfl rfl)
theorem dX6_wander_18 : decode cX6_wander 18 = .ok (.aload_n 0, 1) := dk_42 (dk_at dksX6_wander_0 18 rfl rfl)
theorem dX6_wander_19 : decode cX6_wander 19 = .ok (.iload_n 3, 1) := dk_29 (dk_at dksX6_wander_0 19 rfl rfl)
theorem dX6_wander_20 : decode cX6_wander 20 = .ok (.invokevirtual 354, 3) := dk_182 1 98 (dk_at dksX6_wander_0 20 rfl rfl)
theorem dX6_wander_23 : decode cX6_wander 23 = .ok (.ifCond .ne 9, 3) := dk_154 0 9 (dk_at dksX6_wander_1 0 rfl rfl)
theorem dX6_wander_26 : decode cX6_wander 26 = .ok (.aload_n 0, 1) := dk_42 (dk_at dksX6_wander_1 3 rfl rfl)
theorem dX6_wander_27 : decode cX6_wander 27 = .ok (.iconst 2, 1) := dk_5 (dk_at dksX6_wander_1 4 rfl rfl)
theorem dX6_wander_28 : decode cX6_wander 28 = .ok (.invokevirtual 311, 3) := dk_182 1 55 (dk_at dksX6_wander_1 5 rfl rfl)
theorem dX6_wander_31 : decode cX6_wander 31 = .ok (.ireturn, 1) := dk_172 (dk_at dksX6_wander_1 8 rfl rfl)
theorem dX6_wander_32 : decode cX6_wander 32 = .ok (.iload_n 1, 1) := dk_27 (dk_at dksX6_wander_1 9 rfl rfl)
theorem dX6_wander_33 : decode cX6_wander 33 = .ok (.ifCond .ge 9, 3) := dk_156 0 9 (dk_at dksX6_wander_1 10 rfl rfl)
theorem dX6_wander_36 : decode cX6_wander 36 = .ok (.aload_n 0, 1) := dk_42 (dk_at dksX6_wander_1 13 rfl rfl)
theorem dX6_wander_37 : decode cX6_wander 37 = .ok (.iconst 5, 1) := dk_8 (dk_at dksX6_wander_1 14 rfl rfl)
theorem dX6_wander_38 : decode cX6_wander 38 = .ok (.invokevirtual 311, 3) := dk_182 1 55 (dk_at dksX6_wander_1 15 rfl rfl)
theorem dX6_wander_41 : decode cX6_wander 41 = .ok (.ireturn, 1) := dk_172 (dk_at dksX6_wander_1 18 rfl rfl)
theorem dX6_wander_42 : decode cX6_wander 42 = .ok (.iload_n 1, 1) := dk_27 (dk_at dksX6_wander_1 19 rfl rfl)
theorem dX6_wander_43 : decode cX6_wander 43 = .ok (.i2l, 1) := dk_133 (dk_at dksX6_wander_1 20 rfl rfl)
theorem dX6_wander_44 : decode cX6_wander 44 = .ok (.lstore 4, 2) := dk_55 4 (dk_at dksX6_wander_1 21 rfl rfl)
theorem dX6_wander_46 : decode cX6_wander 46 = .ok (.iload_n 2, 1) := dk_28 (dk_at dksX6_wander_1 23 rfl rfl)
theorem dX6_wander_47 : decode cX6_wander 47 = .ok (.istore 6, 2) := dk_54 6 (dk_at dksX6_wander_2 0 rfl rfl)
theorem dX6_wander_49 : decode cX6_wander 49 = .ok (.iload_n 3, 1) := dk_29 (dk_at dksX6_wander_2 2 rfl rfl)
theorem dX6_wander_50 : decode cX6_wander 50 = .ok (.istore 7, 2) := dk_54 7 (dk_at dksX6_wander_2 3 rfl rfl)
theorem dX6_wander_52 : decode cX6_wander 52 = .ok (.iload 6, 2) := dk_21 6 (dk_at dksX6_wander_2 5 rfl rfl)
theorem dX6_wander_54 : decode cX6_wander 54 = .ok (.iload 7, 2) := dk_21 7 (dk_at dksX6_wander_2 7 rfl rfl)
theorem dX6_wander_56 : decode cX6_wander 56 = .ok (.if_icmp .ne 5, 3) := dk_160 0 5 (dk_at dksX6_wander_2 9 rfl rfl)
theorem dX6_wander_59 : decode cX6_wander 59 = .ok (.iconst 0, 1) := dk_3 (dk_at dksX6_wander_2 12 rfl rfl)
theorem dX6_wander_60 : decode cX6_wander 60 = .ok (.ireturn, 1) := dk_172 (dk_at dksX6_wander_2 13 rfl rfl)
theorem dX6_wander_61 : decode cX6_wander 61 = .ok (.iconst 1, 1) := dk_4 (dk_at dksX6_wander_2 14 rfl rfl)
theorem dX6_wander_62 : decode cX6_wander 62 = .ok (.istore 8, 2) := dk_54 8 (dk_at dksX6_wander_2 15 rfl rfl)
theorem dX6_wander_64 : decode cX6_wander 64 = .ok (.iload 8, 2) := dk_21 8 (dk_at dksX6_wander_2 17 rfl rfl)
theorem dX6_wander_66 : decode cX6_wander 66 = .ok (.sipush 1000, 3) := dk_17 3 232 (dk_at dksX6_wander_2 19 rfl rfl)
theorem dX6_wander_69 : decode cX6_wander 69 = .ok (.if_icmp .gt 105, 3) := dk_163 0 105 (dk_at dksX6_wander_3 0 rfl rfl)
theorem dX6_wander_72 : decode cX6_wander 72 = .ok (.iload 6, 2) := dk_21 6 (dk_at dksX6_wander_3 3 rfl rfl)
theorem dX6_wander_74 : decode cX6_wander 74 = .ok (.istore 9, 2) := dk_54 9 (dk_at dksX6_wander_3 5 rfl rfl)
theorem dX6_wander_76 : decode cX6_wander 76 = .ok (.iload 7, 2) := dk_21 7 (dk_at dksX6_wander_3 7 rfl rfl)
theorem dX6_wander_78 : decode cX6_wander 78 = .ok (.istore 10, 2) := dk_54 10 (dk_at dksX6_wander_3 9 rfl rfl)
theorem dX6_wander_80 : decode cX6_wander 80 = .ok (.lload 4, 2) := dk_22 4 (dk_at dksX6_wander_3 11 rfl rfl)
theorem dX6_wander_82 : decode cX6_wander 82 = .ok (.ldc2_w 535, 3) := dk_20 2 23 (dk_at dksX6_wander_3 13 rfl rfl)
theorem dX6_wander_85 : decode cX6_wander 85 = .ok (.lmul, 1) := dk_105 (dk_at dksX6_wander_3 16 rfl rfl)
theorem dX6_wander_86 : decode cX6_wander 86 = .ok (.ldc2_w 537, 3) := dk_20 2 25 (dk_at dksX6_wander_3 17 rfl rfl)
theorem dX6_wander_89 : decode cX6_wander 89 = .ok (.ladd, 1) := dk_97 (dk_at dksX6_wander_3 20 rfl rfl)
theorem dX6_wander_90 : decode cX6_wander 90 = .ok (.ldc2_w 539, 3) := dk_20 2 27 (dk_at dksX6_wander_3 21 rfl rfl)
theorem dX6_wander_93 : decode cX6_wander 93 = .ok (.lrem, 1) := dk_113 (dk_at dksX6_wander_4 0 rfl rfl)
theorem dX6_wander_94 : decode cX6_wander 94 = .ok (.lstore 4, 2) := dk_55 4 (dk_at dksX6_wander_4 1 rfl rfl)
theorem dX6_wander_96 : decode cX6_wander 96 = .ok (.aload_n 0, 1) := dk_42 (dk_at dksX6_wander_4 3 rfl rfl)
theorem dX6_wander_97 : decode cX6_wander 97 = .ok (.iload 6, 2) := dk_21 6 (dk_at dksX6_wander_4 4 rfl rfl)
theorem dX6_wander_99 : decode cX6_wander 99 = .ok (.lload 4, 2) := dk_22 4 (dk_at dksX6_wander_4 6 rfl rfl)
theorem dX6_wander_101 : decode cX6_wander 101 = .ok (.ldc2_w 541, 3) := dk_20 2 29 (dk_at dksX6_wander_4 8 rfl rfl)
theorem dX6_wander_104 : decode cX6_wander 104 = .ok (.ldiv, 1) := dk_109 (dk_at dksX6_wander_4 11 rfl rfl)
theorem dX6_wander_105 : decode cX6_wander 105 = .ok (.ldc2_w 357, 3) := dk_20 1 101 (dk_at dksX6_wander_4 12 rfl rfl)
theorem dX6_wander_108 : decode cX6_wander 108 = .ok (.lrem, 1) := dk_113 (dk_at dksX6_wander_4 15 rfl rfl)
theorem dX6_wander_109 : decode cX6_wander 109 = .ok (.l2i, 1) := dk_136 (dk_at dksX6_wander_4 16 rfl rfl)
theorem dX6_wander_110 : decode cX6_wander 110 = .ok (.invokevirtual 389, 3) := dk_182 1 133 (dk_at dksX6_wander_4 17 rfl rfl)
theorem dX6_wander_113 : decode cX6_wander 113 = .ok (.istore 6, 2) := dk_54 6 (dk_at dksX6_wander_4 20 rfl rfl)
theorem dX6_wander_115 : decode cX6_wander 115 = .ok (.lload 4, 2) := dk_22 4 (dk_at dksX6_wander_4 22 rfl rfl)
theorem dX6_wander_117 : decode cX6_wander 117 = .ok (.ldc2_w 535, 3) := dk_20 2 23 (dk_at dksX6_wander_5 0 rfl rfl)
theorem dX6_wander_120 : decode cX6_wander 120 = .ok (.lmul, 1) := dk_105 (dk_at dksX6_wander_5 3 rfl rfl)
theorem dX6_wander_121 : decode cX6_wander 121 = .ok (.ldc2_w 537, 3) := dk_20 2 25 (dk_at dksX6_wander_5 4 rfl rfl)
theorem dX6_wander_124 : decode cX6_wander 124 = .ok (.ladd, 1) := dk_97 (dk_at dksX6_wander_5 7 rfl rfl)
theorem dX6_wander_125 : decode cX6_wander 125 = .ok (.ldc2_w 539, 3) := dk_20 2 27 (dk_at dksX6_wander_5 8 rfl rfl)
theorem dX6_wander_128 : decode cX6_wander 128 = .ok (.lrem, 1) := dk_113 (dk_at dksX6_wander_5 11 rfl rfl)
theorem dX6_wander_129 : decode cX6_wander 129 = .ok (.lstore 4, 2) := dk_55 4 (dk_at dksX6_wander_5 12 rfl rfl)
theorem dX6_wander_131 : decode cX6_wander 131 = .ok (.aload_n 0, 1) := dk_42 (dk_at dksX6_wander_5 14 rfl rfl)
theorem dX6_wander_132 : decode cX6_wander 132 = .ok (.iload 7, 2) := dk_21 7 (dk_at dksX6_wander_5 15 rfl rfl)
theorem dX6_wander_134 : decode cX6_wander 134 = .ok (.lload 4, 2) := dk_22 4 (dk_at dksX6_wander_5 17 rfl rfl)
theorem dX6_wander_136 : decode cX6_wander 136 = .ok (.ldc2_w 541, 3) := dk_20 2 29 (dk_at dksX6_wander_5 19 rfl rfl)
theorem dX6_wander_139 : decode cX6_wander 139 = .ok (.ldiv, 1) := dk_109 (dk_at dksX6_wander_5 22 rfl rfl)
theorem dX6_wander_140 : decode cX6_wander 140 = .ok (.ldc2_w 357, 3) := dk_20 1 101 (dk_at dksX6_wander_6 0 rfl rfl)
theorem dX6_wander_143 : decode cX6_wander 143 = .ok (.lrem, 1) := dk_113 (dk_at dksX6_wander_6 3 rfl rfl)
theorem dX6_wander_144 : decode cX6_wander 144 = .ok (.l2i, 1) := dk_136 (dk_at dksX6_wander_6 4 rfl rfl)
theorem dX6_wander_145 : decode cX6_wander 145 = .ok (.invokevirtual 389, 3) := dk_182 1 133 (dk_at dksX6_wander_6 5 rfl rfl)
theorem dX6_wander_148 : decode cX6_wander 148 = .ok (.istore 7, 2) := dk_54 7 (dk_at dksX6_wander_6 8 rfl rfl)
theorem dX6_wander_150 : decode cX6_wander 150 = .ok (.aload_n 0, 1) := dk_42 (dk_at dksX6_wander_6 10 rfl rfl)
theorem dX6_wander_151 : decode cX6_wander 151 = .ok (.iload 6, 2) := dk_21 6 (dk_at dksX6_wander_6 11 rfl rfl)
theorem dX6_wander_153 : decode cX6_wander 153 = .ok (.iload 7, 2) := dk_21 7 (dk_at dksX6_wander_6 13 rfl rfl)
theorem dX6_wander_155 : decode cX6_wander 155 = .ok (.iload 9, 2) := dk_21 9 (dk_at dksX6_wander_6 15 rfl rfl)
theorem dX6_wander_157 : decode cX6_wander 157 = .ok (.iload 10, 2) := dk_21 10 (dk_at dksX6_wander_6 17 rfl rfl)
theorem dX6_wander_159 : decode cX6_wander 159 = .ok (.invokevirtual 395, 3) := dk_182 1 139 (dk_at dksX6_wander_6 19 rfl rfl)
theorem dX6_wander_162 : decode cX6_wander 162 = .ok (.ifCond .eq 6, 3) := dk_153 0 6 (dk_at dksX6_wander_7 0 rfl rfl)
theorem dX6_wander_165 : decode cX6_wander 165 = .ok (.iload 8, 2) := dk_21 8 (dk_at dksX6_wander_7 3 rfl rfl)
theorem dX6_wander_167 : decode cX6_wander 167 = .ok (.ireturn, 1) := dk_172 (dk_at dksX6_wander_7 5 rfl rfl)
theorem dX6_wander_168 : decode cX6_wander 168 = .ok (.iinc 8 1, 3) := dk_132 8 1 (dk_at dksX6_wander_7 6 rfl rfl)
theorem dX6_wander_171 : decode cX6_wander 171 = .ok (.goto (-107), 3) := dk_167 255 149 (dk_at dksX6_wander_7 9 rfl rfl)
theorem dX6_wander_174 : decode cX6_wander 174 = .ok (.aload_n 0, 1) := dk_42 (dk_at dksX6_wander_7 12 rfl rfl)
theorem dX6_wander_175 : decode cX6_wander 175 = .ok (.bipush 8, 2) := dk_16 8 (dk_at dksX6_wander_7 13 rfl rfl)
theorem dX6_wander_177 : decode cX6_wander 177 = .ok (.invokevirtual 311, 3) := dk_182 1 55 (dk_at dksX6_wander_7 15 rfl rfl)
theorem dX6_wander_180 : decode cX6_wander 180 = .ok (.ireturn, 1) := dk_172 (dk_at dksX6_wander_7 18 rfl rfl)
theorem q125 : (Jvm.Cond.initialized "TwoSeekModel") ∈ lw_all := lw_g (lw_at lw_m1 10 rfl) rfl
theorem q1185 : (Jvm.Cond.instantiable "TwoSeekModel" (79 : Nat)) ∈ lw_all := lw_g (lw_at lw_m5 110 rfl) rfl
theorem q1187 : (Jvm.Cond.instanceMethod ({ cls := "TwoSeekModel", name := "<init>", desc := "()V" } : Jvm.MethodName)) ∈ lw_all := lw_g (lw_at lw_m5 112 rfl) rfl
theorem q1188 : (Jvm.Cond.code ({ cls := "TwoSeekModel", name := "<init>", desc := "()V" } : Jvm.MethodName) prog_15_method_1_code (2 : Nat) (Option.none : Option Jvm.ClassFile.FieldType)) ∈ lw_all := lw_g (lw_at lw_m5 113 rfl) rfl
theorem q1189 : (Jvm.Cond.methodLink "TwoSeekModel" (1 : Nat) ({ cls := "java/lang/Object", name := "<init>", desc := "()V" } : Jvm.MethodName)) ∈ lw_all := lw_g (lw_at lw_m5 114 rfl) rfl
theorem q1190 : (Jvm.Cond.fieldLink "TwoSeekModel" (147 : Nat) "TwoSeekModel" "status" "I") ∈ lw_all := lw_g (lw_at lw_m5 115 rfl) rfl
theorem q1191 : (Jvm.Cond.fieldLink "TwoSeekModel" (144 : Nat) "TwoSeekModel" "thrown" "I") ∈ lw_all := lw_g (lw_at lw_m5 116 rfl) rfl
theorem q1192 : (Jvm.Cond.fieldLink "TwoSeekModel" (150 : Nat) "TwoSeekModel" "above" "J") ∈ lw_all := lw_g (lw_at lw_m5 117 rfl) rfl
theorem q1193 : (Jvm.Cond.fieldLink "TwoSeekModel" (7 : Nat) "TwoSeekModel" "under" "J") ∈ lw_all := lw_g (lw_at lw_m5 118 rfl) rfl
theorem q1194 : (Jvm.Cond.fieldLink "TwoSeekModel" (13 : Nat) "TwoSeekModel" "traySort" "[I") ∈ lw_all := lw_g (lw_at lw_m5 119 rfl) rfl
theorem q1195 : (Jvm.Cond.fieldLink "TwoSeekModel" (17 : Nat) "TwoSeekModel" "trayMany" "[I") ∈ lw_all := lw_g (lw_at lw_m5 120 rfl) rfl
theorem q1196 : (Jvm.Cond.fieldLink "TwoSeekModel" (20 : Nat) "TwoSeekModel" "numbers" "[J") ∈ lw_all := lw_g (lw_at lw_m5 121 rfl) rfl
theorem q1197 : (Jvm.Cond.fieldLink "TwoSeekModel" (24 : Nat) "TwoSeekModel" "tape" "[B") ∈ lw_all := lw_g (lw_at lw_m5 122 rfl) rfl
theorem q1198 : (Jvm.Cond.fieldLink "TwoSeekModel" (304 : Nat) "TwoSeekModel" "taped" "I") ∈ lw_all := lw_g (lw_at lw_m5 123 rfl) rfl
theorem q1199 : (Jvm.Cond.fieldLink "TwoSeekModel" (181 : Nat) "TwoSeekModel" "textEnd" "I") ∈ lw_all := lw_g (lw_at lw_m5 124 rfl) rfl
theorem q1200 : (Jvm.Cond.fieldLink "TwoSeekModel" (28 : Nat) "TwoSeekModel" "faultKind" "I") ∈ lw_all := lw_g (lw_at lw_m5 125 rfl) rfl
theorem q1201 : (Jvm.Cond.fieldLink "TwoSeekModel" (32 : Nat) "TwoSeekModel" "faultAt" "I") ∈ lw_all := lw_g (lw_at lw_m5 126 rfl) rfl
theorem q1202 : (Jvm.Cond.fieldLink "TwoSeekModel" (246 : Nat) "TwoSeekModel" "bad" "I") ∈ lw_all := lw_g (lw_at lw_m5 127 rfl) rfl
theorem q1203 : (Jvm.Cond.fieldLink "TwoSeekModel" (249 : Nat) "TwoSeekModel" "badAt" "I") ∈ lw_all := lw_g (lw_at lw_m5 128 rfl) rfl
theorem q1204 : (Jvm.Cond.fieldLink "TwoSeekModel" (193 : Nat) "TwoSeekModel" "sort" "I") ∈ lw_all := lw_g (lw_at lw_m5 129 rfl) rfl
theorem q1205 : (Jvm.Cond.fieldLink "TwoSeekModel" (187 : Nat) "TwoSeekModel" "at" "I") ∈ lw_all := lw_g (lw_at lw_m5 130 rfl) rfl
theorem q1206 : (Jvm.Cond.fieldLink "TwoSeekModel" (184 : Nat) "TwoSeekModel" "behind" "I") ∈ lw_all := lw_g (lw_at lw_m5 131 rfl) rfl
theorem q1207 : (Jvm.Cond.fieldLink "TwoSeekModel" (212 : Nat) "TwoSeekModel" "number" "I") ∈ lw_all := lw_g (lw_at lw_m5 132 rfl) rfl
theorem q1208 : (Jvm.Cond.fieldLink "TwoSeekModel" (206 : Nat) "TwoSeekModel" "letters" "I") ∈ lw_all := lw_g (lw_at lw_m5 133 rfl) rfl
theorem q1209 : (Jvm.Cond.fieldLink "TwoSeekModel" (199 : Nat) "TwoSeekModel" "word" "J") ∈ lw_all := lw_g (lw_at lw_m5 134 rfl) rfl
theorem q1210 : (Jvm.Cond.fieldLink "TwoSeekModel" (326 : Nat) "TwoSeekModel" "places" "I") ∈ lw_all := lw_g (lw_at lw_m5 135 rfl) rfl
theorem q1211 : (Jvm.Cond.fieldLink "TwoSeekModel" (329 : Nat) "TwoSeekModel" "lanes" "I") ∈ lw_all := lw_g (lw_at lw_m5 136 rfl) rfl
theorem q1212 : (Jvm.Cond.fieldLink "TwoSeekModel" (266 : Nat) "TwoSeekModel" "newPlaces" "I") ∈ lw_all := lw_g (lw_at lw_m5 137 rfl) rfl
theorem q1213 : (Jvm.Cond.fieldLink "TwoSeekModel" (282 : Nat) "TwoSeekModel" "newLanes" "I") ∈ lw_all := lw_g (lw_at lw_m5 138 rfl) rfl
theorem q1214 : (Jvm.Cond.fieldLink "TwoSeekModel" (35 : Nat) "TwoSeekModel" "slow" "I") ∈ lw_all := lw_g (lw_at lw_m5 139 rfl) rfl
theorem q1215 : (Jvm.Cond.fieldLink "TwoSeekModel" (335 : Nat) "TwoSeekModel" "hears" "I") ∈ lw_all := lw_g (lw_at lw_m5 140 rfl) rfl
theorem q1216 : (Jvm.Cond.fieldLink "TwoSeekModel" (298 : Nat) "TwoSeekModel" "newSlow" "I") ∈ lw_all := lw_g (lw_at lw_m5 141 rfl) rfl
theorem q1217 : (Jvm.Cond.fieldLink "TwoSeekModel" (301 : Nat) "TwoSeekModel" "newHears" "I") ∈ lw_all := lw_g (lw_at lw_m5 142 rfl) rfl
theorem q1218 : (Jvm.Cond.fieldLink "TwoSeekModel" (332 : Nat) "TwoSeekModel" "cross" "Z") ∈ lw_all := lw_g (lw_at lw_m5 143 rfl) rfl
theorem q1219 : (Jvm.Cond.fieldLink "TwoSeekModel" (295 : Nat) "TwoSeekModel" "newCross" "Z") ∈ lw_all := lw_g (lw_at lw_m5 144 rfl) rfl
theorem q1220 : (Jvm.Cond.fieldLink "TwoSeekModel" (338 : Nat) "TwoSeekModel" "marks" "Z") ∈ lw_all := lw_g (lw_at lw_m5 145 rfl) rfl
theorem q1221 : (Jvm.Cond.fieldLink "TwoSeekModel" (38 : Nat) "TwoSeekModel" "features" "[I") ∈ lw_all := lw_g (lw_at lw_m5 146 rfl) rfl
theorem q1222 : (Jvm.Cond.fieldLink "TwoSeekModel" (41 : Nat) "TwoSeekModel" "newFeatures" "[I") ∈ lw_all := lw_g (lw_at lw_m5 147 rfl) rfl
theorem q1223 : (Jvm.Cond.fieldLink "TwoSeekModel" (44 : Nat) "TwoSeekModel" "degree" "[I") ∈ lw_all := lw_g (lw_at lw_m5 148 rfl) rfl
theorem q1224 : (Jvm.Cond.fieldLink "TwoSeekModel" (47 : Nat) "TwoSeekModel" "newDegree" "[I") ∈ lw_all := lw_g (lw_at lw_m5 149 rfl) rfl
theorem q1225 : (Jvm.Cond.fieldLink "TwoSeekModel" (50 : Nat) "TwoSeekModel" "laneAt" "[I") ∈ lw_all := lw_g (lw_at lw_m5 150 rfl) rfl
theorem q1226 : (Jvm.Cond.fieldLink "TwoSeekModel" (53 : Nat) "TwoSeekModel" "newLaneAt" "[I") ∈ lw_all := lw_g (lw_at lw_m5 151 rfl) rfl
theorem q1227 : (Jvm.Cond.fieldLink "TwoSeekModel" (56 : Nat) "TwoSeekModel" "one" "[I") ∈ lw_all := lw_g (lw_at lw_m5 152 rfl) rfl
theorem q1228 : (Jvm.Cond.fieldLink "TwoSeekModel" (59 : Nat) "TwoSeekModel" "other" "[I") ∈ lw_all := lw_g (lw_at lw_m5 153 rfl) rfl
theorem q1229 : (Jvm.Cond.fieldLink "TwoSeekModel" (62 : Nat) "TwoSeekModel" "newOne" "[I") ∈ lw_all := lw_g (lw_at lw_m5 154 rfl) rfl
theorem q1230 : (Jvm.Cond.fieldLink "TwoSeekModel" (65 : Nat) "TwoSeekModel" "newOther" "[I") ∈ lw_all := lw_g (lw_at lw_m5 155 rfl) rfl
theorem q1231 : (Jvm.Cond.fieldLink "TwoSeekModel" (68 : Nat) "TwoSeekModel" "isShut" "[Z") ∈ lw_all := lw_g (lw_at lw_m5 156 rfl) rfl
theorem q1232 : (Jvm.Cond.fieldLink "TwoSeekModel" (72 : Nat) "TwoSeekModel" "names" "[J") ∈ lw_all := lw_g (lw_at lw_m5 157 rfl) rfl
theorem q1233 : (Jvm.Cond.fieldLink "TwoSeekModel" (341 : Nat) "TwoSeekModel" "ways" "I") ∈ lw_all := lw_g (lw_at lw_m5 158 rfl) rfl
theorem q1234 : (Jvm.Cond.fieldLink "TwoSeekModel" (75 : Nat) "TwoSeekModel" "length" "[I") ∈ lw_all := lw_g (lw_at lw_m5 159 rfl) rfl
theorem q1235 : (Jvm.Cond.fieldLink "TwoSeekModel" (78 : Nat) "TwoSeekModel" "table" "[I") ∈ lw_all := lw_g (lw_at lw_m5 160 rfl) rfl
theorem q1236 : (Jvm.Cond.fieldLink "TwoSeekModel" (81 : Nat) "TwoSeekModel" "again" "[Z") ∈ lw_all := lw_g (lw_at lw_m5 161 rfl) rfl
theorem q1237 : (Jvm.Cond.fieldLink "TwoSeekModel" (84 : Nat) "TwoSeekModel" "pos" "[I") ∈ lw_all := lw_g (lw_at lw_m5 162 rfl) rfl
theorem q1238 : (Jvm.Cond.fieldLink "TwoSeekModel" (87 : Nat) "TwoSeekModel" "done" "[I") ∈ lw_all := lw_g (lw_at lw_m5 163 rfl) rfl
theorem q1239 : (Jvm.Cond.fieldLink "TwoSeekModel" (90 : Nat) "TwoSeekModel" "mood" "[I") ∈ lw_all := lw_g (lw_at lw_m5 164 rfl) rfl
theorem q1240 : (Jvm.Cond.fieldLink "TwoSeekModel" (93 : Nat) "TwoSeekModel" "left" "[I") ∈ lw_all := lw_g (lw_at lw_m5 165 rfl) rfl
theorem q1241 : (Jvm.Cond.fieldLink "TwoSeekModel" (96 : Nat) "TwoSeekModel" "far" "[I") ∈ lw_all := lw_g (lw_at lw_m5 166 rfl) rfl
theorem q1242 : (Jvm.Cond.fieldLink "TwoSeekModel" (438 : Nat) "TwoSeekModel" "agreedMany" "I") ∈ lw_all := lw_g (lw_at lw_m5 167 rfl) rfl
theorem q1243 : (Jvm.Cond.fieldLink "TwoSeekModel" (441 : Nat) "TwoSeekModel" "alikeMany" "I") ∈ lw_all := lw_g (lw_at lw_m5 168 rfl) rfl
theorem q1244 : (Jvm.Cond.fieldLink "TwoSeekModel" (514 : Nat) "TwoSeekModel" "chanceMany" "I") ∈ lw_all := lw_g (lw_at lw_m5 169 rfl) rfl
theorem q1245 : (Jvm.Cond.fieldLink "TwoSeekModel" (99 : Nat) "TwoSeekModel" "agreed" "[I") ∈ lw_all := lw_g (lw_at lw_m5 170 rfl) rfl
theorem q1246 : (Jvm.Cond.fieldLink "TwoSeekModel" (102 : Nat) "TwoSeekModel" "alike" "[I") ∈ lw_all := lw_g (lw_at lw_m5 171 rfl) rfl
theorem q1247 : (Jvm.Cond.fieldLink "TwoSeekModel" (105 : Nat) "TwoSeekModel" "tried" "[I") ∈ lw_all := lw_g (lw_at lw_m5 172 rfl) rfl
theorem q1248 : (Jvm.Cond.fieldLink "TwoSeekModel" (108 : Nat) "TwoSeekModel" "chanceTop" "[J") ∈ lw_all := lw_g (lw_at lw_m5 173 rfl) rfl
theorem q1249 : (Jvm.Cond.fieldLink "TwoSeekModel" (111 : Nat) "TwoSeekModel" "chanceBottom" "J") ∈ lw_all := lw_g (lw_at lw_m5 174 rfl) rfl
theorem q1250 : (Jvm.Cond.fieldLink "TwoSeekModel" (288 : Nat) "TwoSeekModel" "hasSlow" "Z") ∈ lw_all := lw_g (lw_at lw_m5 175 rfl) rfl
theorem q1251 : (Jvm.Cond.fieldLink "TwoSeekModel" (292 : Nat) "TwoSeekModel" "hasHears" "Z") ∈ lw_all := lw_g (lw_at lw_m5 176 rfl) rfl
theorem q1252 : (Jvm.Cond.fieldLink "TwoSeekModel" (114 : Nat) "TwoSeekModel" "alikePlaces" "[Z") ∈ lw_all := lw_g (lw_at lw_m5 177 rfl) rfl
theorem q1253 : (Jvm.Cond.fieldLink "TwoSeekModel" (425 : Nat) "TwoSeekModel" "bestMissed" "J") ∈ lw_all := lw_g (lw_at lw_m5 178 rfl) rfl
theorem q1254 : (Jvm.Cond.fieldLink "TwoSeekModel" (431 : Nat) "TwoSeekModel" "bestLate" "J") ∈ lw_all := lw_g (lw_at lw_m5 179 rfl) rfl
theorem q1255 : (Jvm.Cond.fieldLink "TwoSeekModel" (117 : Nat) "TwoSeekModel" "isReached" "[Z") ∈ lw_all := lw_g (lw_at lw_m5 180 rfl) rfl
theorem q1256 : (Jvm.Cond.fieldLink "TwoSeekModel" (120 : Nat) "TwoSeekModel" "put" "[I") ∈ lw_all := lw_g (lw_at lw_m5 181 rfl) rfl
theorem q1257 : (Jvm.Cond.fieldLink "TwoSeekModel" (123 : Nat) "TwoSeekModel" "there" "[J") ∈ lw_all := lw_g (lw_at lw_m5 182 rfl) rfl
theorem q1258 : (Jvm.Cond.fieldLink "TwoSeekModel" (126 : Nat) "TwoSeekModel" "then" "[J") ∈ lw_all := lw_g (lw_at lw_m5 183 rfl) rfl
theorem q1259 : (Jvm.Cond.fieldLink "TwoSeekModel" (129 : Nat) "TwoSeekModel" "led" "[I") ∈ lw_all := lw_g (lw_at lw_m5 184 rfl) rfl
theorem q1260 : (Jvm.Cond.fieldLink "TwoSeekModel" (132 : Nat) "TwoSeekModel" "of" "[I") ∈ lw_all := lw_g (lw_at lw_m5 185 rfl) rfl
theorem q1261 : (Jvm.Cond.fieldLink "TwoSeekModel" (135 : Nat) "TwoSeekModel" "worth" "[I") ∈ lw_all := lw_g (lw_at lw_m5 186 rfl) rfl
theorem q1262 : (Jvm.Cond.fieldLink "TwoSeekModel" (477 : Nat) "TwoSeekModel" "rowsMany" "I") ∈ lw_all := lw_g (lw_at lw_m5 187 rfl) rfl
theorem q1263 : (Jvm.Cond.fieldLink "TwoSeekModel" (483 : Nat) "TwoSeekModel" "columnsMany" "I") ∈ lw_all := lw_g (lw_at lw_m5 188 rfl) rfl
theorem q1264 : (Jvm.Cond.fieldLink "TwoSeekModel" (138 : Nat) "TwoSeekModel" "corner" "[J") ∈ lw_all := lw_g (lw_at lw_m5 189 rfl) rfl
theorem q1265 : (Jvm.Cond.fieldLink "TwoSeekModel" (141 : Nat) "TwoSeekModel" "equation" "[J") ∈ lw_all := lw_g (lw_at lw_m5 190 rfl) rfl
theorem q1266 : (Jvm.Cond.fieldLink "TwoSeekModel" (480 : Nat) "TwoSeekModel" "cornerBottom" "J") ∈ lw_all := lw_g (lw_at lw_m5 191 rfl) rfl
theorem q1267 : (Jvm.Cond.fieldLink "TwoSeekModel" (497 : Nat) "TwoSeekModel" "valueTop" "J") ∈ lw_all := lw_g (lw_at lw_m5 192 rfl) rfl
theorem q1268 : (Jvm.Cond.fieldLink "TwoSeekModel" (494 : Nat) "TwoSeekModel" "valueBottom" "J") ∈ lw_all := lw_g (lw_at lw_m5 193 rfl) rfl
theorem q1269 : (Jvm.Cond.lays "TwoSeekModel" "TwoSeekModel" "status" "I") ∈ lw_all := lw_g (lw_at lw_m5 194 rfl) rfl
theorem q1270 : (Jvm.Cond.soleField "TwoSeekModel" "status") ∈ lw_all := lw_g (lw_at lw_m5 195 rfl) rfl
theorem q1271 : (Jvm.Cond.lays "TwoSeekModel" "TwoSeekModel" "thrown" "I") ∈ lw_all := lw_g (lw_at lw_m5 196 rfl) rfl
theorem q1272 : (Jvm.Cond.soleField "TwoSeekModel" "thrown") ∈ lw_all := lw_g (lw_at lw_m5 197 rfl) rfl
theorem q1273 : (Jvm.Cond.lays "TwoSeekModel" "TwoSeekModel" "above" "J") ∈ lw_all := lw_g (lw_at lw_m5 198 rfl) rfl
theorem q1274 : (Jvm.Cond.soleField "TwoSeekModel" "above") ∈ lw_all := lw_g (lw_at lw_m5 199 rfl) rfl
theorem q1275 : (Jvm.Cond.lays "TwoSeekModel" "TwoSeekModel" "under" "J") ∈ lw_all := lw_g (lw_at lw_m5 200 rfl) rfl
theorem q1276 : (Jvm.Cond.soleField "TwoSeekModel" "under") ∈ lw_all := lw_g (lw_at lw_m5 201 rfl) rfl
theorem q1277 : (Jvm.Cond.laysFinal "TwoSeekModel" "TwoSeekModel" "traySort" "[I") ∈ lw_all := lw_g (lw_at lw_m5 202 rfl) rfl
theorem q1278 : (Jvm.Cond.soleField "TwoSeekModel" "traySort") ∈ lw_all := lw_g (lw_at lw_m5 203 rfl) rfl
theorem q1279 : (Jvm.Cond.laysFinal "TwoSeekModel" "TwoSeekModel" "trayMany" "[I") ∈ lw_all := lw_g (lw_at lw_m5 204 rfl) rfl
theorem q1280 : (Jvm.Cond.soleField "TwoSeekModel" "trayMany") ∈ lw_all := lw_g (lw_at lw_m5 205 rfl) rfl
theorem q1281 : (Jvm.Cond.laysFinal "TwoSeekModel" "TwoSeekModel" "numbers" "[J") ∈ lw_all := lw_g (lw_at lw_m5 206 rfl) rfl
theorem q1282 : (Jvm.Cond.soleField "TwoSeekModel" "numbers") ∈ lw_all := lw_g (lw_at lw_m5 207 rfl) rfl
theorem q1283 : (Jvm.Cond.laysFinal "TwoSeekModel" "TwoSeekModel" "tape" "[B") ∈ lw_all := lw_g (lw_at lw_m5 208 rfl) rfl
theorem q1284 : (Jvm.Cond.soleField "TwoSeekModel" "tape") ∈ lw_all := lw_g (lw_at lw_m5 209 rfl) rfl
theorem q1285 : (Jvm.Cond.lays "TwoSeekModel" "TwoSeekModel" "taped" "I") ∈ lw_all := lw_g (lw_at lw_m5 210 rfl) rfl
theorem q1286 : (Jvm.Cond.soleField "TwoSeekModel" "taped") ∈ lw_all := lw_g (lw_at lw_m5 211 rfl) rfl
theorem q1287 : (Jvm.Cond.lays "TwoSeekModel" "TwoSeekModel" "textEnd" "I") ∈ lw_all := lw_g (lw_at lw_m5 212 rfl) rfl
theorem q1288 : (Jvm.Cond.soleField "TwoSeekModel" "textEnd") ∈ lw_all := lw_g (lw_at lw_m5 213 rfl) rfl
theorem q1289 : (Jvm.Cond.lays "TwoSeekModel" "TwoSeekModel" "faultKind" "I") ∈ lw_all := lw_g (lw_at lw_m5 214 rfl) rfl
theorem q1290 : (Jvm.Cond.soleField "TwoSeekModel" "faultKind") ∈ lw_all := lw_g (lw_at lw_m5 215 rfl) rfl
theorem q1291 : (Jvm.Cond.lays "TwoSeekModel" "TwoSeekModel" "faultAt" "I") ∈ lw_all := lw_g (lw_at lw_m5 216 rfl) rfl
theorem q1292 : (Jvm.Cond.soleField "TwoSeekModel" "faultAt") ∈ lw_all := lw_g (lw_at lw_m5 217 rfl) rfl
theorem q1293 : (Jvm.Cond.lays "TwoSeekModel" "TwoSeekModel" "bad" "I") ∈ lw_all := lw_g (lw_at lw_m5 218 rfl) rfl
theorem q1294 : (Jvm.Cond.soleField "TwoSeekModel" "bad") ∈ lw_all := lw_g (lw_at lw_m5 219 rfl) rfl
theorem q1295 : (Jvm.Cond.lays "TwoSeekModel" "TwoSeekModel" "badAt" "I") ∈ lw_all := lw_g (lw_at lw_m5 220 rfl) rfl
theorem q1296 : (Jvm.Cond.soleField "TwoSeekModel" "badAt") ∈ lw_all := lw_g (lw_at lw_m5 221 rfl) rfl
theorem q1297 : (Jvm.Cond.lays "TwoSeekModel" "TwoSeekModel" "sort" "I") ∈ lw_all := lw_g (lw_at lw_m5 222 rfl) rfl
theorem q1298 : (Jvm.Cond.soleField "TwoSeekModel" "sort") ∈ lw_all := lw_g (lw_at lw_m5 223 rfl) rfl
theorem q1299 : (Jvm.Cond.lays "TwoSeekModel" "TwoSeekModel" "at" "I") ∈ lw_all := lw_g (lw_at lw_m5 224 rfl) rfl
theorem q1300 : (Jvm.Cond.soleField "TwoSeekModel" "at") ∈ lw_all := lw_g (lw_at lw_m5 225 rfl) rfl
theorem q1301 : (Jvm.Cond.lays "TwoSeekModel" "TwoSeekModel" "behind" "I") ∈ lw_all := lw_g (lw_at lw_m5 226 rfl) rfl
theorem q1302 : (Jvm.Cond.soleField "TwoSeekModel" "behind") ∈ lw_all := lw_g (lw_at lw_m5 227 rfl) rfl
theorem q1303 : (Jvm.Cond.lays "TwoSeekModel" "TwoSeekModel" "number" "I") ∈ lw_all := lw_g (lw_at lw_m5 228 rfl) rfl
theorem q1304 : (Jvm.Cond.soleField "TwoSeekModel" "number") ∈ lw_all := lw_g (lw_at lw_m5 229 rfl) rfl
theorem q1305 : (Jvm.Cond.lays "TwoSeekModel" "TwoSeekModel" "letters" "I") ∈ lw_all := lw_g (lw_at lw_m5 230 rfl) rfl
theorem q1306 : (Jvm.Cond.soleField "TwoSeekModel" "letters") ∈ lw_all := lw_g (lw_at lw_m5 231 rfl) rfl
theorem q1307 : (Jvm.Cond.lays "TwoSeekModel" "TwoSeekModel" "word" "J") ∈ lw_all := lw_g (lw_at lw_m5 232 rfl) rfl
theorem q1308 : (Jvm.Cond.soleField "TwoSeekModel" "word") ∈ lw_all := lw_g (lw_at lw_m5 233 rfl) rfl
theorem q1309 : (Jvm.Cond.lays "TwoSeekModel" "TwoSeekModel" "places" "I") ∈ lw_all := lw_g (lw_at lw_m5 234 rfl) rfl
theorem q1310 : (Jvm.Cond.soleField "TwoSeekModel" "places") ∈ lw_all := lw_g (lw_at lw_m5 235 rfl) rfl
theorem q1311 : (Jvm.Cond.lays "TwoSeekModel" "TwoSeekModel" "lanes" "I") ∈ lw_all := lw_g (lw_at lw_m5 236 rfl) rfl
theorem q1312 : (Jvm.Cond.soleField "TwoSeekModel" "lanes") ∈ lw_all := lw_g (lw_at lw_m5 237 rfl) rfl
theorem q1313 : (Jvm.Cond.lays "TwoSeekModel" "TwoSeekModel" "newPlaces" "I") ∈ lw_all := lw_g (lw_at lw_m5 238 rfl) rfl
theorem q1314 : (Jvm.Cond.soleField "TwoSeekModel" "newPlaces") ∈ lw_all := lw_g (lw_at lw_m5 239 rfl) rfl
theorem q1315 : (Jvm.Cond.lays "TwoSeekModel" "TwoSeekModel" "newLanes" "I") ∈ lw_all := lw_g (lw_at lw_m6 0 rfl) rfl
theorem q1316 : (Jvm.Cond.soleField "TwoSeekModel" "newLanes") ∈ lw_all := lw_g (lw_at lw_m6 1 rfl) rfl
theorem q1317 : (Jvm.Cond.lays "TwoSeekModel" "TwoSeekModel" "slow" "I") ∈ lw_all := lw_g (lw_at lw_m6 2 rfl) rfl
theorem q1318 : (Jvm.Cond.soleField "TwoSeekModel" "slow") ∈ lw_all := lw_g (lw_at lw_m6 3 rfl) rfl
theorem q1319 : (Jvm.Cond.lays "TwoSeekModel" "TwoSeekModel" "hears" "I") ∈ lw_all := lw_g (lw_at lw_m6 4 rfl) rfl
theorem q1320 : (Jvm.Cond.soleField "TwoSeekModel" "hears") ∈ lw_all := lw_g (lw_at lw_m6 5 rfl) rfl
theorem q1321 : (Jvm.Cond.lays "TwoSeekModel" "TwoSeekModel" "newSlow" "I") ∈ lw_all := lw_g (lw_at lw_m6 6 rfl) rfl
theorem q1322 : (Jvm.Cond.soleField "TwoSeekModel" "newSlow") ∈ lw_all := lw_g (lw_at lw_m6 7 rfl) rfl
theorem q1323 : (Jvm.Cond.lays "TwoSeekModel" "TwoSeekModel" "newHears" "I") ∈ lw_all := lw_g (lw_at lw_m6 8 rfl) rfl
theorem q1324 : (Jvm.Cond.soleField "TwoSeekModel" "newHears") ∈ lw_all := lw_g (lw_at lw_m6 9 rfl) rfl
theorem q1325 : (Jvm.Cond.lays "TwoSeekModel" "TwoSeekModel" "cross" "Z") ∈ lw_all := lw_g (lw_at lw_m6 10 rfl) rfl
theorem q1326 : (Jvm.Cond.soleField "TwoSeekModel" "cross") ∈ lw_all := lw_g (lw_at lw_m6 11 rfl) rfl
theorem q1327 : (Jvm.Cond.lays "TwoSeekModel" "TwoSeekModel" "newCross" "Z") ∈ lw_all := lw_g (lw_at lw_m6 12 rfl) rfl
theorem q1328 : (Jvm.Cond.soleField "TwoSeekModel" "newCross") ∈ lw_all := lw_g (lw_at lw_m6 13 rfl) rfl
theorem q1329 : (Jvm.Cond.lays "TwoSeekModel" "TwoSeekModel" "marks" "Z") ∈ lw_all := lw_g (lw_at lw_m6 14 rfl) rfl
theorem q1330 : (Jvm.Cond.soleField "TwoSeekModel" "marks") ∈ lw_all := lw_g (lw_at lw_m6 15 rfl) rfl
theorem q1331 : (Jvm.Cond.laysFinal "TwoSeekModel" "TwoSeekModel" "features" "[I") ∈ lw_all := lw_g (lw_at lw_m6 16 rfl) rfl
theorem q1332 : (Jvm.Cond.soleField "TwoSeekModel" "features") ∈ lw_all := lw_g (lw_at lw_m6 17 rfl) rfl
theorem q1333 : (Jvm.Cond.laysFinal "TwoSeekModel" "TwoSeekModel" "newFeatures" "[I") ∈ lw_all := lw_g (lw_at lw_m6 18 rfl) rfl
theorem q1334 : (Jvm.Cond.soleField "TwoSeekModel" "newFeatures") ∈ lw_all := lw_g (lw_at lw_m6 19 rfl) rfl
theorem q1335 : (Jvm.Cond.laysFinal "TwoSeekModel" "TwoSeekModel" "degree" "[I") ∈ lw_all := lw_g (lw_at lw_m6 20 rfl) rfl
theorem q1336 : (Jvm.Cond.soleField "TwoSeekModel" "degree") ∈ lw_all := lw_g (lw_at lw_m6 21 rfl) rfl
theorem q1337 : (Jvm.Cond.laysFinal "TwoSeekModel" "TwoSeekModel" "newDegree" "[I") ∈ lw_all := lw_g (lw_at lw_m6 22 rfl) rfl
theorem q1338 : (Jvm.Cond.soleField "TwoSeekModel" "newDegree") ∈ lw_all := lw_g (lw_at lw_m6 23 rfl) rfl
theorem q1339 : (Jvm.Cond.laysFinal "TwoSeekModel" "TwoSeekModel" "laneAt" "[I") ∈ lw_all := lw_g (lw_at lw_m6 24 rfl) rfl
theorem q1340 : (Jvm.Cond.soleField "TwoSeekModel" "laneAt") ∈ lw_all := lw_g (lw_at lw_m6 25 rfl) rfl
theorem q1341 : (Jvm.Cond.laysFinal "TwoSeekModel" "TwoSeekModel" "newLaneAt" "[I") ∈ lw_all := lw_g (lw_at lw_m6 26 rfl) rfl
theorem q1342 : (Jvm.Cond.soleField "TwoSeekModel" "newLaneAt") ∈ lw_all := lw_g (lw_at lw_m6 27 rfl) rfl
theorem q1343 : (Jvm.Cond.laysFinal "TwoSeekModel" "TwoSeekModel" "one" "[I") ∈ lw_all := lw_g (lw_at lw_m6 28 rfl) rfl
theorem q1344 : (Jvm.Cond.soleField "TwoSeekModel" "one") ∈ lw_all := lw_g (lw_at lw_m6 29 rfl) rfl
theorem q1345 : (Jvm.Cond.laysFinal "TwoSeekModel" "TwoSeekModel" "other" "[I") ∈ lw_all := lw_g (lw_at lw_m6 30 rfl) rfl
theorem q1346 : (Jvm.Cond.soleField "TwoSeekModel" "other") ∈ lw_all := lw_g (lw_at lw_m6 31 rfl) rfl
theorem q1347 : (Jvm.Cond.laysFinal "TwoSeekModel" "TwoSeekModel" "newOne" "[I") ∈ lw_all := lw_g (lw_at lw_m6 32 rfl) rfl
theorem q1348 : (Jvm.Cond.soleField "TwoSeekModel" "newOne") ∈ lw_all := lw_g (lw_at lw_m6 33 rfl) rfl
theorem q1349 : (Jvm.Cond.laysFinal "TwoSeekModel" "TwoSeekModel" "newOther" "[I") ∈ lw_all := lw_g (lw_at lw_m6 34 rfl) rfl
theorem q1350 : (Jvm.Cond.soleField "TwoSeekModel" "newOther") ∈ lw_all := lw_g (lw_at lw_m6 35 rfl) rfl
theorem q1351 : (Jvm.Cond.laysFinal "TwoSeekModel" "TwoSeekModel" "isShut" "[Z") ∈ lw_all := lw_g (lw_at lw_m6 36 rfl) rfl
theorem q1352 : (Jvm.Cond.soleField "TwoSeekModel" "isShut") ∈ lw_all := lw_g (lw_at lw_m6 37 rfl) rfl
theorem q1353 : (Jvm.Cond.laysFinal "TwoSeekModel" "TwoSeekModel" "names" "[J") ∈ lw_all := lw_g (lw_at lw_m6 38 rfl) rfl
theorem q1354 : (Jvm.Cond.soleField "TwoSeekModel" "names") ∈ lw_all := lw_g (lw_at lw_m6 39 rfl) rfl
theorem q1355 : (Jvm.Cond.lays "TwoSeekModel" "TwoSeekModel" "ways" "I") ∈ lw_all := lw_g (lw_at lw_m6 40 rfl) rfl
theorem q1356 : (Jvm.Cond.soleField "TwoSeekModel" "ways") ∈ lw_all := lw_g (lw_at lw_m6 41 rfl) rfl
theorem q1357 : (Jvm.Cond.laysFinal "TwoSeekModel" "TwoSeekModel" "length" "[I") ∈ lw_all := lw_g (lw_at lw_m6 42 rfl) rfl
theorem q1358 : (Jvm.Cond.soleField "TwoSeekModel" "length") ∈ lw_all := lw_g (lw_at lw_m6 43 rfl) rfl
theorem q1359 : (Jvm.Cond.laysFinal "TwoSeekModel" "TwoSeekModel" "table" "[I") ∈ lw_all := lw_g (lw_at lw_m6 44 rfl) rfl
theorem q1360 : (Jvm.Cond.soleField "TwoSeekModel" "table") ∈ lw_all := lw_g (lw_at lw_m6 45 rfl) rfl
theorem q1361 : (Jvm.Cond.laysFinal "TwoSeekModel" "TwoSeekModel" "again" "[Z") ∈ lw_all := lw_g (lw_at lw_m6 46 rfl) rfl
theorem q1362 : (Jvm.Cond.soleField "TwoSeekModel" "again") ∈ lw_all := lw_g (lw_at lw_m6 47 rfl) rfl
theorem q1363 : (Jvm.Cond.laysFinal "TwoSeekModel" "TwoSeekModel" "pos" "[I") ∈ lw_all := lw_g (lw_at lw_m6 48 rfl) rfl
theorem q1364 : (Jvm.Cond.soleField "TwoSeekModel" "pos") ∈ lw_all := lw_g (lw_at lw_m6 49 rfl) rfl
theorem q1365 : (Jvm.Cond.laysFinal "TwoSeekModel" "TwoSeekModel" "done" "[I") ∈ lw_all := lw_g (lw_at lw_m6 50 rfl) rfl
theorem q1366 : (Jvm.Cond.soleField "TwoSeekModel" "done") ∈ lw_all := lw_g (lw_at lw_m6 51 rfl) rfl
theorem q1367 : (Jvm.Cond.laysFinal "TwoSeekModel" "TwoSeekModel" "mood" "[I") ∈ lw_all := lw_g (lw_at lw_m6 52 rfl) rfl
theorem q1368 : (Jvm.Cond.soleField "TwoSeekModel" "mood") ∈ lw_all := lw_g (lw_at lw_m6 53 rfl) rfl
theorem q1369 : (Jvm.Cond.laysFinal "TwoSeekModel" "TwoSeekModel" "left" "[I") ∈ lw_all := lw_g (lw_at lw_m6 54 rfl) rfl
theorem q1370 : (Jvm.Cond.soleField "TwoSeekModel" "left") ∈ lw_all := lw_g (lw_at lw_m6 55 rfl) rfl
theorem q1371 : (Jvm.Cond.laysFinal "TwoSeekModel" "TwoSeekModel" "far" "[I") ∈ lw_all := lw_g (lw_at lw_m6 56 rfl) rfl
theorem q1372 : (Jvm.Cond.soleField "TwoSeekModel" "far") ∈ lw_all := lw_g (lw_at lw_m6 57 rfl) rfl
theorem q1373 : (Jvm.Cond.lays "TwoSeekModel" "TwoSeekModel" "agreedMany" "I") ∈ lw_all := lw_g (lw_at lw_m6 58 rfl) rfl
theorem q1374 : (Jvm.Cond.soleField "TwoSeekModel" "agreedMany") ∈ lw_all := lw_g (lw_at lw_m6 59 rfl) rfl
theorem q1375 : (Jvm.Cond.lays "TwoSeekModel" "TwoSeekModel" "alikeMany" "I") ∈ lw_all := lw_g (lw_at lw_m6 60 rfl) rfl
theorem q1376 : (Jvm.Cond.soleField "TwoSeekModel" "alikeMany") ∈ lw_all := lw_g (lw_at lw_m6 61 rfl) rfl
theorem q1377 : (Jvm.Cond.lays "TwoSeekModel" "TwoSeekModel" "chanceMany" "I") ∈ lw_all := lw_g (lw_at lw_m6 62 rfl) rfl
theorem q1378 : (Jvm.Cond.soleField "TwoSeekModel" "chanceMany") ∈ lw_all := lw_g (lw_at lw_m6 63 rfl) rfl
theorem q1379 : (Jvm.Cond.laysFinal "TwoSeekModel" "TwoSeekModel" "agreed" "[I") ∈ lw_all := lw_g (lw_at lw_m6 64 rfl) rfl
theorem q1380 : (Jvm.Cond.soleField "TwoSeekModel" "agreed") ∈ lw_all := lw_g (lw_at lw_m6 65 rfl) rfl
theorem q1381 : (Jvm.Cond.laysFinal "TwoSeekModel" "TwoSeekModel" "alike" "[I") ∈ lw_all := lw_g (lw_at lw_m6 66 rfl) rfl
theorem q1382 : (Jvm.Cond.soleField "TwoSeekModel" "alike") ∈ lw_all := lw_g (lw_at lw_m6 67 rfl) rfl
theorem q1383 : (Jvm.Cond.laysFinal "TwoSeekModel" "TwoSeekModel" "tried" "[I") ∈ lw_all := lw_g (lw_at lw_m6 68 rfl) rfl
theorem q1384 : (Jvm.Cond.soleField "TwoSeekModel" "tried") ∈ lw_all := lw_g (lw_at lw_m6 69 rfl) rfl
theorem q1385 : (Jvm.Cond.laysFinal "TwoSeekModel" "TwoSeekModel" "chanceTop" "[J") ∈ lw_all := lw_g (lw_at lw_m6 70 rfl) rfl
theorem q1386 : (Jvm.Cond.soleField "TwoSeekModel" "chanceTop") ∈ lw_all := lw_g (lw_at lw_m6 71 rfl) rfl
theorem q1387 : (Jvm.Cond.lays "TwoSeekModel" "TwoSeekModel" "chanceBottom" "J") ∈ lw_all := lw_g (lw_at lw_m6 72 rfl) rfl
theorem q1388 : (Jvm.Cond.soleField "TwoSeekModel" "chanceBottom") ∈ lw_all := lw_g (lw_at lw_m6 73 rfl) rfl
theorem q1389 : (Jvm.Cond.lays "TwoSeekModel" "TwoSeekModel" "hasSlow" "Z") ∈ lw_all := lw_g (lw_at lw_m6 74 rfl) rfl
theorem q1390 : (Jvm.Cond.soleField "TwoSeekModel" "hasSlow") ∈ lw_all := lw_g (lw_at lw_m6 75 rfl) rfl
theorem q1391 : (Jvm.Cond.lays "TwoSeekModel" "TwoSeekModel" "hasHears" "Z") ∈ lw_all := lw_g (lw_at lw_m6 76 rfl) rfl
theorem q1392 : (Jvm.Cond.soleField "TwoSeekModel" "hasHears") ∈ lw_all := lw_g (lw_at lw_m6 77 rfl) rfl
theorem q1393 : (Jvm.Cond.laysFinal "TwoSeekModel" "TwoSeekModel" "alikePlaces" "[Z") ∈ lw_all := lw_g (lw_at lw_m6 78 rfl) rfl
theorem q1394 : (Jvm.Cond.soleField "TwoSeekModel" "alikePlaces") ∈ lw_all := lw_g (lw_at lw_m6 79 rfl) rfl
theorem q1395 : (Jvm.Cond.lays "TwoSeekModel" "TwoSeekModel" "bestMissed" "J") ∈ lw_all := lw_g (lw_at lw_m6 80 rfl) rfl
theorem q1396 : (Jvm.Cond.soleField "TwoSeekModel" "bestMissed") ∈ lw_all := lw_g (lw_at lw_m6 81 rfl) rfl
theorem q1397 : (Jvm.Cond.lays "TwoSeekModel" "TwoSeekModel" "bestLate" "J") ∈ lw_all := lw_g (lw_at lw_m6 82 rfl) rfl
theorem q1398 : (Jvm.Cond.soleField "TwoSeekModel" "bestLate") ∈ lw_all := lw_g (lw_at lw_m6 83 rfl) rfl
theorem q1399 : (Jvm.Cond.laysFinal "TwoSeekModel" "TwoSeekModel" "isReached" "[Z") ∈ lw_all := lw_g (lw_at lw_m6 84 rfl) rfl
theorem q1400 : (Jvm.Cond.soleField "TwoSeekModel" "isReached") ∈ lw_all := lw_g (lw_at lw_m6 85 rfl) rfl
theorem q1401 : (Jvm.Cond.laysFinal "TwoSeekModel" "TwoSeekModel" "put" "[I") ∈ lw_all := lw_g (lw_at lw_m6 86 rfl) rfl
theorem q1402 : (Jvm.Cond.soleField "TwoSeekModel" "put") ∈ lw_all := lw_g (lw_at lw_m6 87 rfl) rfl
theorem q1403 : (Jvm.Cond.laysFinal "TwoSeekModel" "TwoSeekModel" "there" "[J") ∈ lw_all := lw_g (lw_at lw_m6 88 rfl) rfl
theorem q1404 : (Jvm.Cond.soleField "TwoSeekModel" "there") ∈ lw_all := lw_g (lw_at lw_m6 89 rfl) rfl
theorem q1405 : (Jvm.Cond.laysFinal "TwoSeekModel" "TwoSeekModel" "then" "[J") ∈ lw_all := lw_g (lw_at lw_m6 90 rfl) rfl
theorem q1406 : (Jvm.Cond.soleField "TwoSeekModel" "then") ∈ lw_all := lw_g (lw_at lw_m6 91 rfl) rfl
theorem q1407 : (Jvm.Cond.laysFinal "TwoSeekModel" "TwoSeekModel" "led" "[I") ∈ lw_all := lw_g (lw_at lw_m6 92 rfl) rfl
theorem q1408 : (Jvm.Cond.soleField "TwoSeekModel" "led") ∈ lw_all := lw_g (lw_at lw_m6 93 rfl) rfl
theorem q1409 : (Jvm.Cond.laysFinal "TwoSeekModel" "TwoSeekModel" "of" "[I") ∈ lw_all := lw_g (lw_at lw_m6 94 rfl) rfl
theorem q1410 : (Jvm.Cond.soleField "TwoSeekModel" "of") ∈ lw_all := lw_g (lw_at lw_m6 95 rfl) rfl
theorem q1411 : (Jvm.Cond.laysFinal "TwoSeekModel" "TwoSeekModel" "worth" "[I") ∈ lw_all := lw_g (lw_at lw_m6 96 rfl) rfl
theorem q1412 : (Jvm.Cond.soleField "TwoSeekModel" "worth") ∈ lw_all := lw_g (lw_at lw_m6 97 rfl) rfl
theorem q1413 : (Jvm.Cond.lays "TwoSeekModel" "TwoSeekModel" "rowsMany" "I") ∈ lw_all := lw_g (lw_at lw_m6 98 rfl) rfl
theorem q1414 : (Jvm.Cond.soleField "TwoSeekModel" "rowsMany") ∈ lw_all := lw_g (lw_at lw_m6 99 rfl) rfl
theorem q1415 : (Jvm.Cond.lays "TwoSeekModel" "TwoSeekModel" "columnsMany" "I") ∈ lw_all := lw_g (lw_at lw_m6 100 rfl) rfl
theorem q1416 : (Jvm.Cond.soleField "TwoSeekModel" "columnsMany") ∈ lw_all := lw_g (lw_at lw_m6 101 rfl) rfl
theorem q1417 : (Jvm.Cond.laysFinal "TwoSeekModel" "TwoSeekModel" "corner" "[J") ∈ lw_all := lw_g (lw_at lw_m6 102 rfl) rfl
theorem q1418 : (Jvm.Cond.soleField "TwoSeekModel" "corner") ∈ lw_all := lw_g (lw_at lw_m6 103 rfl) rfl
theorem q1419 : (Jvm.Cond.laysFinal "TwoSeekModel" "TwoSeekModel" "equation" "[J") ∈ lw_all := lw_g (lw_at lw_m6 104 rfl) rfl
theorem q1420 : (Jvm.Cond.soleField "TwoSeekModel" "equation") ∈ lw_all := lw_g (lw_at lw_m6 105 rfl) rfl
theorem q1421 : (Jvm.Cond.lays "TwoSeekModel" "TwoSeekModel" "cornerBottom" "J") ∈ lw_all := lw_g (lw_at lw_m6 106 rfl) rfl
theorem q1422 : (Jvm.Cond.soleField "TwoSeekModel" "cornerBottom") ∈ lw_all := lw_g (lw_at lw_m6 107 rfl) rfl
theorem q1423 : (Jvm.Cond.lays "TwoSeekModel" "TwoSeekModel" "valueTop" "J") ∈ lw_all := lw_g (lw_at lw_m6 108 rfl) rfl
theorem q1424 : (Jvm.Cond.soleField "TwoSeekModel" "valueTop") ∈ lw_all := lw_g (lw_at lw_m6 109 rfl) rfl
theorem q1425 : (Jvm.Cond.lays "TwoSeekModel" "TwoSeekModel" "valueBottom" "J") ∈ lw_all := lw_g (lw_at lw_m6 110 rfl) rfl
theorem q1426 : (Jvm.Cond.soleField "TwoSeekModel" "valueBottom") ∈ lw_all := lw_g (lw_at lw_m6 111 rfl) rfl
theorem q1427 : (Jvm.Cond.superclass "TwoSeekModel" "java/lang/Object") ∈ lw_all := lw_g (lw_at lw_m6 112 rfl) rfl
theorem q1429 : (Jvm.Cond.instanceMethod ({ cls := "TwoSeekModel", name := "status", desc := "()I" } : Jvm.MethodName)) ∈ lw_all := lw_g (lw_at lw_m6 114 rfl) rfl
theorem q1430 : (Jvm.Cond.selects "TwoSeekModel" ({ cls := "TwoSeekModel", name := "status", desc := "()I" } : Jvm.MethodName) ({ cls := "TwoSeekModel", name := "status", desc := "()I" } : Jvm.MethodName)) ∈ lw_all := lw_g (lw_at lw_m6 115 rfl) rfl
theorem q1431 : (Jvm.Cond.code ({ cls := "TwoSeekModel", name := "status", desc := "()I" } : Jvm.MethodName) prog_15_method_3_code (1 : Nat) (Option.some Jvm.ClassFile.FieldType.int)) ∈ lw_all := lw_g (lw_at lw_m6 116 rfl) rfl
theorem q1433 : (Jvm.Cond.instanceMethod ({ cls := "TwoSeekModel", name := "top", desc := "()J" } : Jvm.MethodName)) ∈ lw_all := lw_g (lw_at lw_m6 118 rfl) rfl
theorem q1434 : (Jvm.Cond.selects "TwoSeekModel" ({ cls := "TwoSeekModel", name := "top", desc := "()J" } : Jvm.MethodName) ({ cls := "TwoSeekModel", name := "top", desc := "()J" } : Jvm.MethodName)) ∈ lw_all := lw_g (lw_at lw_m6 119 rfl) rfl
theorem q1435 : (Jvm.Cond.code ({ cls := "TwoSeekModel", name := "top", desc := "()J" } : Jvm.MethodName) prog_15_method_4_code (1 : Nat) (Option.some Jvm.ClassFile.FieldType.long)) ∈ lw_all := lw_g (lw_at lw_m6 120 rfl) rfl
theorem q1437 : (Jvm.Cond.instanceMethod ({ cls := "TwoSeekModel", name := "bottom", desc := "()J" } : Jvm.MethodName)) ∈ lw_all := lw_g (lw_at lw_m6 122 rfl) rfl
theorem q1438 : (Jvm.Cond.selects "TwoSeekModel" ({ cls := "TwoSeekModel", name := "bottom", desc := "()J" } : Jvm.MethodName) ({ cls := "TwoSeekModel", name := "bottom", desc := "()J" } : Jvm.MethodName)) ∈ lw_all := lw_g (lw_at lw_m6 123 rfl) rfl
theorem q1439 : (Jvm.Cond.code ({ cls := "TwoSeekModel", name := "bottom", desc := "()J" } : Jvm.MethodName) prog_15_method_5_code (1 : Nat) (Option.some Jvm.ClassFile.FieldType.long)) ∈ lw_all := lw_g (lw_at lw_m6 124 rfl) rfl
theorem q1441 : (Jvm.Cond.instanceMethod ({ cls := "TwoSeekModel", name := "tray", desc := "(III)Z" } : Jvm.MethodName)) ∈ lw_all := lw_g (lw_at lw_m6 126 rfl) rfl
theorem q1442 : (Jvm.Cond.selects "TwoSeekModel" ({ cls := "TwoSeekModel", name := "tray", desc := "(III)Z" } : Jvm.MethodName) ({ cls := "TwoSeekModel", name := "tray", desc := "(III)Z" } : Jvm.MethodName)) ∈ lw_all := lw_g (lw_at lw_m6 127 rfl) rfl
theorem q1443 : (Jvm.Cond.code ({ cls := "TwoSeekModel", name := "tray", desc := "(III)Z" } : Jvm.MethodName) prog_15_method_12_code (5 : Nat) (Option.some Jvm.ClassFile.FieldType.boolean)) ∈ lw_all := lw_g (lw_at lw_m6 128 rfl) rfl
theorem q1444 : (Jvm.Cond.methodLink "TwoSeekModel" (163 : Nat) ({ cls := "TwoSeekModel", name := "no", desc := "(I)Z" } : Jvm.MethodName)) ∈ lw_all := lw_g (lw_at lw_m6 129 rfl) rfl
theorem q1445 : (Jvm.Cond.privateMethod ({ cls := "TwoSeekModel", name := "no", desc := "(I)Z" } : Jvm.MethodName)) ∈ lw_tbl := lw_at lw_m6 130 rfl
theorem q1446 : (Jvm.Cond.instanceMethod ({ cls := "TwoSeekModel", name := "no", desc := "(I)Z" } : Jvm.MethodName)) ∈ lw_all := lw_g (lw_at lw_m6 131 rfl) rfl
theorem q1447 : (Jvm.Cond.code ({ cls := "TwoSeekModel", name := "no", desc := "(I)Z" } : Jvm.MethodName) prog_15_method_7_code (2 : Nat) (Option.some Jvm.ClassFile.FieldType.boolean)) ∈ lw_all := lw_g (lw_at lw_m6 132 rfl) rfl
theorem q1449 : (Jvm.Cond.instanceMethod ({ cls := "TwoSeekModel", name := "write", desc := "(IIJ)Z" } : Jvm.MethodName)) ∈ lw_all := lw_g (lw_at lw_m6 134 rfl) rfl
theorem q1450 : (Jvm.Cond.selects "TwoSeekModel" ({ cls := "TwoSeekModel", name := "write", desc := "(IIJ)Z" } : Jvm.MethodName) ({ cls := "TwoSeekModel", name := "write", desc := "(IIJ)Z" } : Jvm.MethodName)) ∈ lw_all := lw_g (lw_at lw_m6 135 rfl) rfl
theorem q1451 : (Jvm.Cond.code ({ cls := "TwoSeekModel", name := "write", desc := "(IIJ)Z" } : Jvm.MethodName) prog_15_method_15_code (5 : Nat) (Option.some Jvm.ClassFile.FieldType.boolean)) ∈ lw_all := lw_g (lw_at lw_m6 136 rfl) rfl
theorem q1452 : (Jvm.Cond.methodLink "TwoSeekModel" (171 : Nat) ({ cls := "TwoSeekModel", name := "placed", desc := "(II)I" } : Jvm.MethodName)) ∈ lw_all := lw_g (lw_at lw_m6 137 rfl) rfl
theorem q1453 : (Jvm.Cond.privateMethod ({ cls := "TwoSeekModel", name := "placed", desc := "(II)I" } : Jvm.MethodName)) ∈ lw_tbl := lw_at lw_m6 138 rfl
theorem q1454 : (Jvm.Cond.instanceMethod ({ cls := "TwoSeekModel", name := "placed", desc := "(II)I" } : Jvm.MethodName)) ∈ lw_all := lw_g (lw_at lw_m6 139 rfl) rfl
theorem q1455 : (Jvm.Cond.code ({ cls := "TwoSeekModel", name := "placed", desc := "(II)I" } : Jvm.MethodName) prog_15_method_14_code (4 : Nat) (Option.some Jvm.ClassFile.FieldType.int)) ∈ lw_all := lw_g (lw_at lw_m6 140 rfl) rfl
theorem q1456 : (Jvm.Cond.methodLink "TwoSeekModel" (167 : Nat) ({ cls := "TwoSeekModel", name := "trayed", desc := "(I)I" } : Jvm.MethodName)) ∈ lw_all := lw_g (lw_at lw_m6 141 rfl) rfl
theorem q1457 : (Jvm.Cond.privateMethod ({ cls := "TwoSeekModel", name := "trayed", desc := "(I)I" } : Jvm.MethodName)) ∈ lw_tbl := lw_at lw_m6 142 rfl
theorem q1458 : (Jvm.Cond.instanceMethod ({ cls := "TwoSeekModel", name := "trayed", desc := "(I)I" } : Jvm.MethodName)) ∈ lw_all := lw_g (lw_at lw_m6 143 rfl) rfl
theorem q1459 : (Jvm.Cond.code ({ cls := "TwoSeekModel", name := "trayed", desc := "(I)I" } : Jvm.MethodName) prog_15_method_13_code (2 : Nat) (Option.some Jvm.ClassFile.FieldType.int)) ∈ lw_all := lw_g (lw_at lw_m6 144 rfl) rfl
theorem q1460 : (Jvm.Cond.methodLink "TwoSeekModel" (175 : Nat) ({ cls := "TwoSeekModel", name := "cut", desc := "(IJ)J" } : Jvm.MethodName)) ∈ lw_all := lw_g (lw_at lw_m6 145 rfl) rfl
theorem q1461 : (Jvm.Cond.static ({ cls := "TwoSeekModel", name := "cut", desc := "(IJ)J" } : Jvm.MethodName)) ∈ lw_all := lw_g (lw_at lw_m6 146 rfl) rfl
theorem q1462 : (Jvm.Cond.code ({ cls := "TwoSeekModel", name := "cut", desc := "(IJ)J" } : Jvm.MethodName) prog_15_method_11_code (3 : Nat) (Option.some Jvm.ClassFile.FieldType.long)) ∈ lw_all := lw_g (lw_at lw_m6 147 rfl) rfl
theorem q1464 : (Jvm.Cond.instanceMethod ({ cls := "TwoSeekModel", name := "read", desc := "(II)J" } : Jvm.MethodName)) ∈ lw_all := lw_g (lw_at lw_m6 149 rfl) rfl
theorem q1465 : (Jvm.Cond.selects "TwoSeekModel" ({ cls := "TwoSeekModel", name := "read", desc := "(II)J" } : Jvm.MethodName) ({ cls := "TwoSeekModel", name := "read", desc := "(II)J" } : Jvm.MethodName)) ∈ lw_all := lw_g (lw_at lw_m6 150 rfl) rfl
theorem q1466 : (Jvm.Cond.code ({ cls := "TwoSeekModel", name := "read", desc := "(II)J" } : Jvm.MethodName) prog_15_method_16_code (3 : Nat) (Option.some Jvm.ClassFile.FieldType.long)) ∈ lw_all := lw_g (lw_at lw_m6 151 rfl) rfl
theorem q1467 : (Jvm.Cond.constantLong "TwoSeekModel" (179 : Nat) (-1 : Int64)) ∈ lw_all := lw_g (lw_at lw_m6 152 rfl) rfl
theorem q1469 : (Jvm.Cond.instanceMethod ({ cls := "TwoSeekModel", name := "pour", desc := "(IIIII)Z" } : Jvm.MethodName)) ∈ lw_all := lw_g (lw_at lw_m6 154 rfl) rfl
theorem q1470 : (Jvm.Cond.selects "TwoSeekModel" ({ cls := "TwoSeekModel", name := "pour", desc := "(IIIII)Z" } : Jvm.MethodName) ({ cls := "TwoSeekModel", name := "pour", desc := "(IIIII)Z" } : Jvm.MethodName)) ∈ lw_all := lw_g (lw_at lw_m6 155 rfl) rfl
theorem q1471 : (Jvm.Cond.code ({ cls := "TwoSeekModel", name := "pour", desc := "(IIIII)Z" } : Jvm.MethodName) prog_15_method_17_code (9 : Nat) (Option.some Jvm.ClassFile.FieldType.boolean)) ∈ lw_all := lw_g (lw_at lw_m6 156 rfl) rfl
theorem q1473 : (Jvm.Cond.instanceMethod ({ cls := "TwoSeekModel", name := "feed", desc := "(IIIII)I" } : Jvm.MethodName)) ∈ lw_all := lw_g (lw_at lw_m6 158 rfl) rfl
theorem q1474 : (Jvm.Cond.selects "TwoSeekModel" ({ cls := "TwoSeekModel", name := "feed", desc := "(IIIII)I" } : Jvm.MethodName) ({ cls := "TwoSeekModel", name := "feed", desc := "(IIIII)I" } : Jvm.MethodName)) ∈ lw_all := lw_g (lw_at lw_m6 159 rfl) rfl
theorem q1475 : (Jvm.Cond.code ({ cls := "TwoSeekModel", name := "feed", desc := "(IIIII)I" } : Jvm.MethodName) prog_15_method_42_code (6 : Nat) (Option.some Jvm.ClassFile.FieldType.int)) ∈ lw_all := lw_g (lw_at lw_m6 160 rfl) rfl
theorem q1476 : (Jvm.Cond.methodLink "TwoSeekModel" (307 : Nat) ({ cls := "TwoSeekModel", name := "lay", desc := "(I)V" } : Jvm.MethodName)) ∈ lw_all := lw_g (lw_at lw_m6 161 rfl) rfl
theorem q1477 : (Jvm.Cond.privateMethod ({ cls := "TwoSeekModel", name := "lay", desc := "(I)V" } : Jvm.MethodName)) ∈ lw_tbl := lw_at lw_m6 162 rfl
theorem q1478 : (Jvm.Cond.instanceMethod ({ cls := "TwoSeekModel", name := "lay", desc := "(I)V" } : Jvm.MethodName)) ∈ lw_all := lw_g (lw_at lw_m6 163 rfl) rfl
theorem q1479 : (Jvm.Cond.code ({ cls := "TwoSeekModel", name := "lay", desc := "(I)V" } : Jvm.MethodName) prog_15_method_43_code (3 : Nat) (Option.none : Option Jvm.ClassFile.FieldType)) ∈ lw_all := lw_g (lw_at lw_m6 164 rfl) rfl
theorem q1481 : (Jvm.Cond.instanceMethod ({ cls := "TwoSeekModel", name := "town", desc := "(I)I" } : Jvm.MethodName)) ∈ lw_all := lw_g (lw_at lw_m6 166 rfl) rfl
theorem q1482 : (Jvm.Cond.selects "TwoSeekModel" ({ cls := "TwoSeekModel", name := "town", desc := "(I)I" } : Jvm.MethodName) ({ cls := "TwoSeekModel", name := "town", desc := "(I)I" } : Jvm.MethodName)) ∈ lw_all := lw_g (lw_at lw_m6 167 rfl) rfl
theorem q1483 : (Jvm.Cond.code ({ cls := "TwoSeekModel", name := "town", desc := "(I)I" } : Jvm.MethodName) prog_15_method_44_code (2 : Nat) (Option.some Jvm.ClassFile.FieldType.int)) ∈ lw_all := lw_g (lw_at lw_m6 168 rfl) rfl
theorem q1484 : (Jvm.Cond.methodLink "TwoSeekModel" (311 : Nat) ({ cls := "TwoSeekModel", name := "refuse", desc := "(I)I" } : Jvm.MethodName)) ∈ lw_all := lw_g (lw_at lw_m6 169 rfl) rfl
theorem q1485 : (Jvm.Cond.privateMethod ({ cls := "TwoSeekModel", name := "refuse", desc := "(I)I" } : Jvm.MethodName)) ∈ lw_tbl := lw_at lw_m6 170 rfl
theorem q1486 : (Jvm.Cond.instanceMethod ({ cls := "TwoSeekModel", name := "refuse", desc := "(I)I" } : Jvm.MethodName)) ∈ lw_all := lw_g (lw_at lw_m6 171 rfl) rfl
theorem q1487 : (Jvm.Cond.code ({ cls := "TwoSeekModel", name := "refuse", desc := "(I)I" } : Jvm.MethodName) prog_15_method_6_code (2 : Nat) (Option.some Jvm.ClassFile.FieldType.int)) ∈ lw_all := lw_g (lw_at lw_m6 172 rfl) rfl
theorem q1488 : (Jvm.Cond.methodLink "TwoSeekModel" (256 : Nat) ({ cls := "TwoSeekModel", name := "next", desc := "()V" } : Jvm.MethodName)) ∈ lw_all := lw_g (lw_at lw_m6 173 rfl) rfl
theorem q1489 : (Jvm.Cond.privateMethod ({ cls := "TwoSeekModel", name := "next", desc := "()V" } : Jvm.MethodName)) ∈ lw_tbl := lw_at lw_m6 174 rfl
theorem q1490 : (Jvm.Cond.instanceMethod ({ cls := "TwoSeekModel", name := "next", desc := "()V" } : Jvm.MethodName)) ∈ lw_all := lw_g (lw_at lw_m6 175 rfl) rfl
theorem q1491 : (Jvm.Cond.code ({ cls := "TwoSeekModel", name := "next", desc := "()V" } : Jvm.MethodName) prog_15_method_22_code (2 : Nat) (Option.none : Option Jvm.ClassFile.FieldType)) ∈ lw_all := lw_g (lw_at lw_m6 176 rfl) rfl
theorem q1492 : (Jvm.Cond.methodLink "TwoSeekModel" (190 : Nat) ({ cls := "TwoSeekModel", name := "look", desc := "(I)I" } : Jvm.MethodName)) ∈ lw_all := lw_g (lw_at lw_m6 177 rfl) rfl
theorem q1493 : (Jvm.Cond.privateMethod ({ cls := "TwoSeekModel", name := "look", desc := "(I)I" } : Jvm.MethodName)) ∈ lw_tbl := lw_at lw_m6 178 rfl
theorem q1494 : (Jvm.Cond.instanceMethod ({ cls := "TwoSeekModel", name := "look", desc := "(I)I" } : Jvm.MethodName)) ∈ lw_all := lw_g (lw_at lw_m6 179 rfl) rfl
theorem q1495 : (Jvm.Cond.code ({ cls := "TwoSeekModel", name := "look", desc := "(I)I" } : Jvm.MethodName) prog_15_method_19_code (2 : Nat) (Option.some Jvm.ClassFile.FieldType.int)) ∈ lw_all := lw_g (lw_at lw_m6 180 rfl) rfl
theorem q1496 : (Jvm.Cond.methodLink "TwoSeekModel" (196 : Nat) ({ cls := "TwoSeekModel", name := "isLetter", desc := "(I)Z" } : Jvm.MethodName)) ∈ lw_all := lw_g (lw_at lw_m6 181 rfl) rfl
theorem q1497 : (Jvm.Cond.static ({ cls := "TwoSeekModel", name := "isLetter", desc := "(I)Z" } : Jvm.MethodName)) ∈ lw_all := lw_g (lw_at lw_m6 182 rfl) rfl
theorem q1498 : (Jvm.Cond.code ({ cls := "TwoSeekModel", name := "isLetter", desc := "(I)Z" } : Jvm.MethodName) prog_15_method_20_code (1 : Nat) (Option.some Jvm.ClassFile.FieldType.boolean)) ∈ lw_all := lw_g (lw_at lw_m6 183 rfl) rfl
theorem q1499 : (Jvm.Cond.constantLong "TwoSeekModel" (202 : Nat) (32 : Int64)) ∈ lw_all := lw_g (lw_at lw_m6 184 rfl) rfl
theorem q1500 : (Jvm.Cond.constantLong "TwoSeekModel" (204 : Nat) (96 : Int64)) ∈ lw_all := lw_g (lw_at lw_m6 185 rfl) rfl
theorem q1501 : (Jvm.Cond.methodLink "TwoSeekModel" (209 : Nat) ({ cls := "TwoSeekModel", name := "isDigit", desc := "(I)Z" } : Jvm.MethodName)) ∈ lw_all := lw_g (lw_at lw_m6 186 rfl) rfl
theorem q1502 : (Jvm.Cond.static ({ cls := "TwoSeekModel", name := "isDigit", desc := "(I)Z" } : Jvm.MethodName)) ∈ lw_all := lw_g (lw_at lw_m6 187 rfl) rfl
theorem q1503 : (Jvm.Cond.code ({ cls := "TwoSeekModel", name := "isDigit", desc := "(I)Z" } : Jvm.MethodName) prog_15_method_21_code (1 : Nat) (Option.some Jvm.ClassFile.FieldType.boolean)) ∈ lw_all := lw_g (lw_at lw_m6 188 rfl) rfl
theorem q1504 : (Jvm.Cond.methodLink "TwoSeekModel" (227 : Nat) ({ cls := "TwoSeekModel", name := "isPlaceWord", desc := "()Z" } : Jvm.MethodName)) ∈ lw_all := lw_g (lw_at lw_m6 189 rfl) rfl
theorem q1505 : (Jvm.Cond.privateMethod ({ cls := "TwoSeekModel", name := "isPlaceWord", desc := "()Z" } : Jvm.MethodName)) ∈ lw_tbl := lw_at lw_m6 190 rfl
theorem q1506 : (Jvm.Cond.instanceMethod ({ cls := "TwoSeekModel", name := "isPlaceWord", desc := "()Z" } : Jvm.MethodName)) ∈ lw_all := lw_g (lw_at lw_m6 191 rfl) rfl
theorem q1507 : (Jvm.Cond.code ({ cls := "TwoSeekModel", name := "isPlaceWord", desc := "()Z" } : Jvm.MethodName) prog_15_method_25_code (1 : Nat) (Option.some Jvm.ClassFile.FieldType.boolean)) ∈ lw_all := lw_g (lw_at lw_m6 192 rfl) rfl
theorem q1508 : (Jvm.Cond.methodLink "TwoSeekModel" (215 : Nat) ({ cls := "TwoSeekModel", name := "spelled", desc := "(IIIIII)J" } : Jvm.MethodName)) ∈ lw_all := lw_g (lw_at lw_m6 193 rfl) rfl
theorem q1509 : (Jvm.Cond.static ({ cls := "TwoSeekModel", name := "spelled", desc := "(IIIIII)J" } : Jvm.MethodName)) ∈ lw_all := lw_g (lw_at lw_m6 194 rfl) rfl
theorem q1510 : (Jvm.Cond.code ({ cls := "TwoSeekModel", name := "spelled", desc := "(IIIIII)J" } : Jvm.MethodName) prog_15_method_23_code (8 : Nat) (Option.some Jvm.ClassFile.FieldType.long)) ∈ lw_all := lw_g (lw_at lw_m6 195 rfl) rfl
theorem q1511 : (Jvm.Cond.methodLink "TwoSeekModel" (219 : Nat) ({ cls := "TwoSeekModel", name := "isWord", desc := "(J)Z" } : Jvm.MethodName)) ∈ lw_all := lw_g (lw_at lw_m6 196 rfl) rfl
theorem q1512 : (Jvm.Cond.privateMethod ({ cls := "TwoSeekModel", name := "isWord", desc := "(J)Z" } : Jvm.MethodName)) ∈ lw_tbl := lw_at lw_m6 197 rfl
theorem q1513 : (Jvm.Cond.instanceMethod ({ cls := "TwoSeekModel", name := "isWord", desc := "(J)Z" } : Jvm.MethodName)) ∈ lw_all := lw_g (lw_at lw_m6 198 rfl) rfl
theorem q1514 : (Jvm.Cond.code ({ cls := "TwoSeekModel", name := "isWord", desc := "(J)Z" } : Jvm.MethodName) prog_15_method_24_code (3 : Nat) (Option.some Jvm.ClassFile.FieldType.boolean)) ∈ lw_all := lw_g (lw_at lw_m6 199 rfl) rfl
theorem q1515 : (Jvm.Cond.methodLink "TwoSeekModel" (314 : Nat) ({ cls := "TwoSeekModel", name := "readPlace", desc := "()V" } : Jvm.MethodName)) ∈ lw_all := lw_g (lw_at lw_m6 200 rfl) rfl
theorem q1516 : (Jvm.Cond.privateMethod ({ cls := "TwoSeekModel", name := "readPlace", desc := "()V" } : Jvm.MethodName)) ∈ lw_tbl := lw_at lw_m6 201 rfl
theorem q1517 : (Jvm.Cond.instanceMethod ({ cls := "TwoSeekModel", name := "readPlace", desc := "()V" } : Jvm.MethodName)) ∈ lw_all := lw_g (lw_at lw_m6 202 rfl) rfl
theorem q1518 : (Jvm.Cond.code ({ cls := "TwoSeekModel", name := "readPlace", desc := "()V" } : Jvm.MethodName) prog_15_method_38_code (4 : Nat) (Option.none : Option Jvm.ClassFile.FieldType)) ∈ lw_all := lw_g (lw_at lw_m6 203 rfl) rfl
theorem q1519 : (Jvm.Cond.methodLink "TwoSeekModel" (269 : Nat) ({ cls := "TwoSeekModel", name := "isName", desc := "()Z" } : Jvm.MethodName)) ∈ lw_all := lw_g (lw_at lw_m6 204 rfl) rfl
theorem q1520 : (Jvm.Cond.privateMethod ({ cls := "TwoSeekModel", name := "isName", desc := "()Z" } : Jvm.MethodName)) ∈ lw_tbl := lw_at lw_m6 205 rfl
theorem q1521 : (Jvm.Cond.instanceMethod ({ cls := "TwoSeekModel", name := "isName", desc := "()Z" } : Jvm.MethodName)) ∈ lw_all := lw_g (lw_at lw_m6 206 rfl) rfl
theorem q1522 : (Jvm.Cond.code ({ cls := "TwoSeekModel", name := "isName", desc := "()Z" } : Jvm.MethodName) prog_15_method_32_code (1 : Nat) (Option.some Jvm.ClassFile.FieldType.boolean)) ∈ lw_all := lw_g (lw_at lw_m6 207 rfl) rfl
theorem q1523 : (Jvm.Cond.methodLink "TwoSeekModel" (223 : Nat) ({ cls := "TwoSeekModel", name := "feature", desc := "()I" } : Jvm.MethodName)) ∈ lw_all := lw_g (lw_at lw_m6 208 rfl) rfl
theorem q1524 : (Jvm.Cond.privateMethod ({ cls := "TwoSeekModel", name := "feature", desc := "()I" } : Jvm.MethodName)) ∈ lw_tbl := lw_at lw_m6 209 rfl
theorem q1525 : (Jvm.Cond.instanceMethod ({ cls := "TwoSeekModel", name := "feature", desc := "()I" } : Jvm.MethodName)) ∈ lw_all := lw_g (lw_at lw_m6 210 rfl) rfl
theorem q1526 : (Jvm.Cond.code ({ cls := "TwoSeekModel", name := "feature", desc := "()I" } : Jvm.MethodName) prog_15_method_31_code (1 : Nat) (Option.some Jvm.ClassFile.FieldType.int)) ∈ lw_all := lw_g (lw_at lw_m6 211 rfl) rfl
theorem q1527 : (Jvm.Cond.methodLink "TwoSeekModel" (231 : Nat) ({ cls := "TwoSeekModel", name := "isLane", desc := "()Z" } : Jvm.MethodName)) ∈ lw_all := lw_g (lw_at lw_m6 212 rfl) rfl
theorem q1528 : (Jvm.Cond.privateMethod ({ cls := "TwoSeekModel", name := "isLane", desc := "()Z" } : Jvm.MethodName)) ∈ lw_tbl := lw_at lw_m6 213 rfl
theorem q1529 : (Jvm.Cond.instanceMethod ({ cls := "TwoSeekModel", name := "isLane", desc := "()Z" } : Jvm.MethodName)) ∈ lw_all := lw_g (lw_at lw_m6 214 rfl) rfl
theorem q1530 : (Jvm.Cond.code ({ cls := "TwoSeekModel", name := "isLane", desc := "()Z" } : Jvm.MethodName) prog_15_method_26_code (1 : Nat) (Option.some Jvm.ClassFile.FieldType.boolean)) ∈ lw_all := lw_g (lw_at lw_m6 215 rfl) rfl
theorem q1531 : (Jvm.Cond.methodLink "TwoSeekModel" (234 : Nat) ({ cls := "TwoSeekModel", name := "isTo", desc := "()Z" } : Jvm.MethodName)) ∈ lw_all := lw_g (lw_at lw_m6 216 rfl) rfl
theorem q1532 : (Jvm.Cond.privateMethod ({ cls := "TwoSeekModel", name := "isTo", desc := "()Z" } : Jvm.MethodName)) ∈ lw_tbl := lw_at lw_m6 217 rfl
theorem q1533 : (Jvm.Cond.instanceMethod ({ cls := "TwoSeekModel", name := "isTo", desc := "()Z" } : Jvm.MethodName)) ∈ lw_all := lw_g (lw_at lw_m6 218 rfl) rfl
theorem q1534 : (Jvm.Cond.code ({ cls := "TwoSeekModel", name := "isTo", desc := "()Z" } : Jvm.MethodName) prog_15_method_27_code (1 : Nat) (Option.some Jvm.ClassFile.FieldType.boolean)) ∈ lw_all := lw_g (lw_at lw_m6 219 rfl) rfl
theorem q1535 : (Jvm.Cond.methodLink "TwoSeekModel" (237 : Nat) ({ cls := "TwoSeekModel", name := "isCross", desc := "()Z" } : Jvm.MethodName)) ∈ lw_all := lw_g (lw_at lw_m6 220 rfl) rfl
theorem q1536 : (Jvm.Cond.privateMethod ({ cls := "TwoSeekModel", name := "isCross", desc := "()Z" } : Jvm.MethodName)) ∈ lw_tbl := lw_at lw_m6 221 rfl
theorem q1537 : (Jvm.Cond.instanceMethod ({ cls := "TwoSeekModel", name := "isCross", desc := "()Z" } : Jvm.MethodName)) ∈ lw_all := lw_g (lw_at lw_m6 222 rfl) rfl
theorem q1538 : (Jvm.Cond.code ({ cls := "TwoSeekModel", name := "isCross", desc := "()Z" } : Jvm.MethodName) prog_15_method_28_code (1 : Nat) (Option.some Jvm.ClassFile.FieldType.boolean)) ∈ lw_all := lw_g (lw_at lw_m6 223 rfl) rfl
theorem q1539 : (Jvm.Cond.methodLink "TwoSeekModel" (240 : Nat) ({ cls := "TwoSeekModel", name := "isSlow", desc := "()Z" } : Jvm.MethodName)) ∈ lw_all := lw_g (lw_at lw_m6 224 rfl) rfl
theorem q1540 : (Jvm.Cond.privateMethod ({ cls := "TwoSeekModel", name := "isSlow", desc := "()Z" } : Jvm.MethodName)) ∈ lw_tbl := lw_at lw_m6 225 rfl
theorem q1541 : (Jvm.Cond.instanceMethod ({ cls := "TwoSeekModel", name := "isSlow", desc := "()Z" } : Jvm.MethodName)) ∈ lw_all := lw_g (lw_at lw_m6 226 rfl) rfl
theorem q1542 : (Jvm.Cond.code ({ cls := "TwoSeekModel", name := "isSlow", desc := "()Z" } : Jvm.MethodName) prog_15_method_29_code (1 : Nat) (Option.some Jvm.ClassFile.FieldType.boolean)) ∈ lw_all := lw_g (lw_at lw_m6 227 rfl) rfl
theorem q1543 : (Jvm.Cond.methodLink "TwoSeekModel" (243 : Nat) ({ cls := "TwoSeekModel", name := "isHears", desc := "()Z" } : Jvm.MethodName)) ∈ lw_all := lw_g (lw_at lw_m6 228 rfl) rfl
theorem q1544 : (Jvm.Cond.privateMethod ({ cls := "TwoSeekModel", name := "isHears", desc := "()Z" } : Jvm.MethodName)) ∈ lw_tbl := lw_at lw_m6 229 rfl
theorem q1545 : (Jvm.Cond.instanceMethod ({ cls := "TwoSeekModel", name := "isHears", desc := "()Z" } : Jvm.MethodName)) ∈ lw_all := lw_g (lw_at lw_m6 230 rfl) rfl
theorem q1546 : (Jvm.Cond.code ({ cls := "TwoSeekModel", name := "isHears", desc := "()Z" } : Jvm.MethodName) prog_15_method_30_code (1 : Nat) (Option.some Jvm.ClassFile.FieldType.boolean)) ∈ lw_all := lw_g (lw_at lw_m6 231 rfl) rfl
theorem q1547 : (Jvm.Cond.methodLink "TwoSeekModel" (259 : Nat) ({ cls := "TwoSeekModel", name := "wrong", desc := "()V" } : Jvm.MethodName)) ∈ lw_all := lw_g (lw_at lw_m6 232 rfl) rfl
theorem q1548 : (Jvm.Cond.privateMethod ({ cls := "TwoSeekModel", name := "wrong", desc := "()V" } : Jvm.MethodName)) ∈ lw_tbl := lw_at lw_m6 233 rfl
theorem q1549 : (Jvm.Cond.instanceMethod ({ cls := "TwoSeekModel", name := "wrong", desc := "()V" } : Jvm.MethodName)) ∈ lw_all := lw_g (lw_at lw_m6 234 rfl) rfl
theorem q1550 : (Jvm.Cond.code ({ cls := "TwoSeekModel", name := "wrong", desc := "()V" } : Jvm.MethodName) prog_15_method_34_code (1 : Nat) (Option.none : Option Jvm.ClassFile.FieldType)) ∈ lw_all := lw_g (lw_at lw_m6 235 rfl) rfl
theorem q1551 : (Jvm.Cond.methodLink "TwoSeekModel" (252 : Nat) ({ cls := "TwoSeekModel", name := "fail", desc := "(II)V" } : Jvm.MethodName)) ∈ lw_all := lw_g (lw_at lw_m6 236 rfl) rfl
theorem q1552 : (Jvm.Cond.privateMethod ({ cls := "TwoSeekModel", name := "fail", desc := "(II)V" } : Jvm.MethodName)) ∈ lw_tbl := lw_at lw_m6 237 rfl
theorem q1553 : (Jvm.Cond.instanceMethod ({ cls := "TwoSeekModel", name := "fail", desc := "(II)V" } : Jvm.MethodName)) ∈ lw_all := lw_g (lw_at lw_m6 238 rfl) rfl
theorem q1554 : (Jvm.Cond.code ({ cls := "TwoSeekModel", name := "fail", desc := "(II)V" } : Jvm.MethodName) prog_15_method_33_code (3 : Nat) (Option.none : Option Jvm.ClassFile.FieldType)) ∈ lw_all := lw_g (lw_at lw_m6 239 rfl) rfl
theorem q1555 : (Jvm.Cond.methodLink "TwoSeekModel" (272 : Nat) ({ cls := "TwoSeekModel", name := "named", desc := "()I" } : Jvm.MethodName)) ∈ lw_all := lw_g (lw_at lw_m7 0 rfl) rfl
theorem q1556 : (Jvm.Cond.privateMethod ({ cls := "TwoSeekModel", name := "named", desc := "()I" } : Jvm.MethodName)) ∈ lw_tbl := lw_at lw_m7 1 rfl
theorem q1557 : (Jvm.Cond.instanceMethod ({ cls := "TwoSeekModel", name := "named", desc := "()I" } : Jvm.MethodName)) ∈ lw_all := lw_g (lw_at lw_m7 2 rfl) rfl
theorem q1558 : (Jvm.Cond.code ({ cls := "TwoSeekModel", name := "named", desc := "()I" } : Jvm.MethodName) prog_15_method_37_code (2 : Nat) (Option.some Jvm.ClassFile.FieldType.int)) ∈ lw_all := lw_g (lw_at lw_m7 3 rfl) rfl
theorem q1559 : (Jvm.Cond.methodLink "TwoSeekModel" (275 : Nat) ({ cls := "TwoSeekModel", name := "count", desc := "(II)I" } : Jvm.MethodName)) ∈ lw_all := lw_g (lw_at lw_m7 4 rfl) rfl
theorem q1560 : (Jvm.Cond.privateMethod ({ cls := "TwoSeekModel", name := "count", desc := "(II)I" } : Jvm.MethodName)) ∈ lw_tbl := lw_at lw_m7 5 rfl
theorem q1561 : (Jvm.Cond.instanceMethod ({ cls := "TwoSeekModel", name := "count", desc := "(II)I" } : Jvm.MethodName)) ∈ lw_all := lw_g (lw_at lw_m7 6 rfl) rfl
theorem q1562 : (Jvm.Cond.code ({ cls := "TwoSeekModel", name := "count", desc := "(II)I" } : Jvm.MethodName) prog_15_method_36_code (4 : Nat) (Option.some Jvm.ClassFile.FieldType.int)) ∈ lw_all := lw_g (lw_at lw_m7 7 rfl) rfl
theorem q1563 : (Jvm.Cond.methodLink "TwoSeekModel" (262 : Nat) ({ cls := "TwoSeekModel", name := "isIn", desc := "(JJJ)Z" } : Jvm.MethodName)) ∈ lw_all := lw_g (lw_at lw_m7 8 rfl) rfl
theorem q1564 : (Jvm.Cond.static ({ cls := "TwoSeekModel", name := "isIn", desc := "(JJJ)Z" } : Jvm.MethodName)) ∈ lw_all := lw_g (lw_at lw_m7 9 rfl) rfl
theorem q1565 : (Jvm.Cond.code ({ cls := "TwoSeekModel", name := "isIn", desc := "(JJJ)Z" } : Jvm.MethodName) prog_15_method_8_code (6 : Nat) (Option.some Jvm.ClassFile.FieldType.boolean)) ∈ lw_all := lw_g (lw_at lw_m7 10 rfl) rfl
theorem q1566 : (Jvm.Cond.methodLink "TwoSeekModel" (278 : Nat) ({ cls := "TwoSeekModel", name := "must", desc := "(Z)V" } : Jvm.MethodName)) ∈ lw_all := lw_g (lw_at lw_m7 11 rfl) rfl
theorem q1567 : (Jvm.Cond.privateMethod ({ cls := "TwoSeekModel", name := "must", desc := "(Z)V" } : Jvm.MethodName)) ∈ lw_tbl := lw_at lw_m7 12 rfl
theorem q1568 : (Jvm.Cond.instanceMethod ({ cls := "TwoSeekModel", name := "must", desc := "(Z)V" } : Jvm.MethodName)) ∈ lw_all := lw_g (lw_at lw_m7 13 rfl) rfl
theorem q1569 : (Jvm.Cond.code ({ cls := "TwoSeekModel", name := "must", desc := "(Z)V" } : Jvm.MethodName) prog_15_method_35_code (2 : Nat) (Option.none : Option Jvm.ClassFile.FieldType)) ∈ lw_all := lw_g (lw_at lw_m7 14 rfl) rfl
theorem q1570 : (Jvm.Cond.methodLink "TwoSeekModel" (317 : Nat) ({ cls := "TwoSeekModel", name := "readLane", desc := "()V" } : Jvm.MethodName)) ∈ lw_all := lw_g (lw_at lw_m7 15 rfl) rfl
theorem q1571 : (Jvm.Cond.privateMethod ({ cls := "TwoSeekModel", name := "readLane", desc := "()V" } : Jvm.MethodName)) ∈ lw_tbl := lw_at lw_m7 16 rfl
theorem q1572 : (Jvm.Cond.instanceMethod ({ cls := "TwoSeekModel", name := "readLane", desc := "()V" } : Jvm.MethodName)) ∈ lw_all := lw_g (lw_at lw_m7 17 rfl) rfl
theorem q1573 : (Jvm.Cond.code ({ cls := "TwoSeekModel", name := "readLane", desc := "()V" } : Jvm.MethodName) prog_15_method_40_code (4 : Nat) (Option.none : Option Jvm.ClassFile.FieldType)) ∈ lw_all := lw_g (lw_at lw_m7 18 rfl) rfl
theorem q1574 : (Jvm.Cond.methodLink "TwoSeekModel" (285 : Nat) ({ cls := "TwoSeekModel", name := "told", desc := "()I" } : Jvm.MethodName)) ∈ lw_all := lw_g (lw_at lw_m7 19 rfl) rfl
theorem q1575 : (Jvm.Cond.privateMethod ({ cls := "TwoSeekModel", name := "told", desc := "()I" } : Jvm.MethodName)) ∈ lw_tbl := lw_at lw_m7 20 rfl
theorem q1576 : (Jvm.Cond.instanceMethod ({ cls := "TwoSeekModel", name := "told", desc := "()I" } : Jvm.MethodName)) ∈ lw_all := lw_g (lw_at lw_m7 21 rfl) rfl
theorem q1577 : (Jvm.Cond.code ({ cls := "TwoSeekModel", name := "told", desc := "()I" } : Jvm.MethodName) prog_15_method_39_code (1 : Nat) (Option.some Jvm.ClassFile.FieldType.int)) ∈ lw_all := lw_g (lw_at lw_m7 22 rfl) rfl
theorem q1578 : (Jvm.Cond.methodLink "TwoSeekModel" (320 : Nat) ({ cls := "TwoSeekModel", name := "readRest", desc := "()V" } : Jvm.MethodName)) ∈ lw_all := lw_g (lw_at lw_m7 23 rfl) rfl
theorem q1579 : (Jvm.Cond.privateMethod ({ cls := "TwoSeekModel", name := "readRest", desc := "()V" } : Jvm.MethodName)) ∈ lw_tbl := lw_at lw_m7 24 rfl
theorem q1580 : (Jvm.Cond.instanceMethod ({ cls := "TwoSeekModel", name := "readRest", desc := "()V" } : Jvm.MethodName)) ∈ lw_all := lw_g (lw_at lw_m7 25 rfl) rfl
theorem q1581 : (Jvm.Cond.code ({ cls := "TwoSeekModel", name := "readRest", desc := "()V" } : Jvm.MethodName) prog_15_method_41_code (3 : Nat) (Option.none : Option Jvm.ClassFile.FieldType)) ∈ lw_all := lw_g (lw_at lw_m7 26 rfl) rfl
theorem q1582 : (Jvm.Cond.methodLink "TwoSeekModel" (323 : Nat) ({ cls := "TwoSeekModel", name := "taken", desc := "()I" } : Jvm.MethodName)) ∈ lw_all := lw_g (lw_at lw_m7 27 rfl) rfl
theorem q1583 : (Jvm.Cond.privateMethod ({ cls := "TwoSeekModel", name := "taken", desc := "()I" } : Jvm.MethodName)) ∈ lw_tbl := lw_at lw_m7 28 rfl
theorem q1584 : (Jvm.Cond.instanceMethod ({ cls := "TwoSeekModel", name := "taken", desc := "()I" } : Jvm.MethodName)) ∈ lw_all := lw_g (lw_at lw_m7 29 rfl) rfl
theorem q1585 : (Jvm.Cond.code ({ cls := "TwoSeekModel", name := "taken", desc := "()I" } : Jvm.MethodName) prog_15_method_45_code (2 : Nat) (Option.some Jvm.ClassFile.FieldType.int)) ∈ lw_all := lw_g (lw_at lw_m7 30 rfl) rfl
theorem q1587 : (Jvm.Cond.instanceMethod ({ cls := "TwoSeekModel", name := "fault", desc := "(I)I" } : Jvm.MethodName)) ∈ lw_all := lw_g (lw_at lw_m7 32 rfl) rfl
theorem q1588 : (Jvm.Cond.selects "TwoSeekModel" ({ cls := "TwoSeekModel", name := "fault", desc := "(I)I" } : Jvm.MethodName) ({ cls := "TwoSeekModel", name := "fault", desc := "(I)I" } : Jvm.MethodName)) ∈ lw_all := lw_g (lw_at lw_m7 33 rfl) rfl
theorem q1589 : (Jvm.Cond.code ({ cls := "TwoSeekModel", name := "fault", desc := "(I)I" } : Jvm.MethodName) prog_15_method_46_code (2 : Nat) (Option.some Jvm.ClassFile.FieldType.int)) ∈ lw_all := lw_g (lw_at lw_m7 34 rfl) rfl
theorem q1591 : (Jvm.Cond.instanceMethod ({ cls := "TwoSeekModel", name := "many", desc := "(I)I" } : Jvm.MethodName)) ∈ lw_all := lw_g (lw_at lw_m7 36 rfl) rfl
theorem q1592 : (Jvm.Cond.selects "TwoSeekModel" ({ cls := "TwoSeekModel", name := "many", desc := "(I)I" } : Jvm.MethodName) ({ cls := "TwoSeekModel", name := "many", desc := "(I)I" } : Jvm.MethodName)) ∈ lw_all := lw_g (lw_at lw_m7 37 rfl) rfl
theorem q1593 : (Jvm.Cond.code ({ cls := "TwoSeekModel", name := "many", desc := "(I)I" } : Jvm.MethodName) prog_15_method_54_code (2 : Nat) (Option.some Jvm.ClassFile.FieldType.int)) ∈ lw_all := lw_g (lw_at lw_m7 38 rfl) rfl
theorem q1595 : (Jvm.Cond.instanceMethod ({ cls := "TwoSeekModel", name := "place", desc := "(II)I" } : Jvm.MethodName)) ∈ lw_all := lw_g (lw_at lw_m7 40 rfl) rfl
theorem q1596 : (Jvm.Cond.selects "TwoSeekModel" ({ cls := "TwoSeekModel", name := "place", desc := "(II)I" } : Jvm.MethodName) ({ cls := "TwoSeekModel", name := "place", desc := "(II)I" } : Jvm.MethodName)) ∈ lw_all := lw_g (lw_at lw_m7 41 rfl) rfl
theorem q1597 : (Jvm.Cond.code ({ cls := "TwoSeekModel", name := "place", desc := "(II)I" } : Jvm.MethodName) prog_15_method_55_code (3 : Nat) (Option.some Jvm.ClassFile.FieldType.int)) ∈ lw_all := lw_g (lw_at lw_m7 42 rfl) rfl
theorem q1598 : (Jvm.Cond.methodLink "TwoSeekModel" (354 : Nat) ({ cls := "TwoSeekModel", name := "isPlace", desc := "(I)Z" } : Jvm.MethodName)) ∈ lw_all := lw_g (lw_at lw_m7 43 rfl) rfl
theorem q1599 : (Jvm.Cond.privateMethod ({ cls := "TwoSeekModel", name := "isPlace", desc := "(I)Z" } : Jvm.MethodName)) ∈ lw_tbl := lw_at lw_m7 44 rfl
theorem q1600 : (Jvm.Cond.instanceMethod ({ cls := "TwoSeekModel", name := "isPlace", desc := "(I)Z" } : Jvm.MethodName)) ∈ lw_all := lw_g (lw_at lw_m7 45 rfl) rfl
theorem q1601 : (Jvm.Cond.code ({ cls := "TwoSeekModel", name := "isPlace", desc := "(I)Z" } : Jvm.MethodName) prog_15_method_47_code (2 : Nat) (Option.some Jvm.ClassFile.FieldType.boolean)) ∈ lw_all := lw_g (lw_at lw_m7 46 rfl) rfl
theorem q1602 : (Jvm.Cond.constantLong "TwoSeekModel" (357 : Nat) (5 : Int64)) ∈ lw_all := lw_g (lw_at lw_m7 47 rfl) rfl
theorem q1603 : (Jvm.Cond.methodLink "TwoSeekModel" (351 : Nat) ({ cls := "TwoSeekModel", name := "leads", desc := "(II)I" } : Jvm.MethodName)) ∈ lw_all := lw_g (lw_at lw_m7 48 rfl) rfl
theorem q1604 : (Jvm.Cond.privateMethod ({ cls := "TwoSeekModel", name := "leads", desc := "(II)I" } : Jvm.MethodName)) ∈ lw_tbl := lw_at lw_m7 49 rfl
theorem q1605 : (Jvm.Cond.instanceMethod ({ cls := "TwoSeekModel", name := "leads", desc := "(II)I" } : Jvm.MethodName)) ∈ lw_all := lw_g (lw_at lw_m7 50 rfl) rfl
theorem q1606 : (Jvm.Cond.code ({ cls := "TwoSeekModel", name := "leads", desc := "(II)I" } : Jvm.MethodName) prog_15_method_50_code (3 : Nat) (Option.some Jvm.ClassFile.FieldType.int)) ∈ lw_all := lw_g (lw_at lw_m7 51 rfl) rfl
theorem q1607 : (Jvm.Cond.methodLink "TwoSeekModel" (344 : Nat) ({ cls := "TwoSeekModel", name := "over", desc := "(II)I" } : Jvm.MethodName)) ∈ lw_all := lw_g (lw_at lw_m7 52 rfl) rfl
theorem q1608 : (Jvm.Cond.privateMethod ({ cls := "TwoSeekModel", name := "over", desc := "(II)I" } : Jvm.MethodName)) ∈ lw_tbl := lw_at lw_m7 53 rfl
theorem q1609 : (Jvm.Cond.instanceMethod ({ cls := "TwoSeekModel", name := "over", desc := "(II)I" } : Jvm.MethodName)) ∈ lw_all := lw_g (lw_at lw_m7 54 rfl) rfl
theorem q1610 : (Jvm.Cond.code ({ cls := "TwoSeekModel", name := "over", desc := "(II)I" } : Jvm.MethodName) prog_15_method_51_code (3 : Nat) (Option.some Jvm.ClassFile.FieldType.int)) ∈ lw_all := lw_g (lw_at lw_m7 55 rfl) rfl
theorem q1612 : (Jvm.Cond.instanceMethod ({ cls := "TwoSeekModel", name := "shut", desc := "(IZ)Z" } : Jvm.MethodName)) ∈ lw_all := lw_g (lw_at lw_m7 57 rfl) rfl
theorem q1613 : (Jvm.Cond.selects "TwoSeekModel" ({ cls := "TwoSeekModel", name := "shut", desc := "(IZ)Z" } : Jvm.MethodName) ({ cls := "TwoSeekModel", name := "shut", desc := "(IZ)Z" } : Jvm.MethodName)) ∈ lw_all := lw_g (lw_at lw_m7 58 rfl) rfl
theorem q1614 : (Jvm.Cond.code ({ cls := "TwoSeekModel", name := "shut", desc := "(IZ)Z" } : Jvm.MethodName) prog_15_method_56_code (3 : Nat) (Option.some Jvm.ClassFile.FieldType.boolean)) ∈ lw_all := lw_g (lw_at lw_m7 59 rfl) rfl
theorem q1616 : (Jvm.Cond.instanceMethod ({ cls := "TwoSeekModel", name := "marks", desc := "(Z)Z" } : Jvm.MethodName)) ∈ lw_all := lw_g (lw_at lw_m7 61 rfl) rfl
theorem q1617 : (Jvm.Cond.selects "TwoSeekModel" ({ cls := "TwoSeekModel", name := "marks", desc := "(Z)Z" } : Jvm.MethodName) ({ cls := "TwoSeekModel", name := "marks", desc := "(Z)Z" } : Jvm.MethodName)) ∈ lw_all := lw_g (lw_at lw_m7 62 rfl) rfl
theorem q1618 : (Jvm.Cond.code ({ cls := "TwoSeekModel", name := "marks", desc := "(Z)Z" } : Jvm.MethodName) prog_15_method_57_code (2 : Nat) (Option.some Jvm.ClassFile.FieldType.boolean)) ∈ lw_all := lw_g (lw_at lw_m7 63 rfl) rfl
theorem q1620 : (Jvm.Cond.instanceMethod ({ cls := "TwoSeekModel", name := "distance", desc := "(II)I" } : Jvm.MethodName)) ∈ lw_all := lw_g (lw_at lw_m7 65 rfl) rfl
theorem q1621 : (Jvm.Cond.selects "TwoSeekModel" ({ cls := "TwoSeekModel", name := "distance", desc := "(II)I" } : Jvm.MethodName) ({ cls := "TwoSeekModel", name := "distance", desc := "(II)I" } : Jvm.MethodName)) ∈ lw_all := lw_g (lw_at lw_m7 66 rfl) rfl
theorem q1622 : (Jvm.Cond.code ({ cls := "TwoSeekModel", name := "distance", desc := "(II)I" } : Jvm.MethodName) prog_15_method_59_code (3 : Nat) (Option.some Jvm.ClassFile.FieldType.int)) ∈ lw_all := lw_g (lw_at lw_m7 67 rfl) rfl
theorem q1623 : (Jvm.Cond.methodLink "TwoSeekModel" (362 : Nat) ({ cls := "TwoSeekModel", name := "findFar", desc := "(I)V" } : Jvm.MethodName)) ∈ lw_all := lw_g (lw_at lw_m7 68 rfl) rfl
theorem q1624 : (Jvm.Cond.privateMethod ({ cls := "TwoSeekModel", name := "findFar", desc := "(I)V" } : Jvm.MethodName)) ∈ lw_tbl := lw_at lw_m7 69 rfl
theorem q1625 : (Jvm.Cond.instanceMethod ({ cls := "TwoSeekModel", name := "findFar", desc := "(I)V" } : Jvm.MethodName)) ∈ lw_all := lw_g (lw_at lw_m7 70 rfl) rfl
theorem q1626 : (Jvm.Cond.code ({ cls := "TwoSeekModel", name := "findFar", desc := "(I)V" } : Jvm.MethodName) prog_15_method_58_code (4 : Nat) (Option.none : Option Jvm.ClassFile.FieldType)) ∈ lw_all := lw_g (lw_at lw_m7 71 rfl) rfl
theorem q1627 : (Jvm.Cond.methodLink "TwoSeekModel" (359 : Nat) ({ cls := "java/lang/Math", name := "min", desc := "(II)I" } : Jvm.MethodName)) ∈ lw_all := lw_g (lw_at lw_m7 72 rfl) rfl
theorem q1629 : (Jvm.Cond.instanceMethod ({ cls := "TwoSeekModel", name := "clock", desc := "(IIZ)I" } : Jvm.MethodName)) ∈ lw_all := lw_g (lw_at lw_m7 74 rfl) rfl
theorem q1630 : (Jvm.Cond.selects "TwoSeekModel" ({ cls := "TwoSeekModel", name := "clock", desc := "(IIZ)I" } : Jvm.MethodName) ({ cls := "TwoSeekModel", name := "clock", desc := "(IIZ)I" } : Jvm.MethodName)) ∈ lw_all := lw_g (lw_at lw_m7 75 rfl) rfl
theorem q1631 : (Jvm.Cond.code ({ cls := "TwoSeekModel", name := "clock", desc := "(IIZ)I" } : Jvm.MethodName) prog_15_method_60_code (5 : Nat) (Option.some Jvm.ClassFile.FieldType.int)) ∈ lw_all := lw_g (lw_at lw_m7 76 rfl) rfl
theorem q1632 : (Jvm.Cond.constantLong "TwoSeekModel" (365 : Nat) (24 : Int64)) ∈ lw_all := lw_g (lw_at lw_m7 77 rfl) rfl
theorem q1633 : (Jvm.Cond.methodLink "TwoSeekModel" (367 : Nat) ({ cls := "TwoSeekModel", name := "numberOf", desc := "(II)J" } : Jvm.MethodName)) ∈ lw_all := lw_g (lw_at lw_m7 78 rfl) rfl
theorem q1634 : (Jvm.Cond.privateMethod ({ cls := "TwoSeekModel", name := "numberOf", desc := "(II)J" } : Jvm.MethodName)) ∈ lw_tbl := lw_at lw_m7 79 rfl
theorem q1635 : (Jvm.Cond.instanceMethod ({ cls := "TwoSeekModel", name := "numberOf", desc := "(II)J" } : Jvm.MethodName)) ∈ lw_all := lw_g (lw_at lw_m7 80 rfl) rfl
theorem q1636 : (Jvm.Cond.code ({ cls := "TwoSeekModel", name := "numberOf", desc := "(II)J" } : Jvm.MethodName) prog_15_method_18_code (3 : Nat) (Option.some Jvm.ClassFile.FieldType.long)) ∈ lw_all := lw_g (lw_at lw_m7 81 rfl) rfl
theorem q1637 : (Jvm.Cond.constantLong "TwoSeekModel" (371 : Nat) (4 : Int64)) ∈ lw_all := lw_g (lw_at lw_m7 82 rfl) rfl
theorem q1638 : (Jvm.Cond.methodLink "TwoSeekModel" (373 : Nat) ({ cls := "TwoSeekModel", name := "addWay", desc := "(IIIZ)I" } : Jvm.MethodName)) ∈ lw_all := lw_g (lw_at lw_m7 83 rfl) rfl
theorem q1639 : (Jvm.Cond.privateMethod ({ cls := "TwoSeekModel", name := "addWay", desc := "(IIIZ)I" } : Jvm.MethodName)) ∈ lw_tbl := lw_at lw_m7 84 rfl
theorem q1640 : (Jvm.Cond.instanceMethod ({ cls := "TwoSeekModel", name := "addWay", desc := "(IIIZ)I" } : Jvm.MethodName)) ∈ lw_all := lw_g (lw_at lw_m7 85 rfl) rfl
theorem q1641 : (Jvm.Cond.code ({ cls := "TwoSeekModel", name := "addWay", desc := "(IIIZ)I" } : Jvm.MethodName) prog_15_method_61_code (6 : Nat) (Option.some Jvm.ClassFile.FieldType.int)) ∈ lw_all := lw_g (lw_at lw_m7 86 rfl) rfl
theorem q1643 : (Jvm.Cond.instanceMethod ({ cls := "TwoSeekModel", name := "sight", desc := "(I)I" } : Jvm.MethodName)) ∈ lw_all := lw_g (lw_at lw_m7 88 rfl) rfl
theorem q1644 : (Jvm.Cond.selects "TwoSeekModel" ({ cls := "TwoSeekModel", name := "sight", desc := "(I)I" } : Jvm.MethodName) ({ cls := "TwoSeekModel", name := "sight", desc := "(I)I" } : Jvm.MethodName)) ∈ lw_all := lw_g (lw_at lw_m7 89 rfl) rfl
theorem q1645 : (Jvm.Cond.code ({ cls := "TwoSeekModel", name := "sight", desc := "(I)I" } : Jvm.MethodName) prog_15_method_62_code (3 : Nat) (Option.some Jvm.ClassFile.FieldType.int)) ∈ lw_all := lw_g (lw_at lw_m7 90 rfl) rfl
theorem q1646 : (Jvm.Cond.constantLong "TwoSeekModel" (377 : Nat) (14 : Int64)) ∈ lw_all := lw_g (lw_at lw_m7 91 rfl) rfl
theorem q1648 : (Jvm.Cond.instanceMethod ({ cls := "TwoSeekModel", name := "when", desc := "(IIII)I" } : Jvm.MethodName)) ∈ lw_all := lw_g (lw_at lw_m7 93 rfl) rfl
theorem q1649 : (Jvm.Cond.selects "TwoSeekModel" ({ cls := "TwoSeekModel", name := "when", desc := "(IIII)I" } : Jvm.MethodName) ({ cls := "TwoSeekModel", name := "when", desc := "(IIII)I" } : Jvm.MethodName)) ∈ lw_all := lw_g (lw_at lw_m7 94 rfl) rfl
theorem q1650 : (Jvm.Cond.code ({ cls := "TwoSeekModel", name := "when", desc := "(IIII)I" } : Jvm.MethodName) prog_15_method_69_code (6 : Nat) (Option.some Jvm.ClassFile.FieldType.int)) ∈ lw_all := lw_g (lw_at lw_m7 95 rfl) rfl
theorem q1651 : (Jvm.Cond.methodLink "TwoSeekModel" (399 : Nat) ({ cls := "TwoSeekModel", name := "isWay", desc := "(I)Z" } : Jvm.MethodName)) ∈ lw_all := lw_g (lw_at lw_m7 96 rfl) rfl
theorem q1652 : (Jvm.Cond.privateMethod ({ cls := "TwoSeekModel", name := "isWay", desc := "(I)Z" } : Jvm.MethodName)) ∈ lw_tbl := lw_at lw_m7 97 rfl
theorem q1653 : (Jvm.Cond.instanceMethod ({ cls := "TwoSeekModel", name := "isWay", desc := "(I)Z" } : Jvm.MethodName)) ∈ lw_all := lw_g (lw_at lw_m7 98 rfl) rfl
theorem q1654 : (Jvm.Cond.code ({ cls := "TwoSeekModel", name := "isWay", desc := "(I)Z" } : Jvm.MethodName) prog_15_method_48_code (2 : Nat) (Option.some Jvm.ClassFile.FieldType.boolean)) ∈ lw_all := lw_g (lw_at lw_m7 99 rfl) rfl
theorem q1655 : (Jvm.Cond.methodLink "TwoSeekModel" (402 : Nat) ({ cls := "TwoSeekModel", name := "walk", desc := "(IIII)I" } : Jvm.MethodName)) ∈ lw_all := lw_g (lw_at lw_m7 100 rfl) rfl
theorem q1656 : (Jvm.Cond.privateMethod ({ cls := "TwoSeekModel", name := "walk", desc := "(IIII)I" } : Jvm.MethodName)) ∈ lw_tbl := lw_at lw_m7 101 rfl
theorem q1657 : (Jvm.Cond.instanceMethod ({ cls := "TwoSeekModel", name := "walk", desc := "(IIII)I" } : Jvm.MethodName)) ∈ lw_all := lw_g (lw_at lw_m7 102 rfl) rfl
theorem q1658 : (Jvm.Cond.code ({ cls := "TwoSeekModel", name := "walk", desc := "(IIII)I" } : Jvm.MethodName) prog_15_method_68_code (10 : Nat) (Option.some Jvm.ClassFile.FieldType.int)) ∈ lw_all := lw_g (lw_at lw_m7 103 rfl) rfl
theorem q1659 : (Jvm.Cond.methodLink "TwoSeekModel" (379 : Nat) ({ cls := "TwoSeekModel", name := "begin", desc := "(II)V" } : Jvm.MethodName)) ∈ lw_all := lw_g (lw_at lw_m7 104 rfl) rfl
theorem q1660 : (Jvm.Cond.privateMethod ({ cls := "TwoSeekModel", name := "begin", desc := "(II)V" } : Jvm.MethodName)) ∈ lw_tbl := lw_at lw_m7 105 rfl
theorem q1661 : (Jvm.Cond.instanceMethod ({ cls := "TwoSeekModel", name := "begin", desc := "(II)V" } : Jvm.MethodName)) ∈ lw_all := lw_g (lw_at lw_m7 106 rfl) rfl
theorem q1662 : (Jvm.Cond.code ({ cls := "TwoSeekModel", name := "begin", desc := "(II)V" } : Jvm.MethodName) prog_15_method_64_code (3 : Nat) (Option.none : Option Jvm.ClassFile.FieldType)) ∈ lw_all := lw_g (lw_at lw_m7 107 rfl) rfl
theorem q1663 : (Jvm.Cond.methodLink "TwoSeekModel" (382 : Nat) ({ cls := "TwoSeekModel", name := "nearer", desc := "(I)I" } : Jvm.MethodName)) ∈ lw_all := lw_g (lw_at lw_m7 108 rfl) rfl
theorem q1664 : (Jvm.Cond.privateMethod ({ cls := "TwoSeekModel", name := "nearer", desc := "(I)I" } : Jvm.MethodName)) ∈ lw_tbl := lw_at lw_m7 109 rfl
theorem q1665 : (Jvm.Cond.instanceMethod ({ cls := "TwoSeekModel", name := "nearer", desc := "(I)I" } : Jvm.MethodName)) ∈ lw_all := lw_g (lw_at lw_m7 110 rfl) rfl
theorem q1666 : (Jvm.Cond.code ({ cls := "TwoSeekModel", name := "nearer", desc := "(I)I" } : Jvm.MethodName) prog_15_method_65_code (3 : Nat) (Option.some Jvm.ClassFile.FieldType.int)) ∈ lw_all := lw_g (lw_at lw_m7 111 rfl) rfl
theorem q1667 : (Jvm.Cond.methodLink "TwoSeekModel" (347 : Nat) ({ cls := "TwoSeekModel", name := "isOpen", desc := "(II)Z" } : Jvm.MethodName)) ∈ lw_all := lw_g (lw_at lw_m7 112 rfl) rfl
theorem q1668 : (Jvm.Cond.privateMethod ({ cls := "TwoSeekModel", name := "isOpen", desc := "(II)Z" } : Jvm.MethodName)) ∈ lw_tbl := lw_at lw_m7 113 rfl
theorem q1669 : (Jvm.Cond.instanceMethod ({ cls := "TwoSeekModel", name := "isOpen", desc := "(II)Z" } : Jvm.MethodName)) ∈ lw_all := lw_g (lw_at lw_m7 114 rfl) rfl
theorem q1670 : (Jvm.Cond.code ({ cls := "TwoSeekModel", name := "isOpen", desc := "(II)Z" } : Jvm.MethodName) prog_15_method_53_code (3 : Nat) (Option.some Jvm.ClassFile.FieldType.boolean)) ∈ lw_all := lw_g (lw_at lw_m7 115 rfl) rfl
theorem q1671 : (Jvm.Cond.methodLink "TwoSeekModel" (385 : Nat) ({ cls := "TwoSeekModel", name := "stepOf", desc := "(III)I" } : Jvm.MethodName)) ∈ lw_all := lw_g (lw_at lw_m7 116 rfl) rfl
theorem q1672 : (Jvm.Cond.privateMethod ({ cls := "TwoSeekModel", name := "stepOf", desc := "(III)I" } : Jvm.MethodName)) ∈ lw_tbl := lw_at lw_m7 117 rfl
theorem q1673 : (Jvm.Cond.instanceMethod ({ cls := "TwoSeekModel", name := "stepOf", desc := "(III)I" } : Jvm.MethodName)) ∈ lw_all := lw_g (lw_at lw_m7 118 rfl) rfl
theorem q1674 : (Jvm.Cond.code ({ cls := "TwoSeekModel", name := "stepOf", desc := "(III)I" } : Jvm.MethodName) prog_15_method_63_code (6 : Nat) (Option.some Jvm.ClassFile.FieldType.int)) ∈ lw_all := lw_g (lw_at lw_m7 119 rfl) rfl
theorem q1675 : (Jvm.Cond.methodLink "TwoSeekModel" (389 : Nat) ({ cls := "TwoSeekModel", name := "go", desc := "(II)I" } : Jvm.MethodName)) ∈ lw_all := lw_g (lw_at lw_m7 120 rfl) rfl
theorem q1676 : (Jvm.Cond.privateMethod ({ cls := "TwoSeekModel", name := "go", desc := "(II)I" } : Jvm.MethodName)) ∈ lw_tbl := lw_at lw_m7 121 rfl
theorem q1677 : (Jvm.Cond.instanceMethod ({ cls := "TwoSeekModel", name := "go", desc := "(II)I" } : Jvm.MethodName)) ∈ lw_all := lw_g (lw_at lw_m7 122 rfl) rfl
theorem q1678 : (Jvm.Cond.code ({ cls := "TwoSeekModel", name := "go", desc := "(II)I" } : Jvm.MethodName) prog_15_method_52_code (3 : Nat) (Option.some Jvm.ClassFile.FieldType.int)) ∈ lw_all := lw_g (lw_at lw_m7 123 rfl) rfl
theorem q1679 : (Jvm.Cond.methodLink "TwoSeekModel" (392 : Nat) ({ cls := "TwoSeekModel", name := "goesBy", desc := "(II)I" } : Jvm.MethodName)) ∈ lw_all := lw_g (lw_at lw_m7 124 rfl) rfl
theorem q1680 : (Jvm.Cond.privateMethod ({ cls := "TwoSeekModel", name := "goesBy", desc := "(II)I" } : Jvm.MethodName)) ∈ lw_tbl := lw_at lw_m7 125 rfl
theorem q1681 : (Jvm.Cond.instanceMethod ({ cls := "TwoSeekModel", name := "goesBy", desc := "(II)I" } : Jvm.MethodName)) ∈ lw_all := lw_g (lw_at lw_m7 126 rfl) rfl
theorem q1682 : (Jvm.Cond.code ({ cls := "TwoSeekModel", name := "goesBy", desc := "(II)I" } : Jvm.MethodName) prog_15_method_66_code (3 : Nat) (Option.some Jvm.ClassFile.FieldType.int)) ∈ lw_all := lw_g (lw_at lw_m7 127 rfl) rfl
theorem q1683 : (Jvm.Cond.methodLink "TwoSeekModel" (395 : Nat) ({ cls := "TwoSeekModel", name := "meets", desc := "(IIII)Z" } : Jvm.MethodName)) ∈ lw_all := lw_g (lw_at lw_m7 128 rfl) rfl
theorem q1684 : (Jvm.Cond.privateMethod ({ cls := "TwoSeekModel", name := "meets", desc := "(IIII)Z" } : Jvm.MethodName)) ∈ lw_tbl := lw_at lw_m7 129 rfl
theorem q1685 : (Jvm.Cond.instanceMethod ({ cls := "TwoSeekModel", name := "meets", desc := "(IIII)Z" } : Jvm.MethodName)) ∈ lw_all := lw_g (lw_at lw_m7 130 rfl) rfl
theorem q1686 : (Jvm.Cond.code ({ cls := "TwoSeekModel", name := "meets", desc := "(IIII)Z" } : Jvm.MethodName) prog_15_method_67_code (5 : Nat) (Option.some Jvm.ClassFile.FieldType.boolean)) ∈ lw_all := lw_g (lw_at lw_m7 131 rfl) rfl
theorem q1688 : (Jvm.Cond.instanceMethod ({ cls := "TwoSeekModel", name := "judge", desc := "(III)I" } : Jvm.MethodName)) ∈ lw_all := lw_g (lw_at lw_m7 133 rfl) rfl
theorem q1689 : (Jvm.Cond.selects "TwoSeekModel" ({ cls := "TwoSeekModel", name := "judge", desc := "(III)I" } : Jvm.MethodName) ({ cls := "TwoSeekModel", name := "judge", desc := "(III)I" } : Jvm.MethodName)) ∈ lw_all := lw_g (lw_at lw_m7 134 rfl) rfl
theorem q1690 : (Jvm.Cond.code ({ cls := "TwoSeekModel", name := "judge", desc := "(III)I" } : Jvm.MethodName) prog_15_method_70_code (6 : Nat) (Option.some Jvm.ClassFile.FieldType.int)) ∈ lw_all := lw_g (lw_at lw_m7 135 rfl) rfl
theorem q1691 : (Jvm.Cond.constantLong "TwoSeekModel" (406 : Nat) (3 : Int64)) ∈ lw_all := lw_g (lw_at lw_m7 136 rfl) rfl
theorem q1693 : (Jvm.Cond.instanceMethod ({ cls := "TwoSeekModel", name := "mean", desc := "(II)Z" } : Jvm.MethodName)) ∈ lw_all := lw_g (lw_at lw_m7 138 rfl) rfl
theorem q1694 : (Jvm.Cond.selects "TwoSeekModel" ({ cls := "TwoSeekModel", name := "mean", desc := "(II)Z" } : Jvm.MethodName) ({ cls := "TwoSeekModel", name := "mean", desc := "(II)Z" } : Jvm.MethodName)) ∈ lw_all := lw_g (lw_at lw_m7 139 rfl) rfl
theorem q1695 : (Jvm.Cond.code ({ cls := "TwoSeekModel", name := "mean", desc := "(II)Z" } : Jvm.MethodName) prog_15_method_73_code (5 : Nat) (Option.some Jvm.ClassFile.FieldType.boolean)) ∈ lw_all := lw_g (lw_at lw_m7 140 rfl) rfl
theorem q1696 : (Jvm.Cond.methodLink "TwoSeekModel" (415 : Nat) ({ cls := "TwoSeekModel", name := "sumOf", desc := "(II)J" } : Jvm.MethodName)) ∈ lw_all := lw_g (lw_at lw_m7 141 rfl) rfl
theorem q1697 : (Jvm.Cond.privateMethod ({ cls := "TwoSeekModel", name := "sumOf", desc := "(II)J" } : Jvm.MethodName)) ∈ lw_tbl := lw_at lw_m7 142 rfl
theorem q1698 : (Jvm.Cond.instanceMethod ({ cls := "TwoSeekModel", name := "sumOf", desc := "(II)J" } : Jvm.MethodName)) ∈ lw_all := lw_g (lw_at lw_m7 143 rfl) rfl
theorem q1699 : (Jvm.Cond.code ({ cls := "TwoSeekModel", name := "sumOf", desc := "(II)J" } : Jvm.MethodName) prog_15_method_72_code (8 : Nat) (Option.some Jvm.ClassFile.FieldType.long)) ∈ lw_all := lw_g (lw_at lw_m7 144 rfl) rfl
theorem q1700 : (Jvm.Cond.methodLink "TwoSeekModel" (411 : Nat) ({ cls := "TwoSeekModel", name := "allLikely", desc := "()J" } : Jvm.MethodName)) ∈ lw_all := lw_g (lw_at lw_m7 145 rfl) rfl
theorem q1701 : (Jvm.Cond.privateMethod ({ cls := "TwoSeekModel", name := "allLikely", desc := "()J" } : Jvm.MethodName)) ∈ lw_tbl := lw_at lw_m7 146 rfl
theorem q1702 : (Jvm.Cond.instanceMethod ({ cls := "TwoSeekModel", name := "allLikely", desc := "()J" } : Jvm.MethodName)) ∈ lw_all := lw_g (lw_at lw_m7 147 rfl) rfl
theorem q1703 : (Jvm.Cond.code ({ cls := "TwoSeekModel", name := "allLikely", desc := "()J" } : Jvm.MethodName) prog_15_method_71_code (5 : Nat) (Option.some Jvm.ClassFile.FieldType.long)) ∈ lw_all := lw_g (lw_at lw_m7 148 rfl) rfl
theorem q1704 : (Jvm.Cond.methodLink "TwoSeekModel" (408 : Nat) ({ cls := "TwoSeekModel", name := "likely", desc := "(II)J" } : Jvm.MethodName)) ∈ lw_all := lw_g (lw_at lw_m7 149 rfl) rfl
theorem q1705 : (Jvm.Cond.privateMethod ({ cls := "TwoSeekModel", name := "likely", desc := "(II)J" } : Jvm.MethodName)) ∈ lw_tbl := lw_at lw_m7 150 rfl
theorem q1706 : (Jvm.Cond.instanceMethod ({ cls := "TwoSeekModel", name := "likely", desc := "(II)J" } : Jvm.MethodName)) ∈ lw_all := lw_g (lw_at lw_m7 151 rfl) rfl
theorem q1707 : (Jvm.Cond.code ({ cls := "TwoSeekModel", name := "likely", desc := "(II)J" } : Jvm.MethodName) prog_15_method_49_code (3 : Nat) (Option.some Jvm.ClassFile.FieldType.long)) ∈ lw_all := lw_g (lw_at lw_m7 152 rfl) rfl
theorem q1708 : (Jvm.Cond.methodLink "TwoSeekModel" (418 : Nat) ({ cls := "TwoSeekModel", name := "fraction", desc := "(JJ)V" } : Jvm.MethodName)) ∈ lw_all := lw_g (lw_at lw_m7 153 rfl) rfl
theorem q1709 : (Jvm.Cond.privateMethod ({ cls := "TwoSeekModel", name := "fraction", desc := "(JJ)V" } : Jvm.MethodName)) ∈ lw_tbl := lw_at lw_m7 154 rfl
theorem q1710 : (Jvm.Cond.instanceMethod ({ cls := "TwoSeekModel", name := "fraction", desc := "(JJ)V" } : Jvm.MethodName)) ∈ lw_all := lw_g (lw_at lw_m7 155 rfl) rfl
theorem q1711 : (Jvm.Cond.code ({ cls := "TwoSeekModel", name := "fraction", desc := "(JJ)V" } : Jvm.MethodName) prog_15_method_10_code (7 : Nat) (Option.none : Option Jvm.ClassFile.FieldType)) ∈ lw_all := lw_g (lw_at lw_m7 156 rfl) rfl
theorem q1712 : (Jvm.Cond.methodLink "TwoSeekModel" (159 : Nat) ({ cls := "TwoSeekModel", name := "common", desc := "(JJ)J" } : Jvm.MethodName)) ∈ lw_all := lw_g (lw_at lw_m7 157 rfl) rfl
theorem q1713 : (Jvm.Cond.static ({ cls := "TwoSeekModel", name := "common", desc := "(JJ)J" } : Jvm.MethodName)) ∈ lw_all := lw_g (lw_at lw_m7 158 rfl) rfl
theorem q1714 : (Jvm.Cond.code ({ cls := "TwoSeekModel", name := "common", desc := "(JJ)J" } : Jvm.MethodName) prog_15_method_9_code (10 : Nat) (Option.some Jvm.ClassFile.FieldType.long)) ∈ lw_all := lw_g (lw_at lw_m7 159 rfl) rfl
theorem q1715 : (Jvm.Cond.methodLink "TwoSeekModel" (153 : Nat) ({ cls := "java/lang/Math", name := "abs", desc := "(J)J" } : Jvm.MethodName)) ∈ lw_all := lw_g (lw_at lw_m7 160 rfl) rfl
theorem q1717 : (Jvm.Cond.instanceMethod ({ cls := "TwoSeekModel", name := "worst", desc := "(II)I" } : Jvm.MethodName)) ∈ lw_all := lw_g (lw_at lw_m7 162 rfl) rfl
theorem q1718 : (Jvm.Cond.selects "TwoSeekModel" ({ cls := "TwoSeekModel", name := "worst", desc := "(II)I" } : Jvm.MethodName) ({ cls := "TwoSeekModel", name := "worst", desc := "(II)I" } : Jvm.MethodName)) ∈ lw_all := lw_g (lw_at lw_m7 163 rfl) rfl
theorem q1719 : (Jvm.Cond.code ({ cls := "TwoSeekModel", name := "worst", desc := "(II)I" } : Jvm.MethodName) prog_15_method_74_code (6 : Nat) (Option.some Jvm.ClassFile.FieldType.int)) ∈ lw_all := lw_g (lw_at lw_m7 164 rfl) rfl
theorem q1720 : (Jvm.Cond.methodLink "TwoSeekModel" (422 : Nat) ({ cls := "java/lang/Math", name := "max", desc := "(II)I" } : Jvm.MethodName)) ∈ lw_all := lw_g (lw_at lw_m7 165 rfl) rfl
theorem q1722 : (Jvm.Cond.instanceMethod ({ cls := "TwoSeekModel", name := "same", desc := "(II)I" } : Jvm.MethodName)) ∈ lw_all := lw_g (lw_at lw_m7 167 rfl) rfl
theorem q1723 : (Jvm.Cond.selects "TwoSeekModel" ({ cls := "TwoSeekModel", name := "same", desc := "(II)I" } : Jvm.MethodName) ({ cls := "TwoSeekModel", name := "same", desc := "(II)I" } : Jvm.MethodName)) ∈ lw_all := lw_g (lw_at lw_m7 168 rfl) rfl
theorem q1724 : (Jvm.Cond.code ({ cls := "TwoSeekModel", name := "same", desc := "(II)I" } : Jvm.MethodName) prog_15_method_75_code (8 : Nat) (Option.some Jvm.ClassFile.FieldType.int)) ∈ lw_all := lw_g (lw_at lw_m7 169 rfl) rfl
theorem q1726 : (Jvm.Cond.instanceMethod ({ cls := "TwoSeekModel", name := "agreed", desc := "(I)I" } : Jvm.MethodName)) ∈ lw_all := lw_g (lw_at lw_m7 171 rfl) rfl
theorem q1727 : (Jvm.Cond.selects "TwoSeekModel" ({ cls := "TwoSeekModel", name := "agreed", desc := "(I)I" } : Jvm.MethodName) ({ cls := "TwoSeekModel", name := "agreed", desc := "(I)I" } : Jvm.MethodName)) ∈ lw_all := lw_g (lw_at lw_m7 172 rfl) rfl
theorem q1728 : (Jvm.Cond.code ({ cls := "TwoSeekModel", name := "agreed", desc := "(I)I" } : Jvm.MethodName) prog_15_method_78_code (2 : Nat) (Option.some Jvm.ClassFile.FieldType.int)) ∈ lw_all := lw_g (lw_at lw_m7 173 rfl) rfl
theorem q1729 : (Jvm.Cond.methodLink "TwoSeekModel" (434 : Nat) ({ cls := "TwoSeekModel", name := "findRows", desc := "(IIZ)V" } : Jvm.MethodName)) ∈ lw_all := lw_g (lw_at lw_m7 174 rfl) rfl
theorem q1730 : (Jvm.Cond.privateMethod ({ cls := "TwoSeekModel", name := "findRows", desc := "(IIZ)V" } : Jvm.MethodName)) ∈ lw_tbl := lw_at lw_m7 175 rfl
theorem q1731 : (Jvm.Cond.instanceMethod ({ cls := "TwoSeekModel", name := "findRows", desc := "(IIZ)V" } : Jvm.MethodName)) ∈ lw_all := lw_g (lw_at lw_m7 176 rfl) rfl
theorem q1732 : (Jvm.Cond.code ({ cls := "TwoSeekModel", name := "findRows", desc := "(IIZ)V" } : Jvm.MethodName) prog_15_method_77_code (14 : Nat) (Option.none : Option Jvm.ClassFile.FieldType)) ∈ lw_all := lw_g (lw_at lw_m7 177 rfl) rfl
theorem q1733 : (Jvm.Cond.methodLink "TwoSeekModel" (428 : Nat) ({ cls := "TwoSeekModel", name := "byRows", desc := "(IIIZ)I" } : Jvm.MethodName)) ∈ lw_all := lw_g (lw_at lw_m7 178 rfl) rfl
theorem q1734 : (Jvm.Cond.privateMethod ({ cls := "TwoSeekModel", name := "byRows", desc := "(IIIZ)I" } : Jvm.MethodName)) ∈ lw_tbl := lw_at lw_m7 179 rfl
theorem q1735 : (Jvm.Cond.instanceMethod ({ cls := "TwoSeekModel", name := "byRows", desc := "(IIIZ)I" } : Jvm.MethodName)) ∈ lw_all := lw_g (lw_at lw_m7 180 rfl) rfl
theorem q1736 : (Jvm.Cond.code ({ cls := "TwoSeekModel", name := "byRows", desc := "(IIIZ)I" } : Jvm.MethodName) prog_15_method_76_code (10 : Nat) (Option.some Jvm.ClassFile.FieldType.int)) ∈ lw_all := lw_g (lw_at lw_m7 181 rfl) rfl
theorem q1738 : (Jvm.Cond.instanceMethod ({ cls := "TwoSeekModel", name := "step", desc := "(II)I" } : Jvm.MethodName)) ∈ lw_all := lw_g (lw_at lw_m7 183 rfl) rfl
theorem q1739 : (Jvm.Cond.selects "TwoSeekModel" ({ cls := "TwoSeekModel", name := "step", desc := "(II)I" } : Jvm.MethodName) ({ cls := "TwoSeekModel", name := "step", desc := "(II)I" } : Jvm.MethodName)) ∈ lw_all := lw_g (lw_at lw_m7 184 rfl) rfl
theorem q1740 : (Jvm.Cond.code ({ cls := "TwoSeekModel", name := "step", desc := "(II)I" } : Jvm.MethodName) prog_15_method_79_code (3 : Nat) (Option.some Jvm.ClassFile.FieldType.int)) ∈ lw_all := lw_g (lw_at lw_m7 185 rfl) rfl
theorem q1742 : (Jvm.Cond.instanceMethod ({ cls := "TwoSeekModel", name := "alike", desc := "(I)I" } : Jvm.MethodName)) ∈ lw_all := lw_g (lw_at lw_m7 187 rfl) rfl
theorem q1743 : (Jvm.Cond.selects "TwoSeekModel" ({ cls := "TwoSeekModel", name := "alike", desc := "(I)I" } : Jvm.MethodName) ({ cls := "TwoSeekModel", name := "alike", desc := "(I)I" } : Jvm.MethodName)) ∈ lw_all := lw_g (lw_at lw_m7 188 rfl) rfl
theorem q1744 : (Jvm.Cond.code ({ cls := "TwoSeekModel", name := "alike", desc := "(I)I" } : Jvm.MethodName) prog_15_method_80_code (2 : Nat) (Option.some Jvm.ClassFile.FieldType.int)) ∈ lw_all := lw_g (lw_at lw_m7 189 rfl) rfl
theorem q1746 : (Jvm.Cond.instanceMethod ({ cls := "TwoSeekModel", name := "alikeStep", desc := "(I)I" } : Jvm.MethodName)) ∈ lw_all := lw_g (lw_at lw_m7 191 rfl) rfl
theorem q1747 : (Jvm.Cond.selects "TwoSeekModel" ({ cls := "TwoSeekModel", name := "alikeStep", desc := "(I)I" } : Jvm.MethodName) ({ cls := "TwoSeekModel", name := "alikeStep", desc := "(I)I" } : Jvm.MethodName)) ∈ lw_all := lw_g (lw_at lw_m7 192 rfl) rfl
theorem q1748 : (Jvm.Cond.code ({ cls := "TwoSeekModel", name := "alikeStep", desc := "(I)I" } : Jvm.MethodName) prog_15_method_81_code (2 : Nat) (Option.some Jvm.ClassFile.FieldType.int)) ∈ lw_all := lw_g (lw_at lw_m7 193 rfl) rfl
theorem q1750 : (Jvm.Cond.instanceMethod ({ cls := "TwoSeekModel", name := "parted", desc := "(III)I" } : Jvm.MethodName)) ∈ lw_all := lw_g (lw_at lw_m7 195 rfl) rfl
theorem q1751 : (Jvm.Cond.selects "TwoSeekModel" ({ cls := "TwoSeekModel", name := "parted", desc := "(III)I" } : Jvm.MethodName) ({ cls := "TwoSeekModel", name := "parted", desc := "(III)I" } : Jvm.MethodName)) ∈ lw_all := lw_g (lw_at lw_m7 196 rfl) rfl
theorem q1752 : (Jvm.Cond.code ({ cls := "TwoSeekModel", name := "parted", desc := "(III)I" } : Jvm.MethodName) prog_15_method_85_code (5 : Nat) (Option.some Jvm.ClassFile.FieldType.int)) ∈ lw_all := lw_g (lw_at lw_m7 197 rfl) rfl
theorem q1753 : (Jvm.Cond.methodLink "TwoSeekModel" (450 : Nat) ({ cls := "TwoSeekModel", name := "isBrought", desc := "(II)Z" } : Jvm.MethodName)) ∈ lw_all := lw_g (lw_at lw_m7 198 rfl) rfl
theorem q1754 : (Jvm.Cond.privateMethod ({ cls := "TwoSeekModel", name := "isBrought", desc := "(II)Z" } : Jvm.MethodName)) ∈ lw_tbl := lw_at lw_m7 199 rfl
theorem q1755 : (Jvm.Cond.instanceMethod ({ cls := "TwoSeekModel", name := "isBrought", desc := "(II)Z" } : Jvm.MethodName)) ∈ lw_all := lw_g (lw_at lw_m7 200 rfl) rfl
theorem q1756 : (Jvm.Cond.code ({ cls := "TwoSeekModel", name := "isBrought", desc := "(II)Z" } : Jvm.MethodName) prog_15_method_82_code (9 : Nat) (Option.some Jvm.ClassFile.FieldType.boolean)) ∈ lw_all := lw_g (lw_at lw_m7 201 rfl) rfl
theorem q1757 : (Jvm.Cond.methodLink "TwoSeekModel" (447 : Nat) ({ cls := "TwoSeekModel", name := "turns", desc := "(II)Z" } : Jvm.MethodName)) ∈ lw_all := lw_g (lw_at lw_m7 202 rfl) rfl
theorem q1758 : (Jvm.Cond.privateMethod ({ cls := "TwoSeekModel", name := "turns", desc := "(II)Z" } : Jvm.MethodName)) ∈ lw_tbl := lw_at lw_m7 203 rfl
theorem q1759 : (Jvm.Cond.instanceMethod ({ cls := "TwoSeekModel", name := "turns", desc := "(II)Z" } : Jvm.MethodName)) ∈ lw_all := lw_g (lw_at lw_m7 204 rfl) rfl
theorem q1760 : (Jvm.Cond.code ({ cls := "TwoSeekModel", name := "turns", desc := "(II)Z" } : Jvm.MethodName) prog_15_method_84_code (4 : Nat) (Option.some Jvm.ClassFile.FieldType.boolean)) ∈ lw_all := lw_g (lw_at lw_m7 205 rfl) rfl
theorem q1761 : (Jvm.Cond.methodLink "TwoSeekModel" (444 : Nat) ({ cls := "TwoSeekModel", name := "fitsTurn", desc := "(I)Z" } : Jvm.MethodName)) ∈ lw_all := lw_g (lw_at lw_m7 206 rfl) rfl
theorem q1762 : (Jvm.Cond.privateMethod ({ cls := "TwoSeekModel", name := "fitsTurn", desc := "(I)Z" } : Jvm.MethodName)) ∈ lw_tbl := lw_at lw_m7 207 rfl
theorem q1763 : (Jvm.Cond.instanceMethod ({ cls := "TwoSeekModel", name := "fitsTurn", desc := "(I)Z" } : Jvm.MethodName)) ∈ lw_all := lw_g (lw_at lw_m7 208 rfl) rfl
theorem q1764 : (Jvm.Cond.code ({ cls := "TwoSeekModel", name := "fitsTurn", desc := "(I)Z" } : Jvm.MethodName) prog_15_method_83_code (3 : Nat) (Option.some Jvm.ClassFile.FieldType.boolean)) ∈ lw_all := lw_g (lw_at lw_m7 209 rfl) rfl
theorem q1766 : (Jvm.Cond.instanceMethod ({ cls := "TwoSeekModel", name := "drawn", desc := "(IIIII)Z" } : Jvm.MethodName)) ∈ lw_all := lw_g (lw_at lw_m7 211 rfl) rfl
theorem q1767 : (Jvm.Cond.selects "TwoSeekModel" ({ cls := "TwoSeekModel", name := "drawn", desc := "(IIIII)Z" } : Jvm.MethodName) ({ cls := "TwoSeekModel", name := "drawn", desc := "(IIIII)Z" } : Jvm.MethodName)) ∈ lw_all := lw_g (lw_at lw_m7 212 rfl) rfl
theorem q1768 : (Jvm.Cond.code ({ cls := "TwoSeekModel", name := "drawn", desc := "(IIIII)Z" } : Jvm.MethodName) prog_15_method_90_code (6 : Nat) (Option.some Jvm.ClassFile.FieldType.boolean)) ∈ lw_all := lw_g (lw_at lw_m7 213 rfl) rfl
theorem q1769 : (Jvm.Cond.methodLink "TwoSeekModel" (461 : Nat) ({ cls := "TwoSeekModel", name := "asksDrawn", desc := "(IIIII)I" } : Jvm.MethodName)) ∈ lw_all := lw_g (lw_at lw_m7 214 rfl) rfl
theorem q1770 : (Jvm.Cond.privateMethod ({ cls := "TwoSeekModel", name := "asksDrawn", desc := "(IIIII)I" } : Jvm.MethodName)) ∈ lw_tbl := lw_at lw_m7 215 rfl
theorem q1771 : (Jvm.Cond.instanceMethod ({ cls := "TwoSeekModel", name := "asksDrawn", desc := "(IIIII)I" } : Jvm.MethodName)) ∈ lw_all := lw_g (lw_at lw_m7 216 rfl) rfl
theorem q1772 : (Jvm.Cond.code ({ cls := "TwoSeekModel", name := "asksDrawn", desc := "(IIIII)I" } : Jvm.MethodName) prog_15_method_88_code (6 : Nat) (Option.some Jvm.ClassFile.FieldType.int)) ∈ lw_all := lw_g (lw_at lw_m7 217 rfl) rfl
theorem q1773 : (Jvm.Cond.constantLong "TwoSeekModel" (459 : Nat) (16 : Int64)) ∈ lw_all := lw_g (lw_at lw_m7 218 rfl) rfl
theorem q1774 : (Jvm.Cond.methodLink "TwoSeekModel" (464 : Nat) ({ cls := "TwoSeekModel", name := "metOf", desc := "(IIIII)J" } : Jvm.MethodName)) ∈ lw_all := lw_g (lw_at lw_m7 219 rfl) rfl
theorem q1775 : (Jvm.Cond.privateMethod ({ cls := "TwoSeekModel", name := "metOf", desc := "(IIIII)J" } : Jvm.MethodName)) ∈ lw_tbl := lw_at lw_m7 220 rfl
theorem q1776 : (Jvm.Cond.instanceMethod ({ cls := "TwoSeekModel", name := "metOf", desc := "(IIIII)J" } : Jvm.MethodName)) ∈ lw_all := lw_g (lw_at lw_m7 221 rfl) rfl
theorem q1777 : (Jvm.Cond.code ({ cls := "TwoSeekModel", name := "metOf", desc := "(IIIII)J" } : Jvm.MethodName) prog_15_method_87_code (14 : Nat) (Option.some Jvm.ClassFile.FieldType.long)) ∈ lw_all := lw_g (lw_at lw_m7 222 rfl) rfl
theorem q1778 : (Jvm.Cond.constantLong "TwoSeekModel" (453 : Nat) (256 : Int64)) ∈ lw_all := lw_g (lw_at lw_m7 223 rfl) rfl
theorem q1779 : (Jvm.Cond.methodLink "TwoSeekModel" (455 : Nat) ({ cls := "TwoSeekModel", name := "play", desc := "(IIIII)I" } : Jvm.MethodName)) ∈ lw_all := lw_g (lw_at lw_m7 224 rfl) rfl
theorem q1780 : (Jvm.Cond.privateMethod ({ cls := "TwoSeekModel", name := "play", desc := "(IIIII)I" } : Jvm.MethodName)) ∈ lw_tbl := lw_at lw_m7 225 rfl
theorem q1781 : (Jvm.Cond.instanceMethod ({ cls := "TwoSeekModel", name := "play", desc := "(IIIII)I" } : Jvm.MethodName)) ∈ lw_all := lw_g (lw_at lw_m7 226 rfl) rfl
theorem q1782 : (Jvm.Cond.code ({ cls := "TwoSeekModel", name := "play", desc := "(IIIII)I" } : Jvm.MethodName) prog_15_method_86_code (9 : Nat) (Option.some Jvm.ClassFile.FieldType.int)) ∈ lw_all := lw_g (lw_at lw_m7 227 rfl) rfl
theorem q1783 : (Jvm.Cond.methodLink "TwoSeekModel" (468 : Nat) ({ cls := "TwoSeekModel", name := "wholeOf", desc := "(I)J" } : Jvm.MethodName)) ∈ lw_all := lw_g (lw_at lw_m7 228 rfl) rfl
theorem q1784 : (Jvm.Cond.privateMethod ({ cls := "TwoSeekModel", name := "wholeOf", desc := "(I)J" } : Jvm.MethodName)) ∈ lw_tbl := lw_at lw_m7 229 rfl
theorem q1785 : (Jvm.Cond.instanceMethod ({ cls := "TwoSeekModel", name := "wholeOf", desc := "(I)J" } : Jvm.MethodName)) ∈ lw_all := lw_g (lw_at lw_m7 230 rfl) rfl
theorem q1786 : (Jvm.Cond.code ({ cls := "TwoSeekModel", name := "wholeOf", desc := "(I)J" } : Jvm.MethodName) prog_15_method_89_code (5 : Nat) (Option.some Jvm.ClassFile.FieldType.long)) ∈ lw_all := lw_g (lw_at lw_m7 231 rfl) rfl
theorem q1788 : (Jvm.Cond.instanceMethod ({ cls := "TwoSeekModel", name := "bestDrawn", desc := "(IIII)I" } : Jvm.MethodName)) ∈ lw_all := lw_g (lw_at lw_m7 233 rfl) rfl
theorem q1789 : (Jvm.Cond.selects "TwoSeekModel" ({ cls := "TwoSeekModel", name := "bestDrawn", desc := "(IIII)I" } : Jvm.MethodName) ({ cls := "TwoSeekModel", name := "bestDrawn", desc := "(IIII)I" } : Jvm.MethodName)) ∈ lw_all := lw_g (lw_at lw_m7 234 rfl) rfl
theorem q1790 : (Jvm.Cond.code ({ cls := "TwoSeekModel", name := "bestDrawn", desc := "(IIII)I" } : Jvm.MethodName) prog_15_method_91_code (11 : Nat) (Option.some Jvm.ClassFile.FieldType.int)) ∈ lw_all := lw_g (lw_at lw_m7 235 rfl) rfl
theorem q1792 : (Jvm.Cond.instanceMethod ({ cls := "TwoSeekModel", name := "three", desc := "(IIII)I" } : Jvm.MethodName)) ∈ lw_all := lw_g (lw_at lw_m7 237 rfl) rfl
theorem q1793 : (Jvm.Cond.selects "TwoSeekModel" ({ cls := "TwoSeekModel", name := "three", desc := "(IIII)I" } : Jvm.MethodName) ({ cls := "TwoSeekModel", name := "three", desc := "(IIII)I" } : Jvm.MethodName)) ∈ lw_all := lw_g (lw_at lw_m7 238 rfl) rfl
theorem q1794 : (Jvm.Cond.code ({ cls := "TwoSeekModel", name := "three", desc := "(IIII)I" } : Jvm.MethodName) prog_15_method_93_code (7 : Nat) (Option.some Jvm.ClassFile.FieldType.int)) ∈ lw_all := lw_g (lw_at lw_m7 239 rfl) rfl
theorem q1795 : (Jvm.Cond.constantLong "TwoSeekModel" (472 : Nat) (777 : Int64)) ∈ lw_all := lw_g (lw_at lw_m8 0 rfl) rfl
theorem q1796 : (Jvm.Cond.methodLink "TwoSeekModel" (474 : Nat) ({ cls := "TwoSeekModel", name := "holds", desc := "()Z" } : Jvm.MethodName)) ∈ lw_all := lw_g (lw_at lw_m8 1 rfl) rfl
theorem q1797 : (Jvm.Cond.privateMethod ({ cls := "TwoSeekModel", name := "holds", desc := "()Z" } : Jvm.MethodName)) ∈ lw_tbl := lw_at lw_m8 2 rfl
theorem q1798 : (Jvm.Cond.instanceMethod ({ cls := "TwoSeekModel", name := "holds", desc := "()Z" } : Jvm.MethodName)) ∈ lw_all := lw_g (lw_at lw_m8 3 rfl) rfl
theorem q1799 : (Jvm.Cond.code ({ cls := "TwoSeekModel", name := "holds", desc := "()Z" } : Jvm.MethodName) prog_15_method_92_code (3 : Nat) (Option.some Jvm.ClassFile.FieldType.boolean)) ∈ lw_all := lw_g (lw_at lw_m8 4 rfl) rfl
theorem q1801 : (Jvm.Cond.instanceMethod ({ cls := "TwoSeekModel", name := "value", desc := "(IIIIIII)Z" } : Jvm.MethodName)) ∈ lw_all := lw_g (lw_at lw_m8 6 rfl) rfl
theorem q1802 : (Jvm.Cond.selects "TwoSeekModel" ({ cls := "TwoSeekModel", name := "value", desc := "(IIIIIII)Z" } : Jvm.MethodName) ({ cls := "TwoSeekModel", name := "value", desc := "(IIIIIII)Z" } : Jvm.MethodName)) ∈ lw_all := lw_g (lw_at lw_m8 7 rfl) rfl
theorem q1803 : (Jvm.Cond.code ({ cls := "TwoSeekModel", name := "value", desc := "(IIIIIII)Z" } : Jvm.MethodName) prog_15_method_105_code (11 : Nat) (Option.some Jvm.ClassFile.FieldType.boolean)) ∈ lw_all := lw_g (lw_at lw_m8 8 rfl) rfl
theorem q1804 : (Jvm.Cond.methodLink "TwoSeekModel" (525 : Nat) ({ cls := "TwoSeekModel", name := "asksValue", desc := "(IIIIIII)I" } : Jvm.MethodName)) ∈ lw_all := lw_g (lw_at lw_m8 9 rfl) rfl
theorem q1805 : (Jvm.Cond.privateMethod ({ cls := "TwoSeekModel", name := "asksValue", desc := "(IIIIIII)I" } : Jvm.MethodName)) ∈ lw_tbl := lw_at lw_m8 10 rfl
theorem q1806 : (Jvm.Cond.instanceMethod ({ cls := "TwoSeekModel", name := "asksValue", desc := "(IIIIIII)I" } : Jvm.MethodName)) ∈ lw_all := lw_g (lw_at lw_m8 11 rfl) rfl
theorem q1807 : (Jvm.Cond.code ({ cls := "TwoSeekModel", name := "asksValue", desc := "(IIIIIII)I" } : Jvm.MethodName) prog_15_method_104_code (9 : Nat) (Option.some Jvm.ClassFile.FieldType.int)) ∈ lw_all := lw_g (lw_at lw_m8 12 rfl) rfl
theorem q1808 : (Jvm.Cond.constantLong "TwoSeekModel" (523 : Nat) (100 : Int64)) ∈ lw_all := lw_g (lw_at lw_m8 13 rfl) rfl
theorem q1809 : (Jvm.Cond.methodLink "TwoSeekModel" (529 : Nat) ({ cls := "TwoSeekModel", name := "findValue", desc := "()V" } : Jvm.MethodName)) ∈ lw_all := lw_g (lw_at lw_m8 14 rfl) rfl
theorem q1810 : (Jvm.Cond.privateMethod ({ cls := "TwoSeekModel", name := "findValue", desc := "()V" } : Jvm.MethodName)) ∈ lw_tbl := lw_at lw_m8 15 rfl
theorem q1811 : (Jvm.Cond.instanceMethod ({ cls := "TwoSeekModel", name := "findValue", desc := "()V" } : Jvm.MethodName)) ∈ lw_all := lw_g (lw_at lw_m8 16 rfl) rfl
theorem q1812 : (Jvm.Cond.code ({ cls := "TwoSeekModel", name := "findValue", desc := "()V" } : Jvm.MethodName) prog_15_method_100_code (3 : Nat) (Option.none : Option Jvm.ClassFile.FieldType)) ∈ lw_all := lw_g (lw_at lw_m8 17 rfl) rfl
theorem q1813 : (Jvm.Cond.methodLink "TwoSeekModel" (508 : Nat) ({ cls := "TwoSeekModel", name := "valued", desc := "()V" } : Jvm.MethodName)) ∈ lw_all := lw_g (lw_at lw_m8 18 rfl) rfl
theorem q1814 : (Jvm.Cond.privateMethod ({ cls := "TwoSeekModel", name := "valued", desc := "()V" } : Jvm.MethodName)) ∈ lw_tbl := lw_at lw_m8 19 rfl
theorem q1815 : (Jvm.Cond.instanceMethod ({ cls := "TwoSeekModel", name := "valued", desc := "()V" } : Jvm.MethodName)) ∈ lw_all := lw_g (lw_at lw_m8 20 rfl) rfl
theorem q1816 : (Jvm.Cond.code ({ cls := "TwoSeekModel", name := "valued", desc := "()V" } : Jvm.MethodName) prog_15_method_98_code (5 : Nat) (Option.none : Option Jvm.ClassFile.FieldType)) ∈ lw_all := lw_g (lw_at lw_m8 21 rfl) rfl
theorem q1817 : (Jvm.Cond.methodLink "TwoSeekModel" (488 : Nat) ({ cls := "TwoSeekModel", name := "isCorner", desc := "()Z" } : Jvm.MethodName)) ∈ lw_all := lw_g (lw_at lw_m8 22 rfl) rfl
theorem q1818 : (Jvm.Cond.privateMethod ({ cls := "TwoSeekModel", name := "isCorner", desc := "()Z" } : Jvm.MethodName)) ∈ lw_tbl := lw_at lw_m8 23 rfl
theorem q1819 : (Jvm.Cond.instanceMethod ({ cls := "TwoSeekModel", name := "isCorner", desc := "()Z" } : Jvm.MethodName)) ∈ lw_all := lw_g (lw_at lw_m8 24 rfl) rfl
theorem q1820 : (Jvm.Cond.code ({ cls := "TwoSeekModel", name := "isCorner", desc := "()Z" } : Jvm.MethodName) prog_15_method_96_code (9 : Nat) (Option.some Jvm.ClassFile.FieldType.boolean)) ∈ lw_all := lw_g (lw_at lw_m8 25 rfl) rfl
theorem q1821 : (Jvm.Cond.methodLink "TwoSeekModel" (491 : Nat) ({ cls := "TwoSeekModel", name := "mostOf", desc := "()J" } : Jvm.MethodName)) ∈ lw_all := lw_g (lw_at lw_m8 26 rfl) rfl
theorem q1822 : (Jvm.Cond.privateMethod ({ cls := "TwoSeekModel", name := "mostOf", desc := "()J" } : Jvm.MethodName)) ∈ lw_tbl := lw_at lw_m8 27 rfl
theorem q1823 : (Jvm.Cond.instanceMethod ({ cls := "TwoSeekModel", name := "mostOf", desc := "()J" } : Jvm.MethodName)) ∈ lw_all := lw_g (lw_at lw_m8 28 rfl) rfl
theorem q1824 : (Jvm.Cond.code ({ cls := "TwoSeekModel", name := "mostOf", desc := "()J" } : Jvm.MethodName) prog_15_method_97_code (7 : Nat) (Option.some Jvm.ClassFile.FieldType.long)) ∈ lw_all := lw_g (lw_at lw_m8 29 rfl) rfl
theorem q1825 : (Jvm.Cond.methodLink "TwoSeekModel" (486 : Nat) ({ cls := "java/lang/Math", name := "max", desc := "(JJ)J" } : Jvm.MethodName)) ∈ lw_all := lw_g (lw_at lw_m8 30 rfl) rfl
theorem q1826 : (Jvm.Cond.methodLink "TwoSeekModel" (511 : Nat) ({ cls := "TwoSeekModel", name := "isSet", desc := "(II)Z" } : Jvm.MethodName)) ∈ lw_all := lw_g (lw_at lw_m8 31 rfl) rfl
theorem q1827 : (Jvm.Cond.privateMethod ({ cls := "TwoSeekModel", name := "isSet", desc := "(II)Z" } : Jvm.MethodName)) ∈ lw_tbl := lw_at lw_m8 32 rfl
theorem q1828 : (Jvm.Cond.instanceMethod ({ cls := "TwoSeekModel", name := "isSet", desc := "(II)Z" } : Jvm.MethodName)) ∈ lw_all := lw_g (lw_at lw_m8 33 rfl) rfl
theorem q1829 : (Jvm.Cond.code ({ cls := "TwoSeekModel", name := "isSet", desc := "(II)Z" } : Jvm.MethodName) prog_15_method_99_code (5 : Nat) (Option.some Jvm.ClassFile.FieldType.boolean)) ∈ lw_all := lw_g (lw_at lw_m8 34 rfl) rfl
theorem q1830 : (Jvm.Cond.methodLink "TwoSeekModel" (500 : Nat) ({ cls := "TwoSeekModel", name := "equate", desc := "(IIJJ)V" } : Jvm.MethodName)) ∈ lw_all := lw_g (lw_at lw_m8 35 rfl) rfl
theorem q1831 : (Jvm.Cond.privateMethod ({ cls := "TwoSeekModel", name := "equate", desc := "(IIJJ)V" } : Jvm.MethodName)) ∈ lw_tbl := lw_at lw_m8 36 rfl
theorem q1832 : (Jvm.Cond.instanceMethod ({ cls := "TwoSeekModel", name := "equate", desc := "(IIJJ)V" } : Jvm.MethodName)) ∈ lw_all := lw_g (lw_at lw_m8 37 rfl) rfl
theorem q1833 : (Jvm.Cond.code ({ cls := "TwoSeekModel", name := "equate", desc := "(IIJJ)V" } : Jvm.MethodName) prog_15_method_94_code (9 : Nat) (Option.none : Option Jvm.ClassFile.FieldType)) ∈ lw_all := lw_g (lw_at lw_m8 38 rfl) rfl
theorem q1834 : (Jvm.Cond.methodLink "TwoSeekModel" (504 : Nat) ({ cls := "TwoSeekModel", name := "balance", desc := "(III)V" } : Jvm.MethodName)) ∈ lw_all := lw_g (lw_at lw_m8 39 rfl) rfl
theorem q1835 : (Jvm.Cond.privateMethod ({ cls := "TwoSeekModel", name := "balance", desc := "(III)V" } : Jvm.MethodName)) ∈ lw_tbl := lw_at lw_m8 40 rfl
theorem q1836 : (Jvm.Cond.instanceMethod ({ cls := "TwoSeekModel", name := "balance", desc := "(III)V" } : Jvm.MethodName)) ∈ lw_all := lw_g (lw_at lw_m8 41 rfl) rfl
theorem q1837 : (Jvm.Cond.code ({ cls := "TwoSeekModel", name := "balance", desc := "(III)V" } : Jvm.MethodName) prog_15_method_95_code (7 : Nat) (Option.none : Option Jvm.ClassFile.FieldType)) ∈ lw_all := lw_g (lw_at lw_m8 42 rfl) rfl
theorem q1838 : (Jvm.Cond.methodLink "TwoSeekModel" (532 : Nat) ({ cls := "TwoSeekModel", name := "findChances", desc := "()V" } : Jvm.MethodName)) ∈ lw_all := lw_g (lw_at lw_m8 43 rfl) rfl
theorem q1839 : (Jvm.Cond.privateMethod ({ cls := "TwoSeekModel", name := "findChances", desc := "()V" } : Jvm.MethodName)) ∈ lw_tbl := lw_at lw_m8 44 rfl
theorem q1840 : (Jvm.Cond.instanceMethod ({ cls := "TwoSeekModel", name := "findChances", desc := "()V" } : Jvm.MethodName)) ∈ lw_all := lw_g (lw_at lw_m8 45 rfl) rfl
theorem q1841 : (Jvm.Cond.code ({ cls := "TwoSeekModel", name := "findChances", desc := "()V" } : Jvm.MethodName) prog_15_method_103_code (3 : Nat) (Option.none : Option Jvm.ClassFile.FieldType)) ∈ lw_all := lw_g (lw_at lw_m8 46 rfl) rfl
theorem q1842 : (Jvm.Cond.methodLink "TwoSeekModel" (517 : Nat) ({ cls := "TwoSeekModel", name := "chosen", desc := "()V" } : Jvm.MethodName)) ∈ lw_all := lw_g (lw_at lw_m8 47 rfl) rfl
theorem q1843 : (Jvm.Cond.privateMethod ({ cls := "TwoSeekModel", name := "chosen", desc := "()V" } : Jvm.MethodName)) ∈ lw_tbl := lw_at lw_m8 48 rfl
theorem q1844 : (Jvm.Cond.instanceMethod ({ cls := "TwoSeekModel", name := "chosen", desc := "()V" } : Jvm.MethodName)) ∈ lw_all := lw_g (lw_at lw_m8 49 rfl) rfl
theorem q1845 : (Jvm.Cond.code ({ cls := "TwoSeekModel", name := "chosen", desc := "()V" } : Jvm.MethodName) prog_15_method_101_code (3 : Nat) (Option.none : Option Jvm.ClassFile.FieldType)) ∈ lw_all := lw_g (lw_at lw_m8 50 rfl) rfl
theorem q1846 : (Jvm.Cond.methodLink "TwoSeekModel" (520 : Nat) ({ cls := "TwoSeekModel", name := "isTight", desc := "(II)Z" } : Jvm.MethodName)) ∈ lw_all := lw_g (lw_at lw_m8 51 rfl) rfl
theorem q1847 : (Jvm.Cond.privateMethod ({ cls := "TwoSeekModel", name := "isTight", desc := "(II)Z" } : Jvm.MethodName)) ∈ lw_tbl := lw_at lw_m8 52 rfl
theorem q1848 : (Jvm.Cond.instanceMethod ({ cls := "TwoSeekModel", name := "isTight", desc := "(II)Z" } : Jvm.MethodName)) ∈ lw_all := lw_g (lw_at lw_m8 53 rfl) rfl
theorem q1849 : (Jvm.Cond.code ({ cls := "TwoSeekModel", name := "isTight", desc := "(II)Z" } : Jvm.MethodName) prog_15_method_102_code (3 : Nat) (Option.some Jvm.ClassFile.FieldType.boolean)) ∈ lw_all := lw_g (lw_at lw_m8 54 rfl) rfl
theorem q1851 : (Jvm.Cond.instanceMethod ({ cls := "TwoSeekModel", name := "chance", desc := "(I)Z" } : Jvm.MethodName)) ∈ lw_all := lw_g (lw_at lw_m8 56 rfl) rfl
theorem q1852 : (Jvm.Cond.selects "TwoSeekModel" ({ cls := "TwoSeekModel", name := "chance", desc := "(I)Z" } : Jvm.MethodName) ({ cls := "TwoSeekModel", name := "chance", desc := "(I)Z" } : Jvm.MethodName)) ∈ lw_all := lw_g (lw_at lw_m8 57 rfl) rfl
theorem q1853 : (Jvm.Cond.code ({ cls := "TwoSeekModel", name := "chance", desc := "(I)Z" } : Jvm.MethodName) prog_15_method_106_code (2 : Nat) (Option.some Jvm.ClassFile.FieldType.boolean)) ∈ lw_all := lw_g (lw_at lw_m8 58 rfl) rfl
theorem q1855 : (Jvm.Cond.instanceMethod ({ cls := "TwoSeekModel", name := "door", desc := "(II)I" } : Jvm.MethodName)) ∈ lw_all := lw_g (lw_at lw_m8 60 rfl) rfl
theorem q1856 : (Jvm.Cond.selects "TwoSeekModel" ({ cls := "TwoSeekModel", name := "door", desc := "(II)I" } : Jvm.MethodName) ({ cls := "TwoSeekModel", name := "door", desc := "(II)I" } : Jvm.MethodName)) ∈ lw_all := lw_g (lw_at lw_m8 61 rfl) rfl
theorem q1857 : (Jvm.Cond.code ({ cls := "TwoSeekModel", name := "door", desc := "(II)I" } : Jvm.MethodName) prog_15_method_107_code (9 : Nat) (Option.some Jvm.ClassFile.FieldType.int)) ∈ lw_all := lw_g (lw_at lw_m8 62 rfl) rfl
theorem q1859 : (Jvm.Cond.instanceMethod ({ cls := "TwoSeekModel", name := "wander", desc := "(III)I" } : Jvm.MethodName)) ∈ lw_all := lw_g (lw_at lw_m8 64 rfl) rfl
theorem q1860 : (Jvm.Cond.selects "TwoSeekModel" ({ cls := "TwoSeekModel", name := "wander", desc := "(III)I" } : Jvm.MethodName) ({ cls := "TwoSeekModel", name := "wander", desc := "(III)I" } : Jvm.MethodName)) ∈ lw_all := lw_g (lw_at lw_m8 65 rfl) rfl
theorem q1861 : (Jvm.Cond.code ({ cls := "TwoSeekModel", name := "wander", desc := "(III)I" } : Jvm.MethodName) prog_15_method_108_code (11 : Nat) (Option.some Jvm.ClassFile.FieldType.int)) ∈ lw_all := lw_g (lw_at lw_m8 66 rfl) rfl
theorem q1862 : (Jvm.Cond.constantLong "TwoSeekModel" (535 : Nat) (1103515245 : Int64)) ∈ lw_all := lw_g (lw_at lw_m8 67 rfl) rfl
theorem q1863 : (Jvm.Cond.constantLong "TwoSeekModel" (537 : Nat) (12345 : Int64)) ∈ lw_all := lw_g (lw_at lw_m8 68 rfl) rfl
theorem q1864 : (Jvm.Cond.constantLong "TwoSeekModel" (539 : Nat) (2147483648 : Int64)) ∈ lw_all := lw_g (lw_at lw_m8 69 rfl) rfl
theorem q1865 : (Jvm.Cond.constantLong "TwoSeekModel" (541 : Nat) (65536 : Int64)) ∈ lw_all := lw_g (lw_at lw_m8 70 rfl) rfl
theorem in_X6 : ∀ w ∈ wsX60, w ∈ lw_all := lw_in wsX60 [1269, 1271, 1273, 1275, 1277, 1279, 1281, 1283, 1285, 1287, 1289, 1291, 1293, 1295, 1297, 1299, 1301, 1303, 1305, 1307, 1309, 1311, 1313, 1315, 1317, 1319, 1321, 1323, 1325, 1327, 1329, 1331, 1333, 1335, 1337, 1339, 1341, 1343, 1345, 1347, 1349, 1351, 1353, 1355, 1357, 1359, 1361, 1363, 1365, 1367, 1369, 1371, 1373, 1375, 1377, 1379, 1381, 1383, 1385, 1387, 1389, 1391, 1393, 1395, 1397, 1399, 1401, 1403, 1405, 1407, 1409, 1411, 1413, 1415, 1417, 1419, 1421, 1423, 1425] (by decide +kernel) (by decide +kernel)
