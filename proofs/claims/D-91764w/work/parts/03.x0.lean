/-! TwoSeek -/
set_option maxRecDepth 100000
def RX0 : String := "TwoSeek"
def TX0 : u_T := fun k => match k with
  | 0 => ("TwoSeek", "trays", "[LTwoSeek$Tray;", true)
  | 1 => ("TwoSeek", "wrong", "LTwoSeek$Wrong;", true)
  | 2 => ("TwoSeek", "reader", "LTwoSeek$Reader;", true)
  | 3 => ("TwoSeek", "ways", "[LTwoSeek$Way;", true)
  | 4 => ("TwoSeek", "first", "LTwoSeek$Walker;", true)
  | 5 => ("TwoSeek", "second", "LTwoSeek$Walker;", true)
  | 6 => ("TwoSeek", "third", "LTwoSeek$Walker;", true)
  | 7 => ("TwoSeek", "left", "[I", true)
  | 8 => ("TwoSeek", "town", "LTwoSeek$Town;", false)
  | 9 => ("TwoSeek", "wayMany", "I", false)
  | 10 => ("TwoSeek", "status", "I", false)
  | 11 => ("TwoSeek", "faultKind", "I", false)
  | 12 => ("TwoSeek", "faultPlace", "I", false)
  | 13 => ("TwoSeek", "marks", "Z", false)
  | 14 => ("TwoSeek", "top", "J", false)
  | 15 => ("TwoSeek", "bottom", "J", false)
  | 16 => ("TwoSeek", "worst", "I", false)
  | 17 => ("TwoSeek", "sort", "[I", true)
  | 18 => ("TwoSeek", "newSort", "[I", true)
  | 19 => ("TwoSeek", "ones", "[[I", true)
  | 20 => ("TwoSeek", "others", "[[I", true)
  | 21 => ("TwoSeek", "firstRow", "[I", true)
  | 22 => ("TwoSeek", "secondRow", "[I", true)
  | 23 => ("TwoSeek", "bestFirst", "[I", true)
  | 24 => ("TwoSeek", "bestSecond", "[I", true)
  | 25 => ("TwoSeek", "toldRows", "[[I", true)
  | 26 => ("TwoSeek", "toldAlike", "[I", true)
  | 27 => ("TwoSeek", "rowLong", "I", false)
  | 28 => ("TwoSeek", "agreedMany", "I", false)
  | 29 => ("TwoSeek", "alikeMany", "I", false)
  | 30 => ("TwoSeek", "bestMissed", "J", false)
  | 31 => ("TwoSeek", "bestLate", "J", false)
  | 32 => ("TwoSeek", "isReached", "[Z", true)
  | 33 => ("TwoSeek", "queue", "[I", true)
  | 34 => ("TwoSeek", "turnedTo", "[I", true)
  | 35 => ("TwoSeek", "now", "[J", true)
  | 36 => ("TwoSeek", "next", "[J", true)
  | 37 => ("TwoSeek", "trio", "[LTwoSeek$Walker;", true)
  | 38 => ("TwoSeek", "led", "[I", true)
  | 39 => ("TwoSeek", "worth", "[[J", true)
  | 40 => ("TwoSeek", "lineA", "[J", true)
  | 41 => ("TwoSeek", "lineB", "[J", true)
  | 42 => ("TwoSeek", "point", "[J", true)
  | 43 => ("TwoSeek", "bestPoint", "[J", true)
  | 44 => ("TwoSeek", "toldPoint", "[J", true)
  | 45 => ("TwoSeek", "bestUp", "J", false)
  | 46 => ("TwoSeek", "bestLow", "J", false)
  | _ => ("TwoSeek", "pickMany", "I", false)
def tyX0 : Nat → FieldType := fun k => match k with
  | 0 => .array (.object "TwoSeek$Tray")
  | 1 => .object "TwoSeek$Wrong"
  | 2 => .object "TwoSeek$Reader"
  | 3 => .array (.object "TwoSeek$Way")
  | 4 => .object "TwoSeek$Walker"
  | 5 => .object "TwoSeek$Walker"
  | 6 => .object "TwoSeek$Walker"
  | 7 => .array .int
  | 8 => .object "TwoSeek$Town"
  | 9 => .int
  | 10 => .int
  | 11 => .int
  | 12 => .int
  | 13 => .boolean
  | 14 => .long
  | 15 => .long
  | 16 => .int
  | 17 => .array .int
  | 18 => .array .int
  | 19 => .array (.array .int)
  | 20 => .array (.array .int)
  | 21 => .array .int
  | 22 => .array .int
  | 23 => .array .int
  | 24 => .array .int
  | 25 => .array (.array .int)
  | 26 => .array .int
  | 27 => .int
  | 28 => .int
  | 29 => .int
  | 30 => .long
  | 31 => .long
  | 32 => .array .boolean
  | 33 => .array .int
  | 34 => .array .int
  | 35 => .array .long
  | 36 => .array .long
  | 37 => .array (.object "TwoSeek$Walker")
  | 38 => .array .int
  | 39 => .array (.array .long)
  | 40 => .array .long
  | 41 => .array .long
  | 42 => .array .long
  | 43 => .array .long
  | 44 => .array .long
  | 45 => .long
  | 46 => .long
  | _ => .int
abbrev wsX00 : List Cond := u_ws RX0 TX0 48
set_option maxRecDepth 100000 in
theorem nmX0 : ∀ a, a < 48 → ∀ b, b < 48 → a ≠ b → (TX0 a).2.1 ≠ (TX0 b).2.1 := by decide +kernel
set_option maxRecDepth 100000 in
theorem tyX0_ok : ∀ k, k < 48 → parseFieldDescriptor (TX0 k).2.2.1 = some (tyX0 k) := by decide +kernel
abbrev cX0_init : ByteArray := prog_1_method_1_code
def yX0_init : MethodName := ⟨RX0, "<init>", "()V"⟩
def dkwX0_init_14 : List UInt8 := [162, 0, 22, 42, 180, 0, 11, 27, 187, 0, 9, 89, 183, 0, 148, 83, 132, 1, 1, 167, 255, 235, 177]
abbrev dktX0_init_14 : List UInt8 := dkwX0_init_14 ++ []
def dkwX0_init_13 : List UInt8 := [188, 11, 181, 0, 139, 42, 6, 188, 11, 181, 0, 142, 42, 6, 188, 11, 181, 0, 145, 3, 60, 27, 7]
abbrev dktX0_init_13 : List UInt8 := dkwX0_init_13 ++ dktX0_init_14
def dkwX0_init_12 : List UInt8 := [197, 0, 128, 2, 181, 0, 130, 42, 6, 188, 11, 181, 0, 133, 42, 6, 188, 11, 181, 0, 136, 42, 6]
abbrev dktX0_init_12 : List UInt8 := dkwX0_init_12 ++ dktX0_init_13
def dkwX0_init_11 : List UInt8 := [180, 0, 44, 83, 89, 5, 42, 180, 0, 47, 83, 181, 0, 121, 42, 6, 188, 10, 181, 0, 125, 42, 6, 6]
abbrev dktX0_init_11 : List UInt8 := dkwX0_init_11 ++ dktX0_init_12
def dkwX0_init_10 : List UInt8 := [16, 64, 188, 11, 181, 0, 118, 42, 6, 189, 0, 37, 89, 3, 42, 180, 0, 40, 83, 89, 4, 42]
abbrev dktX0_init_10 : List UInt8 := dkwX0_init_10 ++ dktX0_init_11
def dkwX0_init_9 : List UInt8 := [16, 64, 188, 10, 181, 0, 108, 42, 16, 8, 188, 10, 181, 0, 111, 42, 16, 64, 188, 11, 181, 0, 114, 42]
abbrev dktX0_init_9 : List UInt8 := dkwX0_init_9 ++ dktX0_init_10
def dkwX0_init_8 : List UInt8 := [197, 0, 78, 2, 181, 0, 98, 42, 8, 188, 10, 181, 0, 101, 42, 16, 64, 188, 4, 181, 0, 104, 42]
abbrev dktX0_init_8 : List UInt8 := dkwX0_init_8 ++ dktX0_init_9
def dkwX0_init_7 : List UInt8 := [188, 10, 181, 0, 89, 42, 8, 188, 10, 181, 0, 92, 42, 8, 188, 10, 181, 0, 95, 42, 5, 6]
abbrev dktX0_init_7 : List UInt8 := dkwX0_init_7 ++ dktX0_init_8
def dkwX0_init_6 : List UInt8 := [181, 0, 80, 42, 16, 9, 16, 64, 197, 0, 78, 2, 181, 0, 83, 42, 8, 188, 10, 181, 0, 86, 42, 8]
abbrev dktX0_init_6 : List UInt8 := dkwX0_init_6 ++ dktX0_init_7
def dkwX0_init_5 : List UInt8 := [188, 10, 181, 0, 72, 42, 16, 8, 188, 10, 181, 0, 75, 42, 16, 9, 16, 64, 197, 0, 78, 2]
abbrev dktX0_init_5 : List UInt8 := dkwX0_init_5 ++ dktX0_init_6
def dkwX0_init_4 : List UInt8 := [183, 0, 56, 181, 0, 57, 42, 2, 181, 0, 61, 42, 2, 181, 0, 65, 42, 10, 181, 0, 68, 42, 16, 8]
abbrev dktX0_init_4 : List UInt8 := dkwX0_init_4 ++ dktX0_init_5
def dkwX0_init_3 : List UInt8 := [187, 0, 37, 89, 183, 0, 39, 181, 0, 47, 42, 16, 8, 188, 10, 181, 0, 50, 42, 187, 0, 54, 89]
abbrev dktX0_init_3 : List UInt8 := dkwX0_init_3 ++ dktX0_init_4
def dkwX0_init_2 : List UInt8 := [187, 0, 37, 89, 183, 0, 39, 181, 0, 40, 42, 187, 0, 37, 89, 183, 0, 39, 181, 0, 44, 42]
abbrev dktX0_init_2 : List UInt8 := dkwX0_init_2 ++ dktX0_init_3
def dkwX0_init_1 : List UInt8 := [187, 0, 22, 89, 42, 180, 0, 18, 183, 0, 24, 181, 0, 27, 42, 16, 12, 189, 0, 31, 181, 0, 33, 42]
abbrev dktX0_init_1 : List UInt8 := dkwX0_init_1 ++ dktX0_init_2
def dkwX0_init_0 : List UInt8 := [42, 183, 0, 1, 42, 7, 189, 0, 9, 181, 0, 11, 42, 187, 0, 15, 89, 183, 0, 17, 181, 0, 18, 42]
abbrev dktX0_init_0 : List UInt8 := dkwX0_init_0 ++ dktX0_init_1
theorem dksX0_init_0 : cX0_init.data.toList.drop 0 = dktX0_init_0 := by decide +kernel
theorem dksX0_init_1 : cX0_init.data.toList.drop 24 = dktX0_init_1 := dk_seg dksX0_init_0 24 rfl rfl
theorem dksX0_init_2 : cX0_init.data.toList.drop 48 = dktX0_init_2 := dk_seg dksX0_init_1 24 rfl rfl
theorem dksX0_init_3 : cX0_init.data.toList.drop 70 = dktX0_init_3 := dk_seg dksX0_init_2 22 rfl rfl
theorem dksX0_init_4 : cX0_init.data.toList.drop 93 = dktX0_init_4 := dk_seg dksX0_init_3 23 rfl rfl
theorem dksX0_init_5 : cX0_init.data.toList.drop 117 = dktX0_init_5 := dk_seg dksX0_init_4 24 rfl rfl
theorem dksX0_init_6 : cX0_init.data.toList.drop 139 = dktX0_init_6 := dk_seg dksX0_init_5 22 rfl rfl
theorem dksX0_init_7 : cX0_init.data.toList.drop 163 = dktX0_init_7 := dk_seg dksX0_init_6 24 rfl rfl
theorem dksX0_init_8 : cX0_init.data.toList.drop 185 = dktX0_init_8 := dk_seg dksX0_init_7 22 rfl rfl
theorem dksX0_init_9 : cX0_init.data.toList.drop 208 = dktX0_init_9 := dk_seg dksX0_init_8 23 rfl rfl
theorem dksX0_init_10 : cX0_init.data.toList.drop 232 = dktX0_init_10 := dk_seg dksX0_init_9 24 rfl rfl
theorem dksX0_init_11 : cX0_init.data.toList.drop 254 = dktX0_init_11 := dk_seg dksX0_init_10 22 rfl rfl
theorem dksX0_init_12 : cX0_init.data.toList.drop 278 = dktX0_init_12 := dk_seg dksX0_init_11 24 rfl rfl
theorem dksX0_init_13 : cX0_init.data.toList.drop 301 = dktX0_init_13 := dk_seg dksX0_init_12 23 rfl rfl
theorem dksX0_init_14 : cX0_init.data.toList.drop 324 = dktX0_init_14 := dk_seg dksX0_init_13 23 rfl rfl
theorem dX0_init_0 : decode cX0_init 0 = .ok (.aload_n 0, 1) := dk_42 (dk_at dksX0_init_0 0 rfl rfl)
theorem dX0_init_1 : decode cX0_init 1 = .ok (.invokespecial 1, 3) := dk_183 0 1 (dk_at dksX0_init_0 1 rfl rfl)
theorem dX0_init_4 : decode cX0_init 4 = .ok (.aload_n 0, 1) := dk_42 (dk_at dksX0_init_0 4 rfl rfl)
theorem dX0_init_5 : decode cX0_init 5 = .ok (.iconst 4, 1) := dk_7 (dk_at dksX0_init_0 5 rfl rfl)
theorem dX0_init_6 : decode cX0_init 6 = .ok (.anewarray 9, 3) := dk_189 0 9 (dk_at dksX0_init_0 6 rfl rfl)
theorem dX0_init_9 : decode cX0_init 9 = .ok (.putfield 11, 3) := dk_181 0 11 (dk_at dksX0_init_0 9 rfl rfl)
theorem dX0_init_12 : decode cX0_init 12 = .ok (.aload_n 0, 1) := dk_42 (dk_at dksX0_init_0 12 rfl rfl)
theorem dX0_init_13 : decode cX0_init 13 = .ok (.new 15, 3) := dk_187 0 15 (dk_at dksX0_init_0 13 rfl rfl)
theorem dX0_init_16 : decode cX0_init 16 = .ok (.dup, 1) := dk_89 (dk_at dksX0_init_0 16 rfl rfl)
theorem dX0_init_17 : decode cX0_init 17 = .ok (.invokespecial 17, 3) := dk_183 0 17 (dk_at dksX0_init_0 17 rfl rfl)
theorem dX0_init_20 : decode cX0_init 20 = .ok (.putfield 18, 3) := dk_181 0 18 (dk_at dksX0_init_0 20 rfl rfl)
theorem dX0_init_23 : decode cX0_init 23 = .ok (.aload_n 0, 1) := dk_42 (dk_at dksX0_init_0 23 rfl rfl)
theorem dX0_init_24 : decode cX0_init 24 = .ok (.new 22, 3) := dk_187 0 22 (dk_at dksX0_init_1 0 rfl rfl)
theorem dX0_init_27 : decode cX0_init 27 = .ok (.dup, 1) := dk_89 (dk_at dksX0_init_1 3 rfl rfl)
theorem dX0_init_28 : decode cX0_init 28 = .ok (.aload_n 0, 1) := dk_42 (dk_at dksX0_init_1 4 rfl rfl)
theorem dX0_init_29 : decode cX0_init 29 = .ok (.getfield 18, 3) := dk_180 0 18 (dk_at dksX0_init_1 5 rfl rfl)
theorem dX0_init_32 : decode cX0_init 32 = .ok (.invokespecial 24, 3) := dk_183 0 24 (dk_at dksX0_init_1 8 rfl rfl)
theorem dX0_init_35 : decode cX0_init 35 = .ok (.putfield 27, 3) := dk_181 0 27 (dk_at dksX0_init_1 11 rfl rfl)
theorem dX0_init_38 : decode cX0_init 38 = .ok (.aload_n 0, 1) := dk_42 (dk_at dksX0_init_1 14 rfl rfl)
theorem dX0_init_39 : decode cX0_init 39 = .ok (.bipush 12, 2) := dk_16 12 (dk_at dksX0_init_1 15 rfl rfl)
theorem dX0_init_41 : decode cX0_init 41 = .ok (.anewarray 31, 3) := dk_189 0 31 (dk_at dksX0_init_1 17 rfl rfl)
theorem dX0_init_44 : decode cX0_init 44 = .ok (.putfield 33, 3) := dk_181 0 33 (dk_at dksX0_init_1 20 rfl rfl)
theorem dX0_init_47 : decode cX0_init 47 = .ok (.aload_n 0, 1) := dk_42 (dk_at dksX0_init_1 23 rfl rfl)
theorem dX0_init_48 : decode cX0_init 48 = .ok (.new 37, 3) := dk_187 0 37 (dk_at dksX0_init_2 0 rfl rfl)
theorem dX0_init_51 : decode cX0_init 51 = .ok (.dup, 1) := dk_89 (dk_at dksX0_init_2 3 rfl rfl)
theorem dX0_init_52 : decode cX0_init 52 = .ok (.invokespecial 39, 3) := dk_183 0 39 (dk_at dksX0_init_2 4 rfl rfl)
theorem dX0_init_55 : decode cX0_init 55 = .ok (.putfield 40, 3) := dk_181 0 40 (dk_at dksX0_init_2 7 rfl rfl)
theorem dX0_init_58 : decode cX0_init 58 = .ok (.aload_n 0, 1) := dk_42 (dk_at dksX0_init_2 10 rfl rfl)
theorem dX0_init_59 : decode cX0_init 59 = .ok (.new 37, 3) := dk_187 0 37 (dk_at dksX0_init_2 11 rfl rfl)
theorem dX0_init_62 : decode cX0_init 62 = .ok (.dup, 1) := dk_89 (dk_at dksX0_init_2 14 rfl rfl)
theorem dX0_init_63 : decode cX0_init 63 = .ok (.invokespecial 39, 3) := dk_183 0 39 (dk_at dksX0_init_2 15 rfl rfl)
theorem dX0_init_66 : decode cX0_init 66 = .ok (.putfield 44, 3) := dk_181 0 44 (dk_at dksX0_init_2 18 rfl rfl)
theorem dX0_init_69 : decode cX0_init 69 = .ok (.aload_n 0, 1) := dk_42 (dk_at dksX0_init_2 21 rfl rfl)
theorem dX0_init_70 : decode cX0_init 70 = .ok (.new 37, 3) := dk_187 0 37 (dk_at dksX0_init_3 0 rfl rfl)
theorem dX0_init_73 : decode cX0_init 73 = .ok (.dup, 1) := dk_89 (dk_at dksX0_init_3 3 rfl rfl)
theorem dX0_init_74 : decode cX0_init 74 = .ok (.invokespecial 39, 3) := dk_183 0 39 (dk_at dksX0_init_3 4 rfl rfl)
theorem dX0_init_77 : decode cX0_init 77 = .ok (.putfield 47, 3) := dk_181 0 47 (dk_at dksX0_init_3 7 rfl rfl)
theorem dX0_init_80 : decode cX0_init 80 = .ok (.aload_n 0, 1) := dk_42 (dk_at dksX0_init_3 10 rfl rfl)
theorem dX0_init_81 : decode cX0_init 81 = .ok (.bipush 8, 2) := dk_16 8 (dk_at dksX0_init_3 11 rfl rfl)
theorem dX0_init_83 : decode cX0_init 83 = .ok (.newarray .int, 2) := dk_188_10 (dk_at dksX0_init_3 13 rfl rfl)
theorem dX0_init_85 : decode cX0_init 85 = .ok (.putfield 50, 3) := dk_181 0 50 (dk_at dksX0_init_3 15 rfl rfl)
theorem dX0_init_88 : decode cX0_init 88 = .ok (.aload_n 0, 1) := dk_42 (dk_at dksX0_init_3 18 rfl rfl)
theorem dX0_init_89 : decode cX0_init 89 = .ok (.new 54, 3) := dk_187 0 54 (dk_at dksX0_init_3 19 rfl rfl)
theorem dX0_init_92 : decode cX0_init 92 = .ok (.dup, 1) := dk_89 (dk_at dksX0_init_3 22 rfl rfl)
theorem dX0_init_93 : decode cX0_init 93 = .ok (.invokespecial 56, 3) := dk_183 0 56 (dk_at dksX0_init_4 0 rfl rfl)
theorem dX0_init_96 : decode cX0_init 96 = .ok (.putfield 57, 3) := dk_181 0 57 (dk_at dksX0_init_4 3 rfl rfl)
theorem dX0_init_99 : decode cX0_init 99 = .ok (.aload_n 0, 1) := dk_42 (dk_at dksX0_init_4 6 rfl rfl)
theorem dX0_init_100 : decode cX0_init 100 = .ok (.iconst (-1), 1) := dk_2 (dk_at dksX0_init_4 7 rfl rfl)
theorem dX0_init_101 : decode cX0_init 101 = .ok (.putfield 61, 3) := dk_181 0 61 (dk_at dksX0_init_4 8 rfl rfl)
theorem dX0_init_104 : decode cX0_init 104 = .ok (.aload_n 0, 1) := dk_42 (dk_at dksX0_init_4 11 rfl rfl)
theorem dX0_init_105 : decode cX0_init 105 = .ok (.iconst (-1), 1) := dk_2 (dk_at dksX0_init_4 12 rfl rfl)
theorem dX0_init_106 : decode cX0_init 106 = .ok (.putfield 65, 3) := dk_181 0 65 (dk_at dksX0_init_4 13 rfl rfl)
theorem dX0_init_109 : decode cX0_init 109 = .ok (.aload_n 0, 1) := dk_42 (dk_at dksX0_init_4 16 rfl rfl)
theorem dX0_init_110 : decode cX0_init 110 = .ok (.lconst 1, 1) := dk_10 (dk_at dksX0_init_4 17 rfl rfl)
theorem dX0_init_111 : decode cX0_init 111 = .ok (.putfield 68, 3) := dk_181 0 68 (dk_at dksX0_init_4 18 rfl rfl)
theorem dX0_init_114 : decode cX0_init 114 = .ok (.aload_n 0, 1) := dk_42 (dk_at dksX0_init_4 21 rfl rfl)
theorem dX0_init_115 : decode cX0_init 115 = .ok (.bipush 8, 2) := dk_16 8 (dk_at dksX0_init_4 22 rfl rfl)
theorem dX0_init_117 : decode cX0_init 117 = .ok (.newarray .int, 2) := dk_188_10 (dk_at dksX0_init_5 0 rfl rfl)
theorem dX0_init_119 : decode cX0_init 119 = .ok (.putfield 72, 3) := dk_181 0 72 (dk_at dksX0_init_5 2 rfl rfl)
theorem dX0_init_122 : decode cX0_init 122 = .ok (.aload_n 0, 1) := dk_42 (dk_at dksX0_init_5 5 rfl rfl)
theorem dX0_init_123 : decode cX0_init 123 = .ok (.bipush 8, 2) := dk_16 8 (dk_at dksX0_init_5 6 rfl rfl)
theorem dX0_init_125 : decode cX0_init 125 = .ok (.newarray .int, 2) := dk_188_10 (dk_at dksX0_init_5 8 rfl rfl)
theorem dX0_init_127 : decode cX0_init 127 = .ok (.putfield 75, 3) := dk_181 0 75 (dk_at dksX0_init_5 10 rfl rfl)
theorem dX0_init_130 : decode cX0_init 130 = .ok (.aload_n 0, 1) := dk_42 (dk_at dksX0_init_5 13 rfl rfl)
theorem dX0_init_131 : decode cX0_init 131 = .ok (.bipush 9, 2) := dk_16 9 (dk_at dksX0_init_5 14 rfl rfl)
theorem dX0_init_133 : decode cX0_init 133 = .ok (.bipush 64, 2) := dk_16 64 (dk_at dksX0_init_5 16 rfl rfl)
theorem dX0_init_135 : decode cX0_init 135 = .ok (.multianewarray 78 2, 4) := by decide +kernel
theorem dX0_init_139 : decode cX0_init 139 = .ok (.putfield 80, 3) := dk_181 0 80 (dk_at dksX0_init_6 0 rfl rfl)
theorem dX0_init_142 : decode cX0_init 142 = .ok (.aload_n 0, 1) := dk_42 (dk_at dksX0_init_6 3 rfl rfl)
theorem dX0_init_143 : decode cX0_init 143 = .ok (.bipush 9, 2) := dk_16 9 (dk_at dksX0_init_6 4 rfl rfl)
theorem dX0_init_145 : decode cX0_init 145 = .ok (.bipush 64, 2) := dk_16 64 (dk_at dksX0_init_6 6 rfl rfl)
theorem dX0_init_147 : decode cX0_init 147 = .ok (.multianewarray 78 2, 4) := by decide +kernel
theorem dX0_init_151 : decode cX0_init 151 = .ok (.putfield 83, 3) := dk_181 0 83 (dk_at dksX0_init_6 12 rfl rfl)
theorem dX0_init_154 : decode cX0_init 154 = .ok (.aload_n 0, 1) := dk_42 (dk_at dksX0_init_6 15 rfl rfl)
theorem dX0_init_155 : decode cX0_init 155 = .ok (.iconst 5, 1) := dk_8 (dk_at dksX0_init_6 16 rfl rfl)
theorem dX0_init_156 : decode cX0_init 156 = .ok (.newarray .int, 2) := dk_188_10 (dk_at dksX0_init_6 17 rfl rfl)
theorem dX0_init_158 : decode cX0_init 158 = .ok (.putfield 86, 3) := dk_181 0 86 (dk_at dksX0_init_6 19 rfl rfl)
theorem dX0_init_161 : decode cX0_init 161 = .ok (.aload_n 0, 1) := dk_42 (dk_at dksX0_init_6 22 rfl rfl)
theorem dX0_init_162 : decode cX0_init 162 = .ok (.iconst 5, 1) := dk_8 (dk_at dksX0_init_6 23 rfl rfl)
theorem dX0_init_163 : decode cX0_init 163 = .ok (.newarray .int, 2) := dk_188_10 (dk_at dksX0_init_7 0 rfl rfl)
theorem dX0_init_165 : decode cX0_init 165 = .ok (.putfield 89, 3) := dk_181 0 89 (dk_at dksX0_init_7 2 rfl rfl)
theorem dX0_init_168 : decode cX0_init 168 = .ok (.aload_n 0, 1) := dk_42 (dk_at dksX0_init_7 5 rfl rfl)
theorem dX0_init_169 : decode cX0_init 169 = .ok (.iconst 5, 1) := dk_8 (dk_at dksX0_init_7 6 rfl rfl)
theorem dX0_init_170 : decode cX0_init 170 = .ok (.newarray .int, 2) := dk_188_10 (dk_at dksX0_init_7 7 rfl rfl)
theorem dX0_init_172 : decode cX0_init 172 = .ok (.putfield 92, 3) := dk_181 0 92 (dk_at dksX0_init_7 9 rfl rfl)
theorem dX0_init_175 : decode cX0_init 175 = .ok (.aload_n 0, 1) := dk_42 (dk_at dksX0_init_7 12 rfl rfl)
theorem dX0_init_176 : decode cX0_init 176 = .ok (.iconst 5, 1) := dk_8 (dk_at dksX0_init_7 13 rfl rfl)
theorem dX0_init_177 : decode cX0_init 177 = .ok (.newarray .int, 2) := dk_188_10 (dk_at dksX0_init_7 14 rfl rfl)
theorem dX0_init_179 : decode cX0_init 179 = .ok (.putfield 95, 3) := dk_181 0 95 (dk_at dksX0_init_7 16 rfl rfl)
theorem dX0_init_182 : decode cX0_init 182 = .ok (.aload_n 0, 1) := dk_42 (dk_at dksX0_init_7 19 rfl rfl)
theorem dX0_init_183 : decode cX0_init 183 = .ok (.iconst 2, 1) := dk_5 (dk_at dksX0_init_7 20 rfl rfl)
theorem dX0_init_184 : decode cX0_init 184 = .ok (.iconst 3, 1) := dk_6 (dk_at dksX0_init_7 21 rfl rfl)
theorem dX0_init_185 : decode cX0_init 185 = .ok (.multianewarray 78 2, 4) := by decide +kernel
theorem dX0_init_189 : decode cX0_init 189 = .ok (.putfield 98, 3) := dk_181 0 98 (dk_at dksX0_init_8 4 rfl rfl)
theorem dX0_init_192 : decode cX0_init 192 = .ok (.aload_n 0, 1) := dk_42 (dk_at dksX0_init_8 7 rfl rfl)
theorem dX0_init_193 : decode cX0_init 193 = .ok (.iconst 5, 1) := dk_8 (dk_at dksX0_init_8 8 rfl rfl)
theorem dX0_init_194 : decode cX0_init 194 = .ok (.newarray .int, 2) := dk_188_10 (dk_at dksX0_init_8 9 rfl rfl)
theorem dX0_init_196 : decode cX0_init 196 = .ok (.putfield 101, 3) := dk_181 0 101 (dk_at dksX0_init_8 11 rfl rfl)
theorem dX0_init_199 : decode cX0_init 199 = .ok (.aload_n 0, 1) := dk_42 (dk_at dksX0_init_8 14 rfl rfl)
theorem dX0_init_200 : decode cX0_init 200 = .ok (.bipush 64, 2) := dk_16 64 (dk_at dksX0_init_8 15 rfl rfl)
theorem dX0_init_202 : decode cX0_init 202 = .ok (.newarray .boolean, 2) := dk_188_4 (dk_at dksX0_init_8 17 rfl rfl)
theorem dX0_init_204 : decode cX0_init 204 = .ok (.putfield 104, 3) := dk_181 0 104 (dk_at dksX0_init_8 19 rfl rfl)
theorem dX0_init_207 : decode cX0_init 207 = .ok (.aload_n 0, 1) := dk_42 (dk_at dksX0_init_8 22 rfl rfl)
theorem dX0_init_208 : decode cX0_init 208 = .ok (.bipush 64, 2) := dk_16 64 (dk_at dksX0_init_9 0 rfl rfl)
theorem dX0_init_210 : decode cX0_init 210 = .ok (.newarray .int, 2) := dk_188_10 (dk_at dksX0_init_9 2 rfl rfl)
theorem dX0_init_212 : decode cX0_init 212 = .ok (.putfield 108, 3) := dk_181 0 108 (dk_at dksX0_init_9 4 rfl rfl)
theorem dX0_init_215 : decode cX0_init 215 = .ok (.aload_n 0, 1) := dk_42 (dk_at dksX0_init_9 7 rfl rfl)
theorem dX0_init_216 : decode cX0_init 216 = .ok (.bipush 8, 2) := dk_16 8 (dk_at dksX0_init_9 8 rfl rfl)
theorem dX0_init_218 : decode cX0_init 218 = .ok (.newarray .int, 2) := dk_188_10 (dk_at dksX0_init_9 10 rfl rfl)
theorem dX0_init_220 : decode cX0_init 220 = .ok (.putfield 111, 3) := dk_181 0 111 (dk_at dksX0_init_9 12 rfl rfl)
theorem dX0_init_223 : decode cX0_init 223 = .ok (.aload_n 0, 1) := dk_42 (dk_at dksX0_init_9 15 rfl rfl)
theorem dX0_init_224 : decode cX0_init 224 = .ok (.bipush 64, 2) := dk_16 64 (dk_at dksX0_init_9 16 rfl rfl)
theorem dX0_init_226 : decode cX0_init 226 = .ok (.newarray .long, 2) := dk_188_11 (dk_at dksX0_init_9 18 rfl rfl)
theorem dX0_init_228 : decode cX0_init 228 = .ok (.putfield 114, 3) := dk_181 0 114 (dk_at dksX0_init_9 20 rfl rfl)
theorem dX0_init_231 : decode cX0_init 231 = .ok (.aload_n 0, 1) := dk_42 (dk_at dksX0_init_9 23 rfl rfl)
theorem dX0_init_232 : decode cX0_init 232 = .ok (.bipush 64, 2) := dk_16 64 (dk_at dksX0_init_10 0 rfl rfl)
theorem dX0_init_234 : decode cX0_init 234 = .ok (.newarray .long, 2) := dk_188_11 (dk_at dksX0_init_10 2 rfl rfl)
theorem dX0_init_236 : decode cX0_init 236 = .ok (.putfield 118, 3) := dk_181 0 118 (dk_at dksX0_init_10 4 rfl rfl)
theorem dX0_init_239 : decode cX0_init 239 = .ok (.aload_n 0, 1) := dk_42 (dk_at dksX0_init_10 7 rfl rfl)
theorem dX0_init_240 : decode cX0_init 240 = .ok (.iconst 3, 1) := dk_6 (dk_at dksX0_init_10 8 rfl rfl)
theorem dX0_init_241 : decode cX0_init 241 = .ok (.anewarray 37, 3) := dk_189 0 37 (dk_at dksX0_init_10 9 rfl rfl)
theorem dX0_init_244 : decode cX0_init 244 = .ok (.dup, 1) := dk_89 (dk_at dksX0_init_10 12 rfl rfl)
theorem dX0_init_245 : decode cX0_init 245 = .ok (.iconst 0, 1) := dk_3 (dk_at dksX0_init_10 13 rfl rfl)
theorem dX0_init_246 : decode cX0_init 246 = .ok (.aload_n 0, 1) := dk_42 (dk_at dksX0_init_10 14 rfl rfl)
theorem dX0_init_247 : decode cX0_init 247 = .ok (.getfield 40, 3) := dk_180 0 40 (dk_at dksX0_init_10 15 rfl rfl)
theorem dX0_init_250 : decode cX0_init 250 = .ok (.aastore, 1) := dk_83 (dk_at dksX0_init_10 18 rfl rfl)
theorem dX0_init_251 : decode cX0_init 251 = .ok (.dup, 1) := dk_89 (dk_at dksX0_init_10 19 rfl rfl)
theorem dX0_init_252 : decode cX0_init 252 = .ok (.iconst 1, 1) := dk_4 (dk_at dksX0_init_10 20 rfl rfl)
theorem dX0_init_253 : decode cX0_init 253 = .ok (.aload_n 0, 1) := dk_42 (dk_at dksX0_init_10 21 rfl rfl)
theorem dX0_init_254 : decode cX0_init 254 = .ok (.getfield 44, 3) := dk_180 0 44 (dk_at dksX0_init_11 0 rfl rfl)
theorem dX0_init_257 : decode cX0_init 257 = .ok (.aastore, 1) := dk_83 (dk_at dksX0_init_11 3 rfl rfl)
theorem dX0_init_258 : decode cX0_init 258 = .ok (.dup, 1) := dk_89 (dk_at dksX0_init_11 4 rfl rfl)
theorem dX0_init_259 : decode cX0_init 259 = .ok (.iconst 2, 1) := dk_5 (dk_at dksX0_init_11 5 rfl rfl)
theorem dX0_init_260 : decode cX0_init 260 = .ok (.aload_n 0, 1) := dk_42 (dk_at dksX0_init_11 6 rfl rfl)
theorem dX0_init_261 : decode cX0_init 261 = .ok (.getfield 47, 3) := dk_180 0 47 (dk_at dksX0_init_11 7 rfl rfl)
theorem dX0_init_264 : decode cX0_init 264 = .ok (.aastore, 1) := dk_83 (dk_at dksX0_init_11 10 rfl rfl)
theorem dX0_init_265 : decode cX0_init 265 = .ok (.putfield 121, 3) := dk_181 0 121 (dk_at dksX0_init_11 11 rfl rfl)
theorem dX0_init_268 : decode cX0_init 268 = .ok (.aload_n 0, 1) := dk_42 (dk_at dksX0_init_11 14 rfl rfl)
theorem dX0_init_269 : decode cX0_init 269 = .ok (.iconst 3, 1) := dk_6 (dk_at dksX0_init_11 15 rfl rfl)
theorem dX0_init_270 : decode cX0_init 270 = .ok (.newarray .int, 2) := dk_188_10 (dk_at dksX0_init_11 16 rfl rfl)
theorem dX0_init_272 : decode cX0_init 272 = .ok (.putfield 125, 3) := dk_181 0 125 (dk_at dksX0_init_11 18 rfl rfl)
theorem dX0_init_275 : decode cX0_init 275 = .ok (.aload_n 0, 1) := dk_42 (dk_at dksX0_init_11 21 rfl rfl)
theorem dX0_init_276 : decode cX0_init 276 = .ok (.iconst 3, 1) := dk_6 (dk_at dksX0_init_11 22 rfl rfl)
theorem dX0_init_277 : decode cX0_init 277 = .ok (.iconst 3, 1) := dk_6 (dk_at dksX0_init_11 23 rfl rfl)
theorem dX0_init_278 : decode cX0_init 278 = .ok (.multianewarray 128 2, 4) := by decide +kernel
theorem dX0_init_282 : decode cX0_init 282 = .ok (.putfield 130, 3) := dk_181 0 130 (dk_at dksX0_init_12 4 rfl rfl)
theorem dX0_init_285 : decode cX0_init 285 = .ok (.aload_n 0, 1) := dk_42 (dk_at dksX0_init_12 7 rfl rfl)
theorem dX0_init_286 : decode cX0_init 286 = .ok (.iconst 3, 1) := dk_6 (dk_at dksX0_init_12 8 rfl rfl)
theorem dX0_init_287 : decode cX0_init 287 = .ok (.newarray .long, 2) := dk_188_11 (dk_at dksX0_init_12 9 rfl rfl)
theorem dX0_init_289 : decode cX0_init 289 = .ok (.putfield 133, 3) := dk_181 0 133 (dk_at dksX0_init_12 11 rfl rfl)
theorem dX0_init_292 : decode cX0_init 292 = .ok (.aload_n 0, 1) := dk_42 (dk_at dksX0_init_12 14 rfl rfl)
theorem dX0_init_293 : decode cX0_init 293 = .ok (.iconst 3, 1) := dk_6 (dk_at dksX0_init_12 15 rfl rfl)
theorem dX0_init_294 : decode cX0_init 294 = .ok (.newarray .long, 2) := dk_188_11 (dk_at dksX0_init_12 16 rfl rfl)
theorem dX0_init_296 : decode cX0_init 296 = .ok (.putfield 136, 3) := dk_181 0 136 (dk_at dksX0_init_12 18 rfl rfl)
theorem dX0_init_299 : decode cX0_init 299 = .ok (.aload_n 0, 1) := dk_42 (dk_at dksX0_init_12 21 rfl rfl)
theorem dX0_init_300 : decode cX0_init 300 = .ok (.iconst 3, 1) := dk_6 (dk_at dksX0_init_12 22 rfl rfl)
theorem dX0_init_301 : decode cX0_init 301 = .ok (.newarray .long, 2) := dk_188_11 (dk_at dksX0_init_13 0 rfl rfl)
theorem dX0_init_303 : decode cX0_init 303 = .ok (.putfield 139, 3) := dk_181 0 139 (dk_at dksX0_init_13 2 rfl rfl)
theorem dX0_init_306 : decode cX0_init 306 = .ok (.aload_n 0, 1) := dk_42 (dk_at dksX0_init_13 5 rfl rfl)
theorem dX0_init_307 : decode cX0_init 307 = .ok (.iconst 3, 1) := dk_6 (dk_at dksX0_init_13 6 rfl rfl)
theorem dX0_init_308 : decode cX0_init 308 = .ok (.newarray .long, 2) := dk_188_11 (dk_at dksX0_init_13 7 rfl rfl)
theorem dX0_init_310 : decode cX0_init 310 = .ok (.putfield 142, 3) := dk_181 0 142 (dk_at dksX0_init_13 9 rfl rfl)
theorem dX0_init_313 : decode cX0_init 313 = .ok (.aload_n 0, 1) := dk_42 (dk_at dksX0_init_13 12 rfl rfl)
theorem dX0_init_314 : decode cX0_init 314 = .ok (.iconst 3, 1) := dk_6 (dk_at dksX0_init_13 13 rfl rfl)
theorem dX0_init_315 : decode cX0_init 315 = .ok (.newarray .long, 2) := dk_188_11 (dk_at dksX0_init_13 14 rfl rfl)
theorem dX0_init_317 : decode cX0_init 317 = .ok (.putfield 145, 3) := dk_181 0 145 (dk_at dksX0_init_13 16 rfl rfl)
theorem dX0_init_320 : decode cX0_init 320 = .ok (.iconst 0, 1) := dk_3 (dk_at dksX0_init_13 19 rfl rfl)
theorem dX0_init_321 : decode cX0_init 321 = .ok (.istore_n 1, 1) := dk_60 (dk_at dksX0_init_13 20 rfl rfl)
theorem dX0_init_322 : decode cX0_init 322 = .ok (.iload_n 1, 1) := dk_27 (dk_at dksX0_init_13 21 rfl rfl)
theorem dX0_init_323 : decode cX0_init 323 = .ok (.iconst 4, 1) := dk_7 (dk_at dksX0_init_13 22 rfl rfl)
theorem dX0_init_324 : decode cX0_init 324 = .ok (.if_icmp .ge 22, 3) := dk_162 0 22 (dk_at dksX0_init_14 0 rfl rfl)
theorem dX0_init_327 : decode cX0_init 327 = .ok (.aload_n 0, 1) := dk_42 (dk_at dksX0_init_14 3 rfl rfl)
theorem dX0_init_328 : decode cX0_init 328 = .ok (.getfield 11, 3) := dk_180 0 11 (dk_at dksX0_init_14 4 rfl rfl)
theorem dX0_init_331 : decode cX0_init 331 = .ok (.iload_n 1, 1) := dk_27 (dk_at dksX0_init_14 7 rfl rfl)
theorem dX0_init_332 : decode cX0_init 332 = .ok (.new 9, 3) := dk_187 0 9 (dk_at dksX0_init_14 8 rfl rfl)
theorem dX0_init_335 : decode cX0_init 335 = .ok (.dup, 1) := dk_89 (dk_at dksX0_init_14 11 rfl rfl)
theorem dX0_init_336 : decode cX0_init 336 = .ok (.invokespecial 148, 3) := dk_183 0 148 (dk_at dksX0_init_14 12 rfl rfl)
theorem dX0_init_339 : decode cX0_init 339 = .ok (.aastore, 1) := dk_83 (dk_at dksX0_init_14 15 rfl rfl)
theorem dX0_init_340 : decode cX0_init 340 = .ok (.iinc 1 1, 3) := dk_132 1 1 (dk_at dksX0_init_14 16 rfl rfl)
theorem dX0_init_343 : decode cX0_init 343 = .ok (.goto (-21), 3) := dk_167 255 235 (dk_at dksX0_init_14 19 rfl rfl)
theorem dX0_init_346 : decode cX0_init 346 = .ok (.return_, 1) := dk_177 (dk_at dksX0_init_14 22 rfl rfl)
abbrev cX0_status : ByteArray := prog_1_method_2_code
def yX0_status : MethodName := ⟨RX0, "status", "()I"⟩
theorem dX0_status_0 : decode cX0_status 0 = .ok (.aload_n 0, 1) := by decide +kernel
theorem dX0_status_1 : decode cX0_status 1 = .ok (.getfield 149, 3) := by decide +kernel
theorem dX0_status_4 : decode cX0_status 4 = .ok (.ireturn, 1) := by decide +kernel
abbrev cX0_top : ByteArray := prog_1_method_3_code
def yX0_top : MethodName := ⟨RX0, "top", "()J"⟩
theorem dX0_top_0 : decode cX0_top 0 = .ok (.aload_n 0, 1) := by decide +kernel
theorem dX0_top_1 : decode cX0_top 1 = .ok (.getfield 152, 3) := by decide +kernel
theorem dX0_top_4 : decode cX0_top 4 = .ok (.lreturn, 1) := by decide +kernel
abbrev cX0_bottom : ByteArray := prog_1_method_4_code
def yX0_bottom : MethodName := ⟨RX0, "bottom", "()J"⟩
theorem dX0_bottom_0 : decode cX0_bottom 0 = .ok (.aload_n 0, 1) := by decide +kernel
theorem dX0_bottom_1 : decode cX0_bottom 1 = .ok (.getfield 68, 3) := by decide +kernel
theorem dX0_bottom_4 : decode cX0_bottom 4 = .ok (.lreturn, 1) := by decide +kernel
abbrev cX0_tray : ByteArray := prog_1_method_10_code
def yX0_tray : MethodName := ⟨RX0, "tray", "(III)Z"⟩
def dkwX0_tray_2 : List UInt8 := [167, 0, 12, 58, 4, 42, 16, 6, 182, 0, 155, 172, 42, 3, 182, 0, 155, 172]
abbrev dktX0_tray_2 : List UInt8 := dkwX0_tray_2 ++ []
def dkwX0_tray_1 : List UInt8 := [16, 64, 164, 0, 9, 42, 8, 182, 0, 155, 172, 42, 180, 0, 11, 27, 50, 28, 29, 182, 0, 162]
abbrev dktX0_tray_1 : List UInt8 := dkwX0_tray_1 ++ dktX0_tray_2
def dkwX0_tray_0 : List UInt8 := [27, 184, 0, 159, 153, 0, 12, 28, 155, 0, 8, 28, 6, 164, 0, 9, 42, 4, 182, 0, 155, 172, 29]
abbrev dktX0_tray_0 : List UInt8 := dkwX0_tray_0 ++ dktX0_tray_1
theorem dksX0_tray_0 : cX0_tray.data.toList.drop 0 = dktX0_tray_0 := by decide +kernel
theorem dksX0_tray_1 : cX0_tray.data.toList.drop 23 = dktX0_tray_1 := dk_seg dksX0_tray_0 23 rfl rfl
theorem dksX0_tray_2 : cX0_tray.data.toList.drop 45 = dktX0_tray_2 := dk_seg dksX0_tray_1 22 rfl rfl
theorem dX0_tray_0 : decode cX0_tray 0 = .ok (.iload_n 1, 1) := dk_27 (dk_at dksX0_tray_0 0 rfl rfl)
theorem dX0_tray_1 : decode cX0_tray 1 = .ok (.invokestatic 159, 3) := dk_184 0 159 (dk_at dksX0_tray_0 1 rfl rfl)
theorem dX0_tray_4 : decode cX0_tray 4 = .ok (.ifCond .eq 12, 3) := dk_153 0 12 (dk_at dksX0_tray_0 4 rfl rfl)
theorem dX0_tray_7 : decode cX0_tray 7 = .ok (.iload_n 2, 1) := dk_28 (dk_at dksX0_tray_0 7 rfl rfl)
theorem dX0_tray_8 : decode cX0_tray 8 = .ok (.ifCond .lt 8, 3) := dk_155 0 8 (dk_at dksX0_tray_0 8 rfl rfl)
theorem dX0_tray_11 : decode cX0_tray 11 = .ok (.iload_n 2, 1) := dk_28 (dk_at dksX0_tray_0 11 rfl rfl)
theorem dX0_tray_12 : decode cX0_tray 12 = .ok (.iconst 3, 1) := dk_6 (dk_at dksX0_tray_0 12 rfl rfl)
theorem dX0_tray_13 : decode cX0_tray 13 = .ok (.if_icmp .le 9, 3) := dk_164 0 9 (dk_at dksX0_tray_0 13 rfl rfl)
theorem dX0_tray_16 : decode cX0_tray 16 = .ok (.aload_n 0, 1) := dk_42 (dk_at dksX0_tray_0 16 rfl rfl)
theorem dX0_tray_17 : decode cX0_tray 17 = .ok (.iconst 1, 1) := dk_4 (dk_at dksX0_tray_0 17 rfl rfl)
theorem dX0_tray_18 : decode cX0_tray 18 = .ok (.invokevirtual 155, 3) := dk_182 0 155 (dk_at dksX0_tray_0 18 rfl rfl)
theorem dX0_tray_21 : decode cX0_tray 21 = .ok (.ireturn, 1) := dk_172 (dk_at dksX0_tray_0 21 rfl rfl)
theorem dX0_tray_22 : decode cX0_tray 22 = .ok (.iload_n 3, 1) := dk_29 (dk_at dksX0_tray_0 22 rfl rfl)
theorem dX0_tray_23 : decode cX0_tray 23 = .ok (.bipush 64, 2) := dk_16 64 (dk_at dksX0_tray_1 0 rfl rfl)
theorem dX0_tray_25 : decode cX0_tray 25 = .ok (.if_icmp .le 9, 3) := dk_164 0 9 (dk_at dksX0_tray_1 2 rfl rfl)
theorem dX0_tray_28 : decode cX0_tray 28 = .ok (.aload_n 0, 1) := dk_42 (dk_at dksX0_tray_1 5 rfl rfl)
theorem dX0_tray_29 : decode cX0_tray 29 = .ok (.iconst 5, 1) := dk_8 (dk_at dksX0_tray_1 6 rfl rfl)
theorem dX0_tray_30 : decode cX0_tray 30 = .ok (.invokevirtual 155, 3) := dk_182 0 155 (dk_at dksX0_tray_1 7 rfl rfl)
theorem dX0_tray_33 : decode cX0_tray 33 = .ok (.ireturn, 1) := dk_172 (dk_at dksX0_tray_1 10 rfl rfl)
theorem dX0_tray_34 : decode cX0_tray 34 = .ok (.aload_n 0, 1) := dk_42 (dk_at dksX0_tray_1 11 rfl rfl)
theorem dX0_tray_35 : decode cX0_tray 35 = .ok (.getfield 11, 3) := dk_180 0 11 (dk_at dksX0_tray_1 12 rfl rfl)
theorem dX0_tray_38 : decode cX0_tray 38 = .ok (.iload_n 1, 1) := dk_27 (dk_at dksX0_tray_1 15 rfl rfl)
theorem dX0_tray_39 : decode cX0_tray 39 = .ok (.aaload, 1) := dk_50 (dk_at dksX0_tray_1 16 rfl rfl)
theorem dX0_tray_40 : decode cX0_tray 40 = .ok (.iload_n 2, 1) := dk_28 (dk_at dksX0_tray_1 17 rfl rfl)
theorem dX0_tray_41 : decode cX0_tray 41 = .ok (.iload_n 3, 1) := dk_29 (dk_at dksX0_tray_1 18 rfl rfl)
theorem dX0_tray_42 : decode cX0_tray 42 = .ok (.invokevirtual 162, 3) := dk_182 0 162 (dk_at dksX0_tray_1 19 rfl rfl)
theorem dX0_tray_45 : decode cX0_tray 45 = .ok (.goto 12, 3) := dk_167 0 12 (dk_at dksX0_tray_2 0 rfl rfl)
theorem dX0_tray_48 : decode cX0_tray 48 = .ok (.astore 4, 2) := dk_58 4 (dk_at dksX0_tray_2 3 rfl rfl)
theorem dX0_tray_50 : decode cX0_tray 50 = .ok (.aload_n 0, 1) := dk_42 (dk_at dksX0_tray_2 5 rfl rfl)
theorem dX0_tray_51 : decode cX0_tray 51 = .ok (.bipush 6, 2) := dk_16 6 (dk_at dksX0_tray_2 6 rfl rfl)
theorem dX0_tray_53 : decode cX0_tray 53 = .ok (.invokevirtual 155, 3) := dk_182 0 155 (dk_at dksX0_tray_2 8 rfl rfl)
theorem dX0_tray_56 : decode cX0_tray 56 = .ok (.ireturn, 1) := dk_172 (dk_at dksX0_tray_2 11 rfl rfl)
theorem dX0_tray_57 : decode cX0_tray 57 = .ok (.aload_n 0, 1) := dk_42 (dk_at dksX0_tray_2 12 rfl rfl)
theorem dX0_tray_58 : decode cX0_tray 58 = .ok (.iconst 0, 1) := dk_3 (dk_at dksX0_tray_2 13 rfl rfl)
theorem dX0_tray_59 : decode cX0_tray 59 = .ok (.invokevirtual 155, 3) := dk_182 0 155 (dk_at dksX0_tray_2 14 rfl rfl)
theorem dX0_tray_62 : decode cX0_tray 62 = .ok (.ireturn, 1) := dk_172 (dk_at dksX0_tray_2 17 rfl rfl)
abbrev cX0_isTray : ByteArray := prog_1_method_9_code
def yX0_isTray : MethodName := ⟨RX0, "isTray", "(I)Z"⟩
def dkwX0_isTray_0 : List UInt8 := [26, 155, 0, 12, 26, 7, 162, 0, 7, 4, 167, 0, 4, 3, 172]
abbrev dktX0_isTray_0 : List UInt8 := dkwX0_isTray_0 ++ []
theorem dksX0_isTray_0 : cX0_isTray.data.toList.drop 0 = dktX0_isTray_0 := by decide +kernel
theorem dX0_isTray_0 : decode cX0_isTray 0 = .ok (.iload_n 0, 1) := dk_26 (dk_at dksX0_isTray_0 0 rfl rfl)
theorem dX0_isTray_1 : decode cX0_isTray 1 = .ok (.ifCond .lt 12, 3) := dk_155 0 12 (dk_at dksX0_isTray_0 1 rfl rfl)
theorem dX0_isTray_4 : decode cX0_isTray 4 = .ok (.iload_n 0, 1) := dk_26 (dk_at dksX0_isTray_0 4 rfl rfl)
theorem dX0_isTray_5 : decode cX0_isTray 5 = .ok (.iconst 4, 1) := dk_7 (dk_at dksX0_isTray_0 5 rfl rfl)
theorem dX0_isTray_6 : decode cX0_isTray 6 = .ok (.if_icmp .ge 7, 3) := dk_162 0 7 (dk_at dksX0_isTray_0 6 rfl rfl)
theorem dX0_isTray_9 : decode cX0_isTray 9 = .ok (.iconst 1, 1) := dk_4 (dk_at dksX0_isTray_0 9 rfl rfl)
theorem dX0_isTray_10 : decode cX0_isTray 10 = .ok (.goto 4, 3) := dk_167 0 4 (dk_at dksX0_isTray_0 10 rfl rfl)
theorem dX0_isTray_13 : decode cX0_isTray 13 = .ok (.iconst 0, 1) := dk_3 (dk_at dksX0_isTray_0 13 rfl rfl)
theorem dX0_isTray_14 : decode cX0_isTray 14 = .ok (.ireturn, 1) := dk_172 (dk_at dksX0_isTray_0 14 rfl rfl)
abbrev cX0_is : ByteArray := prog_1_method_5_code
def yX0_is : MethodName := ⟨RX0, "is", "(I)Z"⟩
def dkwX0_is_0 : List UInt8 := [42, 27, 181, 0, 149, 27, 154, 0, 7, 4, 167, 0, 4, 3, 172]
abbrev dktX0_is_0 : List UInt8 := dkwX0_is_0 ++ []
theorem dksX0_is_0 : cX0_is.data.toList.drop 0 = dktX0_is_0 := by decide +kernel
theorem dX0_is_0 : decode cX0_is 0 = .ok (.aload_n 0, 1) := dk_42 (dk_at dksX0_is_0 0 rfl rfl)
theorem dX0_is_1 : decode cX0_is 1 = .ok (.iload_n 1, 1) := dk_27 (dk_at dksX0_is_0 1 rfl rfl)
theorem dX0_is_2 : decode cX0_is 2 = .ok (.putfield 149, 3) := dk_181 0 149 (dk_at dksX0_is_0 2 rfl rfl)
theorem dX0_is_5 : decode cX0_is 5 = .ok (.iload_n 1, 1) := dk_27 (dk_at dksX0_is_0 5 rfl rfl)
theorem dX0_is_6 : decode cX0_is 6 = .ok (.ifCond .ne 7, 3) := dk_154 0 7 (dk_at dksX0_is_0 6 rfl rfl)
theorem dX0_is_9 : decode cX0_is 9 = .ok (.iconst 1, 1) := dk_4 (dk_at dksX0_is_0 9 rfl rfl)
theorem dX0_is_10 : decode cX0_is 10 = .ok (.goto 4, 3) := dk_167 0 4 (dk_at dksX0_is_0 10 rfl rfl)
theorem dX0_is_13 : decode cX0_is 13 = .ok (.iconst 0, 1) := dk_3 (dk_at dksX0_is_0 13 rfl rfl)
theorem dX0_is_14 : decode cX0_is 14 = .ok (.ireturn, 1) := dk_172 (dk_at dksX0_is_0 14 rfl rfl)
abbrev cX0_write : ByteArray := prog_1_method_11_code
def yX0_write : MethodName := ⟨RX0, "write", "(IIJ)Z"⟩
def dkwX0_write_2 : List UInt8 := [172]
abbrev dktX0_write_2 : List UInt8 := dkwX0_write_2 ++ []
def dkwX0_write_1 : List UInt8 := [167, 0, 19, 58, 5, 42, 6, 182, 0, 155, 172, 58, 5, 42, 7, 182, 0, 155, 172, 42, 3, 182, 0, 155]
abbrev dktX0_write_1 : List UInt8 := dkwX0_write_1 ++ dktX0_write_2
def dkwX0_write_0 : List UInt8 := [27, 184, 0, 159, 154, 0, 9, 42, 4, 182, 0, 155, 172, 42, 180, 0, 11, 27, 50, 28, 33, 182, 0, 168]
abbrev dktX0_write_0 : List UInt8 := dkwX0_write_0 ++ dktX0_write_1
theorem dksX0_write_0 : cX0_write.data.toList.drop 0 = dktX0_write_0 := by decide +kernel
theorem dksX0_write_1 : cX0_write.data.toList.drop 24 = dktX0_write_1 := dk_seg dksX0_write_0 24 rfl rfl
theorem dksX0_write_2 : cX0_write.data.toList.drop 48 = dktX0_write_2 := dk_seg dksX0_write_1 24 rfl rfl
theorem dX0_write_0 : decode cX0_write 0 = .ok (.iload_n 1, 1) := dk_27 (dk_at dksX0_write_0 0 rfl rfl)
theorem dX0_write_1 : decode cX0_write 1 = .ok (.invokestatic 159, 3) := dk_184 0 159 (dk_at dksX0_write_0 1 rfl rfl)
theorem dX0_write_4 : decode cX0_write 4 = .ok (.ifCond .ne 9, 3) := dk_154 0 9 (dk_at dksX0_write_0 4 rfl rfl)
theorem dX0_write_7 : decode cX0_write 7 = .ok (.aload_n 0, 1) := dk_42 (dk_at dksX0_write_0 7 rfl rfl)
theorem dX0_write_8 : decode cX0_write 8 = .ok (.iconst 1, 1) := dk_4 (dk_at dksX0_write_0 8 rfl rfl)
theorem dX0_write_9 : decode cX0_write 9 = .ok (.invokevirtual 155, 3) := dk_182 0 155 (dk_at dksX0_write_0 9 rfl rfl)
theorem dX0_write_12 : decode cX0_write 12 = .ok (.ireturn, 1) := dk_172 (dk_at dksX0_write_0 12 rfl rfl)
theorem dX0_write_13 : decode cX0_write 13 = .ok (.aload_n 0, 1) := dk_42 (dk_at dksX0_write_0 13 rfl rfl)
theorem dX0_write_14 : decode cX0_write 14 = .ok (.getfield 11, 3) := dk_180 0 11 (dk_at dksX0_write_0 14 rfl rfl)
theorem dX0_write_17 : decode cX0_write 17 = .ok (.iload_n 1, 1) := dk_27 (dk_at dksX0_write_0 17 rfl rfl)
theorem dX0_write_18 : decode cX0_write 18 = .ok (.aaload, 1) := dk_50 (dk_at dksX0_write_0 18 rfl rfl)
theorem dX0_write_19 : decode cX0_write 19 = .ok (.iload_n 2, 1) := dk_28 (dk_at dksX0_write_0 19 rfl rfl)
theorem dX0_write_20 : decode cX0_write 20 = .ok (.lload_n 3, 1) := dk_33 (dk_at dksX0_write_0 20 rfl rfl)
theorem dX0_write_21 : decode cX0_write 21 = .ok (.invokevirtual 168, 3) := dk_182 0 168 (dk_at dksX0_write_0 21 rfl rfl)
theorem dX0_write_24 : decode cX0_write 24 = .ok (.goto 19, 3) := dk_167 0 19 (dk_at dksX0_write_1 0 rfl rfl)
theorem dX0_write_27 : decode cX0_write 27 = .ok (.astore 5, 2) := dk_58 5 (dk_at dksX0_write_1 3 rfl rfl)
theorem dX0_write_29 : decode cX0_write 29 = .ok (.aload_n 0, 1) := dk_42 (dk_at dksX0_write_1 5 rfl rfl)
theorem dX0_write_30 : decode cX0_write 30 = .ok (.iconst 3, 1) := dk_6 (dk_at dksX0_write_1 6 rfl rfl)
theorem dX0_write_31 : decode cX0_write 31 = .ok (.invokevirtual 155, 3) := dk_182 0 155 (dk_at dksX0_write_1 7 rfl rfl)
theorem dX0_write_34 : decode cX0_write 34 = .ok (.ireturn, 1) := dk_172 (dk_at dksX0_write_1 10 rfl rfl)
theorem dX0_write_35 : decode cX0_write 35 = .ok (.astore 5, 2) := dk_58 5 (dk_at dksX0_write_1 11 rfl rfl)
theorem dX0_write_37 : decode cX0_write 37 = .ok (.aload_n 0, 1) := dk_42 (dk_at dksX0_write_1 13 rfl rfl)
theorem dX0_write_38 : decode cX0_write 38 = .ok (.iconst 4, 1) := dk_7 (dk_at dksX0_write_1 14 rfl rfl)
theorem dX0_write_39 : decode cX0_write 39 = .ok (.invokevirtual 155, 3) := dk_182 0 155 (dk_at dksX0_write_1 15 rfl rfl)
theorem dX0_write_42 : decode cX0_write 42 = .ok (.ireturn, 1) := dk_172 (dk_at dksX0_write_1 18 rfl rfl)
theorem dX0_write_43 : decode cX0_write 43 = .ok (.aload_n 0, 1) := dk_42 (dk_at dksX0_write_1 19 rfl rfl)
theorem dX0_write_44 : decode cX0_write 44 = .ok (.iconst 0, 1) := dk_3 (dk_at dksX0_write_1 20 rfl rfl)
theorem dX0_write_45 : decode cX0_write 45 = .ok (.invokevirtual 155, 3) := dk_182 0 155 (dk_at dksX0_write_1 21 rfl rfl)
theorem dX0_write_48 : decode cX0_write 48 = .ok (.ireturn, 1) := dk_172 (dk_at dksX0_write_2 0 rfl rfl)
abbrev cX0_read : ByteArray := prog_1_method_12_code
def yX0_read : MethodName := ⟨RX0, "read", "(II)J"⟩
def dkwX0_read_2 : List UInt8 := [173]
abbrev dktX0_read_2 : List UInt8 := dkwX0_read_2 ++ []
def dkwX0_read_1 : List UInt8 := [50, 28, 182, 0, 180, 173, 78, 42, 6, 181, 0, 149, 167, 0, 9, 78, 42, 7, 181, 0, 149, 20, 0, 184]
abbrev dktX0_read_1 : List UInt8 := dkwX0_read_1 ++ dktX0_read_2
def dkwX0_read_0 : List UInt8 := [27, 184, 0, 159, 154, 0, 10, 42, 4, 182, 0, 176, 133, 173, 42, 3, 181, 0, 149, 42, 180, 0, 11, 27]
abbrev dktX0_read_0 : List UInt8 := dkwX0_read_0 ++ dktX0_read_1
theorem dksX0_read_0 : cX0_read.data.toList.drop 0 = dktX0_read_0 := by decide +kernel
theorem dksX0_read_1 : cX0_read.data.toList.drop 24 = dktX0_read_1 := dk_seg dksX0_read_0 24 rfl rfl
theorem dksX0_read_2 : cX0_read.data.toList.drop 48 = dktX0_read_2 := dk_seg dksX0_read_1 24 rfl rfl
theorem dX0_read_0 : decode cX0_read 0 = .ok (.iload_n 1, 1) := dk_27 (dk_at dksX0_read_0 0 rfl rfl)
theorem dX0_read_1 : decode cX0_read 1 = .ok (.invokestatic 159, 3) := dk_184 0 159 (dk_at dksX0_read_0 1 rfl rfl)
theorem dX0_read_4 : decode cX0_read 4 = .ok (.ifCond .ne 10, 3) := dk_154 0 10 (dk_at dksX0_read_0 4 rfl rfl)
theorem dX0_read_7 : decode cX0_read 7 = .ok (.aload_n 0, 1) := dk_42 (dk_at dksX0_read_0 7 rfl rfl)
theorem dX0_read_8 : decode cX0_read 8 = .ok (.iconst 1, 1) := dk_4 (dk_at dksX0_read_0 8 rfl rfl)
theorem dX0_read_9 : decode cX0_read 9 = .ok (.invokevirtual 176, 3) := dk_182 0 176 (dk_at dksX0_read_0 9 rfl rfl)
theorem dX0_read_12 : decode cX0_read 12 = .ok (.i2l, 1) := dk_133 (dk_at dksX0_read_0 12 rfl rfl)
theorem dX0_read_13 : decode cX0_read 13 = .ok (.lreturn, 1) := dk_173 (dk_at dksX0_read_0 13 rfl rfl)
theorem dX0_read_14 : decode cX0_read 14 = .ok (.aload_n 0, 1) := dk_42 (dk_at dksX0_read_0 14 rfl rfl)
theorem dX0_read_15 : decode cX0_read 15 = .ok (.iconst 0, 1) := dk_3 (dk_at dksX0_read_0 15 rfl rfl)
theorem dX0_read_16 : decode cX0_read 16 = .ok (.putfield 149, 3) := dk_181 0 149 (dk_at dksX0_read_0 16 rfl rfl)
theorem dX0_read_19 : decode cX0_read 19 = .ok (.aload_n 0, 1) := dk_42 (dk_at dksX0_read_0 19 rfl rfl)
theorem dX0_read_20 : decode cX0_read 20 = .ok (.getfield 11, 3) := dk_180 0 11 (dk_at dksX0_read_0 20 rfl rfl)
theorem dX0_read_23 : decode cX0_read 23 = .ok (.iload_n 1, 1) := dk_27 (dk_at dksX0_read_0 23 rfl rfl)
theorem dX0_read_24 : decode cX0_read 24 = .ok (.aaload, 1) := dk_50 (dk_at dksX0_read_1 0 rfl rfl)
theorem dX0_read_25 : decode cX0_read 25 = .ok (.iload_n 2, 1) := dk_28 (dk_at dksX0_read_1 1 rfl rfl)
theorem dX0_read_26 : decode cX0_read 26 = .ok (.invokevirtual 180, 3) := dk_182 0 180 (dk_at dksX0_read_1 2 rfl rfl)
theorem dX0_read_29 : decode cX0_read 29 = .ok (.lreturn, 1) := dk_173 (dk_at dksX0_read_1 5 rfl rfl)
theorem dX0_read_30 : decode cX0_read 30 = .ok (.astore_n 3, 1) := dk_78 (dk_at dksX0_read_1 6 rfl rfl)
theorem dX0_read_31 : decode cX0_read 31 = .ok (.aload_n 0, 1) := dk_42 (dk_at dksX0_read_1 7 rfl rfl)
theorem dX0_read_32 : decode cX0_read 32 = .ok (.iconst 3, 1) := dk_6 (dk_at dksX0_read_1 8 rfl rfl)
theorem dX0_read_33 : decode cX0_read 33 = .ok (.putfield 149, 3) := dk_181 0 149 (dk_at dksX0_read_1 9 rfl rfl)
theorem dX0_read_36 : decode cX0_read 36 = .ok (.goto 9, 3) := dk_167 0 9 (dk_at dksX0_read_1 12 rfl rfl)
theorem dX0_read_39 : decode cX0_read 39 = .ok (.astore_n 3, 1) := dk_78 (dk_at dksX0_read_1 15 rfl rfl)
theorem dX0_read_40 : decode cX0_read 40 = .ok (.aload_n 0, 1) := dk_42 (dk_at dksX0_read_1 16 rfl rfl)
theorem dX0_read_41 : decode cX0_read 41 = .ok (.iconst 4, 1) := dk_7 (dk_at dksX0_read_1 17 rfl rfl)
theorem dX0_read_42 : decode cX0_read 42 = .ok (.putfield 149, 3) := dk_181 0 149 (dk_at dksX0_read_1 18 rfl rfl)
theorem dX0_read_45 : decode cX0_read 45 = .ok (.ldc2_w 184, 3) := dk_20 0 184 (dk_at dksX0_read_1 21 rfl rfl)
theorem dX0_read_48 : decode cX0_read 48 = .ok (.lreturn, 1) := dk_173 (dk_at dksX0_read_2 0 rfl rfl)
abbrev cX0_none : ByteArray := prog_1_method_6_code
def yX0_none : MethodName := ⟨RX0, "none", "(I)I"⟩
def dkwX0_none_0 : List UInt8 := [42, 27, 181, 0, 149, 2, 172]
abbrev dktX0_none_0 : List UInt8 := dkwX0_none_0 ++ []
theorem dksX0_none_0 : cX0_none.data.toList.drop 0 = dktX0_none_0 := by decide +kernel
theorem dX0_none_0 : decode cX0_none 0 = .ok (.aload_n 0, 1) := dk_42 (dk_at dksX0_none_0 0 rfl rfl)
theorem dX0_none_1 : decode cX0_none 1 = .ok (.iload_n 1, 1) := dk_27 (dk_at dksX0_none_0 1 rfl rfl)
theorem dX0_none_2 : decode cX0_none 2 = .ok (.putfield 149, 3) := dk_181 0 149 (dk_at dksX0_none_0 2 rfl rfl)
theorem dX0_none_5 : decode cX0_none 5 = .ok (.iconst (-1), 1) := dk_2 (dk_at dksX0_none_0 5 rfl rfl)
theorem dX0_none_6 : decode cX0_none 6 = .ok (.ireturn, 1) := dk_172 (dk_at dksX0_none_0 6 rfl rfl)
abbrev cX0_pour : ByteArray := prog_1_method_13_code
def yX0_pour : MethodName := ⟨RX0, "pour", "(IIIII)Z"⟩
def dkwX0_pour_5 : List UInt8 := [7, 182, 0, 155, 172, 42, 3, 182, 0, 155, 172]
abbrev dktX0_pour_5 : List UInt8 := dkwX0_pour_5 ++ []
def dkwX0_pour_4 : List UInt8 := [167, 0, 29, 58, 8, 42, 6, 182, 0, 155, 172, 58, 8, 42, 21, 5, 156, 0, 8, 16, 6, 167, 0, 4]
abbrev dktX0_pour_4 : List UInt8 := dkwX0_pour_4 ++ dktX0_pour_5
def dkwX0_pour_3 : List UInt8 := [159, 0, 10, 42, 16, 11, 182, 0, 155, 172, 25, 6, 28, 25, 7, 21, 4, 21, 5, 184, 0, 192]
abbrev dktX0_pour_3 : List UInt8 := dkwX0_pour_3 ++ dktX0_pour_4
def dkwX0_pour_2 : List UInt8 := [25, 7, 198, 0, 31, 42, 180, 0, 11, 27, 50, 180, 0, 190, 42, 180, 0, 11, 29, 50, 180, 0, 190]
abbrev dktX0_pour_2 : List UInt8 := dkwX0_pour_2 ++ dktX0_pour_3
def dkwX0_pour_1 : List UInt8 := [27, 50, 180, 0, 186, 58, 6, 42, 180, 0, 11, 29, 50, 180, 0, 186, 58, 7, 25, 6, 198, 0, 36]
abbrev dktX0_pour_1 : List UInt8 := dkwX0_pour_1 ++ dktX0_pour_2
def dkwX0_pour_0 : List UInt8 := [27, 184, 0, 159, 153, 0, 10, 29, 184, 0, 159, 154, 0, 9, 42, 4, 182, 0, 155, 172, 42, 180, 0, 11]
abbrev dktX0_pour_0 : List UInt8 := dkwX0_pour_0 ++ dktX0_pour_1
theorem dksX0_pour_0 : cX0_pour.data.toList.drop 0 = dktX0_pour_0 := by decide +kernel
theorem dksX0_pour_1 : cX0_pour.data.toList.drop 24 = dktX0_pour_1 := dk_seg dksX0_pour_0 24 rfl rfl
theorem dksX0_pour_2 : cX0_pour.data.toList.drop 47 = dktX0_pour_2 := dk_seg dksX0_pour_1 23 rfl rfl
theorem dksX0_pour_3 : cX0_pour.data.toList.drop 70 = dktX0_pour_3 := dk_seg dksX0_pour_2 23 rfl rfl
theorem dksX0_pour_4 : cX0_pour.data.toList.drop 92 = dktX0_pour_4 := dk_seg dksX0_pour_3 22 rfl rfl
theorem dksX0_pour_5 : cX0_pour.data.toList.drop 116 = dktX0_pour_5 := dk_seg dksX0_pour_4 24 rfl rfl
theorem dX0_pour_0 : decode cX0_pour 0 = .ok (.iload_n 1, 1) := dk_27 (dk_at dksX0_pour_0 0 rfl rfl)
theorem dX0_pour_1 : decode cX0_pour 1 = .ok (.invokestatic 159, 3) := dk_184 0 159 (dk_at dksX0_pour_0 1 rfl rfl)
theorem dX0_pour_4 : decode cX0_pour 4 = .ok (.ifCond .eq 10, 3) := dk_153 0 10 (dk_at dksX0_pour_0 4 rfl rfl)
theorem dX0_pour_7 : decode cX0_pour 7 = .ok (.iload_n 3, 1) := dk_29 (dk_at dksX0_pour_0 7 rfl rfl)
theorem dX0_pour_8 : decode cX0_pour 8 = .ok (.invokestatic 159, 3) := dk_184 0 159 (dk_at dksX0_pour_0 8 rfl rfl)
theorem dX0_pour_11 : decode cX0_pour 11 = .ok (.ifCond .ne 9, 3) := dk_154 0 9 (dk_at dksX0_pour_0 11 rfl rfl)
theorem dX0_pour_14 : decode cX0_pour 14 = .ok (.aload_n 0, 1) := dk_42 (dk_at dksX0_pour_0 14 rfl rfl)
theorem dX0_pour_15 : decode cX0_pour 15 = .ok (.iconst 1, 1) := dk_4 (dk_at dksX0_pour_0 15 rfl rfl)
theorem dX0_pour_16 : decode cX0_pour 16 = .ok (.invokevirtual 155, 3) := dk_182 0 155 (dk_at dksX0_pour_0 16 rfl rfl)
theorem dX0_pour_19 : decode cX0_pour 19 = .ok (.ireturn, 1) := dk_172 (dk_at dksX0_pour_0 19 rfl rfl)
theorem dX0_pour_20 : decode cX0_pour 20 = .ok (.aload_n 0, 1) := dk_42 (dk_at dksX0_pour_0 20 rfl rfl)
theorem dX0_pour_21 : decode cX0_pour 21 = .ok (.getfield 11, 3) := dk_180 0 11 (dk_at dksX0_pour_0 21 rfl rfl)
theorem dX0_pour_24 : decode cX0_pour 24 = .ok (.iload_n 1, 1) := dk_27 (dk_at dksX0_pour_1 0 rfl rfl)
theorem dX0_pour_25 : decode cX0_pour 25 = .ok (.aaload, 1) := dk_50 (dk_at dksX0_pour_1 1 rfl rfl)
theorem dX0_pour_26 : decode cX0_pour 26 = .ok (.getfield 186, 3) := dk_180 0 186 (dk_at dksX0_pour_1 2 rfl rfl)
theorem dX0_pour_29 : decode cX0_pour 29 = .ok (.astore 6, 2) := dk_58 6 (dk_at dksX0_pour_1 5 rfl rfl)
theorem dX0_pour_31 : decode cX0_pour 31 = .ok (.aload_n 0, 1) := dk_42 (dk_at dksX0_pour_1 7 rfl rfl)
theorem dX0_pour_32 : decode cX0_pour 32 = .ok (.getfield 11, 3) := dk_180 0 11 (dk_at dksX0_pour_1 8 rfl rfl)
theorem dX0_pour_35 : decode cX0_pour 35 = .ok (.iload_n 3, 1) := dk_29 (dk_at dksX0_pour_1 11 rfl rfl)
theorem dX0_pour_36 : decode cX0_pour 36 = .ok (.aaload, 1) := dk_50 (dk_at dksX0_pour_1 12 rfl rfl)
theorem dX0_pour_37 : decode cX0_pour 37 = .ok (.getfield 186, 3) := dk_180 0 186 (dk_at dksX0_pour_1 13 rfl rfl)
theorem dX0_pour_40 : decode cX0_pour 40 = .ok (.astore 7, 2) := dk_58 7 (dk_at dksX0_pour_1 16 rfl rfl)
theorem dX0_pour_42 : decode cX0_pour 42 = .ok (.aload 6, 2) := dk_25 6 (dk_at dksX0_pour_1 18 rfl rfl)
theorem dX0_pour_44 : decode cX0_pour 44 = .ok (.ifnull 36, 3) := dk_198 0 36 (dk_at dksX0_pour_1 20 rfl rfl)
theorem dX0_pour_47 : decode cX0_pour 47 = .ok (.aload 7, 2) := dk_25 7 (dk_at dksX0_pour_2 0 rfl rfl)
theorem dX0_pour_49 : decode cX0_pour 49 = .ok (.ifnull 31, 3) := dk_198 0 31 (dk_at dksX0_pour_2 2 rfl rfl)
theorem dX0_pour_52 : decode cX0_pour 52 = .ok (.aload_n 0, 1) := dk_42 (dk_at dksX0_pour_2 5 rfl rfl)
theorem dX0_pour_53 : decode cX0_pour 53 = .ok (.getfield 11, 3) := dk_180 0 11 (dk_at dksX0_pour_2 6 rfl rfl)
theorem dX0_pour_56 : decode cX0_pour 56 = .ok (.iload_n 1, 1) := dk_27 (dk_at dksX0_pour_2 9 rfl rfl)
theorem dX0_pour_57 : decode cX0_pour 57 = .ok (.aaload, 1) := dk_50 (dk_at dksX0_pour_2 10 rfl rfl)
theorem dX0_pour_58 : decode cX0_pour 58 = .ok (.getfield 190, 3) := dk_180 0 190 (dk_at dksX0_pour_2 11 rfl rfl)
theorem dX0_pour_61 : decode cX0_pour 61 = .ok (.aload_n 0, 1) := dk_42 (dk_at dksX0_pour_2 14 rfl rfl)
theorem dX0_pour_62 : decode cX0_pour 62 = .ok (.getfield 11, 3) := dk_180 0 11 (dk_at dksX0_pour_2 15 rfl rfl)
theorem dX0_pour_65 : decode cX0_pour 65 = .ok (.iload_n 3, 1) := dk_29 (dk_at dksX0_pour_2 18 rfl rfl)
theorem dX0_pour_66 : decode cX0_pour 66 = .ok (.aaload, 1) := dk_50 (dk_at dksX0_pour_2 19 rfl rfl)
theorem dX0_pour_67 : decode cX0_pour 67 = .ok (.getfield 190, 3) := dk_180 0 190 (dk_at dksX0_pour_2 20 rfl rfl)
theorem dX0_pour_70 : decode cX0_pour 70 = .ok (.if_icmp .eq 10, 3) := dk_159 0 10 (dk_at dksX0_pour_3 0 rfl rfl)
theorem dX0_pour_73 : decode cX0_pour 73 = .ok (.aload_n 0, 1) := dk_42 (dk_at dksX0_pour_3 3 rfl rfl)
theorem dX0_pour_74 : decode cX0_pour 74 = .ok (.bipush 11, 2) := dk_16 11 (dk_at dksX0_pour_3 4 rfl rfl)
theorem dX0_pour_76 : decode cX0_pour 76 = .ok (.invokevirtual 155, 3) := dk_182 0 155 (dk_at dksX0_pour_3 6 rfl rfl)
theorem dX0_pour_79 : decode cX0_pour 79 = .ok (.ireturn, 1) := dk_172 (dk_at dksX0_pour_3 9 rfl rfl)
theorem dX0_pour_80 : decode cX0_pour 80 = .ok (.aload 6, 2) := dk_25 6 (dk_at dksX0_pour_3 10 rfl rfl)
theorem dX0_pour_82 : decode cX0_pour 82 = .ok (.iload_n 2, 1) := dk_28 (dk_at dksX0_pour_3 12 rfl rfl)
theorem dX0_pour_83 : decode cX0_pour 83 = .ok (.aload 7, 2) := dk_25 7 (dk_at dksX0_pour_3 13 rfl rfl)
theorem dX0_pour_85 : decode cX0_pour 85 = .ok (.iload 4, 2) := dk_21 4 (dk_at dksX0_pour_3 15 rfl rfl)
theorem dX0_pour_87 : decode cX0_pour 87 = .ok (.iload 5, 2) := dk_21 5 (dk_at dksX0_pour_3 17 rfl rfl)
theorem dX0_pour_89 : decode cX0_pour 89 = .ok (.invokestatic 192, 3) := dk_184 0 192 (dk_at dksX0_pour_3 19 rfl rfl)
theorem dX0_pour_92 : decode cX0_pour 92 = .ok (.goto 29, 3) := dk_167 0 29 (dk_at dksX0_pour_4 0 rfl rfl)
theorem dX0_pour_95 : decode cX0_pour 95 = .ok (.astore 8, 2) := dk_58 8 (dk_at dksX0_pour_4 3 rfl rfl)
theorem dX0_pour_97 : decode cX0_pour 97 = .ok (.aload_n 0, 1) := dk_42 (dk_at dksX0_pour_4 5 rfl rfl)
theorem dX0_pour_98 : decode cX0_pour 98 = .ok (.iconst 3, 1) := dk_6 (dk_at dksX0_pour_4 6 rfl rfl)
theorem dX0_pour_99 : decode cX0_pour 99 = .ok (.invokevirtual 155, 3) := dk_182 0 155 (dk_at dksX0_pour_4 7 rfl rfl)
theorem dX0_pour_102 : decode cX0_pour 102 = .ok (.ireturn, 1) := dk_172 (dk_at dksX0_pour_4 10 rfl rfl)
theorem dX0_pour_103 : decode cX0_pour 103 = .ok (.astore 8, 2) := dk_58 8 (dk_at dksX0_pour_4 11 rfl rfl)
theorem dX0_pour_105 : decode cX0_pour 105 = .ok (.aload_n 0, 1) := dk_42 (dk_at dksX0_pour_4 13 rfl rfl)
theorem dX0_pour_106 : decode cX0_pour 106 = .ok (.iload 5, 2) := dk_21 5 (dk_at dksX0_pour_4 14 rfl rfl)
theorem dX0_pour_108 : decode cX0_pour 108 = .ok (.ifCond .ge 8, 3) := dk_156 0 8 (dk_at dksX0_pour_4 16 rfl rfl)
theorem dX0_pour_111 : decode cX0_pour 111 = .ok (.bipush 6, 2) := dk_16 6 (dk_at dksX0_pour_4 19 rfl rfl)
theorem dX0_pour_113 : decode cX0_pour 113 = .ok (.goto 4, 3) := dk_167 0 4 (dk_at dksX0_pour_4 21 rfl rfl)
theorem dX0_pour_116 : decode cX0_pour 116 = .ok (.iconst 4, 1) := dk_7 (dk_at dksX0_pour_5 0 rfl rfl)
theorem dX0_pour_117 : decode cX0_pour 117 = .ok (.invokevirtual 155, 3) := dk_182 0 155 (dk_at dksX0_pour_5 1 rfl rfl)
theorem dX0_pour_120 : decode cX0_pour 120 = .ok (.ireturn, 1) := dk_172 (dk_at dksX0_pour_5 4 rfl rfl)
theorem dX0_pour_121 : decode cX0_pour 121 = .ok (.aload_n 0, 1) := dk_42 (dk_at dksX0_pour_5 5 rfl rfl)
theorem dX0_pour_122 : decode cX0_pour 122 = .ok (.iconst 0, 1) := dk_3 (dk_at dksX0_pour_5 6 rfl rfl)
theorem dX0_pour_123 : decode cX0_pour 123 = .ok (.invokevirtual 155, 3) := dk_182 0 155 (dk_at dksX0_pour_5 7 rfl rfl)
theorem dX0_pour_126 : decode cX0_pour 126 = .ok (.ireturn, 1) := dk_172 (dk_at dksX0_pour_5 10 rfl rfl)
abbrev cX0_feed : ByteArray := prog_1_method_18_code
def yX0_feed : MethodName := ⟨RX0, "feed", "(IIIII)I"⟩
def dkwX0_feed_2 : List UInt8 := [180, 0, 27, 180, 0, 209, 172]
abbrev dktX0_feed_2 : List UInt8 := dkwX0_feed_2 ++ []
def dkwX0_feed_1 : List UInt8 := [28, 182, 0, 212, 42, 29, 182, 0, 212, 42, 21, 4, 182, 0, 212, 42, 21, 5, 182, 0, 212, 42]
abbrev dktX0_feed_1 : List UInt8 := dkwX0_feed_1 ++ dktX0_feed_2
def dkwX0_feed_0 : List UInt8 := [42, 180, 0, 27, 180, 0, 209, 16, 20, 96, 17, 1, 244, 164, 0, 5, 2, 172, 42, 27, 182, 0, 212, 42]
abbrev dktX0_feed_0 : List UInt8 := dkwX0_feed_0 ++ dktX0_feed_1
theorem dksX0_feed_0 : cX0_feed.data.toList.drop 0 = dktX0_feed_0 := by decide +kernel
theorem dksX0_feed_1 : cX0_feed.data.toList.drop 24 = dktX0_feed_1 := dk_seg dksX0_feed_0 24 rfl rfl
theorem dksX0_feed_2 : cX0_feed.data.toList.drop 46 = dktX0_feed_2 := dk_seg dksX0_feed_1 22 rfl rfl
theorem dX0_feed_0 : decode cX0_feed 0 = .ok (.aload_n 0, 1) := dk_42 (dk_at dksX0_feed_0 0 rfl rfl)
theorem dX0_feed_1 : decode cX0_feed 1 = .ok (.getfield 27, 3) := dk_180 0 27 (dk_at dksX0_feed_0 1 rfl rfl)
theorem dX0_feed_4 : decode cX0_feed 4 = .ok (.getfield 209, 3) := dk_180 0 209 (dk_at dksX0_feed_0 4 rfl rfl)
theorem dX0_feed_7 : decode cX0_feed 7 = .ok (.bipush 20, 2) := dk_16 20 (dk_at dksX0_feed_0 7 rfl rfl)
theorem dX0_feed_9 : decode cX0_feed 9 = .ok (.iadd, 1) := dk_96 (dk_at dksX0_feed_0 9 rfl rfl)
theorem dX0_feed_10 : decode cX0_feed 10 = .ok (.sipush 500, 3) := dk_17 1 244 (dk_at dksX0_feed_0 10 rfl rfl)
theorem dX0_feed_13 : decode cX0_feed 13 = .ok (.if_icmp .le 5, 3) := dk_164 0 5 (dk_at dksX0_feed_0 13 rfl rfl)
theorem dX0_feed_16 : decode cX0_feed 16 = .ok (.iconst (-1), 1) := dk_2 (dk_at dksX0_feed_0 16 rfl rfl)
theorem dX0_feed_17 : decode cX0_feed 17 = .ok (.ireturn, 1) := dk_172 (dk_at dksX0_feed_0 17 rfl rfl)
theorem dX0_feed_18 : decode cX0_feed 18 = .ok (.aload_n 0, 1) := dk_42 (dk_at dksX0_feed_0 18 rfl rfl)
theorem dX0_feed_19 : decode cX0_feed 19 = .ok (.iload_n 1, 1) := dk_27 (dk_at dksX0_feed_0 19 rfl rfl)
theorem dX0_feed_20 : decode cX0_feed 20 = .ok (.invokevirtual 212, 3) := dk_182 0 212 (dk_at dksX0_feed_0 20 rfl rfl)
theorem dX0_feed_23 : decode cX0_feed 23 = .ok (.aload_n 0, 1) := dk_42 (dk_at dksX0_feed_0 23 rfl rfl)
theorem dX0_feed_24 : decode cX0_feed 24 = .ok (.iload_n 2, 1) := dk_28 (dk_at dksX0_feed_1 0 rfl rfl)
theorem dX0_feed_25 : decode cX0_feed 25 = .ok (.invokevirtual 212, 3) := dk_182 0 212 (dk_at dksX0_feed_1 1 rfl rfl)
theorem dX0_feed_28 : decode cX0_feed 28 = .ok (.aload_n 0, 1) := dk_42 (dk_at dksX0_feed_1 4 rfl rfl)
theorem dX0_feed_29 : decode cX0_feed 29 = .ok (.iload_n 3, 1) := dk_29 (dk_at dksX0_feed_1 5 rfl rfl)
theorem dX0_feed_30 : decode cX0_feed 30 = .ok (.invokevirtual 212, 3) := dk_182 0 212 (dk_at dksX0_feed_1 6 rfl rfl)
theorem dX0_feed_33 : decode cX0_feed 33 = .ok (.aload_n 0, 1) := dk_42 (dk_at dksX0_feed_1 9 rfl rfl)
theorem dX0_feed_34 : decode cX0_feed 34 = .ok (.iload 4, 2) := dk_21 4 (dk_at dksX0_feed_1 10 rfl rfl)
theorem dX0_feed_36 : decode cX0_feed 36 = .ok (.invokevirtual 212, 3) := dk_182 0 212 (dk_at dksX0_feed_1 12 rfl rfl)
theorem dX0_feed_39 : decode cX0_feed 39 = .ok (.aload_n 0, 1) := dk_42 (dk_at dksX0_feed_1 15 rfl rfl)
theorem dX0_feed_40 : decode cX0_feed 40 = .ok (.iload 5, 2) := dk_21 5 (dk_at dksX0_feed_1 16 rfl rfl)
theorem dX0_feed_42 : decode cX0_feed 42 = .ok (.invokevirtual 212, 3) := dk_182 0 212 (dk_at dksX0_feed_1 18 rfl rfl)
theorem dX0_feed_45 : decode cX0_feed 45 = .ok (.aload_n 0, 1) := dk_42 (dk_at dksX0_feed_1 21 rfl rfl)
theorem dX0_feed_46 : decode cX0_feed 46 = .ok (.getfield 27, 3) := dk_180 0 27 (dk_at dksX0_feed_2 0 rfl rfl)
theorem dX0_feed_49 : decode cX0_feed 49 = .ok (.getfield 209, 3) := dk_180 0 209 (dk_at dksX0_feed_2 3 rfl rfl)
theorem dX0_feed_52 : decode cX0_feed 52 = .ok (.ireturn, 1) := dk_172 (dk_at dksX0_feed_2 6 rfl rfl)
abbrev cX0_four : ByteArray := prog_1_method_19_code
def yX0_four : MethodName := ⟨RX0, "four", "(I)V"⟩
def dkwX0_four_1 : List UInt8 := [145, 84, 42, 180, 0, 27, 89, 180, 0, 209, 4, 96, 181, 0, 209, 132, 2, 248, 167, 255, 217, 177]
abbrev dktX0_four_1 : List UInt8 := dkwX0_four_1 ++ []
def dkwX0_four_0 : List UInt8 := [16, 24, 61, 28, 155, 0, 41, 42, 180, 0, 27, 180, 0, 216, 42, 180, 0, 27, 180, 0, 209, 27, 28, 122]
abbrev dktX0_four_0 : List UInt8 := dkwX0_four_0 ++ dktX0_four_1
theorem dksX0_four_0 : cX0_four.data.toList.drop 0 = dktX0_four_0 := by decide +kernel
theorem dksX0_four_1 : cX0_four.data.toList.drop 24 = dktX0_four_1 := dk_seg dksX0_four_0 24 rfl rfl
theorem dX0_four_0 : decode cX0_four 0 = .ok (.bipush 24, 2) := dk_16 24 (dk_at dksX0_four_0 0 rfl rfl)
theorem dX0_four_2 : decode cX0_four 2 = .ok (.istore_n 2, 1) := dk_61 (dk_at dksX0_four_0 2 rfl rfl)
theorem dX0_four_3 : decode cX0_four 3 = .ok (.iload_n 2, 1) := dk_28 (dk_at dksX0_four_0 3 rfl rfl)
theorem dX0_four_4 : decode cX0_four 4 = .ok (.ifCond .lt 41, 3) := dk_155 0 41 (dk_at dksX0_four_0 4 rfl rfl)
theorem dX0_four_7 : decode cX0_four 7 = .ok (.aload_n 0, 1) := dk_42 (dk_at dksX0_four_0 7 rfl rfl)
theorem dX0_four_8 : decode cX0_four 8 = .ok (.getfield 27, 3) := dk_180 0 27 (dk_at dksX0_four_0 8 rfl rfl)
theorem dX0_four_11 : decode cX0_four 11 = .ok (.getfield 216, 3) := dk_180 0 216 (dk_at dksX0_four_0 11 rfl rfl)
theorem dX0_four_14 : decode cX0_four 14 = .ok (.aload_n 0, 1) := dk_42 (dk_at dksX0_four_0 14 rfl rfl)
theorem dX0_four_15 : decode cX0_four 15 = .ok (.getfield 27, 3) := dk_180 0 27 (dk_at dksX0_four_0 15 rfl rfl)
theorem dX0_four_18 : decode cX0_four 18 = .ok (.getfield 209, 3) := dk_180 0 209 (dk_at dksX0_four_0 18 rfl rfl)
theorem dX0_four_21 : decode cX0_four 21 = .ok (.iload_n 1, 1) := dk_27 (dk_at dksX0_four_0 21 rfl rfl)
theorem dX0_four_22 : decode cX0_four 22 = .ok (.iload_n 2, 1) := dk_28 (dk_at dksX0_four_0 22 rfl rfl)
theorem dX0_four_23 : decode cX0_four 23 = .ok (.ishr, 1) := dk_122 (dk_at dksX0_four_0 23 rfl rfl)
theorem dX0_four_24 : decode cX0_four 24 = .ok (.i2b, 1) := dk_145 (dk_at dksX0_four_1 0 rfl rfl)
theorem dX0_four_25 : decode cX0_four 25 = .ok (.bastore, 1) := dk_84 (dk_at dksX0_four_1 1 rfl rfl)
theorem dX0_four_26 : decode cX0_four 26 = .ok (.aload_n 0, 1) := dk_42 (dk_at dksX0_four_1 2 rfl rfl)
theorem dX0_four_27 : decode cX0_four 27 = .ok (.getfield 27, 3) := dk_180 0 27 (dk_at dksX0_four_1 3 rfl rfl)
theorem dX0_four_30 : decode cX0_four 30 = .ok (.dup, 1) := dk_89 (dk_at dksX0_four_1 6 rfl rfl)
theorem dX0_four_31 : decode cX0_four 31 = .ok (.getfield 209, 3) := dk_180 0 209 (dk_at dksX0_four_1 7 rfl rfl)
theorem dX0_four_34 : decode cX0_four 34 = .ok (.iconst 1, 1) := dk_4 (dk_at dksX0_four_1 10 rfl rfl)
theorem dX0_four_35 : decode cX0_four 35 = .ok (.iadd, 1) := dk_96 (dk_at dksX0_four_1 11 rfl rfl)
theorem dX0_four_36 : decode cX0_four 36 = .ok (.putfield 209, 3) := dk_181 0 209 (dk_at dksX0_four_1 12 rfl rfl)
theorem dX0_four_39 : decode cX0_four 39 = .ok (.iinc 2 (-8), 3) := dk_132 2 248 (dk_at dksX0_four_1 15 rfl rfl)
theorem dX0_four_42 : decode cX0_four 42 = .ok (.goto (-39), 3) := dk_167 255 217 (dk_at dksX0_four_1 18 rfl rfl)
theorem dX0_four_45 : decode cX0_four 45 = .ok (.return_, 1) := dk_177 (dk_at dksX0_four_1 21 rfl rfl)
abbrev cX0_town : ByteArray := prog_1_method_20_code
def yX0_town : MethodName := ⟨RX0, "town", "(I)I"⟩
def dkwX0_town_4 : List UInt8 := [180, 0, 200, 182, 0, 234, 172]
abbrev dktX0_town_4 : List UInt8 := dkwX0_town_4 ++ []
def dkwX0_town_3 : List UInt8 := [42, 16, 10, 182, 0, 176, 172, 42, 44, 181, 0, 57, 42, 3, 181, 0, 230, 42, 42, 180, 0, 57]
abbrev dktX0_town_3 : List UInt8 := dkwX0_town_3 ++ dktX0_town_4
def dkwX0_town_2 : List UInt8 := [182, 0, 220, 77, 167, 0, 27, 78, 42, 45, 180, 0, 224, 181, 0, 61, 42, 45, 180, 0, 227, 181, 0, 65]
abbrev dktX0_town_2 : List UInt8 := dkwX0_town_2 ++ dktX0_town_3
def dkwX0_town_1 : List UInt8 := [180, 0, 27, 3, 181, 0, 209, 42, 3, 181, 0, 61, 42, 2, 181, 0, 65, 42, 180, 0, 27, 27]
abbrev dktX0_town_1 : List UInt8 := dkwX0_town_1 ++ dktX0_town_2
def dkwX0_town_0 : List UInt8 := [27, 155, 0, 14, 27, 42, 180, 0, 27, 180, 0, 209, 164, 0, 9, 42, 8, 182, 0, 176, 172, 42]
abbrev dktX0_town_0 : List UInt8 := dkwX0_town_0 ++ dktX0_town_1
theorem dksX0_town_0 : cX0_town.data.toList.drop 0 = dktX0_town_0 := by decide +kernel
theorem dksX0_town_1 : cX0_town.data.toList.drop 22 = dktX0_town_1 := dk_seg dksX0_town_0 22 rfl rfl
theorem dksX0_town_2 : cX0_town.data.toList.drop 44 = dktX0_town_2 := dk_seg dksX0_town_1 22 rfl rfl
theorem dksX0_town_3 : cX0_town.data.toList.drop 68 = dktX0_town_3 := dk_seg dksX0_town_2 24 rfl rfl
theorem dksX0_town_4 : cX0_town.data.toList.drop 90 = dktX0_town_4 := dk_seg dksX0_town_3 22 rfl rfl
theorem dX0_town_0 : decode cX0_town 0 = .ok (.iload_n 1, 1) := dk_27 (dk_at dksX0_town_0 0 rfl rfl)
theorem dX0_town_1 : decode cX0_town 1 = .ok (.ifCond .lt 14, 3) := dk_155 0 14 (dk_at dksX0_town_0 1 rfl rfl)
theorem dX0_town_4 : decode cX0_town 4 = .ok (.iload_n 1, 1) := dk_27 (dk_at dksX0_town_0 4 rfl rfl)
theorem dX0_town_5 : decode cX0_town 5 = .ok (.aload_n 0, 1) := dk_42 (dk_at dksX0_town_0 5 rfl rfl)
theorem dX0_town_6 : decode cX0_town 6 = .ok (.getfield 27, 3) := dk_180 0 27 (dk_at dksX0_town_0 6 rfl rfl)
theorem dX0_town_9 : decode cX0_town 9 = .ok (.getfield 209, 3) := dk_180 0 209 (dk_at dksX0_town_0 9 rfl rfl)
theorem dX0_town_12 : decode cX0_town 12 = .ok (.if_icmp .le 9, 3) := dk_164 0 9 (dk_at dksX0_town_0 12 rfl rfl)
theorem dX0_town_15 : decode cX0_town 15 = .ok (.aload_n 0, 1) := dk_42 (dk_at dksX0_town_0 15 rfl rfl)
theorem dX0_town_16 : decode cX0_town 16 = .ok (.iconst 5, 1) := dk_8 (dk_at dksX0_town_0 16 rfl rfl)
theorem dX0_town_17 : decode cX0_town 17 = .ok (.invokevirtual 176, 3) := dk_182 0 176 (dk_at dksX0_town_0 17 rfl rfl)
theorem dX0_town_20 : decode cX0_town 20 = .ok (.ireturn, 1) := dk_172 (dk_at dksX0_town_0 20 rfl rfl)
theorem dX0_town_21 : decode cX0_town 21 = .ok (.aload_n 0, 1) := dk_42 (dk_at dksX0_town_0 21 rfl rfl)
theorem dX0_town_22 : decode cX0_town 22 = .ok (.getfield 27, 3) := dk_180 0 27 (dk_at dksX0_town_1 0 rfl rfl)
theorem dX0_town_25 : decode cX0_town 25 = .ok (.iconst 0, 1) := dk_3 (dk_at dksX0_town_1 3 rfl rfl)
theorem dX0_town_26 : decode cX0_town 26 = .ok (.putfield 209, 3) := dk_181 0 209 (dk_at dksX0_town_1 4 rfl rfl)
theorem dX0_town_29 : decode cX0_town 29 = .ok (.aload_n 0, 1) := dk_42 (dk_at dksX0_town_1 7 rfl rfl)
theorem dX0_town_30 : decode cX0_town 30 = .ok (.iconst 0, 1) := dk_3 (dk_at dksX0_town_1 8 rfl rfl)
theorem dX0_town_31 : decode cX0_town 31 = .ok (.putfield 61, 3) := dk_181 0 61 (dk_at dksX0_town_1 9 rfl rfl)
theorem dX0_town_34 : decode cX0_town 34 = .ok (.aload_n 0, 1) := dk_42 (dk_at dksX0_town_1 12 rfl rfl)
theorem dX0_town_35 : decode cX0_town 35 = .ok (.iconst (-1), 1) := dk_2 (dk_at dksX0_town_1 13 rfl rfl)
theorem dX0_town_36 : decode cX0_town 36 = .ok (.putfield 65, 3) := dk_181 0 65 (dk_at dksX0_town_1 14 rfl rfl)
theorem dX0_town_39 : decode cX0_town 39 = .ok (.aload_n 0, 1) := dk_42 (dk_at dksX0_town_1 17 rfl rfl)
theorem dX0_town_40 : decode cX0_town 40 = .ok (.getfield 27, 3) := dk_180 0 27 (dk_at dksX0_town_1 18 rfl rfl)
theorem dX0_town_43 : decode cX0_town 43 = .ok (.iload_n 1, 1) := dk_27 (dk_at dksX0_town_1 21 rfl rfl)
theorem dX0_town_44 : decode cX0_town 44 = .ok (.invokevirtual 220, 3) := dk_182 0 220 (dk_at dksX0_town_2 0 rfl rfl)
theorem dX0_town_47 : decode cX0_town 47 = .ok (.astore_n 2, 1) := dk_77 (dk_at dksX0_town_2 3 rfl rfl)
theorem dX0_town_48 : decode cX0_town 48 = .ok (.goto 27, 3) := dk_167 0 27 (dk_at dksX0_town_2 4 rfl rfl)
theorem dX0_town_51 : decode cX0_town 51 = .ok (.astore_n 3, 1) := dk_78 (dk_at dksX0_town_2 7 rfl rfl)
theorem dX0_town_52 : decode cX0_town 52 = .ok (.aload_n 0, 1) := dk_42 (dk_at dksX0_town_2 8 rfl rfl)
theorem dX0_town_53 : decode cX0_town 53 = .ok (.aload_n 3, 1) := dk_45 (dk_at dksX0_town_2 9 rfl rfl)
theorem dX0_town_54 : decode cX0_town 54 = .ok (.getfield 224, 3) := dk_180 0 224 (dk_at dksX0_town_2 10 rfl rfl)
theorem dX0_town_57 : decode cX0_town 57 = .ok (.putfield 61, 3) := dk_181 0 61 (dk_at dksX0_town_2 13 rfl rfl)
theorem dX0_town_60 : decode cX0_town 60 = .ok (.aload_n 0, 1) := dk_42 (dk_at dksX0_town_2 16 rfl rfl)
theorem dX0_town_61 : decode cX0_town 61 = .ok (.aload_n 3, 1) := dk_45 (dk_at dksX0_town_2 17 rfl rfl)
theorem dX0_town_62 : decode cX0_town 62 = .ok (.getfield 227, 3) := dk_180 0 227 (dk_at dksX0_town_2 18 rfl rfl)
theorem dX0_town_65 : decode cX0_town 65 = .ok (.putfield 65, 3) := dk_181 0 65 (dk_at dksX0_town_2 21 rfl rfl)
theorem dX0_town_68 : decode cX0_town 68 = .ok (.aload_n 0, 1) := dk_42 (dk_at dksX0_town_3 0 rfl rfl)
theorem dX0_town_69 : decode cX0_town 69 = .ok (.bipush 10, 2) := dk_16 10 (dk_at dksX0_town_3 1 rfl rfl)
theorem dX0_town_71 : decode cX0_town 71 = .ok (.invokevirtual 176, 3) := dk_182 0 176 (dk_at dksX0_town_3 3 rfl rfl)
theorem dX0_town_74 : decode cX0_town 74 = .ok (.ireturn, 1) := dk_172 (dk_at dksX0_town_3 6 rfl rfl)
theorem dX0_town_75 : decode cX0_town 75 = .ok (.aload_n 0, 1) := dk_42 (dk_at dksX0_town_3 7 rfl rfl)
theorem dX0_town_76 : decode cX0_town 76 = .ok (.aload_n 2, 1) := dk_44 (dk_at dksX0_town_3 8 rfl rfl)
theorem dX0_town_77 : decode cX0_town 77 = .ok (.putfield 57, 3) := dk_181 0 57 (dk_at dksX0_town_3 9 rfl rfl)
theorem dX0_town_80 : decode cX0_town 80 = .ok (.aload_n 0, 1) := dk_42 (dk_at dksX0_town_3 12 rfl rfl)
theorem dX0_town_81 : decode cX0_town 81 = .ok (.iconst 0, 1) := dk_3 (dk_at dksX0_town_3 13 rfl rfl)
theorem dX0_town_82 : decode cX0_town 82 = .ok (.putfield 230, 3) := dk_181 0 230 (dk_at dksX0_town_3 14 rfl rfl)
theorem dX0_town_85 : decode cX0_town 85 = .ok (.aload_n 0, 1) := dk_42 (dk_at dksX0_town_3 17 rfl rfl)
theorem dX0_town_86 : decode cX0_town 86 = .ok (.aload_n 0, 1) := dk_42 (dk_at dksX0_town_3 18 rfl rfl)
theorem dX0_town_87 : decode cX0_town 87 = .ok (.getfield 57, 3) := dk_180 0 57 (dk_at dksX0_town_3 19 rfl rfl)
theorem dX0_town_90 : decode cX0_town 90 = .ok (.getfield 200, 3) := dk_180 0 200 (dk_at dksX0_town_4 0 rfl rfl)
theorem dX0_town_93 : decode cX0_town 93 = .ok (.invokevirtual 234, 3) := dk_182 0 234 (dk_at dksX0_town_4 3 rfl rfl)
theorem dX0_town_96 : decode cX0_town 96 = .ok (.ireturn, 1) := dk_172 (dk_at dksX0_town_4 6 rfl rfl)
abbrev cX0_gives : ByteArray := prog_1_method_7_code
def yX0_gives : MethodName := ⟨RX0, "gives", "(I)I"⟩
def dkwX0_gives_0 : List UInt8 := [42, 3, 181, 0, 149, 27, 172]
abbrev dktX0_gives_0 : List UInt8 := dkwX0_gives_0 ++ []
theorem dksX0_gives_0 : cX0_gives.data.toList.drop 0 = dktX0_gives_0 := by decide +kernel
theorem dX0_gives_0 : decode cX0_gives 0 = .ok (.aload_n 0, 1) := dk_42 (dk_at dksX0_gives_0 0 rfl rfl)
theorem dX0_gives_1 : decode cX0_gives 1 = .ok (.iconst 0, 1) := dk_3 (dk_at dksX0_gives_0 1 rfl rfl)
theorem dX0_gives_2 : decode cX0_gives 2 = .ok (.putfield 149, 3) := dk_181 0 149 (dk_at dksX0_gives_0 2 rfl rfl)
theorem dX0_gives_5 : decode cX0_gives 5 = .ok (.iload_n 1, 1) := dk_27 (dk_at dksX0_gives_0 5 rfl rfl)
theorem dX0_gives_6 : decode cX0_gives 6 = .ok (.ireturn, 1) := dk_172 (dk_at dksX0_gives_0 6 rfl rfl)
abbrev cX0_fault : ByteArray := prog_1_method_21_code
def yX0_fault : MethodName := ⟨RX0, "fault", "(I)I"⟩
def dkwX0_fault_1 : List UInt8 := [172]
abbrev dktX0_fault_1 : List UInt8 := dkwX0_fault_1 ++ []
def dkwX0_fault_0 : List UInt8 := [27, 154, 0, 10, 42, 180, 0, 61, 167, 0, 16, 27, 4, 160, 0, 10, 42, 180, 0, 65, 167, 0, 4, 2]
abbrev dktX0_fault_0 : List UInt8 := dkwX0_fault_0 ++ dktX0_fault_1
theorem dksX0_fault_0 : cX0_fault.data.toList.drop 0 = dktX0_fault_0 := by decide +kernel
theorem dksX0_fault_1 : cX0_fault.data.toList.drop 24 = dktX0_fault_1 := dk_seg dksX0_fault_0 24 rfl rfl
theorem dX0_fault_0 : decode cX0_fault 0 = .ok (.iload_n 1, 1) := dk_27 (dk_at dksX0_fault_0 0 rfl rfl)
theorem dX0_fault_1 : decode cX0_fault 1 = .ok (.ifCond .ne 10, 3) := dk_154 0 10 (dk_at dksX0_fault_0 1 rfl rfl)
theorem dX0_fault_4 : decode cX0_fault 4 = .ok (.aload_n 0, 1) := dk_42 (dk_at dksX0_fault_0 4 rfl rfl)
theorem dX0_fault_5 : decode cX0_fault 5 = .ok (.getfield 61, 3) := dk_180 0 61 (dk_at dksX0_fault_0 5 rfl rfl)
theorem dX0_fault_8 : decode cX0_fault 8 = .ok (.goto 16, 3) := dk_167 0 16 (dk_at dksX0_fault_0 8 rfl rfl)
theorem dX0_fault_11 : decode cX0_fault 11 = .ok (.iload_n 1, 1) := dk_27 (dk_at dksX0_fault_0 11 rfl rfl)
theorem dX0_fault_12 : decode cX0_fault 12 = .ok (.iconst 1, 1) := dk_4 (dk_at dksX0_fault_0 12 rfl rfl)
theorem dX0_fault_13 : decode cX0_fault 13 = .ok (.if_icmp .ne 10, 3) := dk_160 0 10 (dk_at dksX0_fault_0 13 rfl rfl)
theorem dX0_fault_16 : decode cX0_fault 16 = .ok (.aload_n 0, 1) := dk_42 (dk_at dksX0_fault_0 16 rfl rfl)
theorem dX0_fault_17 : decode cX0_fault 17 = .ok (.getfield 65, 3) := dk_180 0 65 (dk_at dksX0_fault_0 17 rfl rfl)
theorem dX0_fault_20 : decode cX0_fault 20 = .ok (.goto 4, 3) := dk_167 0 4 (dk_at dksX0_fault_0 20 rfl rfl)
theorem dX0_fault_23 : decode cX0_fault 23 = .ok (.iconst (-1), 1) := dk_2 (dk_at dksX0_fault_0 23 rfl rfl)
theorem dX0_fault_24 : decode cX0_fault 24 = .ok (.ireturn, 1) := dk_172 (dk_at dksX0_fault_1 0 rfl rfl)
abbrev cX0_many : ByteArray := prog_1_method_22_code
def yX0_many : MethodName := ⟨RX0, "many", "(I)I"⟩
def dkwX0_many_2 : List UInt8 := [42, 180, 0, 206, 182, 0, 234, 172]
abbrev dktX0_many_2 : List UInt8 := dkwX0_many_2 ++ []
def dkwX0_many_1 : List UInt8 := [180, 0, 57, 180, 0, 200, 167, 0, 22, 27, 4, 160, 0, 13, 42, 180, 0, 57, 180, 0, 203, 167, 0, 7]
abbrev dktX0_many_1 : List UInt8 := dkwX0_many_1 ++ dktX0_many_2
def dkwX0_many_0 : List UInt8 := [27, 155, 0, 8, 27, 5, 164, 0, 11, 42, 8, 182, 0, 176, 167, 0, 40, 42, 27, 154, 0, 13, 42]
abbrev dktX0_many_0 : List UInt8 := dkwX0_many_0 ++ dktX0_many_1
theorem dksX0_many_0 : cX0_many.data.toList.drop 0 = dktX0_many_0 := by decide +kernel
theorem dksX0_many_1 : cX0_many.data.toList.drop 23 = dktX0_many_1 := dk_seg dksX0_many_0 23 rfl rfl
theorem dksX0_many_2 : cX0_many.data.toList.drop 47 = dktX0_many_2 := dk_seg dksX0_many_1 24 rfl rfl
theorem dX0_many_0 : decode cX0_many 0 = .ok (.iload_n 1, 1) := dk_27 (dk_at dksX0_many_0 0 rfl rfl)
theorem dX0_many_1 : decode cX0_many 1 = .ok (.ifCond .lt 8, 3) := dk_155 0 8 (dk_at dksX0_many_0 1 rfl rfl)
theorem dX0_many_4 : decode cX0_many 4 = .ok (.iload_n 1, 1) := dk_27 (dk_at dksX0_many_0 4 rfl rfl)
theorem dX0_many_5 : decode cX0_many 5 = .ok (.iconst 2, 1) := dk_5 (dk_at dksX0_many_0 5 rfl rfl)
theorem dX0_many_6 : decode cX0_many 6 = .ok (.if_icmp .le 11, 3) := dk_164 0 11 (dk_at dksX0_many_0 6 rfl rfl)
theorem dX0_many_9 : decode cX0_many 9 = .ok (.aload_n 0, 1) := dk_42 (dk_at dksX0_many_0 9 rfl rfl)
theorem dX0_many_10 : decode cX0_many 10 = .ok (.iconst 5, 1) := dk_8 (dk_at dksX0_many_0 10 rfl rfl)
theorem dX0_many_11 : decode cX0_many 11 = .ok (.invokevirtual 176, 3) := dk_182 0 176 (dk_at dksX0_many_0 11 rfl rfl)
theorem dX0_many_14 : decode cX0_many 14 = .ok (.goto 40, 3) := dk_167 0 40 (dk_at dksX0_many_0 14 rfl rfl)
theorem dX0_many_17 : decode cX0_many 17 = .ok (.aload_n 0, 1) := dk_42 (dk_at dksX0_many_0 17 rfl rfl)
theorem dX0_many_18 : decode cX0_many 18 = .ok (.iload_n 1, 1) := dk_27 (dk_at dksX0_many_0 18 rfl rfl)
theorem dX0_many_19 : decode cX0_many 19 = .ok (.ifCond .ne 13, 3) := dk_154 0 13 (dk_at dksX0_many_0 19 rfl rfl)
theorem dX0_many_22 : decode cX0_many 22 = .ok (.aload_n 0, 1) := dk_42 (dk_at dksX0_many_0 22 rfl rfl)
theorem dX0_many_23 : decode cX0_many 23 = .ok (.getfield 57, 3) := dk_180 0 57 (dk_at dksX0_many_1 0 rfl rfl)
theorem dX0_many_26 : decode cX0_many 26 = .ok (.getfield 200, 3) := dk_180 0 200 (dk_at dksX0_many_1 3 rfl rfl)
theorem dX0_many_29 : decode cX0_many 29 = .ok (.goto 22, 3) := dk_167 0 22 (dk_at dksX0_many_1 6 rfl rfl)
theorem dX0_many_32 : decode cX0_many 32 = .ok (.iload_n 1, 1) := dk_27 (dk_at dksX0_many_1 9 rfl rfl)
theorem dX0_many_33 : decode cX0_many 33 = .ok (.iconst 1, 1) := dk_4 (dk_at dksX0_many_1 10 rfl rfl)
theorem dX0_many_34 : decode cX0_many 34 = .ok (.if_icmp .ne 13, 3) := dk_160 0 13 (dk_at dksX0_many_1 11 rfl rfl)
theorem dX0_many_37 : decode cX0_many 37 = .ok (.aload_n 0, 1) := dk_42 (dk_at dksX0_many_1 14 rfl rfl)
theorem dX0_many_38 : decode cX0_many 38 = .ok (.getfield 57, 3) := dk_180 0 57 (dk_at dksX0_many_1 15 rfl rfl)
theorem dX0_many_41 : decode cX0_many 41 = .ok (.getfield 203, 3) := dk_180 0 203 (dk_at dksX0_many_1 18 rfl rfl)
theorem dX0_many_44 : decode cX0_many 44 = .ok (.goto 7, 3) := dk_167 0 7 (dk_at dksX0_many_1 21 rfl rfl)
theorem dX0_many_47 : decode cX0_many 47 = .ok (.aload_n 0, 1) := dk_42 (dk_at dksX0_many_2 0 rfl rfl)
theorem dX0_many_48 : decode cX0_many 48 = .ok (.getfield 206, 3) := dk_180 0 206 (dk_at dksX0_many_2 1 rfl rfl)
theorem dX0_many_51 : decode cX0_many 51 = .ok (.invokevirtual 234, 3) := dk_182 0 234 (dk_at dksX0_many_2 4 rfl rfl)
theorem dX0_many_54 : decode cX0_many 54 = .ok (.ireturn, 1) := dk_172 (dk_at dksX0_many_2 7 rfl rfl)
abbrev cX0_place : ByteArray := prog_1_method_23_code
def yX0_place : MethodName := ⟨RX0, "place", "(II)I"⟩
def dkwX0_place_4 : List UInt8 := [182, 0, 234, 167, 0, 9, 42, 16, 8, 182, 0, 176, 172]
abbrev dktX0_place_4 : List UInt8 := dkwX0_place_4 ++ []
def dkwX0_place_3 : List UInt8 := [180, 0, 249, 162, 0, 25, 42, 45, 180, 0, 250, 28, 5, 100, 50, 45, 182, 0, 254, 180, 1, 4]
abbrev dktX0_place_3 : List UInt8 := dkwX0_place_3 ++ dktX0_place_4
def dkwX0_place_2 : List UInt8 := [154, 0, 10, 45, 180, 0, 244, 167, 0, 7, 45, 180, 0, 249, 182, 0, 234, 172, 28, 5, 100, 45]
abbrev dktX0_place_2 : List UInt8 := dkwX0_place_2 ++ dktX0_place_3
def dkwX0_place_1 : List UInt8 := [8, 182, 0, 176, 172, 42, 180, 0, 57, 180, 0, 240, 27, 50, 78, 28, 5, 162, 0, 23, 42, 28]
abbrev dktX0_place_1 : List UInt8 := dkwX0_place_1 ++ dktX0_place_2
def dkwX0_place_0 : List UInt8 := [42, 27, 182, 0, 237, 154, 0, 9, 42, 5, 182, 0, 176, 172, 28, 155, 0, 8, 28, 8, 164, 0, 9, 42]
abbrev dktX0_place_0 : List UInt8 := dkwX0_place_0 ++ dktX0_place_1
theorem dksX0_place_0 : cX0_place.data.toList.drop 0 = dktX0_place_0 := by decide +kernel
theorem dksX0_place_1 : cX0_place.data.toList.drop 24 = dktX0_place_1 := dk_seg dksX0_place_0 24 rfl rfl
theorem dksX0_place_2 : cX0_place.data.toList.drop 46 = dktX0_place_2 := dk_seg dksX0_place_1 22 rfl rfl
theorem dksX0_place_3 : cX0_place.data.toList.drop 68 = dktX0_place_3 := dk_seg dksX0_place_2 22 rfl rfl
theorem dksX0_place_4 : cX0_place.data.toList.drop 90 = dktX0_place_4 := dk_seg dksX0_place_3 22 rfl rfl
theorem dX0_place_0 : decode cX0_place 0 = .ok (.aload_n 0, 1) := dk_42 (dk_at dksX0_place_0 0 rfl rfl)
theorem dX0_place_1 : decode cX0_place 1 = .ok (.iload_n 1, 1) := dk_27 (dk_at dksX0_place_0 1 rfl rfl)
theorem dX0_place_2 : decode cX0_place 2 = .ok (.invokevirtual 237, 3) := dk_182 0 237 (dk_at dksX0_place_0 2 rfl rfl)
theorem dX0_place_5 : decode cX0_place 5 = .ok (.ifCond .ne 9, 3) := dk_154 0 9 (dk_at dksX0_place_0 5 rfl rfl)
theorem dX0_place_8 : decode cX0_place 8 = .ok (.aload_n 0, 1) := dk_42 (dk_at dksX0_place_0 8 rfl rfl)
theorem dX0_place_9 : decode cX0_place 9 = .ok (.iconst 2, 1) := dk_5 (dk_at dksX0_place_0 9 rfl rfl)
theorem dX0_place_10 : decode cX0_place 10 = .ok (.invokevirtual 176, 3) := dk_182 0 176 (dk_at dksX0_place_0 10 rfl rfl)
theorem dX0_place_13 : decode cX0_place 13 = .ok (.ireturn, 1) := dk_172 (dk_at dksX0_place_0 13 rfl rfl)
theorem dX0_place_14 : decode cX0_place 14 = .ok (.iload_n 2, 1) := dk_28 (dk_at dksX0_place_0 14 rfl rfl)
theorem dX0_place_15 : decode cX0_place 15 = .ok (.ifCond .lt 8, 3) := dk_155 0 8 (dk_at dksX0_place_0 15 rfl rfl)
theorem dX0_place_18 : decode cX0_place 18 = .ok (.iload_n 2, 1) := dk_28 (dk_at dksX0_place_0 18 rfl rfl)
theorem dX0_place_19 : decode cX0_place 19 = .ok (.iconst 5, 1) := dk_8 (dk_at dksX0_place_0 19 rfl rfl)
theorem dX0_place_20 : decode cX0_place 20 = .ok (.if_icmp .le 9, 3) := dk_164 0 9 (dk_at dksX0_place_0 20 rfl rfl)
theorem dX0_place_23 : decode cX0_place 23 = .ok (.aload_n 0, 1) := dk_42 (dk_at dksX0_place_0 23 rfl rfl)
theorem dX0_place_24 : decode cX0_place 24 = .ok (.iconst 5, 1) := dk_8 (dk_at dksX0_place_1 0 rfl rfl)
theorem dX0_place_25 : decode cX0_place 25 = .ok (.invokevirtual 176, 3) := dk_182 0 176 (dk_at dksX0_place_1 1 rfl rfl)
theorem dX0_place_28 : decode cX0_place 28 = .ok (.ireturn, 1) := dk_172 (dk_at dksX0_place_1 4 rfl rfl)
theorem dX0_place_29 : decode cX0_place 29 = .ok (.aload_n 0, 1) := dk_42 (dk_at dksX0_place_1 5 rfl rfl)
theorem dX0_place_30 : decode cX0_place 30 = .ok (.getfield 57, 3) := dk_180 0 57 (dk_at dksX0_place_1 6 rfl rfl)
theorem dX0_place_33 : decode cX0_place 33 = .ok (.getfield 240, 3) := dk_180 0 240 (dk_at dksX0_place_1 9 rfl rfl)
theorem dX0_place_36 : decode cX0_place 36 = .ok (.iload_n 1, 1) := dk_27 (dk_at dksX0_place_1 12 rfl rfl)
theorem dX0_place_37 : decode cX0_place 37 = .ok (.aaload, 1) := dk_50 (dk_at dksX0_place_1 13 rfl rfl)
theorem dX0_place_38 : decode cX0_place 38 = .ok (.astore_n 3, 1) := dk_78 (dk_at dksX0_place_1 14 rfl rfl)
theorem dX0_place_39 : decode cX0_place 39 = .ok (.iload_n 2, 1) := dk_28 (dk_at dksX0_place_1 15 rfl rfl)
theorem dX0_place_40 : decode cX0_place 40 = .ok (.iconst 2, 1) := dk_5 (dk_at dksX0_place_1 16 rfl rfl)
theorem dX0_place_41 : decode cX0_place 41 = .ok (.if_icmp .ge 23, 3) := dk_162 0 23 (dk_at dksX0_place_1 17 rfl rfl)
theorem dX0_place_44 : decode cX0_place 44 = .ok (.aload_n 0, 1) := dk_42 (dk_at dksX0_place_1 20 rfl rfl)
theorem dX0_place_45 : decode cX0_place 45 = .ok (.iload_n 2, 1) := dk_28 (dk_at dksX0_place_1 21 rfl rfl)
theorem dX0_place_46 : decode cX0_place 46 = .ok (.ifCond .ne 10, 3) := dk_154 0 10 (dk_at dksX0_place_2 0 rfl rfl)
theorem dX0_place_49 : decode cX0_place 49 = .ok (.aload_n 3, 1) := dk_45 (dk_at dksX0_place_2 3 rfl rfl)
theorem dX0_place_50 : decode cX0_place 50 = .ok (.getfield 244, 3) := dk_180 0 244 (dk_at dksX0_place_2 4 rfl rfl)
theorem dX0_place_53 : decode cX0_place 53 = .ok (.goto 7, 3) := dk_167 0 7 (dk_at dksX0_place_2 7 rfl rfl)
theorem dX0_place_56 : decode cX0_place 56 = .ok (.aload_n 3, 1) := dk_45 (dk_at dksX0_place_2 10 rfl rfl)
theorem dX0_place_57 : decode cX0_place 57 = .ok (.getfield 249, 3) := dk_180 0 249 (dk_at dksX0_place_2 11 rfl rfl)
theorem dX0_place_60 : decode cX0_place 60 = .ok (.invokevirtual 234, 3) := dk_182 0 234 (dk_at dksX0_place_2 14 rfl rfl)
theorem dX0_place_63 : decode cX0_place 63 = .ok (.ireturn, 1) := dk_172 (dk_at dksX0_place_2 17 rfl rfl)
theorem dX0_place_64 : decode cX0_place 64 = .ok (.iload_n 2, 1) := dk_28 (dk_at dksX0_place_2 18 rfl rfl)
theorem dX0_place_65 : decode cX0_place 65 = .ok (.iconst 2, 1) := dk_5 (dk_at dksX0_place_2 19 rfl rfl)
theorem dX0_place_66 : decode cX0_place 66 = .ok (.isub, 1) := dk_100 (dk_at dksX0_place_2 20 rfl rfl)
theorem dX0_place_67 : decode cX0_place 67 = .ok (.aload_n 3, 1) := dk_45 (dk_at dksX0_place_2 21 rfl rfl)
theorem dX0_place_68 : decode cX0_place 68 = .ok (.getfield 249, 3) := dk_180 0 249 (dk_at dksX0_place_3 0 rfl rfl)
theorem dX0_place_71 : decode cX0_place 71 = .ok (.if_icmp .ge 25, 3) := dk_162 0 25 (dk_at dksX0_place_3 3 rfl rfl)
theorem dX0_place_74 : decode cX0_place 74 = .ok (.aload_n 0, 1) := dk_42 (dk_at dksX0_place_3 6 rfl rfl)
theorem dX0_place_75 : decode cX0_place 75 = .ok (.aload_n 3, 1) := dk_45 (dk_at dksX0_place_3 7 rfl rfl)
theorem dX0_place_76 : decode cX0_place 76 = .ok (.getfield 250, 3) := dk_180 0 250 (dk_at dksX0_place_3 8 rfl rfl)
theorem dX0_place_79 : decode cX0_place 79 = .ok (.iload_n 2, 1) := dk_28 (dk_at dksX0_place_3 11 rfl rfl)
theorem dX0_place_80 : decode cX0_place 80 = .ok (.iconst 2, 1) := dk_5 (dk_at dksX0_place_3 12 rfl rfl)
theorem dX0_place_81 : decode cX0_place 81 = .ok (.isub, 1) := dk_100 (dk_at dksX0_place_3 13 rfl rfl)
theorem dX0_place_82 : decode cX0_place 82 = .ok (.aaload, 1) := dk_50 (dk_at dksX0_place_3 14 rfl rfl)
theorem dX0_place_83 : decode cX0_place 83 = .ok (.aload_n 3, 1) := dk_45 (dk_at dksX0_place_3 15 rfl rfl)
theorem dX0_place_84 : decode cX0_place 84 = .ok (.invokevirtual 254, 3) := dk_182 0 254 (dk_at dksX0_place_3 16 rfl rfl)
theorem dX0_place_87 : decode cX0_place 87 = .ok (.getfield 260, 3) := dk_180 1 4 (dk_at dksX0_place_3 19 rfl rfl)
theorem dX0_place_90 : decode cX0_place 90 = .ok (.invokevirtual 234, 3) := dk_182 0 234 (dk_at dksX0_place_4 0 rfl rfl)
theorem dX0_place_93 : decode cX0_place 93 = .ok (.goto 9, 3) := dk_167 0 9 (dk_at dksX0_place_4 3 rfl rfl)
theorem dX0_place_96 : decode cX0_place 96 = .ok (.aload_n 0, 1) := dk_42 (dk_at dksX0_place_4 6 rfl rfl)
theorem dX0_place_97 : decode cX0_place 97 = .ok (.bipush 8, 2) := dk_16 8 (dk_at dksX0_place_4 7 rfl rfl)
theorem dX0_place_99 : decode cX0_place 99 = .ok (.invokevirtual 176, 3) := dk_182 0 176 (dk_at dksX0_place_4 9 rfl rfl)
theorem dX0_place_102 : decode cX0_place 102 = .ok (.ireturn, 1) := dk_172 (dk_at dksX0_place_4 12 rfl rfl)
abbrev cX0_isPlace : ByteArray := prog_1_method_15_code
def yX0_isPlace : MethodName := ⟨RX0, "isPlace", "(I)Z"⟩
def dkwX0_isPlace_0 : List UInt8 := [27, 155, 0, 18, 27, 42, 180, 0, 57, 180, 0, 200, 162, 0, 7, 4, 167, 0, 4, 3, 172]
abbrev dktX0_isPlace_0 : List UInt8 := dkwX0_isPlace_0 ++ []
theorem dksX0_isPlace_0 : cX0_isPlace.data.toList.drop 0 = dktX0_isPlace_0 := by decide +kernel
theorem dX0_isPlace_0 : decode cX0_isPlace 0 = .ok (.iload_n 1, 1) := dk_27 (dk_at dksX0_isPlace_0 0 rfl rfl)
theorem dX0_isPlace_1 : decode cX0_isPlace 1 = .ok (.ifCond .lt 18, 3) := dk_155 0 18 (dk_at dksX0_isPlace_0 1 rfl rfl)
theorem dX0_isPlace_4 : decode cX0_isPlace 4 = .ok (.iload_n 1, 1) := dk_27 (dk_at dksX0_isPlace_0 4 rfl rfl)
theorem dX0_isPlace_5 : decode cX0_isPlace 5 = .ok (.aload_n 0, 1) := dk_42 (dk_at dksX0_isPlace_0 5 rfl rfl)
theorem dX0_isPlace_6 : decode cX0_isPlace 6 = .ok (.getfield 57, 3) := dk_180 0 57 (dk_at dksX0_isPlace_0 6 rfl rfl)
theorem dX0_isPlace_9 : decode cX0_isPlace 9 = .ok (.getfield 200, 3) := dk_180 0 200 (dk_at dksX0_isPlace_0 9 rfl rfl)
theorem dX0_isPlace_12 : decode cX0_isPlace 12 = .ok (.if_icmp .ge 7, 3) := dk_162 0 7 (dk_at dksX0_isPlace_0 12 rfl rfl)
theorem dX0_isPlace_15 : decode cX0_isPlace 15 = .ok (.iconst 1, 1) := dk_4 (dk_at dksX0_isPlace_0 15 rfl rfl)
theorem dX0_isPlace_16 : decode cX0_isPlace 16 = .ok (.goto 4, 3) := dk_167 0 4 (dk_at dksX0_isPlace_0 16 rfl rfl)
theorem dX0_isPlace_19 : decode cX0_isPlace 19 = .ok (.iconst 0, 1) := dk_3 (dk_at dksX0_isPlace_0 19 rfl rfl)
theorem dX0_isPlace_20 : decode cX0_isPlace 20 = .ok (.ireturn, 1) := dk_172 (dk_at dksX0_isPlace_0 20 rfl rfl)
abbrev cX0_shut : ByteArray := prog_1_method_24_code
def yX0_shut : MethodName := ⟨RX0, "shut", "(IZ)Z"⟩
def dkwX0_shut_1 : List UInt8 := [181, 1, 11, 42, 3, 182, 0, 155, 172]
abbrev dktX0_shut_1 : List UInt8 := dkwX0_shut_1 ++ []
def dkwX0_shut_0 : List UInt8 := [42, 27, 182, 1, 7, 154, 0, 9, 42, 5, 182, 0, 155, 172, 42, 180, 0, 57, 180, 1, 10, 27, 50, 28]
abbrev dktX0_shut_0 : List UInt8 := dkwX0_shut_0 ++ dktX0_shut_1
theorem dksX0_shut_0 : cX0_shut.data.toList.drop 0 = dktX0_shut_0 := by decide +kernel
theorem dksX0_shut_1 : cX0_shut.data.toList.drop 24 = dktX0_shut_1 := dk_seg dksX0_shut_0 24 rfl rfl
theorem dX0_shut_0 : decode cX0_shut 0 = .ok (.aload_n 0, 1) := dk_42 (dk_at dksX0_shut_0 0 rfl rfl)
theorem dX0_shut_1 : decode cX0_shut 1 = .ok (.iload_n 1, 1) := dk_27 (dk_at dksX0_shut_0 1 rfl rfl)
theorem dX0_shut_2 : decode cX0_shut 2 = .ok (.invokevirtual 263, 3) := dk_182 1 7 (dk_at dksX0_shut_0 2 rfl rfl)
theorem dX0_shut_5 : decode cX0_shut 5 = .ok (.ifCond .ne 9, 3) := dk_154 0 9 (dk_at dksX0_shut_0 5 rfl rfl)
theorem dX0_shut_8 : decode cX0_shut 8 = .ok (.aload_n 0, 1) := dk_42 (dk_at dksX0_shut_0 8 rfl rfl)
theorem dX0_shut_9 : decode cX0_shut 9 = .ok (.iconst 2, 1) := dk_5 (dk_at dksX0_shut_0 9 rfl rfl)
theorem dX0_shut_10 : decode cX0_shut 10 = .ok (.invokevirtual 155, 3) := dk_182 0 155 (dk_at dksX0_shut_0 10 rfl rfl)
theorem dX0_shut_13 : decode cX0_shut 13 = .ok (.ireturn, 1) := dk_172 (dk_at dksX0_shut_0 13 rfl rfl)
theorem dX0_shut_14 : decode cX0_shut 14 = .ok (.aload_n 0, 1) := dk_42 (dk_at dksX0_shut_0 14 rfl rfl)
theorem dX0_shut_15 : decode cX0_shut 15 = .ok (.getfield 57, 3) := dk_180 0 57 (dk_at dksX0_shut_0 15 rfl rfl)
theorem dX0_shut_18 : decode cX0_shut 18 = .ok (.getfield 266, 3) := dk_180 1 10 (dk_at dksX0_shut_0 18 rfl rfl)
theorem dX0_shut_21 : decode cX0_shut 21 = .ok (.iload_n 1, 1) := dk_27 (dk_at dksX0_shut_0 21 rfl rfl)
theorem dX0_shut_22 : decode cX0_shut 22 = .ok (.aaload, 1) := dk_50 (dk_at dksX0_shut_0 22 rfl rfl)
theorem dX0_shut_23 : decode cX0_shut 23 = .ok (.iload_n 2, 1) := dk_28 (dk_at dksX0_shut_0 23 rfl rfl)
theorem dX0_shut_24 : decode cX0_shut 24 = .ok (.putfield 267, 3) := dk_181 1 11 (dk_at dksX0_shut_1 0 rfl rfl)
theorem dX0_shut_27 : decode cX0_shut 27 = .ok (.aload_n 0, 1) := dk_42 (dk_at dksX0_shut_1 3 rfl rfl)
theorem dX0_shut_28 : decode cX0_shut 28 = .ok (.iconst 0, 1) := dk_3 (dk_at dksX0_shut_1 4 rfl rfl)
theorem dX0_shut_29 : decode cX0_shut 29 = .ok (.invokevirtual 155, 3) := dk_182 0 155 (dk_at dksX0_shut_1 5 rfl rfl)
theorem dX0_shut_32 : decode cX0_shut 32 = .ok (.ireturn, 1) := dk_172 (dk_at dksX0_shut_1 8 rfl rfl)
abbrev cX0_isLane : ByteArray := prog_1_method_16_code
def yX0_isLane : MethodName := ⟨RX0, "isLane", "(I)Z"⟩
def dkwX0_isLane_0 : List UInt8 := [27, 155, 0, 18, 27, 42, 180, 0, 57, 180, 0, 203, 162, 0, 7, 4, 167, 0, 4, 3, 172]
abbrev dktX0_isLane_0 : List UInt8 := dkwX0_isLane_0 ++ []
theorem dksX0_isLane_0 : cX0_isLane.data.toList.drop 0 = dktX0_isLane_0 := by decide +kernel
theorem dX0_isLane_0 : decode cX0_isLane 0 = .ok (.iload_n 1, 1) := dk_27 (dk_at dksX0_isLane_0 0 rfl rfl)
theorem dX0_isLane_1 : decode cX0_isLane 1 = .ok (.ifCond .lt 18, 3) := dk_155 0 18 (dk_at dksX0_isLane_0 1 rfl rfl)
theorem dX0_isLane_4 : decode cX0_isLane 4 = .ok (.iload_n 1, 1) := dk_27 (dk_at dksX0_isLane_0 4 rfl rfl)
theorem dX0_isLane_5 : decode cX0_isLane 5 = .ok (.aload_n 0, 1) := dk_42 (dk_at dksX0_isLane_0 5 rfl rfl)
theorem dX0_isLane_6 : decode cX0_isLane 6 = .ok (.getfield 57, 3) := dk_180 0 57 (dk_at dksX0_isLane_0 6 rfl rfl)
theorem dX0_isLane_9 : decode cX0_isLane 9 = .ok (.getfield 203, 3) := dk_180 0 203 (dk_at dksX0_isLane_0 9 rfl rfl)
theorem dX0_isLane_12 : decode cX0_isLane 12 = .ok (.if_icmp .ge 7, 3) := dk_162 0 7 (dk_at dksX0_isLane_0 12 rfl rfl)
theorem dX0_isLane_15 : decode cX0_isLane 15 = .ok (.iconst 1, 1) := dk_4 (dk_at dksX0_isLane_0 15 rfl rfl)
theorem dX0_isLane_16 : decode cX0_isLane 16 = .ok (.goto 4, 3) := dk_167 0 4 (dk_at dksX0_isLane_0 16 rfl rfl)
theorem dX0_isLane_19 : decode cX0_isLane 19 = .ok (.iconst 0, 1) := dk_3 (dk_at dksX0_isLane_0 19 rfl rfl)
theorem dX0_isLane_20 : decode cX0_isLane 20 = .ok (.ireturn, 1) := dk_172 (dk_at dksX0_isLane_0 20 rfl rfl)
abbrev cX0_marks : ByteArray := prog_1_method_25_code
def yX0_marks : MethodName := ⟨RX0, "marks", "(Z)Z"⟩
def dkwX0_marks_0 : List UInt8 := [42, 27, 181, 0, 230, 42, 3, 182, 0, 155, 172]
abbrev dktX0_marks_0 : List UInt8 := dkwX0_marks_0 ++ []
theorem dksX0_marks_0 : cX0_marks.data.toList.drop 0 = dktX0_marks_0 := by decide +kernel
theorem dX0_marks_0 : decode cX0_marks 0 = .ok (.aload_n 0, 1) := dk_42 (dk_at dksX0_marks_0 0 rfl rfl)
theorem dX0_marks_1 : decode cX0_marks 1 = .ok (.iload_n 1, 1) := dk_27 (dk_at dksX0_marks_0 1 rfl rfl)
theorem dX0_marks_2 : decode cX0_marks 2 = .ok (.putfield 230, 3) := dk_181 0 230 (dk_at dksX0_marks_0 2 rfl rfl)
theorem dX0_marks_5 : decode cX0_marks 5 = .ok (.aload_n 0, 1) := dk_42 (dk_at dksX0_marks_0 5 rfl rfl)
theorem dX0_marks_6 : decode cX0_marks 6 = .ok (.iconst 0, 1) := dk_3 (dk_at dksX0_marks_0 6 rfl rfl)
theorem dX0_marks_7 : decode cX0_marks 7 = .ok (.invokevirtual 155, 3) := dk_182 0 155 (dk_at dksX0_marks_0 7 rfl rfl)
theorem dX0_marks_10 : decode cX0_marks 10 = .ok (.ireturn, 1) := dk_172 (dk_at dksX0_marks_0 10 rfl rfl)
abbrev cX0_distance : ByteArray := prog_1_method_26_code
def yX0_distance : MethodName := ⟨RX0, "distance", "(II)I"⟩
def dkwX0_distance_3 : List UInt8 := [182, 0, 234, 172]
abbrev dktX0_distance_3 : List UInt8 := dkwX0_distance_3 ++ []
def dkwX0_distance_2 : List UInt8 := [2, 160, 0, 12, 42, 16, 8, 182, 0, 176, 167, 0, 16, 42, 42, 180, 0, 57, 180, 1, 18, 28, 46]
abbrev dktX0_distance_2 : List UInt8 := dkwX0_distance_2 ++ dktX0_distance_3
def dkwX0_distance_1 : List UInt8 := [180, 0, 57, 42, 180, 0, 57, 180, 0, 240, 27, 50, 182, 1, 14, 42, 180, 0, 57, 180, 1, 18, 28, 46]
abbrev dktX0_distance_1 : List UInt8 := dkwX0_distance_1 ++ dktX0_distance_2
def dkwX0_distance_0 : List UInt8 := [42, 27, 182, 0, 237, 153, 0, 11, 42, 28, 182, 0, 237, 154, 0, 9, 42, 5, 182, 0, 176, 172, 42]
abbrev dktX0_distance_0 : List UInt8 := dkwX0_distance_0 ++ dktX0_distance_1
theorem dksX0_distance_0 : cX0_distance.data.toList.drop 0 = dktX0_distance_0 := by decide +kernel
theorem dksX0_distance_1 : cX0_distance.data.toList.drop 23 = dktX0_distance_1 := dk_seg dksX0_distance_0 23 rfl rfl
theorem dksX0_distance_2 : cX0_distance.data.toList.drop 47 = dktX0_distance_2 := dk_seg dksX0_distance_1 24 rfl rfl
theorem dksX0_distance_3 : cX0_distance.data.toList.drop 70 = dktX0_distance_3 := dk_seg dksX0_distance_2 23 rfl rfl
theorem dX0_distance_0 : decode cX0_distance 0 = .ok (.aload_n 0, 1) := dk_42 (dk_at dksX0_distance_0 0 rfl rfl)
theorem dX0_distance_1 : decode cX0_distance 1 = .ok (.iload_n 1, 1) := dk_27 (dk_at dksX0_distance_0 1 rfl rfl)
theorem dX0_distance_2 : decode cX0_distance 2 = .ok (.invokevirtual 237, 3) := dk_182 0 237 (dk_at dksX0_distance_0 2 rfl rfl)
theorem dX0_distance_5 : decode cX0_distance 5 = .ok (.ifCond .eq 11, 3) := dk_153 0 11 (dk_at dksX0_distance_0 5 rfl rfl)
theorem dX0_distance_8 : decode cX0_distance 8 = .ok (.aload_n 0, 1) := dk_42 (dk_at dksX0_distance_0 8 rfl rfl)
theorem dX0_distance_9 : decode cX0_distance 9 = .ok (.iload_n 2, 1) := dk_28 (dk_at dksX0_distance_0 9 rfl rfl)
theorem dX0_distance_10 : decode cX0_distance 10 = .ok (.invokevirtual 237, 3) := dk_182 0 237 (dk_at dksX0_distance_0 10 rfl rfl)
theorem dX0_distance_13 : decode cX0_distance 13 = .ok (.ifCond .ne 9, 3) := dk_154 0 9 (dk_at dksX0_distance_0 13 rfl rfl)
theorem dX0_distance_16 : decode cX0_distance 16 = .ok (.aload_n 0, 1) := dk_42 (dk_at dksX0_distance_0 16 rfl rfl)
theorem dX0_distance_17 : decode cX0_distance 17 = .ok (.iconst 2, 1) := dk_5 (dk_at dksX0_distance_0 17 rfl rfl)
theorem dX0_distance_18 : decode cX0_distance 18 = .ok (.invokevirtual 176, 3) := dk_182 0 176 (dk_at dksX0_distance_0 18 rfl rfl)
theorem dX0_distance_21 : decode cX0_distance 21 = .ok (.ireturn, 1) := dk_172 (dk_at dksX0_distance_0 21 rfl rfl)
theorem dX0_distance_22 : decode cX0_distance 22 = .ok (.aload_n 0, 1) := dk_42 (dk_at dksX0_distance_0 22 rfl rfl)
theorem dX0_distance_23 : decode cX0_distance 23 = .ok (.getfield 57, 3) := dk_180 0 57 (dk_at dksX0_distance_1 0 rfl rfl)
theorem dX0_distance_26 : decode cX0_distance 26 = .ok (.aload_n 0, 1) := dk_42 (dk_at dksX0_distance_1 3 rfl rfl)
theorem dX0_distance_27 : decode cX0_distance 27 = .ok (.getfield 57, 3) := dk_180 0 57 (dk_at dksX0_distance_1 4 rfl rfl)
theorem dX0_distance_30 : decode cX0_distance 30 = .ok (.getfield 240, 3) := dk_180 0 240 (dk_at dksX0_distance_1 7 rfl rfl)
theorem dX0_distance_33 : decode cX0_distance 33 = .ok (.iload_n 1, 1) := dk_27 (dk_at dksX0_distance_1 10 rfl rfl)
theorem dX0_distance_34 : decode cX0_distance 34 = .ok (.aaload, 1) := dk_50 (dk_at dksX0_distance_1 11 rfl rfl)
theorem dX0_distance_35 : decode cX0_distance 35 = .ok (.invokevirtual 270, 3) := dk_182 1 14 (dk_at dksX0_distance_1 12 rfl rfl)
theorem dX0_distance_38 : decode cX0_distance 38 = .ok (.aload_n 0, 1) := dk_42 (dk_at dksX0_distance_1 15 rfl rfl)
theorem dX0_distance_39 : decode cX0_distance 39 = .ok (.getfield 57, 3) := dk_180 0 57 (dk_at dksX0_distance_1 16 rfl rfl)
theorem dX0_distance_42 : decode cX0_distance 42 = .ok (.getfield 274, 3) := dk_180 1 18 (dk_at dksX0_distance_1 19 rfl rfl)
theorem dX0_distance_45 : decode cX0_distance 45 = .ok (.iload_n 2, 1) := dk_28 (dk_at dksX0_distance_1 22 rfl rfl)
theorem dX0_distance_46 : decode cX0_distance 46 = .ok (.iaload, 1) := dk_46 (dk_at dksX0_distance_1 23 rfl rfl)
theorem dX0_distance_47 : decode cX0_distance 47 = .ok (.iconst (-1), 1) := dk_2 (dk_at dksX0_distance_2 0 rfl rfl)
theorem dX0_distance_48 : decode cX0_distance 48 = .ok (.if_icmp .ne 12, 3) := dk_160 0 12 (dk_at dksX0_distance_2 1 rfl rfl)
theorem dX0_distance_51 : decode cX0_distance 51 = .ok (.aload_n 0, 1) := dk_42 (dk_at dksX0_distance_2 4 rfl rfl)
theorem dX0_distance_52 : decode cX0_distance 52 = .ok (.bipush 8, 2) := dk_16 8 (dk_at dksX0_distance_2 5 rfl rfl)
theorem dX0_distance_54 : decode cX0_distance 54 = .ok (.invokevirtual 176, 3) := dk_182 0 176 (dk_at dksX0_distance_2 7 rfl rfl)
theorem dX0_distance_57 : decode cX0_distance 57 = .ok (.goto 16, 3) := dk_167 0 16 (dk_at dksX0_distance_2 10 rfl rfl)
theorem dX0_distance_60 : decode cX0_distance 60 = .ok (.aload_n 0, 1) := dk_42 (dk_at dksX0_distance_2 13 rfl rfl)
theorem dX0_distance_61 : decode cX0_distance 61 = .ok (.aload_n 0, 1) := dk_42 (dk_at dksX0_distance_2 14 rfl rfl)
theorem dX0_distance_62 : decode cX0_distance 62 = .ok (.getfield 57, 3) := dk_180 0 57 (dk_at dksX0_distance_2 15 rfl rfl)
theorem dX0_distance_65 : decode cX0_distance 65 = .ok (.getfield 274, 3) := dk_180 1 18 (dk_at dksX0_distance_2 18 rfl rfl)
theorem dX0_distance_68 : decode cX0_distance 68 = .ok (.iload_n 2, 1) := dk_28 (dk_at dksX0_distance_2 21 rfl rfl)
theorem dX0_distance_69 : decode cX0_distance 69 = .ok (.iaload, 1) := dk_46 (dk_at dksX0_distance_2 22 rfl rfl)
theorem dX0_distance_70 : decode cX0_distance 70 = .ok (.invokevirtual 234, 3) := dk_182 0 234 (dk_at dksX0_distance_3 0 rfl rfl)
theorem dX0_distance_73 : decode cX0_distance 73 = .ok (.ireturn, 1) := dk_172 (dk_at dksX0_distance_3 3 rfl rfl)
abbrev cX0_clock : ByteArray := prog_1_method_30_code
def yX0_clock : MethodName := ⟨RX0, "clock", "(IIZ)I"⟩
def dkwX0_clock_6 : List UInt8 := [172]
abbrev dktX0_clock_6 : List UInt8 := dkwX0_clock_6 ++ []
def dkwX0_clock_5 : List UInt8 := [187, 1, 38, 89, 25, 4, 183, 1, 40, 167, 0, 12, 187, 1, 43, 89, 25, 4, 183, 1, 45, 182, 1, 46]
abbrev dktX0_clock_5 : List UInt8 := dkwX0_clock_5 ++ dktX0_clock_6
def dkwX0_clock_4 : List UInt8 := [160, 0, 10, 42, 16, 7, 182, 0, 176, 172, 42, 27, 28, 182, 1, 34, 58, 4, 42, 29, 153, 0, 15]
abbrev dktX0_clock_4 : List UInt8 := dkwX0_clock_4 ++ dktX0_clock_5
def dkwX0_clock_3 : List UInt8 := [27, 28, 9, 20, 1, 28, 182, 1, 30, 154, 0, 9, 42, 8, 182, 0, 176, 172, 42, 180, 0, 206, 16, 12]
abbrev dktX0_clock_3 : List UInt8 := dkwX0_clock_3 ++ dktX0_clock_4
def dkwX0_clock_2 : List UInt8 := [182, 0, 176, 172, 42, 180, 0, 11, 27, 50, 182, 1, 25, 28, 162, 0, 9, 42, 7, 182, 0, 176, 172, 42]
abbrev dktX0_clock_2 : List UInt8 := dkwX0_clock_2 ++ dktX0_clock_3
def dkwX0_clock_1 : List UInt8 := [199, 0, 9, 42, 6, 182, 0, 176, 172, 28, 4, 161, 0, 9, 28, 16, 24, 164, 0, 9, 42, 8]
abbrev dktX0_clock_1 : List UInt8 := dkwX0_clock_1 ++ dktX0_clock_2
def dkwX0_clock_0 : List UInt8 := [27, 184, 0, 159, 154, 0, 9, 42, 4, 182, 0, 176, 172, 42, 180, 0, 11, 27, 50, 180, 0, 186]
abbrev dktX0_clock_0 : List UInt8 := dkwX0_clock_0 ++ dktX0_clock_1
theorem dksX0_clock_0 : cX0_clock.data.toList.drop 0 = dktX0_clock_0 := by decide +kernel
theorem dksX0_clock_1 : cX0_clock.data.toList.drop 22 = dktX0_clock_1 := dk_seg dksX0_clock_0 22 rfl rfl
theorem dksX0_clock_2 : cX0_clock.data.toList.drop 44 = dktX0_clock_2 := dk_seg dksX0_clock_1 22 rfl rfl
theorem dksX0_clock_3 : cX0_clock.data.toList.drop 68 = dktX0_clock_3 := dk_seg dksX0_clock_2 24 rfl rfl
theorem dksX0_clock_4 : cX0_clock.data.toList.drop 92 = dktX0_clock_4 := dk_seg dksX0_clock_3 24 rfl rfl
theorem dksX0_clock_5 : cX0_clock.data.toList.drop 115 = dktX0_clock_5 := dk_seg dksX0_clock_4 23 rfl rfl
theorem dksX0_clock_6 : cX0_clock.data.toList.drop 139 = dktX0_clock_6 := dk_seg dksX0_clock_5 24 rfl rfl
theorem dX0_clock_0 : decode cX0_clock 0 = .ok (.iload_n 1, 1) := dk_27 (dk_at dksX0_clock_0 0 rfl rfl)
theorem dX0_clock_1 : decode cX0_clock 1 = .ok (.invokestatic 159, 3) := dk_184 0 159 (dk_at dksX0_clock_0 1 rfl rfl)
theorem dX0_clock_4 : decode cX0_clock 4 = .ok (.ifCond .ne 9, 3) := dk_154 0 9 (dk_at dksX0_clock_0 4 rfl rfl)
theorem dX0_clock_7 : decode cX0_clock 7 = .ok (.aload_n 0, 1) := dk_42 (dk_at dksX0_clock_0 7 rfl rfl)
theorem dX0_clock_8 : decode cX0_clock 8 = .ok (.iconst 1, 1) := dk_4 (dk_at dksX0_clock_0 8 rfl rfl)
theorem dX0_clock_9 : decode cX0_clock 9 = .ok (.invokevirtual 176, 3) := dk_182 0 176 (dk_at dksX0_clock_0 9 rfl rfl)
theorem dX0_clock_12 : decode cX0_clock 12 = .ok (.ireturn, 1) := dk_172 (dk_at dksX0_clock_0 12 rfl rfl)
theorem dX0_clock_13 : decode cX0_clock 13 = .ok (.aload_n 0, 1) := dk_42 (dk_at dksX0_clock_0 13 rfl rfl)
theorem dX0_clock_14 : decode cX0_clock 14 = .ok (.getfield 11, 3) := dk_180 0 11 (dk_at dksX0_clock_0 14 rfl rfl)
theorem dX0_clock_17 : decode cX0_clock 17 = .ok (.iload_n 1, 1) := dk_27 (dk_at dksX0_clock_0 17 rfl rfl)
theorem dX0_clock_18 : decode cX0_clock 18 = .ok (.aaload, 1) := dk_50 (dk_at dksX0_clock_0 18 rfl rfl)
theorem dX0_clock_19 : decode cX0_clock 19 = .ok (.getfield 186, 3) := dk_180 0 186 (dk_at dksX0_clock_0 19 rfl rfl)
theorem dX0_clock_22 : decode cX0_clock 22 = .ok (.ifnonnull 9, 3) := dk_199 0 9 (dk_at dksX0_clock_1 0 rfl rfl)
theorem dX0_clock_25 : decode cX0_clock 25 = .ok (.aload_n 0, 1) := dk_42 (dk_at dksX0_clock_1 3 rfl rfl)
theorem dX0_clock_26 : decode cX0_clock 26 = .ok (.iconst 3, 1) := dk_6 (dk_at dksX0_clock_1 4 rfl rfl)
theorem dX0_clock_27 : decode cX0_clock 27 = .ok (.invokevirtual 176, 3) := dk_182 0 176 (dk_at dksX0_clock_1 5 rfl rfl)
theorem dX0_clock_30 : decode cX0_clock 30 = .ok (.ireturn, 1) := dk_172 (dk_at dksX0_clock_1 8 rfl rfl)
theorem dX0_clock_31 : decode cX0_clock 31 = .ok (.iload_n 2, 1) := dk_28 (dk_at dksX0_clock_1 9 rfl rfl)
theorem dX0_clock_32 : decode cX0_clock 32 = .ok (.iconst 1, 1) := dk_4 (dk_at dksX0_clock_1 10 rfl rfl)
theorem dX0_clock_33 : decode cX0_clock 33 = .ok (.if_icmp .lt 9, 3) := dk_161 0 9 (dk_at dksX0_clock_1 11 rfl rfl)
theorem dX0_clock_36 : decode cX0_clock 36 = .ok (.iload_n 2, 1) := dk_28 (dk_at dksX0_clock_1 14 rfl rfl)
theorem dX0_clock_37 : decode cX0_clock 37 = .ok (.bipush 24, 2) := dk_16 24 (dk_at dksX0_clock_1 15 rfl rfl)
theorem dX0_clock_39 : decode cX0_clock 39 = .ok (.if_icmp .le 9, 3) := dk_164 0 9 (dk_at dksX0_clock_1 17 rfl rfl)
theorem dX0_clock_42 : decode cX0_clock 42 = .ok (.aload_n 0, 1) := dk_42 (dk_at dksX0_clock_1 20 rfl rfl)
theorem dX0_clock_43 : decode cX0_clock 43 = .ok (.iconst 5, 1) := dk_8 (dk_at dksX0_clock_1 21 rfl rfl)
theorem dX0_clock_44 : decode cX0_clock 44 = .ok (.invokevirtual 176, 3) := dk_182 0 176 (dk_at dksX0_clock_2 0 rfl rfl)
theorem dX0_clock_47 : decode cX0_clock 47 = .ok (.ireturn, 1) := dk_172 (dk_at dksX0_clock_2 3 rfl rfl)
theorem dX0_clock_48 : decode cX0_clock 48 = .ok (.aload_n 0, 1) := dk_42 (dk_at dksX0_clock_2 4 rfl rfl)
theorem dX0_clock_49 : decode cX0_clock 49 = .ok (.getfield 11, 3) := dk_180 0 11 (dk_at dksX0_clock_2 5 rfl rfl)
theorem dX0_clock_52 : decode cX0_clock 52 = .ok (.iload_n 1, 1) := dk_27 (dk_at dksX0_clock_2 8 rfl rfl)
theorem dX0_clock_53 : decode cX0_clock 53 = .ok (.aaload, 1) := dk_50 (dk_at dksX0_clock_2 9 rfl rfl)
theorem dX0_clock_54 : decode cX0_clock 54 = .ok (.invokevirtual 281, 3) := dk_182 1 25 (dk_at dksX0_clock_2 10 rfl rfl)
theorem dX0_clock_57 : decode cX0_clock 57 = .ok (.iload_n 2, 1) := dk_28 (dk_at dksX0_clock_2 13 rfl rfl)
theorem dX0_clock_58 : decode cX0_clock 58 = .ok (.if_icmp .ge 9, 3) := dk_162 0 9 (dk_at dksX0_clock_2 14 rfl rfl)
theorem dX0_clock_61 : decode cX0_clock 61 = .ok (.aload_n 0, 1) := dk_42 (dk_at dksX0_clock_2 17 rfl rfl)
theorem dX0_clock_62 : decode cX0_clock 62 = .ok (.iconst 4, 1) := dk_7 (dk_at dksX0_clock_2 18 rfl rfl)
theorem dX0_clock_63 : decode cX0_clock 63 = .ok (.invokevirtual 176, 3) := dk_182 0 176 (dk_at dksX0_clock_2 19 rfl rfl)
theorem dX0_clock_66 : decode cX0_clock 66 = .ok (.ireturn, 1) := dk_172 (dk_at dksX0_clock_2 22 rfl rfl)
theorem dX0_clock_67 : decode cX0_clock 67 = .ok (.aload_n 0, 1) := dk_42 (dk_at dksX0_clock_2 23 rfl rfl)
theorem dX0_clock_68 : decode cX0_clock 68 = .ok (.iload_n 1, 1) := dk_27 (dk_at dksX0_clock_3 0 rfl rfl)
theorem dX0_clock_69 : decode cX0_clock 69 = .ok (.iload_n 2, 1) := dk_28 (dk_at dksX0_clock_3 1 rfl rfl)
theorem dX0_clock_70 : decode cX0_clock 70 = .ok (.lconst 0, 1) := dk_9 (dk_at dksX0_clock_3 2 rfl rfl)
theorem dX0_clock_71 : decode cX0_clock 71 = .ok (.ldc2_w 284, 3) := dk_20 1 28 (dk_at dksX0_clock_3 3 rfl rfl)
theorem dX0_clock_74 : decode cX0_clock 74 = .ok (.invokevirtual 286, 3) := dk_182 1 30 (dk_at dksX0_clock_3 6 rfl rfl)
theorem dX0_clock_77 : decode cX0_clock 77 = .ok (.ifCond .ne 9, 3) := dk_154 0 9 (dk_at dksX0_clock_3 9 rfl rfl)
theorem dX0_clock_80 : decode cX0_clock 80 = .ok (.aload_n 0, 1) := dk_42 (dk_at dksX0_clock_3 12 rfl rfl)
theorem dX0_clock_81 : decode cX0_clock 81 = .ok (.iconst 5, 1) := dk_8 (dk_at dksX0_clock_3 13 rfl rfl)
theorem dX0_clock_82 : decode cX0_clock 82 = .ok (.invokevirtual 176, 3) := dk_182 0 176 (dk_at dksX0_clock_3 14 rfl rfl)
theorem dX0_clock_85 : decode cX0_clock 85 = .ok (.ireturn, 1) := dk_172 (dk_at dksX0_clock_3 17 rfl rfl)
theorem dX0_clock_86 : decode cX0_clock 86 = .ok (.aload_n 0, 1) := dk_42 (dk_at dksX0_clock_3 18 rfl rfl)
theorem dX0_clock_87 : decode cX0_clock 87 = .ok (.getfield 206, 3) := dk_180 0 206 (dk_at dksX0_clock_3 19 rfl rfl)
theorem dX0_clock_90 : decode cX0_clock 90 = .ok (.bipush 12, 2) := dk_16 12 (dk_at dksX0_clock_3 22 rfl rfl)
theorem dX0_clock_92 : decode cX0_clock 92 = .ok (.if_icmp .ne 10, 3) := dk_160 0 10 (dk_at dksX0_clock_4 0 rfl rfl)
theorem dX0_clock_95 : decode cX0_clock 95 = .ok (.aload_n 0, 1) := dk_42 (dk_at dksX0_clock_4 3 rfl rfl)
theorem dX0_clock_96 : decode cX0_clock 96 = .ok (.bipush 7, 2) := dk_16 7 (dk_at dksX0_clock_4 4 rfl rfl)
theorem dX0_clock_98 : decode cX0_clock 98 = .ok (.invokevirtual 176, 3) := dk_182 0 176 (dk_at dksX0_clock_4 6 rfl rfl)
theorem dX0_clock_101 : decode cX0_clock 101 = .ok (.ireturn, 1) := dk_172 (dk_at dksX0_clock_4 9 rfl rfl)
theorem dX0_clock_102 : decode cX0_clock 102 = .ok (.aload_n 0, 1) := dk_42 (dk_at dksX0_clock_4 10 rfl rfl)
theorem dX0_clock_103 : decode cX0_clock 103 = .ok (.iload_n 1, 1) := dk_27 (dk_at dksX0_clock_4 11 rfl rfl)
theorem dX0_clock_104 : decode cX0_clock 104 = .ok (.iload_n 2, 1) := dk_28 (dk_at dksX0_clock_4 12 rfl rfl)
theorem dX0_clock_105 : decode cX0_clock 105 = .ok (.invokevirtual 290, 3) := dk_182 1 34 (dk_at dksX0_clock_4 13 rfl rfl)
theorem dX0_clock_108 : decode cX0_clock 108 = .ok (.astore 4, 2) := dk_58 4 (dk_at dksX0_clock_4 16 rfl rfl)
theorem dX0_clock_110 : decode cX0_clock 110 = .ok (.aload_n 0, 1) := dk_42 (dk_at dksX0_clock_4 18 rfl rfl)
theorem dX0_clock_111 : decode cX0_clock 111 = .ok (.iload_n 3, 1) := dk_29 (dk_at dksX0_clock_4 19 rfl rfl)
theorem dX0_clock_112 : decode cX0_clock 112 = .ok (.ifCond .eq 15, 3) := dk_153 0 15 (dk_at dksX0_clock_4 20 rfl rfl)
theorem dX0_clock_115 : decode cX0_clock 115 = .ok (.new 294, 3) := dk_187 1 38 (dk_at dksX0_clock_5 0 rfl rfl)
theorem dX0_clock_118 : decode cX0_clock 118 = .ok (.dup, 1) := dk_89 (dk_at dksX0_clock_5 3 rfl rfl)
theorem dX0_clock_119 : decode cX0_clock 119 = .ok (.aload 4, 2) := dk_25 4 (dk_at dksX0_clock_5 4 rfl rfl)
theorem dX0_clock_121 : decode cX0_clock 121 = .ok (.invokespecial 296, 3) := dk_183 1 40 (dk_at dksX0_clock_5 6 rfl rfl)
theorem dX0_clock_124 : decode cX0_clock 124 = .ok (.goto 12, 3) := dk_167 0 12 (dk_at dksX0_clock_5 9 rfl rfl)
theorem dX0_clock_127 : decode cX0_clock 127 = .ok (.new 299, 3) := dk_187 1 43 (dk_at dksX0_clock_5 12 rfl rfl)
theorem dX0_clock_130 : decode cX0_clock 130 = .ok (.dup, 1) := dk_89 (dk_at dksX0_clock_5 15 rfl rfl)
theorem dX0_clock_131 : decode cX0_clock 131 = .ok (.aload 4, 2) := dk_25 4 (dk_at dksX0_clock_5 16 rfl rfl)
theorem dX0_clock_133 : decode cX0_clock 133 = .ok (.invokespecial 301, 3) := dk_183 1 45 (dk_at dksX0_clock_5 18 rfl rfl)
theorem dX0_clock_136 : decode cX0_clock 136 = .ok (.invokevirtual 302, 3) := dk_182 1 46 (dk_at dksX0_clock_5 21 rfl rfl)
theorem dX0_clock_139 : decode cX0_clock 139 = .ok (.ireturn, 1) := dk_172 (dk_at dksX0_clock_6 0 rfl rfl)
abbrev cX0_areFrom : ByteArray := prog_1_method_27_code
def yX0_areFrom : MethodName := ⟨RX0, "areFrom", "(IIJJ)Z"⟩
def dkwX0_areFrom_1 : List UInt8 := [184, 1, 21, 154, 0, 5, 3, 172, 132, 7, 1, 167, 255, 225, 4, 172]
abbrev dktX0_areFrom_1 : List UInt8 := dkwX0_areFrom_1 ++ []
def dkwX0_areFrom_0 : List UInt8 := [3, 54, 7, 21, 7, 28, 162, 0, 31, 42, 180, 0, 11, 27, 50, 21, 7, 182, 0, 180, 33, 22, 5]
abbrev dktX0_areFrom_0 : List UInt8 := dkwX0_areFrom_0 ++ dktX0_areFrom_1
theorem dksX0_areFrom_0 : cX0_areFrom.data.toList.drop 0 = dktX0_areFrom_0 := by decide +kernel
theorem dksX0_areFrom_1 : cX0_areFrom.data.toList.drop 23 = dktX0_areFrom_1 := dk_seg dksX0_areFrom_0 23 rfl rfl
theorem dX0_areFrom_0 : decode cX0_areFrom 0 = .ok (.iconst 0, 1) := dk_3 (dk_at dksX0_areFrom_0 0 rfl rfl)
theorem dX0_areFrom_1 : decode cX0_areFrom 1 = .ok (.istore 7, 2) := dk_54 7 (dk_at dksX0_areFrom_0 1 rfl rfl)
theorem dX0_areFrom_3 : decode cX0_areFrom 3 = .ok (.iload 7, 2) := dk_21 7 (dk_at dksX0_areFrom_0 3 rfl rfl)
theorem dX0_areFrom_5 : decode cX0_areFrom 5 = .ok (.iload_n 2, 1) := dk_28 (dk_at dksX0_areFrom_0 5 rfl rfl)
theorem dX0_areFrom_6 : decode cX0_areFrom 6 = .ok (.if_icmp .ge 31, 3) := dk_162 0 31 (dk_at dksX0_areFrom_0 6 rfl rfl)
theorem dX0_areFrom_9 : decode cX0_areFrom 9 = .ok (.aload_n 0, 1) := dk_42 (dk_at dksX0_areFrom_0 9 rfl rfl)
theorem dX0_areFrom_10 : decode cX0_areFrom 10 = .ok (.getfield 11, 3) := dk_180 0 11 (dk_at dksX0_areFrom_0 10 rfl rfl)
theorem dX0_areFrom_13 : decode cX0_areFrom 13 = .ok (.iload_n 1, 1) := dk_27 (dk_at dksX0_areFrom_0 13 rfl rfl)
theorem dX0_areFrom_14 : decode cX0_areFrom 14 = .ok (.aaload, 1) := dk_50 (dk_at dksX0_areFrom_0 14 rfl rfl)
theorem dX0_areFrom_15 : decode cX0_areFrom 15 = .ok (.iload 7, 2) := dk_21 7 (dk_at dksX0_areFrom_0 15 rfl rfl)
theorem dX0_areFrom_17 : decode cX0_areFrom 17 = .ok (.invokevirtual 180, 3) := dk_182 0 180 (dk_at dksX0_areFrom_0 17 rfl rfl)
theorem dX0_areFrom_20 : decode cX0_areFrom 20 = .ok (.lload_n 3, 1) := dk_33 (dk_at dksX0_areFrom_0 20 rfl rfl)
theorem dX0_areFrom_21 : decode cX0_areFrom 21 = .ok (.lload 5, 2) := dk_22 5 (dk_at dksX0_areFrom_0 21 rfl rfl)
theorem dX0_areFrom_23 : decode cX0_areFrom 23 = .ok (.invokestatic 277, 3) := dk_184 1 21 (dk_at dksX0_areFrom_1 0 rfl rfl)
theorem dX0_areFrom_26 : decode cX0_areFrom 26 = .ok (.ifCond .ne 5, 3) := dk_154 0 5 (dk_at dksX0_areFrom_1 3 rfl rfl)
theorem dX0_areFrom_29 : decode cX0_areFrom 29 = .ok (.iconst 0, 1) := dk_3 (dk_at dksX0_areFrom_1 6 rfl rfl)
theorem dX0_areFrom_30 : decode cX0_areFrom 30 = .ok (.ireturn, 1) := dk_172 (dk_at dksX0_areFrom_1 7 rfl rfl)
theorem dX0_areFrom_31 : decode cX0_areFrom 31 = .ok (.iinc 7 1, 3) := dk_132 7 1 (dk_at dksX0_areFrom_1 8 rfl rfl)
theorem dX0_areFrom_34 : decode cX0_areFrom 34 = .ok (.goto (-31), 3) := dk_167 255 225 (dk_at dksX0_areFrom_1 11 rfl rfl)
theorem dX0_areFrom_37 : decode cX0_areFrom 37 = .ok (.iconst 1, 1) := dk_4 (dk_at dksX0_areFrom_1 14 rfl rfl)
theorem dX0_areFrom_38 : decode cX0_areFrom 38 = .ok (.ireturn, 1) := dk_172 (dk_at dksX0_areFrom_1 15 rfl rfl)
abbrev cX0_isFrom : ByteArray := prog_1_method_14_code
def yX0_isFrom : MethodName := ⟨RX0, "isFrom", "(JJJ)Z"⟩
def dkwX0_isFrom_0 : List UInt8 := [30, 32, 148, 155, 0, 14, 30, 22, 4, 148, 157, 0, 7, 4, 167, 0, 4, 3, 172]
abbrev dktX0_isFrom_0 : List UInt8 := dkwX0_isFrom_0 ++ []
theorem dksX0_isFrom_0 : cX0_isFrom.data.toList.drop 0 = dktX0_isFrom_0 := by decide +kernel
theorem dX0_isFrom_0 : decode cX0_isFrom 0 = .ok (.lload_n 0, 1) := dk_30 (dk_at dksX0_isFrom_0 0 rfl rfl)
theorem dX0_isFrom_1 : decode cX0_isFrom 1 = .ok (.lload_n 2, 1) := dk_32 (dk_at dksX0_isFrom_0 1 rfl rfl)
theorem dX0_isFrom_2 : decode cX0_isFrom 2 = .ok (.lcmp, 1) := dk_148 (dk_at dksX0_isFrom_0 2 rfl rfl)
theorem dX0_isFrom_3 : decode cX0_isFrom 3 = .ok (.ifCond .lt 14, 3) := dk_155 0 14 (dk_at dksX0_isFrom_0 3 rfl rfl)
theorem dX0_isFrom_6 : decode cX0_isFrom 6 = .ok (.lload_n 0, 1) := dk_30 (dk_at dksX0_isFrom_0 6 rfl rfl)
theorem dX0_isFrom_7 : decode cX0_isFrom 7 = .ok (.lload 4, 2) := dk_22 4 (dk_at dksX0_isFrom_0 7 rfl rfl)
theorem dX0_isFrom_9 : decode cX0_isFrom 9 = .ok (.lcmp, 1) := dk_148 (dk_at dksX0_isFrom_0 9 rfl rfl)
theorem dX0_isFrom_10 : decode cX0_isFrom 10 = .ok (.ifCond .gt 7, 3) := dk_157 0 7 (dk_at dksX0_isFrom_0 10 rfl rfl)
theorem dX0_isFrom_13 : decode cX0_isFrom 13 = .ok (.iconst 1, 1) := dk_4 (dk_at dksX0_isFrom_0 13 rfl rfl)
theorem dX0_isFrom_14 : decode cX0_isFrom 14 = .ok (.goto 4, 3) := dk_167 0 4 (dk_at dksX0_isFrom_0 14 rfl rfl)
theorem dX0_isFrom_17 : decode cX0_isFrom 17 = .ok (.iconst 0, 1) := dk_3 (dk_at dksX0_isFrom_0 17 rfl rfl)
theorem dX0_isFrom_18 : decode cX0_isFrom 18 = .ok (.ireturn, 1) := dk_172 (dk_at dksX0_isFrom_0 18 rfl rfl)
abbrev cX0_rowOf : ByteArray := prog_1_method_28_code
def yX0_rowOf : MethodName := ⟨RX0, "rowOf", "(II)[I"⟩
def dkwX0_rowOf_1 : List UInt8 := [182, 0, 180, 136, 79, 132, 4, 1, 167, 255, 231, 45, 176]
abbrev dktX0_rowOf_1 : List UInt8 := dkwX0_rowOf_1 ++ []
def dkwX0_rowOf_0 : List UInt8 := [28, 188, 10, 78, 3, 54, 4, 21, 4, 28, 162, 0, 25, 45, 21, 4, 42, 180, 0, 11, 27, 50, 21, 4]
abbrev dktX0_rowOf_0 : List UInt8 := dkwX0_rowOf_0 ++ dktX0_rowOf_1
theorem dksX0_rowOf_0 : cX0_rowOf.data.toList.drop 0 = dktX0_rowOf_0 := by decide +kernel
theorem dksX0_rowOf_1 : cX0_rowOf.data.toList.drop 24 = dktX0_rowOf_1 := dk_seg dksX0_rowOf_0 24 rfl rfl
theorem dX0_rowOf_0 : decode cX0_rowOf 0 = .ok (.iload_n 2, 1) := dk_28 (dk_at dksX0_rowOf_0 0 rfl rfl)
theorem dX0_rowOf_1 : decode cX0_rowOf 1 = .ok (.newarray .int, 2) := dk_188_10 (dk_at dksX0_rowOf_0 1 rfl rfl)
theorem dX0_rowOf_3 : decode cX0_rowOf 3 = .ok (.astore_n 3, 1) := dk_78 (dk_at dksX0_rowOf_0 3 rfl rfl)
theorem dX0_rowOf_4 : decode cX0_rowOf 4 = .ok (.iconst 0, 1) := dk_3 (dk_at dksX0_rowOf_0 4 rfl rfl)
theorem dX0_rowOf_5 : decode cX0_rowOf 5 = .ok (.istore 4, 2) := dk_54 4 (dk_at dksX0_rowOf_0 5 rfl rfl)
theorem dX0_rowOf_7 : decode cX0_rowOf 7 = .ok (.iload 4, 2) := dk_21 4 (dk_at dksX0_rowOf_0 7 rfl rfl)
theorem dX0_rowOf_9 : decode cX0_rowOf 9 = .ok (.iload_n 2, 1) := dk_28 (dk_at dksX0_rowOf_0 9 rfl rfl)
theorem dX0_rowOf_10 : decode cX0_rowOf 10 = .ok (.if_icmp .ge 25, 3) := dk_162 0 25 (dk_at dksX0_rowOf_0 10 rfl rfl)
theorem dX0_rowOf_13 : decode cX0_rowOf 13 = .ok (.aload_n 3, 1) := dk_45 (dk_at dksX0_rowOf_0 13 rfl rfl)
theorem dX0_rowOf_14 : decode cX0_rowOf 14 = .ok (.iload 4, 2) := dk_21 4 (dk_at dksX0_rowOf_0 14 rfl rfl)
theorem dX0_rowOf_16 : decode cX0_rowOf 16 = .ok (.aload_n 0, 1) := dk_42 (dk_at dksX0_rowOf_0 16 rfl rfl)
theorem dX0_rowOf_17 : decode cX0_rowOf 17 = .ok (.getfield 11, 3) := dk_180 0 11 (dk_at dksX0_rowOf_0 17 rfl rfl)
theorem dX0_rowOf_20 : decode cX0_rowOf 20 = .ok (.iload_n 1, 1) := dk_27 (dk_at dksX0_rowOf_0 20 rfl rfl)
theorem dX0_rowOf_21 : decode cX0_rowOf 21 = .ok (.aaload, 1) := dk_50 (dk_at dksX0_rowOf_0 21 rfl rfl)
theorem dX0_rowOf_22 : decode cX0_rowOf 22 = .ok (.iload 4, 2) := dk_21 4 (dk_at dksX0_rowOf_0 22 rfl rfl)
theorem dX0_rowOf_24 : decode cX0_rowOf 24 = .ok (.invokevirtual 180, 3) := dk_182 0 180 (dk_at dksX0_rowOf_1 0 rfl rfl)
theorem dX0_rowOf_27 : decode cX0_rowOf 27 = .ok (.l2i, 1) := dk_136 (dk_at dksX0_rowOf_1 3 rfl rfl)
theorem dX0_rowOf_28 : decode cX0_rowOf 28 = .ok (.iastore, 1) := dk_79 (dk_at dksX0_rowOf_1 4 rfl rfl)
theorem dX0_rowOf_29 : decode cX0_rowOf 29 = .ok (.iinc 4 1, 3) := dk_132 4 1 (dk_at dksX0_rowOf_1 5 rfl rfl)
theorem dX0_rowOf_32 : decode cX0_rowOf 32 = .ok (.goto (-25), 3) := dk_167 255 231 (dk_at dksX0_rowOf_1 8 rfl rfl)
theorem dX0_rowOf_35 : decode cX0_rowOf 35 = .ok (.aload_n 3, 1) := dk_45 (dk_at dksX0_rowOf_1 11 rfl rfl)
theorem dX0_rowOf_36 : decode cX0_rowOf 36 = .ok (.areturn, 1) := dk_176 (dk_at dksX0_rowOf_1 12 rfl rfl)
abbrev cX0_adds : ByteArray := prog_1_method_29_code
def yX0_adds : MethodName := ⟨RX0, "adds", "(LTwoSeek$Way;)I"⟩
def dkwX0_adds_1 : List UInt8 := [180, 0, 206, 4, 100, 182, 0, 234, 172]
abbrev dktX0_adds_1 : List UInt8 := dkwX0_adds_1 ++ []
def dkwX0_adds_0 : List UInt8 := [42, 180, 0, 33, 42, 180, 0, 206, 43, 83, 42, 89, 180, 0, 206, 4, 96, 181, 0, 206, 42, 42]
abbrev dktX0_adds_0 : List UInt8 := dkwX0_adds_0 ++ dktX0_adds_1
theorem dksX0_adds_0 : cX0_adds.data.toList.drop 0 = dktX0_adds_0 := by decide +kernel
theorem dksX0_adds_1 : cX0_adds.data.toList.drop 22 = dktX0_adds_1 := dk_seg dksX0_adds_0 22 rfl rfl
theorem dX0_adds_0 : decode cX0_adds 0 = .ok (.aload_n 0, 1) := dk_42 (dk_at dksX0_adds_0 0 rfl rfl)
theorem dX0_adds_1 : decode cX0_adds 1 = .ok (.getfield 33, 3) := dk_180 0 33 (dk_at dksX0_adds_0 1 rfl rfl)
theorem dX0_adds_4 : decode cX0_adds 4 = .ok (.aload_n 0, 1) := dk_42 (dk_at dksX0_adds_0 4 rfl rfl)
theorem dX0_adds_5 : decode cX0_adds 5 = .ok (.getfield 206, 3) := dk_180 0 206 (dk_at dksX0_adds_0 5 rfl rfl)
theorem dX0_adds_8 : decode cX0_adds 8 = .ok (.aload_n 1, 1) := dk_43 (dk_at dksX0_adds_0 8 rfl rfl)
theorem dX0_adds_9 : decode cX0_adds 9 = .ok (.aastore, 1) := dk_83 (dk_at dksX0_adds_0 9 rfl rfl)
theorem dX0_adds_10 : decode cX0_adds 10 = .ok (.aload_n 0, 1) := dk_42 (dk_at dksX0_adds_0 10 rfl rfl)
theorem dX0_adds_11 : decode cX0_adds 11 = .ok (.dup, 1) := dk_89 (dk_at dksX0_adds_0 11 rfl rfl)
theorem dX0_adds_12 : decode cX0_adds 12 = .ok (.getfield 206, 3) := dk_180 0 206 (dk_at dksX0_adds_0 12 rfl rfl)
theorem dX0_adds_15 : decode cX0_adds 15 = .ok (.iconst 1, 1) := dk_4 (dk_at dksX0_adds_0 15 rfl rfl)
theorem dX0_adds_16 : decode cX0_adds 16 = .ok (.iadd, 1) := dk_96 (dk_at dksX0_adds_0 16 rfl rfl)
theorem dX0_adds_17 : decode cX0_adds 17 = .ok (.putfield 206, 3) := dk_181 0 206 (dk_at dksX0_adds_0 17 rfl rfl)
theorem dX0_adds_20 : decode cX0_adds 20 = .ok (.aload_n 0, 1) := dk_42 (dk_at dksX0_adds_0 20 rfl rfl)
theorem dX0_adds_21 : decode cX0_adds 21 = .ok (.aload_n 0, 1) := dk_42 (dk_at dksX0_adds_0 21 rfl rfl)
theorem dX0_adds_22 : decode cX0_adds 22 = .ok (.getfield 206, 3) := dk_180 0 206 (dk_at dksX0_adds_1 0 rfl rfl)
theorem dX0_adds_25 : decode cX0_adds 25 = .ok (.iconst 1, 1) := dk_4 (dk_at dksX0_adds_1 3 rfl rfl)
theorem dX0_adds_26 : decode cX0_adds 26 = .ok (.isub, 1) := dk_100 (dk_at dksX0_adds_1 4 rfl rfl)
theorem dX0_adds_27 : decode cX0_adds 27 = .ok (.invokevirtual 234, 3) := dk_182 0 234 (dk_at dksX0_adds_1 5 rfl rfl)
theorem dX0_adds_30 : decode cX0_adds 30 = .ok (.ireturn, 1) := dk_172 (dk_at dksX0_adds_1 8 rfl rfl)
abbrev cX0_sight : ByteArray := prog_1_method_31_code
def yX0_sight : MethodName := ⟨RX0, "sight", "(I)I"⟩
def dkwX0_sight_4 : List UInt8 := [42, 27, 16, 18, 182, 1, 34, 183, 1, 54, 182, 1, 46, 172]
abbrev dktX0_sight_4 : List UInt8 := dkwX0_sight_4 ++ []
def dkwX0_sight_3 : List UInt8 := [172, 42, 180, 0, 206, 16, 12, 160, 0, 12, 42, 16, 7, 182, 0, 176, 167, 0, 21, 42, 187, 1, 52, 89]
abbrev dktX0_sight_3 : List UInt8 := dkwX0_sight_3 ++ dktX0_sight_4
def dkwX0_sight_2 : List UInt8 := [7, 182, 0, 176, 172, 42, 27, 16, 18, 9, 20, 1, 50, 182, 1, 30, 154, 0, 9, 42, 8, 182, 0, 176]
abbrev dktX0_sight_2 : List UInt8 := dkwX0_sight_2 ++ dktX0_sight_3
def dkwX0_sight_1 : List UInt8 := [199, 0, 9, 42, 6, 182, 0, 176, 172, 42, 180, 0, 11, 27, 50, 182, 1, 25, 16, 18, 162, 0, 9, 42]
abbrev dktX0_sight_1 : List UInt8 := dkwX0_sight_1 ++ dktX0_sight_2
def dkwX0_sight_0 : List UInt8 := [27, 184, 0, 159, 154, 0, 9, 42, 4, 182, 0, 176, 172, 42, 180, 0, 11, 27, 50, 180, 0, 186]
abbrev dktX0_sight_0 : List UInt8 := dkwX0_sight_0 ++ dktX0_sight_1
theorem dksX0_sight_0 : cX0_sight.data.toList.drop 0 = dktX0_sight_0 := by decide +kernel
theorem dksX0_sight_1 : cX0_sight.data.toList.drop 22 = dktX0_sight_1 := dk_seg dksX0_sight_0 22 rfl rfl
theorem dksX0_sight_2 : cX0_sight.data.toList.drop 46 = dktX0_sight_2 := dk_seg dksX0_sight_1 24 rfl rfl
theorem dksX0_sight_3 : cX0_sight.data.toList.drop 70 = dktX0_sight_3 := dk_seg dksX0_sight_2 24 rfl rfl
theorem dksX0_sight_4 : cX0_sight.data.toList.drop 94 = dktX0_sight_4 := dk_seg dksX0_sight_3 24 rfl rfl
theorem dX0_sight_0 : decode cX0_sight 0 = .ok (.iload_n 1, 1) := dk_27 (dk_at dksX0_sight_0 0 rfl rfl)
theorem dX0_sight_1 : decode cX0_sight 1 = .ok (.invokestatic 159, 3) := dk_184 0 159 (dk_at dksX0_sight_0 1 rfl rfl)
theorem dX0_sight_4 : decode cX0_sight 4 = .ok (.ifCond .ne 9, 3) := dk_154 0 9 (dk_at dksX0_sight_0 4 rfl rfl)
theorem dX0_sight_7 : decode cX0_sight 7 = .ok (.aload_n 0, 1) := dk_42 (dk_at dksX0_sight_0 7 rfl rfl)
theorem dX0_sight_8 : decode cX0_sight 8 = .ok (.iconst 1, 1) := dk_4 (dk_at dksX0_sight_0 8 rfl rfl)
theorem dX0_sight_9 : decode cX0_sight 9 = .ok (.invokevirtual 176, 3) := dk_182 0 176 (dk_at dksX0_sight_0 9 rfl rfl)
theorem dX0_sight_12 : decode cX0_sight 12 = .ok (.ireturn, 1) := dk_172 (dk_at dksX0_sight_0 12 rfl rfl)
theorem dX0_sight_13 : decode cX0_sight 13 = .ok (.aload_n 0, 1) := dk_42 (dk_at dksX0_sight_0 13 rfl rfl)
theorem dX0_sight_14 : decode cX0_sight 14 = .ok (.getfield 11, 3) := dk_180 0 11 (dk_at dksX0_sight_0 14 rfl rfl)
theorem dX0_sight_17 : decode cX0_sight 17 = .ok (.iload_n 1, 1) := dk_27 (dk_at dksX0_sight_0 17 rfl rfl)
theorem dX0_sight_18 : decode cX0_sight 18 = .ok (.aaload, 1) := dk_50 (dk_at dksX0_sight_0 18 rfl rfl)
theorem dX0_sight_19 : decode cX0_sight 19 = .ok (.getfield 186, 3) := dk_180 0 186 (dk_at dksX0_sight_0 19 rfl rfl)
theorem dX0_sight_22 : decode cX0_sight 22 = .ok (.ifnonnull 9, 3) := dk_199 0 9 (dk_at dksX0_sight_1 0 rfl rfl)
theorem dX0_sight_25 : decode cX0_sight 25 = .ok (.aload_n 0, 1) := dk_42 (dk_at dksX0_sight_1 3 rfl rfl)
theorem dX0_sight_26 : decode cX0_sight 26 = .ok (.iconst 3, 1) := dk_6 (dk_at dksX0_sight_1 4 rfl rfl)
theorem dX0_sight_27 : decode cX0_sight 27 = .ok (.invokevirtual 176, 3) := dk_182 0 176 (dk_at dksX0_sight_1 5 rfl rfl)
theorem dX0_sight_30 : decode cX0_sight 30 = .ok (.ireturn, 1) := dk_172 (dk_at dksX0_sight_1 8 rfl rfl)
theorem dX0_sight_31 : decode cX0_sight 31 = .ok (.aload_n 0, 1) := dk_42 (dk_at dksX0_sight_1 9 rfl rfl)
theorem dX0_sight_32 : decode cX0_sight 32 = .ok (.getfield 11, 3) := dk_180 0 11 (dk_at dksX0_sight_1 10 rfl rfl)
theorem dX0_sight_35 : decode cX0_sight 35 = .ok (.iload_n 1, 1) := dk_27 (dk_at dksX0_sight_1 13 rfl rfl)
theorem dX0_sight_36 : decode cX0_sight 36 = .ok (.aaload, 1) := dk_50 (dk_at dksX0_sight_1 14 rfl rfl)
theorem dX0_sight_37 : decode cX0_sight 37 = .ok (.invokevirtual 281, 3) := dk_182 1 25 (dk_at dksX0_sight_1 15 rfl rfl)
theorem dX0_sight_40 : decode cX0_sight 40 = .ok (.bipush 18, 2) := dk_16 18 (dk_at dksX0_sight_1 18 rfl rfl)
theorem dX0_sight_42 : decode cX0_sight 42 = .ok (.if_icmp .ge 9, 3) := dk_162 0 9 (dk_at dksX0_sight_1 20 rfl rfl)
theorem dX0_sight_45 : decode cX0_sight 45 = .ok (.aload_n 0, 1) := dk_42 (dk_at dksX0_sight_1 23 rfl rfl)
theorem dX0_sight_46 : decode cX0_sight 46 = .ok (.iconst 4, 1) := dk_7 (dk_at dksX0_sight_2 0 rfl rfl)
theorem dX0_sight_47 : decode cX0_sight 47 = .ok (.invokevirtual 176, 3) := dk_182 0 176 (dk_at dksX0_sight_2 1 rfl rfl)
theorem dX0_sight_50 : decode cX0_sight 50 = .ok (.ireturn, 1) := dk_172 (dk_at dksX0_sight_2 4 rfl rfl)
theorem dX0_sight_51 : decode cX0_sight 51 = .ok (.aload_n 0, 1) := dk_42 (dk_at dksX0_sight_2 5 rfl rfl)
theorem dX0_sight_52 : decode cX0_sight 52 = .ok (.iload_n 1, 1) := dk_27 (dk_at dksX0_sight_2 6 rfl rfl)
theorem dX0_sight_53 : decode cX0_sight 53 = .ok (.bipush 18, 2) := dk_16 18 (dk_at dksX0_sight_2 7 rfl rfl)
theorem dX0_sight_55 : decode cX0_sight 55 = .ok (.lconst 0, 1) := dk_9 (dk_at dksX0_sight_2 9 rfl rfl)
theorem dX0_sight_56 : decode cX0_sight 56 = .ok (.ldc2_w 306, 3) := dk_20 1 50 (dk_at dksX0_sight_2 10 rfl rfl)
theorem dX0_sight_59 : decode cX0_sight 59 = .ok (.invokevirtual 286, 3) := dk_182 1 30 (dk_at dksX0_sight_2 13 rfl rfl)
theorem dX0_sight_62 : decode cX0_sight 62 = .ok (.ifCond .ne 9, 3) := dk_154 0 9 (dk_at dksX0_sight_2 16 rfl rfl)
theorem dX0_sight_65 : decode cX0_sight 65 = .ok (.aload_n 0, 1) := dk_42 (dk_at dksX0_sight_2 19 rfl rfl)
theorem dX0_sight_66 : decode cX0_sight 66 = .ok (.iconst 5, 1) := dk_8 (dk_at dksX0_sight_2 20 rfl rfl)
theorem dX0_sight_67 : decode cX0_sight 67 = .ok (.invokevirtual 176, 3) := dk_182 0 176 (dk_at dksX0_sight_2 21 rfl rfl)
theorem dX0_sight_70 : decode cX0_sight 70 = .ok (.ireturn, 1) := dk_172 (dk_at dksX0_sight_3 0 rfl rfl)
theorem dX0_sight_71 : decode cX0_sight 71 = .ok (.aload_n 0, 1) := dk_42 (dk_at dksX0_sight_3 1 rfl rfl)
theorem dX0_sight_72 : decode cX0_sight 72 = .ok (.getfield 206, 3) := dk_180 0 206 (dk_at dksX0_sight_3 2 rfl rfl)
theorem dX0_sight_75 : decode cX0_sight 75 = .ok (.bipush 12, 2) := dk_16 12 (dk_at dksX0_sight_3 5 rfl rfl)
theorem dX0_sight_77 : decode cX0_sight 77 = .ok (.if_icmp .ne 12, 3) := dk_160 0 12 (dk_at dksX0_sight_3 7 rfl rfl)
theorem dX0_sight_80 : decode cX0_sight 80 = .ok (.aload_n 0, 1) := dk_42 (dk_at dksX0_sight_3 10 rfl rfl)
theorem dX0_sight_81 : decode cX0_sight 81 = .ok (.bipush 7, 2) := dk_16 7 (dk_at dksX0_sight_3 11 rfl rfl)
theorem dX0_sight_83 : decode cX0_sight 83 = .ok (.invokevirtual 176, 3) := dk_182 0 176 (dk_at dksX0_sight_3 13 rfl rfl)
theorem dX0_sight_86 : decode cX0_sight 86 = .ok (.goto 21, 3) := dk_167 0 21 (dk_at dksX0_sight_3 16 rfl rfl)
theorem dX0_sight_89 : decode cX0_sight 89 = .ok (.aload_n 0, 1) := dk_42 (dk_at dksX0_sight_3 19 rfl rfl)
theorem dX0_sight_90 : decode cX0_sight 90 = .ok (.new 308, 3) := dk_187 1 52 (dk_at dksX0_sight_3 20 rfl rfl)
theorem dX0_sight_93 : decode cX0_sight 93 = .ok (.dup, 1) := dk_89 (dk_at dksX0_sight_3 23 rfl rfl)
theorem dX0_sight_94 : decode cX0_sight 94 = .ok (.aload_n 0, 1) := dk_42 (dk_at dksX0_sight_4 0 rfl rfl)
theorem dX0_sight_95 : decode cX0_sight 95 = .ok (.iload_n 1, 1) := dk_27 (dk_at dksX0_sight_4 1 rfl rfl)
theorem dX0_sight_96 : decode cX0_sight 96 = .ok (.bipush 18, 2) := dk_16 18 (dk_at dksX0_sight_4 2 rfl rfl)
theorem dX0_sight_98 : decode cX0_sight 98 = .ok (.invokevirtual 290, 3) := dk_182 1 34 (dk_at dksX0_sight_4 4 rfl rfl)
theorem dX0_sight_101 : decode cX0_sight 101 = .ok (.invokespecial 310, 3) := dk_183 1 54 (dk_at dksX0_sight_4 7 rfl rfl)
theorem dX0_sight_104 : decode cX0_sight 104 = .ok (.invokevirtual 302, 3) := dk_182 1 46 (dk_at dksX0_sight_4 10 rfl rfl)
theorem dX0_sight_107 : decode cX0_sight 107 = .ok (.ireturn, 1) := dk_172 (dk_at dksX0_sight_4 13 rfl rfl)
abbrev cX0_when : ByteArray := prog_1_method_35_code
def yX0_when : MethodName := ⟨RX0, "when", "(IIII)I"⟩
def dkwX0_when_3 : List UInt8 := [182, 0, 234, 172]
abbrev dktX0_when_3 : List UInt8 := dkwX0_when_3 ++ []
def dkwX0_when_2 : List UInt8 := [182, 1, 97, 54, 5, 21, 5, 2, 160, 0, 12, 42, 16, 8, 182, 0, 176, 167, 0, 9, 42, 21, 5]
abbrev dktX0_when_2 : List UInt8 := dkwX0_when_2 ++ dktX0_when_3
def dkwX0_when_1 : List UInt8 := [153, 0, 12, 42, 21, 4, 182, 0, 237, 154, 0, 9, 42, 5, 182, 0, 176, 172, 42, 27, 28, 29, 21, 4]
abbrev dktX0_when_1 : List UInt8 := dkwX0_when_1 ++ dktX0_when_2
def dkwX0_when_0 : List UInt8 := [42, 27, 133, 182, 1, 93, 153, 0, 29, 42, 28, 133, 182, 1, 93, 153, 0, 20, 42, 29, 182, 0, 237]
abbrev dktX0_when_0 : List UInt8 := dkwX0_when_0 ++ dktX0_when_1
theorem dksX0_when_0 : cX0_when.data.toList.drop 0 = dktX0_when_0 := by decide +kernel
theorem dksX0_when_1 : cX0_when.data.toList.drop 23 = dktX0_when_1 := dk_seg dksX0_when_0 23 rfl rfl
theorem dksX0_when_2 : cX0_when.data.toList.drop 47 = dktX0_when_2 := dk_seg dksX0_when_1 24 rfl rfl
theorem dksX0_when_3 : cX0_when.data.toList.drop 70 = dktX0_when_3 := dk_seg dksX0_when_2 23 rfl rfl
theorem dX0_when_0 : decode cX0_when 0 = .ok (.aload_n 0, 1) := dk_42 (dk_at dksX0_when_0 0 rfl rfl)
theorem dX0_when_1 : decode cX0_when 1 = .ok (.iload_n 1, 1) := dk_27 (dk_at dksX0_when_0 1 rfl rfl)
theorem dX0_when_2 : decode cX0_when 2 = .ok (.i2l, 1) := dk_133 (dk_at dksX0_when_0 2 rfl rfl)
theorem dX0_when_3 : decode cX0_when 3 = .ok (.invokevirtual 349, 3) := dk_182 1 93 (dk_at dksX0_when_0 3 rfl rfl)
theorem dX0_when_6 : decode cX0_when 6 = .ok (.ifCond .eq 29, 3) := dk_153 0 29 (dk_at dksX0_when_0 6 rfl rfl)
theorem dX0_when_9 : decode cX0_when 9 = .ok (.aload_n 0, 1) := dk_42 (dk_at dksX0_when_0 9 rfl rfl)
theorem dX0_when_10 : decode cX0_when 10 = .ok (.iload_n 2, 1) := dk_28 (dk_at dksX0_when_0 10 rfl rfl)
theorem dX0_when_11 : decode cX0_when 11 = .ok (.i2l, 1) := dk_133 (dk_at dksX0_when_0 11 rfl rfl)
theorem dX0_when_12 : decode cX0_when 12 = .ok (.invokevirtual 349, 3) := dk_182 1 93 (dk_at dksX0_when_0 12 rfl rfl)
theorem dX0_when_15 : decode cX0_when 15 = .ok (.ifCond .eq 20, 3) := dk_153 0 20 (dk_at dksX0_when_0 15 rfl rfl)
theorem dX0_when_18 : decode cX0_when 18 = .ok (.aload_n 0, 1) := dk_42 (dk_at dksX0_when_0 18 rfl rfl)
theorem dX0_when_19 : decode cX0_when 19 = .ok (.iload_n 3, 1) := dk_29 (dk_at dksX0_when_0 19 rfl rfl)
theorem dX0_when_20 : decode cX0_when 20 = .ok (.invokevirtual 237, 3) := dk_182 0 237 (dk_at dksX0_when_0 20 rfl rfl)
theorem dX0_when_23 : decode cX0_when 23 = .ok (.ifCond .eq 12, 3) := dk_153 0 12 (dk_at dksX0_when_1 0 rfl rfl)
theorem dX0_when_26 : decode cX0_when 26 = .ok (.aload_n 0, 1) := dk_42 (dk_at dksX0_when_1 3 rfl rfl)
theorem dX0_when_27 : decode cX0_when 27 = .ok (.iload 4, 2) := dk_21 4 (dk_at dksX0_when_1 4 rfl rfl)
theorem dX0_when_29 : decode cX0_when 29 = .ok (.invokevirtual 237, 3) := dk_182 0 237 (dk_at dksX0_when_1 6 rfl rfl)
theorem dX0_when_32 : decode cX0_when 32 = .ok (.ifCond .ne 9, 3) := dk_154 0 9 (dk_at dksX0_when_1 9 rfl rfl)
theorem dX0_when_35 : decode cX0_when 35 = .ok (.aload_n 0, 1) := dk_42 (dk_at dksX0_when_1 12 rfl rfl)
theorem dX0_when_36 : decode cX0_when 36 = .ok (.iconst 2, 1) := dk_5 (dk_at dksX0_when_1 13 rfl rfl)
theorem dX0_when_37 : decode cX0_when 37 = .ok (.invokevirtual 176, 3) := dk_182 0 176 (dk_at dksX0_when_1 14 rfl rfl)
theorem dX0_when_40 : decode cX0_when 40 = .ok (.ireturn, 1) := dk_172 (dk_at dksX0_when_1 17 rfl rfl)
theorem dX0_when_41 : decode cX0_when 41 = .ok (.aload_n 0, 1) := dk_42 (dk_at dksX0_when_1 18 rfl rfl)
theorem dX0_when_42 : decode cX0_when 42 = .ok (.iload_n 1, 1) := dk_27 (dk_at dksX0_when_1 19 rfl rfl)
theorem dX0_when_43 : decode cX0_when 43 = .ok (.iload_n 2, 1) := dk_28 (dk_at dksX0_when_1 20 rfl rfl)
theorem dX0_when_44 : decode cX0_when 44 = .ok (.iload_n 3, 1) := dk_29 (dk_at dksX0_when_1 21 rfl rfl)
theorem dX0_when_45 : decode cX0_when 45 = .ok (.iload 4, 2) := dk_21 4 (dk_at dksX0_when_1 22 rfl rfl)
theorem dX0_when_47 : decode cX0_when 47 = .ok (.invokevirtual 353, 3) := dk_182 1 97 (dk_at dksX0_when_2 0 rfl rfl)
theorem dX0_when_50 : decode cX0_when 50 = .ok (.istore 5, 2) := dk_54 5 (dk_at dksX0_when_2 3 rfl rfl)
theorem dX0_when_52 : decode cX0_when 52 = .ok (.iload 5, 2) := dk_21 5 (dk_at dksX0_when_2 5 rfl rfl)
theorem dX0_when_54 : decode cX0_when 54 = .ok (.iconst (-1), 1) := dk_2 (dk_at dksX0_when_2 7 rfl rfl)
theorem dX0_when_55 : decode cX0_when 55 = .ok (.if_icmp .ne 12, 3) := dk_160 0 12 (dk_at dksX0_when_2 8 rfl rfl)
theorem dX0_when_58 : decode cX0_when 58 = .ok (.aload_n 0, 1) := dk_42 (dk_at dksX0_when_2 11 rfl rfl)
theorem dX0_when_59 : decode cX0_when 59 = .ok (.bipush 8, 2) := dk_16 8 (dk_at dksX0_when_2 12 rfl rfl)
theorem dX0_when_61 : decode cX0_when 61 = .ok (.invokevirtual 176, 3) := dk_182 0 176 (dk_at dksX0_when_2 14 rfl rfl)
theorem dX0_when_64 : decode cX0_when 64 = .ok (.goto 9, 3) := dk_167 0 9 (dk_at dksX0_when_2 17 rfl rfl)
theorem dX0_when_67 : decode cX0_when 67 = .ok (.aload_n 0, 1) := dk_42 (dk_at dksX0_when_2 20 rfl rfl)
theorem dX0_when_68 : decode cX0_when 68 = .ok (.iload 5, 2) := dk_21 5 (dk_at dksX0_when_2 21 rfl rfl)
theorem dX0_when_70 : decode cX0_when 70 = .ok (.invokevirtual 234, 3) := dk_182 0 234 (dk_at dksX0_when_3 0 rfl rfl)
theorem dX0_when_73 : decode cX0_when 73 = .ok (.ireturn, 1) := dk_172 (dk_at dksX0_when_3 3 rfl rfl)
abbrev cX0_isWay : ByteArray := prog_1_method_17_code
def yX0_isWay : MethodName := ⟨RX0, "isWay", "(J)Z"⟩
def dkwX0_isWay_0 : List UInt8 := [31, 9, 148, 155, 0, 17, 31, 42, 180, 0, 206, 133, 148, 156, 0, 7, 4, 167, 0, 4, 3, 172]
abbrev dktX0_isWay_0 : List UInt8 := dkwX0_isWay_0 ++ []
theorem dksX0_isWay_0 : cX0_isWay.data.toList.drop 0 = dktX0_isWay_0 := by decide +kernel
theorem dX0_isWay_0 : decode cX0_isWay 0 = .ok (.lload_n 1, 1) := dk_31 (dk_at dksX0_isWay_0 0 rfl rfl)
theorem dX0_isWay_1 : decode cX0_isWay 1 = .ok (.lconst 0, 1) := dk_9 (dk_at dksX0_isWay_0 1 rfl rfl)
theorem dX0_isWay_2 : decode cX0_isWay 2 = .ok (.lcmp, 1) := dk_148 (dk_at dksX0_isWay_0 2 rfl rfl)
theorem dX0_isWay_3 : decode cX0_isWay 3 = .ok (.ifCond .lt 17, 3) := dk_155 0 17 (dk_at dksX0_isWay_0 3 rfl rfl)
theorem dX0_isWay_6 : decode cX0_isWay 6 = .ok (.lload_n 1, 1) := dk_31 (dk_at dksX0_isWay_0 6 rfl rfl)
theorem dX0_isWay_7 : decode cX0_isWay 7 = .ok (.aload_n 0, 1) := dk_42 (dk_at dksX0_isWay_0 7 rfl rfl)
theorem dX0_isWay_8 : decode cX0_isWay 8 = .ok (.getfield 206, 3) := dk_180 0 206 (dk_at dksX0_isWay_0 8 rfl rfl)
theorem dX0_isWay_11 : decode cX0_isWay 11 = .ok (.i2l, 1) := dk_133 (dk_at dksX0_isWay_0 11 rfl rfl)
theorem dX0_isWay_12 : decode cX0_isWay 12 = .ok (.lcmp, 1) := dk_148 (dk_at dksX0_isWay_0 12 rfl rfl)
theorem dX0_isWay_13 : decode cX0_isWay 13 = .ok (.ifCond .ge 7, 3) := dk_156 0 7 (dk_at dksX0_isWay_0 13 rfl rfl)
theorem dX0_isWay_16 : decode cX0_isWay 16 = .ok (.iconst 1, 1) := dk_4 (dk_at dksX0_isWay_0 16 rfl rfl)
theorem dX0_isWay_17 : decode cX0_isWay 17 = .ok (.goto 4, 3) := dk_167 0 4 (dk_at dksX0_isWay_0 17 rfl rfl)
theorem dX0_isWay_20 : decode cX0_isWay 20 = .ok (.iconst 0, 1) := dk_3 (dk_at dksX0_isWay_0 20 rfl rfl)
theorem dX0_isWay_21 : decode cX0_isWay 21 = .ok (.ireturn, 1) := dk_172 (dk_at dksX0_isWay_0 21 rfl rfl)
abbrev cX0_meet : ByteArray := prog_1_method_34_code
def yX0_meet : MethodName := ⟨RX0, "meet", "(IIII)I"⟩
def dkwX0_meet_15 : List UInt8 := [167, 254, 245, 2, 172]
abbrev dktX0_meet_15 : List UInt8 := dkwX0_meet_15 ++ []
def dkwX0_meet_14 : List UInt8 := [21, 9, 79, 42, 25, 6, 25, 7, 182, 1, 89, 153, 0, 8, 21, 5, 4, 96, 172, 132, 5, 1]
abbrev dktX0_meet_14 : List UInt8 := dkwX0_meet_14 ++ dktX0_meet_15
def dkwX0_meet_13 : List UInt8 := [180, 0, 44, 182, 1, 86, 181, 1, 55, 21, 9, 158, 0, 15, 42, 180, 0, 50, 25, 6, 180, 1, 4]
abbrev dktX0_meet_13 : List UInt8 := dkwX0_meet_13 ++ dktX0_meet_14
def dkwX0_meet_12 : List UInt8 := [154, 0, 32, 42, 180, 0, 44, 21, 10, 158, 0, 13, 25, 7, 21, 10, 182, 1, 61, 167, 0, 10, 42]
abbrev dktX0_meet_12 : List UInt8 := dkwX0_meet_12 ++ dktX0_meet_13
def dkwX0_meet_11 : List UInt8 := [46, 167, 0, 4, 3, 54, 10, 42, 180, 0, 40, 42, 180, 0, 40, 182, 1, 86, 181, 1, 55, 21, 8]
abbrev dktX0_meet_11 : List UInt8 := dkwX0_meet_11 ++ dktX0_meet_12
def dkwX0_meet_10 : List UInt8 := [180, 0, 40, 182, 1, 82, 54, 9, 42, 180, 0, 230, 153, 0, 16, 42, 180, 0, 50, 25, 7, 180, 1, 4]
abbrev dktX0_meet_10 : List UInt8 := dkwX0_meet_10 ++ dktX0_meet_11
def dkwX0_meet_9 : List UInt8 := [182, 1, 82, 182, 1, 61, 25, 6, 166, 0, 7, 3, 167, 0, 17, 42, 180, 0, 40, 180, 1, 78, 42]
abbrev dktX0_meet_9 : List UInt8 := dkwX0_meet_9 ++ dktX0_meet_10
def dkwX0_meet_8 : List UInt8 := [25, 7, 182, 1, 75, 181, 1, 55, 167, 0, 135, 25, 6, 42, 180, 0, 40, 180, 1, 78, 42, 180, 0, 40]
abbrev dktX0_meet_8 : List UInt8 := dkwX0_meet_8 ++ dktX0_meet_9
def dkwX0_meet_7 : List UInt8 := [180, 1, 4, 46, 42, 180, 0, 57, 180, 1, 72, 163, 0, 24, 21, 8, 154, 0, 151, 42, 180, 0, 44, 42]
abbrev dktX0_meet_7 : List UInt8 := dkwX0_meet_7 ++ dktX0_meet_8
def dkwX0_meet_6 : List UInt8 := [180, 1, 18, 25, 7, 180, 1, 4, 46, 2, 159, 0, 47, 42, 180, 0, 57, 180, 1, 18, 25, 7]
abbrev dktX0_meet_6 : List UInt8 := dkwX0_meet_6 ++ dktX0_meet_7
def dkwX0_meet_5 : List UInt8 := [153, 0, 7, 4, 167, 0, 4, 3, 54, 8, 42, 180, 0, 57, 25, 6, 182, 1, 14, 42, 180, 0, 57]
abbrev dktX0_meet_5 : List UInt8 := dkwX0_meet_5 ++ dktX0_meet_6
def dkwX0_meet_4 : List UInt8 := [180, 1, 55, 58, 6, 42, 180, 0, 44, 180, 1, 55, 58, 7, 21, 5, 42, 180, 0, 57, 180, 1, 69, 112]
abbrev dktX0_meet_4 : List UInt8 := dkwX0_meet_4 ++ dktX0_meet_5
def dkwX0_meet_3 : List UInt8 := [21, 4, 160, 0, 5, 3, 172, 3, 54, 5, 21, 5, 17, 0, 200, 162, 1, 9, 42, 180, 0, 40]
abbrev dktX0_meet_3 : List UInt8 := dkwX0_meet_3 ++ dktX0_meet_4
def dkwX0_meet_2 : List UInt8 := [54, 5, 21, 5, 16, 8, 162, 0, 17, 42, 180, 0, 50, 21, 5, 3, 79, 132, 5, 1, 167, 255, 238, 29]
abbrev dktX0_meet_2 : List UInt8 := dkwX0_meet_2 ++ dktX0_meet_3
def dkwX0_meet_1 : List UInt8 := [180, 0, 44, 42, 180, 0, 33, 28, 50, 42, 180, 0, 57, 180, 0, 240, 21, 4, 50, 182, 1, 65, 3]
abbrev dktX0_meet_1 : List UInt8 := dkwX0_meet_1 ++ dktX0_meet_2
def dkwX0_meet_0 : List UInt8 := [42, 180, 0, 40, 42, 180, 0, 33, 27, 50, 42, 180, 0, 57, 180, 0, 240, 29, 50, 182, 1, 65, 42]
abbrev dktX0_meet_0 : List UInt8 := dkwX0_meet_0 ++ dktX0_meet_1
theorem dksX0_meet_0 : cX0_meet.data.toList.drop 0 = dktX0_meet_0 := by decide +kernel
theorem dksX0_meet_1 : cX0_meet.data.toList.drop 23 = dktX0_meet_1 := dk_seg dksX0_meet_0 23 rfl rfl
theorem dksX0_meet_2 : cX0_meet.data.toList.drop 46 = dktX0_meet_2 := dk_seg dksX0_meet_1 23 rfl rfl
theorem dksX0_meet_3 : cX0_meet.data.toList.drop 70 = dktX0_meet_3 := dk_seg dksX0_meet_2 24 rfl rfl
theorem dksX0_meet_4 : cX0_meet.data.toList.drop 92 = dktX0_meet_4 := dk_seg dksX0_meet_3 22 rfl rfl
theorem dksX0_meet_5 : cX0_meet.data.toList.drop 116 = dktX0_meet_5 := dk_seg dksX0_meet_4 24 rfl rfl
theorem dksX0_meet_6 : cX0_meet.data.toList.drop 139 = dktX0_meet_6 := dk_seg dksX0_meet_5 23 rfl rfl
theorem dksX0_meet_7 : cX0_meet.data.toList.drop 161 = dktX0_meet_7 := dk_seg dksX0_meet_6 22 rfl rfl
theorem dksX0_meet_8 : cX0_meet.data.toList.drop 185 = dktX0_meet_8 := dk_seg dksX0_meet_7 24 rfl rfl
theorem dksX0_meet_9 : cX0_meet.data.toList.drop 209 = dktX0_meet_9 := dk_seg dksX0_meet_8 24 rfl rfl
theorem dksX0_meet_10 : cX0_meet.data.toList.drop 232 = dktX0_meet_10 := dk_seg dksX0_meet_9 23 rfl rfl
theorem dksX0_meet_11 : cX0_meet.data.toList.drop 256 = dktX0_meet_11 := dk_seg dksX0_meet_10 24 rfl rfl
theorem dksX0_meet_12 : cX0_meet.data.toList.drop 279 = dktX0_meet_12 := dk_seg dksX0_meet_11 23 rfl rfl
theorem dksX0_meet_13 : cX0_meet.data.toList.drop 302 = dktX0_meet_13 := dk_seg dksX0_meet_12 23 rfl rfl
theorem dksX0_meet_14 : cX0_meet.data.toList.drop 325 = dktX0_meet_14 := dk_seg dksX0_meet_13 23 rfl rfl
theorem dksX0_meet_15 : cX0_meet.data.toList.drop 347 = dktX0_meet_15 := dk_seg dksX0_meet_14 22 rfl rfl
theorem dX0_meet_0 : decode cX0_meet 0 = .ok (.aload_n 0, 1) := dk_42 (dk_at dksX0_meet_0 0 rfl rfl)
theorem dX0_meet_1 : decode cX0_meet 1 = .ok (.getfield 40, 3) := dk_180 0 40 (dk_at dksX0_meet_0 1 rfl rfl)
theorem dX0_meet_4 : decode cX0_meet 4 = .ok (.aload_n 0, 1) := dk_42 (dk_at dksX0_meet_0 4 rfl rfl)
theorem dX0_meet_5 : decode cX0_meet 5 = .ok (.getfield 33, 3) := dk_180 0 33 (dk_at dksX0_meet_0 5 rfl rfl)
theorem dX0_meet_8 : decode cX0_meet 8 = .ok (.iload_n 1, 1) := dk_27 (dk_at dksX0_meet_0 8 rfl rfl)
theorem dX0_meet_9 : decode cX0_meet 9 = .ok (.aaload, 1) := dk_50 (dk_at dksX0_meet_0 9 rfl rfl)
theorem dX0_meet_10 : decode cX0_meet 10 = .ok (.aload_n 0, 1) := dk_42 (dk_at dksX0_meet_0 10 rfl rfl)
theorem dX0_meet_11 : decode cX0_meet 11 = .ok (.getfield 57, 3) := dk_180 0 57 (dk_at dksX0_meet_0 11 rfl rfl)
theorem dX0_meet_14 : decode cX0_meet 14 = .ok (.getfield 240, 3) := dk_180 0 240 (dk_at dksX0_meet_0 14 rfl rfl)
theorem dX0_meet_17 : decode cX0_meet 17 = .ok (.iload_n 3, 1) := dk_29 (dk_at dksX0_meet_0 17 rfl rfl)
theorem dX0_meet_18 : decode cX0_meet 18 = .ok (.aaload, 1) := dk_50 (dk_at dksX0_meet_0 18 rfl rfl)
theorem dX0_meet_19 : decode cX0_meet 19 = .ok (.invokevirtual 321, 3) := dk_182 1 65 (dk_at dksX0_meet_0 19 rfl rfl)
theorem dX0_meet_22 : decode cX0_meet 22 = .ok (.aload_n 0, 1) := dk_42 (dk_at dksX0_meet_0 22 rfl rfl)
theorem dX0_meet_23 : decode cX0_meet 23 = .ok (.getfield 44, 3) := dk_180 0 44 (dk_at dksX0_meet_1 0 rfl rfl)
theorem dX0_meet_26 : decode cX0_meet 26 = .ok (.aload_n 0, 1) := dk_42 (dk_at dksX0_meet_1 3 rfl rfl)
theorem dX0_meet_27 : decode cX0_meet 27 = .ok (.getfield 33, 3) := dk_180 0 33 (dk_at dksX0_meet_1 4 rfl rfl)
theorem dX0_meet_30 : decode cX0_meet 30 = .ok (.iload_n 2, 1) := dk_28 (dk_at dksX0_meet_1 7 rfl rfl)
theorem dX0_meet_31 : decode cX0_meet 31 = .ok (.aaload, 1) := dk_50 (dk_at dksX0_meet_1 8 rfl rfl)
theorem dX0_meet_32 : decode cX0_meet 32 = .ok (.aload_n 0, 1) := dk_42 (dk_at dksX0_meet_1 9 rfl rfl)
theorem dX0_meet_33 : decode cX0_meet 33 = .ok (.getfield 57, 3) := dk_180 0 57 (dk_at dksX0_meet_1 10 rfl rfl)
theorem dX0_meet_36 : decode cX0_meet 36 = .ok (.getfield 240, 3) := dk_180 0 240 (dk_at dksX0_meet_1 13 rfl rfl)
theorem dX0_meet_39 : decode cX0_meet 39 = .ok (.iload 4, 2) := dk_21 4 (dk_at dksX0_meet_1 16 rfl rfl)
theorem dX0_meet_41 : decode cX0_meet 41 = .ok (.aaload, 1) := dk_50 (dk_at dksX0_meet_1 18 rfl rfl)
theorem dX0_meet_42 : decode cX0_meet 42 = .ok (.invokevirtual 321, 3) := dk_182 1 65 (dk_at dksX0_meet_1 19 rfl rfl)
theorem dX0_meet_45 : decode cX0_meet 45 = .ok (.iconst 0, 1) := dk_3 (dk_at dksX0_meet_1 22 rfl rfl)
theorem dX0_meet_46 : decode cX0_meet 46 = .ok (.istore 5, 2) := dk_54 5 (dk_at dksX0_meet_2 0 rfl rfl)
theorem dX0_meet_48 : decode cX0_meet 48 = .ok (.iload 5, 2) := dk_21 5 (dk_at dksX0_meet_2 2 rfl rfl)
theorem dX0_meet_50 : decode cX0_meet 50 = .ok (.bipush 8, 2) := dk_16 8 (dk_at dksX0_meet_2 4 rfl rfl)
theorem dX0_meet_52 : decode cX0_meet 52 = .ok (.if_icmp .ge 17, 3) := dk_162 0 17 (dk_at dksX0_meet_2 6 rfl rfl)
theorem dX0_meet_55 : decode cX0_meet 55 = .ok (.aload_n 0, 1) := dk_42 (dk_at dksX0_meet_2 9 rfl rfl)
theorem dX0_meet_56 : decode cX0_meet 56 = .ok (.getfield 50, 3) := dk_180 0 50 (dk_at dksX0_meet_2 10 rfl rfl)
theorem dX0_meet_59 : decode cX0_meet 59 = .ok (.iload 5, 2) := dk_21 5 (dk_at dksX0_meet_2 13 rfl rfl)
theorem dX0_meet_61 : decode cX0_meet 61 = .ok (.iconst 0, 1) := dk_3 (dk_at dksX0_meet_2 15 rfl rfl)
theorem dX0_meet_62 : decode cX0_meet 62 = .ok (.iastore, 1) := dk_79 (dk_at dksX0_meet_2 16 rfl rfl)
theorem dX0_meet_63 : decode cX0_meet 63 = .ok (.iinc 5 1, 3) := dk_132 5 1 (dk_at dksX0_meet_2 17 rfl rfl)
theorem dX0_meet_66 : decode cX0_meet 66 = .ok (.goto (-18), 3) := dk_167 255 238 (dk_at dksX0_meet_2 20 rfl rfl)
theorem dX0_meet_69 : decode cX0_meet 69 = .ok (.iload_n 3, 1) := dk_29 (dk_at dksX0_meet_2 23 rfl rfl)
theorem dX0_meet_70 : decode cX0_meet 70 = .ok (.iload 4, 2) := dk_21 4 (dk_at dksX0_meet_3 0 rfl rfl)
theorem dX0_meet_72 : decode cX0_meet 72 = .ok (.if_icmp .ne 5, 3) := dk_160 0 5 (dk_at dksX0_meet_3 2 rfl rfl)
theorem dX0_meet_75 : decode cX0_meet 75 = .ok (.iconst 0, 1) := dk_3 (dk_at dksX0_meet_3 5 rfl rfl)
theorem dX0_meet_76 : decode cX0_meet 76 = .ok (.ireturn, 1) := dk_172 (dk_at dksX0_meet_3 6 rfl rfl)
theorem dX0_meet_77 : decode cX0_meet 77 = .ok (.iconst 0, 1) := dk_3 (dk_at dksX0_meet_3 7 rfl rfl)
theorem dX0_meet_78 : decode cX0_meet 78 = .ok (.istore 5, 2) := dk_54 5 (dk_at dksX0_meet_3 8 rfl rfl)
theorem dX0_meet_80 : decode cX0_meet 80 = .ok (.iload 5, 2) := dk_21 5 (dk_at dksX0_meet_3 10 rfl rfl)
theorem dX0_meet_82 : decode cX0_meet 82 = .ok (.sipush 200, 3) := dk_17 0 200 (dk_at dksX0_meet_3 12 rfl rfl)
theorem dX0_meet_85 : decode cX0_meet 85 = .ok (.if_icmp .ge 265, 3) := dk_162 1 9 (dk_at dksX0_meet_3 15 rfl rfl)
theorem dX0_meet_88 : decode cX0_meet 88 = .ok (.aload_n 0, 1) := dk_42 (dk_at dksX0_meet_3 18 rfl rfl)
theorem dX0_meet_89 : decode cX0_meet 89 = .ok (.getfield 40, 3) := dk_180 0 40 (dk_at dksX0_meet_3 19 rfl rfl)
theorem dX0_meet_92 : decode cX0_meet 92 = .ok (.getfield 311, 3) := dk_180 1 55 (dk_at dksX0_meet_4 0 rfl rfl)
theorem dX0_meet_95 : decode cX0_meet 95 = .ok (.astore 6, 2) := dk_58 6 (dk_at dksX0_meet_4 3 rfl rfl)
theorem dX0_meet_97 : decode cX0_meet 97 = .ok (.aload_n 0, 1) := dk_42 (dk_at dksX0_meet_4 5 rfl rfl)
theorem dX0_meet_98 : decode cX0_meet 98 = .ok (.getfield 44, 3) := dk_180 0 44 (dk_at dksX0_meet_4 6 rfl rfl)
theorem dX0_meet_101 : decode cX0_meet 101 = .ok (.getfield 311, 3) := dk_180 1 55 (dk_at dksX0_meet_4 9 rfl rfl)
theorem dX0_meet_104 : decode cX0_meet 104 = .ok (.astore 7, 2) := dk_58 7 (dk_at dksX0_meet_4 12 rfl rfl)
theorem dX0_meet_106 : decode cX0_meet 106 = .ok (.iload 5, 2) := dk_21 5 (dk_at dksX0_meet_4 14 rfl rfl)
theorem dX0_meet_108 : decode cX0_meet 108 = .ok (.aload_n 0, 1) := dk_42 (dk_at dksX0_meet_4 16 rfl rfl)
theorem dX0_meet_109 : decode cX0_meet 109 = .ok (.getfield 57, 3) := dk_180 0 57 (dk_at dksX0_meet_4 17 rfl rfl)
theorem dX0_meet_112 : decode cX0_meet 112 = .ok (.getfield 325, 3) := dk_180 1 69 (dk_at dksX0_meet_4 20 rfl rfl)
theorem dX0_meet_115 : decode cX0_meet 115 = .ok (.irem, 1) := dk_112 (dk_at dksX0_meet_4 23 rfl rfl)
theorem dX0_meet_116 : decode cX0_meet 116 = .ok (.ifCond .eq 7, 3) := dk_153 0 7 (dk_at dksX0_meet_5 0 rfl rfl)
theorem dX0_meet_119 : decode cX0_meet 119 = .ok (.iconst 1, 1) := dk_4 (dk_at dksX0_meet_5 3 rfl rfl)
theorem dX0_meet_120 : decode cX0_meet 120 = .ok (.goto 4, 3) := dk_167 0 4 (dk_at dksX0_meet_5 4 rfl rfl)
theorem dX0_meet_123 : decode cX0_meet 123 = .ok (.iconst 0, 1) := dk_3 (dk_at dksX0_meet_5 7 rfl rfl)
theorem dX0_meet_124 : decode cX0_meet 124 = .ok (.istore 8, 2) := dk_54 8 (dk_at dksX0_meet_5 8 rfl rfl)
theorem dX0_meet_126 : decode cX0_meet 126 = .ok (.aload_n 0, 1) := dk_42 (dk_at dksX0_meet_5 10 rfl rfl)
theorem dX0_meet_127 : decode cX0_meet 127 = .ok (.getfield 57, 3) := dk_180 0 57 (dk_at dksX0_meet_5 11 rfl rfl)
theorem dX0_meet_130 : decode cX0_meet 130 = .ok (.aload 6, 2) := dk_25 6 (dk_at dksX0_meet_5 14 rfl rfl)
theorem dX0_meet_132 : decode cX0_meet 132 = .ok (.invokevirtual 270, 3) := dk_182 1 14 (dk_at dksX0_meet_5 16 rfl rfl)
theorem dX0_meet_135 : decode cX0_meet 135 = .ok (.aload_n 0, 1) := dk_42 (dk_at dksX0_meet_5 19 rfl rfl)
theorem dX0_meet_136 : decode cX0_meet 136 = .ok (.getfield 57, 3) := dk_180 0 57 (dk_at dksX0_meet_5 20 rfl rfl)
theorem dX0_meet_139 : decode cX0_meet 139 = .ok (.getfield 274, 3) := dk_180 1 18 (dk_at dksX0_meet_6 0 rfl rfl)
theorem dX0_meet_142 : decode cX0_meet 142 = .ok (.aload 7, 2) := dk_25 7 (dk_at dksX0_meet_6 3 rfl rfl)
theorem dX0_meet_144 : decode cX0_meet 144 = .ok (.getfield 260, 3) := dk_180 1 4 (dk_at dksX0_meet_6 5 rfl rfl)
theorem dX0_meet_147 : decode cX0_meet 147 = .ok (.iaload, 1) := dk_46 (dk_at dksX0_meet_6 8 rfl rfl)
theorem dX0_meet_148 : decode cX0_meet 148 = .ok (.iconst (-1), 1) := dk_2 (dk_at dksX0_meet_6 9 rfl rfl)
theorem dX0_meet_149 : decode cX0_meet 149 = .ok (.if_icmp .eq 47, 3) := dk_159 0 47 (dk_at dksX0_meet_6 10 rfl rfl)
theorem dX0_meet_152 : decode cX0_meet 152 = .ok (.aload_n 0, 1) := dk_42 (dk_at dksX0_meet_6 13 rfl rfl)
theorem dX0_meet_153 : decode cX0_meet 153 = .ok (.getfield 57, 3) := dk_180 0 57 (dk_at dksX0_meet_6 14 rfl rfl)
theorem dX0_meet_156 : decode cX0_meet 156 = .ok (.getfield 274, 3) := dk_180 1 18 (dk_at dksX0_meet_6 17 rfl rfl)
theorem dX0_meet_159 : decode cX0_meet 159 = .ok (.aload 7, 2) := dk_25 7 (dk_at dksX0_meet_6 20 rfl rfl)
theorem dX0_meet_161 : decode cX0_meet 161 = .ok (.getfield 260, 3) := dk_180 1 4 (dk_at dksX0_meet_7 0 rfl rfl)
theorem dX0_meet_164 : decode cX0_meet 164 = .ok (.iaload, 1) := dk_46 (dk_at dksX0_meet_7 3 rfl rfl)
theorem dX0_meet_165 : decode cX0_meet 165 = .ok (.aload_n 0, 1) := dk_42 (dk_at dksX0_meet_7 4 rfl rfl)
theorem dX0_meet_166 : decode cX0_meet 166 = .ok (.getfield 57, 3) := dk_180 0 57 (dk_at dksX0_meet_7 5 rfl rfl)
theorem dX0_meet_169 : decode cX0_meet 169 = .ok (.getfield 328, 3) := dk_180 1 72 (dk_at dksX0_meet_7 8 rfl rfl)
theorem dX0_meet_172 : decode cX0_meet 172 = .ok (.if_icmp .gt 24, 3) := dk_163 0 24 (dk_at dksX0_meet_7 11 rfl rfl)
theorem dX0_meet_175 : decode cX0_meet 175 = .ok (.iload 8, 2) := dk_21 8 (dk_at dksX0_meet_7 14 rfl rfl)
theorem dX0_meet_177 : decode cX0_meet 177 = .ok (.ifCond .ne 151, 3) := dk_154 0 151 (dk_at dksX0_meet_7 16 rfl rfl)
theorem dX0_meet_180 : decode cX0_meet 180 = .ok (.aload_n 0, 1) := dk_42 (dk_at dksX0_meet_7 19 rfl rfl)
theorem dX0_meet_181 : decode cX0_meet 181 = .ok (.getfield 44, 3) := dk_180 0 44 (dk_at dksX0_meet_7 20 rfl rfl)
theorem dX0_meet_184 : decode cX0_meet 184 = .ok (.aload_n 0, 1) := dk_42 (dk_at dksX0_meet_7 23 rfl rfl)
theorem dX0_meet_185 : decode cX0_meet 185 = .ok (.aload 7, 2) := dk_25 7 (dk_at dksX0_meet_8 0 rfl rfl)
theorem dX0_meet_187 : decode cX0_meet 187 = .ok (.invokevirtual 331, 3) := dk_182 1 75 (dk_at dksX0_meet_8 2 rfl rfl)
theorem dX0_meet_190 : decode cX0_meet 190 = .ok (.putfield 311, 3) := dk_181 1 55 (dk_at dksX0_meet_8 5 rfl rfl)
theorem dX0_meet_193 : decode cX0_meet 193 = .ok (.goto 135, 3) := dk_167 0 135 (dk_at dksX0_meet_8 8 rfl rfl)
theorem dX0_meet_196 : decode cX0_meet 196 = .ok (.aload 6, 2) := dk_25 6 (dk_at dksX0_meet_8 11 rfl rfl)
theorem dX0_meet_198 : decode cX0_meet 198 = .ok (.aload_n 0, 1) := dk_42 (dk_at dksX0_meet_8 13 rfl rfl)
theorem dX0_meet_199 : decode cX0_meet 199 = .ok (.getfield 40, 3) := dk_180 0 40 (dk_at dksX0_meet_8 14 rfl rfl)
theorem dX0_meet_202 : decode cX0_meet 202 = .ok (.getfield 334, 3) := dk_180 1 78 (dk_at dksX0_meet_8 17 rfl rfl)
theorem dX0_meet_205 : decode cX0_meet 205 = .ok (.aload_n 0, 1) := dk_42 (dk_at dksX0_meet_8 20 rfl rfl)
theorem dX0_meet_206 : decode cX0_meet 206 = .ok (.getfield 40, 3) := dk_180 0 40 (dk_at dksX0_meet_8 21 rfl rfl)
theorem dX0_meet_209 : decode cX0_meet 209 = .ok (.invokevirtual 338, 3) := dk_182 1 82 (dk_at dksX0_meet_9 0 rfl rfl)
theorem dX0_meet_212 : decode cX0_meet 212 = .ok (.invokevirtual 317, 3) := dk_182 1 61 (dk_at dksX0_meet_9 3 rfl rfl)
theorem dX0_meet_215 : decode cX0_meet 215 = .ok (.aload 6, 2) := dk_25 6 (dk_at dksX0_meet_9 6 rfl rfl)
theorem dX0_meet_217 : decode cX0_meet 217 = .ok (.if_acmp .ne 7, 3) := dk_166 0 7 (dk_at dksX0_meet_9 8 rfl rfl)
theorem dX0_meet_220 : decode cX0_meet 220 = .ok (.iconst 0, 1) := dk_3 (dk_at dksX0_meet_9 11 rfl rfl)
theorem dX0_meet_221 : decode cX0_meet 221 = .ok (.goto 17, 3) := dk_167 0 17 (dk_at dksX0_meet_9 12 rfl rfl)
theorem dX0_meet_224 : decode cX0_meet 224 = .ok (.aload_n 0, 1) := dk_42 (dk_at dksX0_meet_9 15 rfl rfl)
theorem dX0_meet_225 : decode cX0_meet 225 = .ok (.getfield 40, 3) := dk_180 0 40 (dk_at dksX0_meet_9 16 rfl rfl)
theorem dX0_meet_228 : decode cX0_meet 228 = .ok (.getfield 334, 3) := dk_180 1 78 (dk_at dksX0_meet_9 19 rfl rfl)
theorem dX0_meet_231 : decode cX0_meet 231 = .ok (.aload_n 0, 1) := dk_42 (dk_at dksX0_meet_9 22 rfl rfl)
theorem dX0_meet_232 : decode cX0_meet 232 = .ok (.getfield 40, 3) := dk_180 0 40 (dk_at dksX0_meet_10 0 rfl rfl)
theorem dX0_meet_235 : decode cX0_meet 235 = .ok (.invokevirtual 338, 3) := dk_182 1 82 (dk_at dksX0_meet_10 3 rfl rfl)
theorem dX0_meet_238 : decode cX0_meet 238 = .ok (.istore 9, 2) := dk_54 9 (dk_at dksX0_meet_10 6 rfl rfl)
theorem dX0_meet_240 : decode cX0_meet 240 = .ok (.aload_n 0, 1) := dk_42 (dk_at dksX0_meet_10 8 rfl rfl)
theorem dX0_meet_241 : decode cX0_meet 241 = .ok (.getfield 230, 3) := dk_180 0 230 (dk_at dksX0_meet_10 9 rfl rfl)
theorem dX0_meet_244 : decode cX0_meet 244 = .ok (.ifCond .eq 16, 3) := dk_153 0 16 (dk_at dksX0_meet_10 12 rfl rfl)
theorem dX0_meet_247 : decode cX0_meet 247 = .ok (.aload_n 0, 1) := dk_42 (dk_at dksX0_meet_10 15 rfl rfl)
theorem dX0_meet_248 : decode cX0_meet 248 = .ok (.getfield 50, 3) := dk_180 0 50 (dk_at dksX0_meet_10 16 rfl rfl)
theorem dX0_meet_251 : decode cX0_meet 251 = .ok (.aload 7, 2) := dk_25 7 (dk_at dksX0_meet_10 19 rfl rfl)
theorem dX0_meet_253 : decode cX0_meet 253 = .ok (.getfield 260, 3) := dk_180 1 4 (dk_at dksX0_meet_10 21 rfl rfl)
theorem dX0_meet_256 : decode cX0_meet 256 = .ok (.iaload, 1) := dk_46 (dk_at dksX0_meet_11 0 rfl rfl)
theorem dX0_meet_257 : decode cX0_meet 257 = .ok (.goto 4, 3) := dk_167 0 4 (dk_at dksX0_meet_11 1 rfl rfl)
theorem dX0_meet_260 : decode cX0_meet 260 = .ok (.iconst 0, 1) := dk_3 (dk_at dksX0_meet_11 4 rfl rfl)
theorem dX0_meet_261 : decode cX0_meet 261 = .ok (.istore 10, 2) := dk_54 10 (dk_at dksX0_meet_11 5 rfl rfl)
theorem dX0_meet_263 : decode cX0_meet 263 = .ok (.aload_n 0, 1) := dk_42 (dk_at dksX0_meet_11 7 rfl rfl)
theorem dX0_meet_264 : decode cX0_meet 264 = .ok (.getfield 40, 3) := dk_180 0 40 (dk_at dksX0_meet_11 8 rfl rfl)
theorem dX0_meet_267 : decode cX0_meet 267 = .ok (.aload_n 0, 1) := dk_42 (dk_at dksX0_meet_11 11 rfl rfl)
theorem dX0_meet_268 : decode cX0_meet 268 = .ok (.getfield 40, 3) := dk_180 0 40 (dk_at dksX0_meet_11 12 rfl rfl)
theorem dX0_meet_271 : decode cX0_meet 271 = .ok (.invokevirtual 342, 3) := dk_182 1 86 (dk_at dksX0_meet_11 15 rfl rfl)
theorem dX0_meet_274 : decode cX0_meet 274 = .ok (.putfield 311, 3) := dk_181 1 55 (dk_at dksX0_meet_11 18 rfl rfl)
theorem dX0_meet_277 : decode cX0_meet 277 = .ok (.iload 8, 2) := dk_21 8 (dk_at dksX0_meet_11 21 rfl rfl)
theorem dX0_meet_279 : decode cX0_meet 279 = .ok (.ifCond .ne 32, 3) := dk_154 0 32 (dk_at dksX0_meet_12 0 rfl rfl)
theorem dX0_meet_282 : decode cX0_meet 282 = .ok (.aload_n 0, 1) := dk_42 (dk_at dksX0_meet_12 3 rfl rfl)
theorem dX0_meet_283 : decode cX0_meet 283 = .ok (.getfield 44, 3) := dk_180 0 44 (dk_at dksX0_meet_12 4 rfl rfl)
theorem dX0_meet_286 : decode cX0_meet 286 = .ok (.iload 10, 2) := dk_21 10 (dk_at dksX0_meet_12 7 rfl rfl)
theorem dX0_meet_288 : decode cX0_meet 288 = .ok (.ifCond .le 13, 3) := dk_158 0 13 (dk_at dksX0_meet_12 9 rfl rfl)
theorem dX0_meet_291 : decode cX0_meet 291 = .ok (.aload 7, 2) := dk_25 7 (dk_at dksX0_meet_12 12 rfl rfl)
theorem dX0_meet_293 : decode cX0_meet 293 = .ok (.iload 10, 2) := dk_21 10 (dk_at dksX0_meet_12 14 rfl rfl)
theorem dX0_meet_295 : decode cX0_meet 295 = .ok (.invokevirtual 317, 3) := dk_182 1 61 (dk_at dksX0_meet_12 16 rfl rfl)
theorem dX0_meet_298 : decode cX0_meet 298 = .ok (.goto 10, 3) := dk_167 0 10 (dk_at dksX0_meet_12 19 rfl rfl)
theorem dX0_meet_301 : decode cX0_meet 301 = .ok (.aload_n 0, 1) := dk_42 (dk_at dksX0_meet_12 22 rfl rfl)
theorem dX0_meet_302 : decode cX0_meet 302 = .ok (.getfield 44, 3) := dk_180 0 44 (dk_at dksX0_meet_13 0 rfl rfl)
theorem dX0_meet_305 : decode cX0_meet 305 = .ok (.invokevirtual 342, 3) := dk_182 1 86 (dk_at dksX0_meet_13 3 rfl rfl)
theorem dX0_meet_308 : decode cX0_meet 308 = .ok (.putfield 311, 3) := dk_181 1 55 (dk_at dksX0_meet_13 6 rfl rfl)
theorem dX0_meet_311 : decode cX0_meet 311 = .ok (.iload 9, 2) := dk_21 9 (dk_at dksX0_meet_13 9 rfl rfl)
theorem dX0_meet_313 : decode cX0_meet 313 = .ok (.ifCond .le 15, 3) := dk_158 0 15 (dk_at dksX0_meet_13 11 rfl rfl)
theorem dX0_meet_316 : decode cX0_meet 316 = .ok (.aload_n 0, 1) := dk_42 (dk_at dksX0_meet_13 14 rfl rfl)
theorem dX0_meet_317 : decode cX0_meet 317 = .ok (.getfield 50, 3) := dk_180 0 50 (dk_at dksX0_meet_13 15 rfl rfl)
theorem dX0_meet_320 : decode cX0_meet 320 = .ok (.aload 6, 2) := dk_25 6 (dk_at dksX0_meet_13 18 rfl rfl)
theorem dX0_meet_322 : decode cX0_meet 322 = .ok (.getfield 260, 3) := dk_180 1 4 (dk_at dksX0_meet_13 20 rfl rfl)
theorem dX0_meet_325 : decode cX0_meet 325 = .ok (.iload 9, 2) := dk_21 9 (dk_at dksX0_meet_14 0 rfl rfl)
theorem dX0_meet_327 : decode cX0_meet 327 = .ok (.iastore, 1) := dk_79 (dk_at dksX0_meet_14 2 rfl rfl)
theorem dX0_meet_328 : decode cX0_meet 328 = .ok (.aload_n 0, 1) := dk_42 (dk_at dksX0_meet_14 3 rfl rfl)
theorem dX0_meet_329 : decode cX0_meet 329 = .ok (.aload 6, 2) := dk_25 6 (dk_at dksX0_meet_14 4 rfl rfl)
theorem dX0_meet_331 : decode cX0_meet 331 = .ok (.aload 7, 2) := dk_25 7 (dk_at dksX0_meet_14 6 rfl rfl)
theorem dX0_meet_333 : decode cX0_meet 333 = .ok (.invokevirtual 345, 3) := dk_182 1 89 (dk_at dksX0_meet_14 8 rfl rfl)
theorem dX0_meet_336 : decode cX0_meet 336 = .ok (.ifCond .eq 8, 3) := dk_153 0 8 (dk_at dksX0_meet_14 11 rfl rfl)
theorem dX0_meet_339 : decode cX0_meet 339 = .ok (.iload 5, 2) := dk_21 5 (dk_at dksX0_meet_14 14 rfl rfl)
theorem dX0_meet_341 : decode cX0_meet 341 = .ok (.iconst 1, 1) := dk_4 (dk_at dksX0_meet_14 16 rfl rfl)
theorem dX0_meet_342 : decode cX0_meet 342 = .ok (.iadd, 1) := dk_96 (dk_at dksX0_meet_14 17 rfl rfl)
theorem dX0_meet_343 : decode cX0_meet 343 = .ok (.ireturn, 1) := dk_172 (dk_at dksX0_meet_14 18 rfl rfl)
theorem dX0_meet_344 : decode cX0_meet 344 = .ok (.iinc 5 1, 3) := dk_132 5 1 (dk_at dksX0_meet_14 19 rfl rfl)
theorem dX0_meet_347 : decode cX0_meet 347 = .ok (.goto (-267), 3) := dk_167 254 245 (dk_at dksX0_meet_15 0 rfl rfl)
theorem dX0_meet_350 : decode cX0_meet 350 = .ok (.iconst (-1), 1) := dk_2 (dk_at dksX0_meet_15 3 rfl rfl)
theorem dX0_meet_351 : decode cX0_meet 351 = .ok (.ireturn, 1) := dk_172 (dk_at dksX0_meet_15 4 rfl rfl)
abbrev cX0_nearer : ByteArray := prog_1_method_33_code
def yX0_nearer : MethodName := ⟨RX0, "nearer", "(LTwoSeek$Place;)LTwoSeek$Place;"⟩
def dkwX0_nearer_3 : List UInt8 := [176]
abbrev dktX0_nearer_3 : List UInt8 := dkwX0_nearer_3 ++ []
def dkwX0_nearer_2 : List UInt8 := [180, 1, 18, 43, 180, 1, 4, 46, 162, 0, 9, 43, 28, 182, 1, 61, 176, 132, 2, 1, 167, 255, 193, 43]
abbrev dktX0_nearer_2 : List UInt8 := dkwX0_nearer_2 ++ dktX0_nearer_3
def dkwX0_nearer_1 : List UInt8 := [180, 1, 18, 29, 46, 2, 159, 0, 33, 42, 180, 0, 57, 180, 1, 18, 29, 46, 42, 180, 0, 57]
abbrev dktX0_nearer_1 : List UInt8 := dkwX0_nearer_1 ++ dktX0_nearer_2
def dkwX0_nearer_0 : List UInt8 := [4, 61, 28, 43, 180, 0, 249, 163, 0, 61, 43, 28, 182, 1, 61, 180, 1, 4, 62, 42, 180, 0, 57]
abbrev dktX0_nearer_0 : List UInt8 := dkwX0_nearer_0 ++ dktX0_nearer_1
theorem dksX0_nearer_0 : cX0_nearer.data.toList.drop 0 = dktX0_nearer_0 := by decide +kernel
theorem dksX0_nearer_1 : cX0_nearer.data.toList.drop 23 = dktX0_nearer_1 := dk_seg dksX0_nearer_0 23 rfl rfl
theorem dksX0_nearer_2 : cX0_nearer.data.toList.drop 45 = dktX0_nearer_2 := dk_seg dksX0_nearer_1 22 rfl rfl
theorem dksX0_nearer_3 : cX0_nearer.data.toList.drop 69 = dktX0_nearer_3 := dk_seg dksX0_nearer_2 24 rfl rfl
theorem dX0_nearer_0 : decode cX0_nearer 0 = .ok (.iconst 1, 1) := dk_4 (dk_at dksX0_nearer_0 0 rfl rfl)
theorem dX0_nearer_1 : decode cX0_nearer 1 = .ok (.istore_n 2, 1) := dk_61 (dk_at dksX0_nearer_0 1 rfl rfl)
theorem dX0_nearer_2 : decode cX0_nearer 2 = .ok (.iload_n 2, 1) := dk_28 (dk_at dksX0_nearer_0 2 rfl rfl)
theorem dX0_nearer_3 : decode cX0_nearer 3 = .ok (.aload_n 1, 1) := dk_43 (dk_at dksX0_nearer_0 3 rfl rfl)
theorem dX0_nearer_4 : decode cX0_nearer 4 = .ok (.getfield 249, 3) := dk_180 0 249 (dk_at dksX0_nearer_0 4 rfl rfl)
theorem dX0_nearer_7 : decode cX0_nearer 7 = .ok (.if_icmp .gt 61, 3) := dk_163 0 61 (dk_at dksX0_nearer_0 7 rfl rfl)
theorem dX0_nearer_10 : decode cX0_nearer 10 = .ok (.aload_n 1, 1) := dk_43 (dk_at dksX0_nearer_0 10 rfl rfl)
theorem dX0_nearer_11 : decode cX0_nearer 11 = .ok (.iload_n 2, 1) := dk_28 (dk_at dksX0_nearer_0 11 rfl rfl)
theorem dX0_nearer_12 : decode cX0_nearer 12 = .ok (.invokevirtual 317, 3) := dk_182 1 61 (dk_at dksX0_nearer_0 12 rfl rfl)
theorem dX0_nearer_15 : decode cX0_nearer 15 = .ok (.getfield 260, 3) := dk_180 1 4 (dk_at dksX0_nearer_0 15 rfl rfl)
theorem dX0_nearer_18 : decode cX0_nearer 18 = .ok (.istore_n 3, 1) := dk_62 (dk_at dksX0_nearer_0 18 rfl rfl)
theorem dX0_nearer_19 : decode cX0_nearer 19 = .ok (.aload_n 0, 1) := dk_42 (dk_at dksX0_nearer_0 19 rfl rfl)
theorem dX0_nearer_20 : decode cX0_nearer 20 = .ok (.getfield 57, 3) := dk_180 0 57 (dk_at dksX0_nearer_0 20 rfl rfl)
theorem dX0_nearer_23 : decode cX0_nearer 23 = .ok (.getfield 274, 3) := dk_180 1 18 (dk_at dksX0_nearer_1 0 rfl rfl)
theorem dX0_nearer_26 : decode cX0_nearer 26 = .ok (.iload_n 3, 1) := dk_29 (dk_at dksX0_nearer_1 3 rfl rfl)
theorem dX0_nearer_27 : decode cX0_nearer 27 = .ok (.iaload, 1) := dk_46 (dk_at dksX0_nearer_1 4 rfl rfl)
theorem dX0_nearer_28 : decode cX0_nearer 28 = .ok (.iconst (-1), 1) := dk_2 (dk_at dksX0_nearer_1 5 rfl rfl)
theorem dX0_nearer_29 : decode cX0_nearer 29 = .ok (.if_icmp .eq 33, 3) := dk_159 0 33 (dk_at dksX0_nearer_1 6 rfl rfl)
theorem dX0_nearer_32 : decode cX0_nearer 32 = .ok (.aload_n 0, 1) := dk_42 (dk_at dksX0_nearer_1 9 rfl rfl)
theorem dX0_nearer_33 : decode cX0_nearer 33 = .ok (.getfield 57, 3) := dk_180 0 57 (dk_at dksX0_nearer_1 10 rfl rfl)
theorem dX0_nearer_36 : decode cX0_nearer 36 = .ok (.getfield 274, 3) := dk_180 1 18 (dk_at dksX0_nearer_1 13 rfl rfl)
theorem dX0_nearer_39 : decode cX0_nearer 39 = .ok (.iload_n 3, 1) := dk_29 (dk_at dksX0_nearer_1 16 rfl rfl)
theorem dX0_nearer_40 : decode cX0_nearer 40 = .ok (.iaload, 1) := dk_46 (dk_at dksX0_nearer_1 17 rfl rfl)
theorem dX0_nearer_41 : decode cX0_nearer 41 = .ok (.aload_n 0, 1) := dk_42 (dk_at dksX0_nearer_1 18 rfl rfl)
theorem dX0_nearer_42 : decode cX0_nearer 42 = .ok (.getfield 57, 3) := dk_180 0 57 (dk_at dksX0_nearer_1 19 rfl rfl)
theorem dX0_nearer_45 : decode cX0_nearer 45 = .ok (.getfield 274, 3) := dk_180 1 18 (dk_at dksX0_nearer_2 0 rfl rfl)
theorem dX0_nearer_48 : decode cX0_nearer 48 = .ok (.aload_n 1, 1) := dk_43 (dk_at dksX0_nearer_2 3 rfl rfl)
theorem dX0_nearer_49 : decode cX0_nearer 49 = .ok (.getfield 260, 3) := dk_180 1 4 (dk_at dksX0_nearer_2 4 rfl rfl)
theorem dX0_nearer_52 : decode cX0_nearer 52 = .ok (.iaload, 1) := dk_46 (dk_at dksX0_nearer_2 7 rfl rfl)
theorem dX0_nearer_53 : decode cX0_nearer 53 = .ok (.if_icmp .ge 9, 3) := dk_162 0 9 (dk_at dksX0_nearer_2 8 rfl rfl)
theorem dX0_nearer_56 : decode cX0_nearer 56 = .ok (.aload_n 1, 1) := dk_43 (dk_at dksX0_nearer_2 11 rfl rfl)
theorem dX0_nearer_57 : decode cX0_nearer 57 = .ok (.iload_n 2, 1) := dk_28 (dk_at dksX0_nearer_2 12 rfl rfl)
theorem dX0_nearer_58 : decode cX0_nearer 58 = .ok (.invokevirtual 317, 3) := dk_182 1 61 (dk_at dksX0_nearer_2 13 rfl rfl)
theorem dX0_nearer_61 : decode cX0_nearer 61 = .ok (.areturn, 1) := dk_176 (dk_at dksX0_nearer_2 16 rfl rfl)
theorem dX0_nearer_62 : decode cX0_nearer 62 = .ok (.iinc 2 1, 3) := dk_132 2 1 (dk_at dksX0_nearer_2 17 rfl rfl)
theorem dX0_nearer_65 : decode cX0_nearer 65 = .ok (.goto (-63), 3) := dk_167 255 193 (dk_at dksX0_nearer_2 20 rfl rfl)
theorem dX0_nearer_68 : decode cX0_nearer 68 = .ok (.aload_n 1, 1) := dk_43 (dk_at dksX0_nearer_2 23 rfl rfl)
theorem dX0_nearer_69 : decode cX0_nearer 69 = .ok (.areturn, 1) := dk_176 (dk_at dksX0_nearer_3 0 rfl rfl)
abbrev cX0_meets : ByteArray := prog_1_method_32_code
def yX0_meets : MethodName := ⟨RX0, "meets", "(LTwoSeek$Place;LTwoSeek$Place;)Z"⟩
def dkwX0_meets_2 : List UInt8 := [166, 0, 7, 4, 167, 0, 4, 3, 172]
abbrev dktX0_meets_2 : List UInt8 := dkwX0_meets_2 ++ []
def dkwX0_meets_1 : List UInt8 := [153, 0, 29, 42, 180, 0, 40, 180, 1, 55, 44, 166, 0, 18, 42, 180, 0, 44, 180, 1, 55, 43]
abbrev dktX0_meets_1 : List UInt8 := dkwX0_meets_1 ++ dktX0_meets_2
def dkwX0_meets_0 : List UInt8 := [42, 180, 0, 40, 180, 1, 55, 42, 180, 0, 44, 180, 1, 55, 165, 0, 35, 42, 180, 0, 57, 180, 1, 58]
abbrev dktX0_meets_0 : List UInt8 := dkwX0_meets_0 ++ dktX0_meets_1
theorem dksX0_meets_0 : cX0_meets.data.toList.drop 0 = dktX0_meets_0 := by decide +kernel
theorem dksX0_meets_1 : cX0_meets.data.toList.drop 24 = dktX0_meets_1 := dk_seg dksX0_meets_0 24 rfl rfl
theorem dksX0_meets_2 : cX0_meets.data.toList.drop 46 = dktX0_meets_2 := dk_seg dksX0_meets_1 22 rfl rfl
theorem dX0_meets_0 : decode cX0_meets 0 = .ok (.aload_n 0, 1) := dk_42 (dk_at dksX0_meets_0 0 rfl rfl)
theorem dX0_meets_1 : decode cX0_meets 1 = .ok (.getfield 40, 3) := dk_180 0 40 (dk_at dksX0_meets_0 1 rfl rfl)
theorem dX0_meets_4 : decode cX0_meets 4 = .ok (.getfield 311, 3) := dk_180 1 55 (dk_at dksX0_meets_0 4 rfl rfl)
theorem dX0_meets_7 : decode cX0_meets 7 = .ok (.aload_n 0, 1) := dk_42 (dk_at dksX0_meets_0 7 rfl rfl)
theorem dX0_meets_8 : decode cX0_meets 8 = .ok (.getfield 44, 3) := dk_180 0 44 (dk_at dksX0_meets_0 8 rfl rfl)
theorem dX0_meets_11 : decode cX0_meets 11 = .ok (.getfield 311, 3) := dk_180 1 55 (dk_at dksX0_meets_0 11 rfl rfl)
theorem dX0_meets_14 : decode cX0_meets 14 = .ok (.if_acmp .eq 35, 3) := dk_165 0 35 (dk_at dksX0_meets_0 14 rfl rfl)
theorem dX0_meets_17 : decode cX0_meets 17 = .ok (.aload_n 0, 1) := dk_42 (dk_at dksX0_meets_0 17 rfl rfl)
theorem dX0_meets_18 : decode cX0_meets 18 = .ok (.getfield 57, 3) := dk_180 0 57 (dk_at dksX0_meets_0 18 rfl rfl)
theorem dX0_meets_21 : decode cX0_meets 21 = .ok (.getfield 314, 3) := dk_180 1 58 (dk_at dksX0_meets_0 21 rfl rfl)
theorem dX0_meets_24 : decode cX0_meets 24 = .ok (.ifCond .eq 29, 3) := dk_153 0 29 (dk_at dksX0_meets_1 0 rfl rfl)
theorem dX0_meets_27 : decode cX0_meets 27 = .ok (.aload_n 0, 1) := dk_42 (dk_at dksX0_meets_1 3 rfl rfl)
theorem dX0_meets_28 : decode cX0_meets 28 = .ok (.getfield 40, 3) := dk_180 0 40 (dk_at dksX0_meets_1 4 rfl rfl)
theorem dX0_meets_31 : decode cX0_meets 31 = .ok (.getfield 311, 3) := dk_180 1 55 (dk_at dksX0_meets_1 7 rfl rfl)
theorem dX0_meets_34 : decode cX0_meets 34 = .ok (.aload_n 2, 1) := dk_44 (dk_at dksX0_meets_1 10 rfl rfl)
theorem dX0_meets_35 : decode cX0_meets 35 = .ok (.if_acmp .ne 18, 3) := dk_166 0 18 (dk_at dksX0_meets_1 11 rfl rfl)
theorem dX0_meets_38 : decode cX0_meets 38 = .ok (.aload_n 0, 1) := dk_42 (dk_at dksX0_meets_1 14 rfl rfl)
theorem dX0_meets_39 : decode cX0_meets 39 = .ok (.getfield 44, 3) := dk_180 0 44 (dk_at dksX0_meets_1 15 rfl rfl)
theorem dX0_meets_42 : decode cX0_meets 42 = .ok (.getfield 311, 3) := dk_180 1 55 (dk_at dksX0_meets_1 18 rfl rfl)
theorem dX0_meets_45 : decode cX0_meets 45 = .ok (.aload_n 1, 1) := dk_43 (dk_at dksX0_meets_1 21 rfl rfl)
theorem dX0_meets_46 : decode cX0_meets 46 = .ok (.if_acmp .ne 7, 3) := dk_166 0 7 (dk_at dksX0_meets_2 0 rfl rfl)
theorem dX0_meets_49 : decode cX0_meets 49 = .ok (.iconst 1, 1) := dk_4 (dk_at dksX0_meets_2 3 rfl rfl)
theorem dX0_meets_50 : decode cX0_meets 50 = .ok (.goto 4, 3) := dk_167 0 4 (dk_at dksX0_meets_2 4 rfl rfl)
theorem dX0_meets_53 : decode cX0_meets 53 = .ok (.iconst 0, 1) := dk_3 (dk_at dksX0_meets_2 7 rfl rfl)
theorem dX0_meets_54 : decode cX0_meets 54 = .ok (.ireturn, 1) := dk_172 (dk_at dksX0_meets_2 8 rfl rfl)
abbrev cX0_judge : ByteArray := prog_1_method_36_code
def yX0_judge : MethodName := ⟨RX0, "judge", "(III)I"⟩
def dkwX0_judge_7 : List UInt8 := [172]
abbrev dktX0_judge_7 : List UInt8 := dkwX0_judge_7 ++ []
def dkwX0_judge_6 : List UInt8 := [21, 7, 96, 182, 0, 234, 172, 132, 7, 1, 167, 255, 205, 132, 6, 1, 167, 255, 189, 42, 2, 182, 0, 234]
abbrev dktX0_judge_6 : List UInt8 := dkwX0_judge_6 ++ dktX0_judge_7
def dkwX0_judge_5 : List UInt8 := [182, 0, 180, 42, 27, 28, 21, 6, 21, 7, 182, 1, 97, 133, 148, 153, 0, 16, 42, 16, 8, 21, 6, 104]
abbrev dktX0_judge_5 : List UInt8 := dkwX0_judge_5 ++ dktX0_judge_6
def dkwX0_judge_4 : List UInt8 := [162, 0, 66, 3, 54, 7, 21, 7, 21, 5, 162, 0, 50, 25, 4, 21, 5, 21, 6, 104, 21, 7, 96]
abbrev dktX0_judge_4 : List UInt8 := dkwX0_judge_4 ++ dktX0_judge_5
def dkwX0_judge_3 : List UInt8 := [182, 1, 25, 21, 5, 21, 5, 104, 162, 0, 9, 42, 7, 182, 0, 176, 172, 3, 54, 6, 21, 6, 21, 5]
abbrev dktX0_judge_3 : List UInt8 := dkwX0_judge_3 ++ dktX0_judge_4
def dkwX0_judge_2 : List UInt8 := [180, 0, 186, 199, 0, 9, 42, 6, 182, 0, 176, 172, 42, 180, 0, 57, 180, 0, 200, 54, 5, 25, 4]
abbrev dktX0_judge_2 : List UInt8 := dkwX0_judge_2 ++ dktX0_judge_3
def dkwX0_judge_1 : List UInt8 := [133, 182, 1, 93, 154, 0, 9, 42, 5, 182, 0, 176, 172, 42, 180, 0, 11, 29, 50, 58, 4, 25, 4]
abbrev dktX0_judge_1 : List UInt8 := dkwX0_judge_1 ++ dktX0_judge_2
def dkwX0_judge_0 : List UInt8 := [29, 184, 0, 159, 154, 0, 9, 42, 4, 182, 0, 176, 172, 42, 27, 133, 182, 1, 93, 153, 0, 12, 42, 28]
abbrev dktX0_judge_0 : List UInt8 := dkwX0_judge_0 ++ dktX0_judge_1
theorem dksX0_judge_0 : cX0_judge.data.toList.drop 0 = dktX0_judge_0 := by decide +kernel
theorem dksX0_judge_1 : cX0_judge.data.toList.drop 24 = dktX0_judge_1 := dk_seg dksX0_judge_0 24 rfl rfl
theorem dksX0_judge_2 : cX0_judge.data.toList.drop 47 = dktX0_judge_2 := dk_seg dksX0_judge_1 23 rfl rfl
theorem dksX0_judge_3 : cX0_judge.data.toList.drop 70 = dktX0_judge_3 := dk_seg dksX0_judge_2 23 rfl rfl
theorem dksX0_judge_4 : cX0_judge.data.toList.drop 94 = dktX0_judge_4 := dk_seg dksX0_judge_3 24 rfl rfl
theorem dksX0_judge_5 : cX0_judge.data.toList.drop 117 = dktX0_judge_5 := dk_seg dksX0_judge_4 23 rfl rfl
theorem dksX0_judge_6 : cX0_judge.data.toList.drop 141 = dktX0_judge_6 := dk_seg dksX0_judge_5 24 rfl rfl
theorem dksX0_judge_7 : cX0_judge.data.toList.drop 165 = dktX0_judge_7 := dk_seg dksX0_judge_6 24 rfl rfl
theorem dX0_judge_0 : decode cX0_judge 0 = .ok (.iload_n 3, 1) := dk_29 (dk_at dksX0_judge_0 0 rfl rfl)
theorem dX0_judge_1 : decode cX0_judge 1 = .ok (.invokestatic 159, 3) := dk_184 0 159 (dk_at dksX0_judge_0 1 rfl rfl)
theorem dX0_judge_4 : decode cX0_judge 4 = .ok (.ifCond .ne 9, 3) := dk_154 0 9 (dk_at dksX0_judge_0 4 rfl rfl)
theorem dX0_judge_7 : decode cX0_judge 7 = .ok (.aload_n 0, 1) := dk_42 (dk_at dksX0_judge_0 7 rfl rfl)
theorem dX0_judge_8 : decode cX0_judge 8 = .ok (.iconst 1, 1) := dk_4 (dk_at dksX0_judge_0 8 rfl rfl)
theorem dX0_judge_9 : decode cX0_judge 9 = .ok (.invokevirtual 176, 3) := dk_182 0 176 (dk_at dksX0_judge_0 9 rfl rfl)
theorem dX0_judge_12 : decode cX0_judge 12 = .ok (.ireturn, 1) := dk_172 (dk_at dksX0_judge_0 12 rfl rfl)
theorem dX0_judge_13 : decode cX0_judge 13 = .ok (.aload_n 0, 1) := dk_42 (dk_at dksX0_judge_0 13 rfl rfl)
theorem dX0_judge_14 : decode cX0_judge 14 = .ok (.iload_n 1, 1) := dk_27 (dk_at dksX0_judge_0 14 rfl rfl)
theorem dX0_judge_15 : decode cX0_judge 15 = .ok (.i2l, 1) := dk_133 (dk_at dksX0_judge_0 15 rfl rfl)
theorem dX0_judge_16 : decode cX0_judge 16 = .ok (.invokevirtual 349, 3) := dk_182 1 93 (dk_at dksX0_judge_0 16 rfl rfl)
theorem dX0_judge_19 : decode cX0_judge 19 = .ok (.ifCond .eq 12, 3) := dk_153 0 12 (dk_at dksX0_judge_0 19 rfl rfl)
theorem dX0_judge_22 : decode cX0_judge 22 = .ok (.aload_n 0, 1) := dk_42 (dk_at dksX0_judge_0 22 rfl rfl)
theorem dX0_judge_23 : decode cX0_judge 23 = .ok (.iload_n 2, 1) := dk_28 (dk_at dksX0_judge_0 23 rfl rfl)
theorem dX0_judge_24 : decode cX0_judge 24 = .ok (.i2l, 1) := dk_133 (dk_at dksX0_judge_1 0 rfl rfl)
theorem dX0_judge_25 : decode cX0_judge 25 = .ok (.invokevirtual 349, 3) := dk_182 1 93 (dk_at dksX0_judge_1 1 rfl rfl)
theorem dX0_judge_28 : decode cX0_judge 28 = .ok (.ifCond .ne 9, 3) := dk_154 0 9 (dk_at dksX0_judge_1 4 rfl rfl)
theorem dX0_judge_31 : decode cX0_judge 31 = .ok (.aload_n 0, 1) := dk_42 (dk_at dksX0_judge_1 7 rfl rfl)
theorem dX0_judge_32 : decode cX0_judge 32 = .ok (.iconst 2, 1) := dk_5 (dk_at dksX0_judge_1 8 rfl rfl)
theorem dX0_judge_33 : decode cX0_judge 33 = .ok (.invokevirtual 176, 3) := dk_182 0 176 (dk_at dksX0_judge_1 9 rfl rfl)
theorem dX0_judge_36 : decode cX0_judge 36 = .ok (.ireturn, 1) := dk_172 (dk_at dksX0_judge_1 12 rfl rfl)
theorem dX0_judge_37 : decode cX0_judge 37 = .ok (.aload_n 0, 1) := dk_42 (dk_at dksX0_judge_1 13 rfl rfl)
theorem dX0_judge_38 : decode cX0_judge 38 = .ok (.getfield 11, 3) := dk_180 0 11 (dk_at dksX0_judge_1 14 rfl rfl)
theorem dX0_judge_41 : decode cX0_judge 41 = .ok (.iload_n 3, 1) := dk_29 (dk_at dksX0_judge_1 17 rfl rfl)
theorem dX0_judge_42 : decode cX0_judge 42 = .ok (.aaload, 1) := dk_50 (dk_at dksX0_judge_1 18 rfl rfl)
theorem dX0_judge_43 : decode cX0_judge 43 = .ok (.astore 4, 2) := dk_58 4 (dk_at dksX0_judge_1 19 rfl rfl)
theorem dX0_judge_45 : decode cX0_judge 45 = .ok (.aload 4, 2) := dk_25 4 (dk_at dksX0_judge_1 21 rfl rfl)
theorem dX0_judge_47 : decode cX0_judge 47 = .ok (.getfield 186, 3) := dk_180 0 186 (dk_at dksX0_judge_2 0 rfl rfl)
theorem dX0_judge_50 : decode cX0_judge 50 = .ok (.ifnonnull 9, 3) := dk_199 0 9 (dk_at dksX0_judge_2 3 rfl rfl)
theorem dX0_judge_53 : decode cX0_judge 53 = .ok (.aload_n 0, 1) := dk_42 (dk_at dksX0_judge_2 6 rfl rfl)
theorem dX0_judge_54 : decode cX0_judge 54 = .ok (.iconst 3, 1) := dk_6 (dk_at dksX0_judge_2 7 rfl rfl)
theorem dX0_judge_55 : decode cX0_judge 55 = .ok (.invokevirtual 176, 3) := dk_182 0 176 (dk_at dksX0_judge_2 8 rfl rfl)
theorem dX0_judge_58 : decode cX0_judge 58 = .ok (.ireturn, 1) := dk_172 (dk_at dksX0_judge_2 11 rfl rfl)
theorem dX0_judge_59 : decode cX0_judge 59 = .ok (.aload_n 0, 1) := dk_42 (dk_at dksX0_judge_2 12 rfl rfl)
theorem dX0_judge_60 : decode cX0_judge 60 = .ok (.getfield 57, 3) := dk_180 0 57 (dk_at dksX0_judge_2 13 rfl rfl)
theorem dX0_judge_63 : decode cX0_judge 63 = .ok (.getfield 200, 3) := dk_180 0 200 (dk_at dksX0_judge_2 16 rfl rfl)
theorem dX0_judge_66 : decode cX0_judge 66 = .ok (.istore 5, 2) := dk_54 5 (dk_at dksX0_judge_2 19 rfl rfl)
theorem dX0_judge_68 : decode cX0_judge 68 = .ok (.aload 4, 2) := dk_25 4 (dk_at dksX0_judge_2 21 rfl rfl)
theorem dX0_judge_70 : decode cX0_judge 70 = .ok (.invokevirtual 281, 3) := dk_182 1 25 (dk_at dksX0_judge_3 0 rfl rfl)
theorem dX0_judge_73 : decode cX0_judge 73 = .ok (.iload 5, 2) := dk_21 5 (dk_at dksX0_judge_3 3 rfl rfl)
theorem dX0_judge_75 : decode cX0_judge 75 = .ok (.iload 5, 2) := dk_21 5 (dk_at dksX0_judge_3 5 rfl rfl)
theorem dX0_judge_77 : decode cX0_judge 77 = .ok (.imul, 1) := dk_104 (dk_at dksX0_judge_3 7 rfl rfl)
theorem dX0_judge_78 : decode cX0_judge 78 = .ok (.if_icmp .ge 9, 3) := dk_162 0 9 (dk_at dksX0_judge_3 8 rfl rfl)
theorem dX0_judge_81 : decode cX0_judge 81 = .ok (.aload_n 0, 1) := dk_42 (dk_at dksX0_judge_3 11 rfl rfl)
theorem dX0_judge_82 : decode cX0_judge 82 = .ok (.iconst 4, 1) := dk_7 (dk_at dksX0_judge_3 12 rfl rfl)
theorem dX0_judge_83 : decode cX0_judge 83 = .ok (.invokevirtual 176, 3) := dk_182 0 176 (dk_at dksX0_judge_3 13 rfl rfl)
theorem dX0_judge_86 : decode cX0_judge 86 = .ok (.ireturn, 1) := dk_172 (dk_at dksX0_judge_3 16 rfl rfl)
theorem dX0_judge_87 : decode cX0_judge 87 = .ok (.iconst 0, 1) := dk_3 (dk_at dksX0_judge_3 17 rfl rfl)
theorem dX0_judge_88 : decode cX0_judge 88 = .ok (.istore 6, 2) := dk_54 6 (dk_at dksX0_judge_3 18 rfl rfl)
theorem dX0_judge_90 : decode cX0_judge 90 = .ok (.iload 6, 2) := dk_21 6 (dk_at dksX0_judge_3 20 rfl rfl)
theorem dX0_judge_92 : decode cX0_judge 92 = .ok (.iload 5, 2) := dk_21 5 (dk_at dksX0_judge_3 22 rfl rfl)
theorem dX0_judge_94 : decode cX0_judge 94 = .ok (.if_icmp .ge 66, 3) := dk_162 0 66 (dk_at dksX0_judge_4 0 rfl rfl)
theorem dX0_judge_97 : decode cX0_judge 97 = .ok (.iconst 0, 1) := dk_3 (dk_at dksX0_judge_4 3 rfl rfl)
theorem dX0_judge_98 : decode cX0_judge 98 = .ok (.istore 7, 2) := dk_54 7 (dk_at dksX0_judge_4 4 rfl rfl)
theorem dX0_judge_100 : decode cX0_judge 100 = .ok (.iload 7, 2) := dk_21 7 (dk_at dksX0_judge_4 6 rfl rfl)
theorem dX0_judge_102 : decode cX0_judge 102 = .ok (.iload 5, 2) := dk_21 5 (dk_at dksX0_judge_4 8 rfl rfl)
theorem dX0_judge_104 : decode cX0_judge 104 = .ok (.if_icmp .ge 50, 3) := dk_162 0 50 (dk_at dksX0_judge_4 10 rfl rfl)
theorem dX0_judge_107 : decode cX0_judge 107 = .ok (.aload 4, 2) := dk_25 4 (dk_at dksX0_judge_4 13 rfl rfl)
theorem dX0_judge_109 : decode cX0_judge 109 = .ok (.iload 5, 2) := dk_21 5 (dk_at dksX0_judge_4 15 rfl rfl)
theorem dX0_judge_111 : decode cX0_judge 111 = .ok (.iload 6, 2) := dk_21 6 (dk_at dksX0_judge_4 17 rfl rfl)
theorem dX0_judge_113 : decode cX0_judge 113 = .ok (.imul, 1) := dk_104 (dk_at dksX0_judge_4 19 rfl rfl)
theorem dX0_judge_114 : decode cX0_judge 114 = .ok (.iload 7, 2) := dk_21 7 (dk_at dksX0_judge_4 20 rfl rfl)
theorem dX0_judge_116 : decode cX0_judge 116 = .ok (.iadd, 1) := dk_96 (dk_at dksX0_judge_4 22 rfl rfl)
theorem dX0_judge_117 : decode cX0_judge 117 = .ok (.invokevirtual 180, 3) := dk_182 0 180 (dk_at dksX0_judge_5 0 rfl rfl)
theorem dX0_judge_120 : decode cX0_judge 120 = .ok (.aload_n 0, 1) := dk_42 (dk_at dksX0_judge_5 3 rfl rfl)
theorem dX0_judge_121 : decode cX0_judge 121 = .ok (.iload_n 1, 1) := dk_27 (dk_at dksX0_judge_5 4 rfl rfl)
theorem dX0_judge_122 : decode cX0_judge 122 = .ok (.iload_n 2, 1) := dk_28 (dk_at dksX0_judge_5 5 rfl rfl)
theorem dX0_judge_123 : decode cX0_judge 123 = .ok (.iload 6, 2) := dk_21 6 (dk_at dksX0_judge_5 6 rfl rfl)
theorem dX0_judge_125 : decode cX0_judge 125 = .ok (.iload 7, 2) := dk_21 7 (dk_at dksX0_judge_5 8 rfl rfl)
theorem dX0_judge_127 : decode cX0_judge 127 = .ok (.invokevirtual 353, 3) := dk_182 1 97 (dk_at dksX0_judge_5 10 rfl rfl)
theorem dX0_judge_130 : decode cX0_judge 130 = .ok (.i2l, 1) := dk_133 (dk_at dksX0_judge_5 13 rfl rfl)
theorem dX0_judge_131 : decode cX0_judge 131 = .ok (.lcmp, 1) := dk_148 (dk_at dksX0_judge_5 14 rfl rfl)
theorem dX0_judge_132 : decode cX0_judge 132 = .ok (.ifCond .eq 16, 3) := dk_153 0 16 (dk_at dksX0_judge_5 15 rfl rfl)
theorem dX0_judge_135 : decode cX0_judge 135 = .ok (.aload_n 0, 1) := dk_42 (dk_at dksX0_judge_5 18 rfl rfl)
theorem dX0_judge_136 : decode cX0_judge 136 = .ok (.bipush 8, 2) := dk_16 8 (dk_at dksX0_judge_5 19 rfl rfl)
theorem dX0_judge_138 : decode cX0_judge 138 = .ok (.iload 6, 2) := dk_21 6 (dk_at dksX0_judge_5 21 rfl rfl)
theorem dX0_judge_140 : decode cX0_judge 140 = .ok (.imul, 1) := dk_104 (dk_at dksX0_judge_5 23 rfl rfl)
theorem dX0_judge_141 : decode cX0_judge 141 = .ok (.iload 7, 2) := dk_21 7 (dk_at dksX0_judge_6 0 rfl rfl)
theorem dX0_judge_143 : decode cX0_judge 143 = .ok (.iadd, 1) := dk_96 (dk_at dksX0_judge_6 2 rfl rfl)
theorem dX0_judge_144 : decode cX0_judge 144 = .ok (.invokevirtual 234, 3) := dk_182 0 234 (dk_at dksX0_judge_6 3 rfl rfl)
theorem dX0_judge_147 : decode cX0_judge 147 = .ok (.ireturn, 1) := dk_172 (dk_at dksX0_judge_6 6 rfl rfl)
theorem dX0_judge_148 : decode cX0_judge 148 = .ok (.iinc 7 1, 3) := dk_132 7 1 (dk_at dksX0_judge_6 7 rfl rfl)
theorem dX0_judge_151 : decode cX0_judge 151 = .ok (.goto (-51), 3) := dk_167 255 205 (dk_at dksX0_judge_6 10 rfl rfl)
theorem dX0_judge_154 : decode cX0_judge 154 = .ok (.iinc 6 1, 3) := dk_132 6 1 (dk_at dksX0_judge_6 13 rfl rfl)
theorem dX0_judge_157 : decode cX0_judge 157 = .ok (.goto (-67), 3) := dk_167 255 189 (dk_at dksX0_judge_6 16 rfl rfl)
theorem dX0_judge_160 : decode cX0_judge 160 = .ok (.aload_n 0, 1) := dk_42 (dk_at dksX0_judge_6 19 rfl rfl)
theorem dX0_judge_161 : decode cX0_judge 161 = .ok (.iconst (-1), 1) := dk_2 (dk_at dksX0_judge_6 20 rfl rfl)
theorem dX0_judge_162 : decode cX0_judge 162 = .ok (.invokevirtual 234, 3) := dk_182 0 234 (dk_at dksX0_judge_6 21 rfl rfl)
theorem dX0_judge_165 : decode cX0_judge 165 = .ok (.ireturn, 1) := dk_172 (dk_at dksX0_judge_7 0 rfl rfl)
abbrev cX0_mean : ByteArray := prog_1_method_40_code
def yX0_mean : MethodName := ⟨RX0, "mean", "(II)Z"⟩
def dkwX0_mean_2 : List UInt8 := [42, 33, 42, 182, 1, 121, 182, 1, 125, 172]
abbrev dktX0_mean_2 : List UInt8 := dkwX0_mean_2 ++ []
def dkwX0_mean_1 : List UInt8 := [42, 27, 28, 182, 1, 118, 66, 33, 20, 0, 184, 148, 154, 0, 12, 42, 16, 9, 182, 0, 155, 167, 0, 12]
abbrev dktX0_mean_1 : List UInt8 := dkwX0_mean_1 ++ dktX0_mean_2
def dkwX0_mean_0 : List UInt8 := [42, 27, 133, 182, 1, 93, 153, 0, 12, 42, 28, 133, 182, 1, 93, 154, 0, 9, 42, 5, 182, 0, 155, 172]
abbrev dktX0_mean_0 : List UInt8 := dkwX0_mean_0 ++ dktX0_mean_1
theorem dksX0_mean_0 : cX0_mean.data.toList.drop 0 = dktX0_mean_0 := by decide +kernel
theorem dksX0_mean_1 : cX0_mean.data.toList.drop 24 = dktX0_mean_1 := dk_seg dksX0_mean_0 24 rfl rfl
theorem dksX0_mean_2 : cX0_mean.data.toList.drop 48 = dktX0_mean_2 := dk_seg dksX0_mean_1 24 rfl rfl
theorem dX0_mean_0 : decode cX0_mean 0 = .ok (.aload_n 0, 1) := dk_42 (dk_at dksX0_mean_0 0 rfl rfl)
theorem dX0_mean_1 : decode cX0_mean 1 = .ok (.iload_n 1, 1) := dk_27 (dk_at dksX0_mean_0 1 rfl rfl)
theorem dX0_mean_2 : decode cX0_mean 2 = .ok (.i2l, 1) := dk_133 (dk_at dksX0_mean_0 2 rfl rfl)
theorem dX0_mean_3 : decode cX0_mean 3 = .ok (.invokevirtual 349, 3) := dk_182 1 93 (dk_at dksX0_mean_0 3 rfl rfl)
theorem dX0_mean_6 : decode cX0_mean 6 = .ok (.ifCond .eq 12, 3) := dk_153 0 12 (dk_at dksX0_mean_0 6 rfl rfl)
theorem dX0_mean_9 : decode cX0_mean 9 = .ok (.aload_n 0, 1) := dk_42 (dk_at dksX0_mean_0 9 rfl rfl)
theorem dX0_mean_10 : decode cX0_mean 10 = .ok (.iload_n 2, 1) := dk_28 (dk_at dksX0_mean_0 10 rfl rfl)
theorem dX0_mean_11 : decode cX0_mean 11 = .ok (.i2l, 1) := dk_133 (dk_at dksX0_mean_0 11 rfl rfl)
theorem dX0_mean_12 : decode cX0_mean 12 = .ok (.invokevirtual 349, 3) := dk_182 1 93 (dk_at dksX0_mean_0 12 rfl rfl)
theorem dX0_mean_15 : decode cX0_mean 15 = .ok (.ifCond .ne 9, 3) := dk_154 0 9 (dk_at dksX0_mean_0 15 rfl rfl)
theorem dX0_mean_18 : decode cX0_mean 18 = .ok (.aload_n 0, 1) := dk_42 (dk_at dksX0_mean_0 18 rfl rfl)
theorem dX0_mean_19 : decode cX0_mean 19 = .ok (.iconst 2, 1) := dk_5 (dk_at dksX0_mean_0 19 rfl rfl)
theorem dX0_mean_20 : decode cX0_mean 20 = .ok (.invokevirtual 155, 3) := dk_182 0 155 (dk_at dksX0_mean_0 20 rfl rfl)
theorem dX0_mean_23 : decode cX0_mean 23 = .ok (.ireturn, 1) := dk_172 (dk_at dksX0_mean_0 23 rfl rfl)
theorem dX0_mean_24 : decode cX0_mean 24 = .ok (.aload_n 0, 1) := dk_42 (dk_at dksX0_mean_1 0 rfl rfl)
theorem dX0_mean_25 : decode cX0_mean 25 = .ok (.iload_n 1, 1) := dk_27 (dk_at dksX0_mean_1 1 rfl rfl)
theorem dX0_mean_26 : decode cX0_mean 26 = .ok (.iload_n 2, 1) := dk_28 (dk_at dksX0_mean_1 2 rfl rfl)
theorem dX0_mean_27 : decode cX0_mean 27 = .ok (.invokevirtual 374, 3) := dk_182 1 118 (dk_at dksX0_mean_1 3 rfl rfl)
theorem dX0_mean_30 : decode cX0_mean 30 = .ok (.lstore_n 3, 1) := dk_66 (dk_at dksX0_mean_1 6 rfl rfl)
theorem dX0_mean_31 : decode cX0_mean 31 = .ok (.lload_n 3, 1) := dk_33 (dk_at dksX0_mean_1 7 rfl rfl)
theorem dX0_mean_32 : decode cX0_mean 32 = .ok (.ldc2_w 184, 3) := dk_20 0 184 (dk_at dksX0_mean_1 8 rfl rfl)
theorem dX0_mean_35 : decode cX0_mean 35 = .ok (.lcmp, 1) := dk_148 (dk_at dksX0_mean_1 11 rfl rfl)
theorem dX0_mean_36 : decode cX0_mean 36 = .ok (.ifCond .ne 12, 3) := dk_154 0 12 (dk_at dksX0_mean_1 12 rfl rfl)
theorem dX0_mean_39 : decode cX0_mean 39 = .ok (.aload_n 0, 1) := dk_42 (dk_at dksX0_mean_1 15 rfl rfl)
theorem dX0_mean_40 : decode cX0_mean 40 = .ok (.bipush 9, 2) := dk_16 9 (dk_at dksX0_mean_1 16 rfl rfl)
theorem dX0_mean_42 : decode cX0_mean 42 = .ok (.invokevirtual 155, 3) := dk_182 0 155 (dk_at dksX0_mean_1 18 rfl rfl)
theorem dX0_mean_45 : decode cX0_mean 45 = .ok (.goto 12, 3) := dk_167 0 12 (dk_at dksX0_mean_1 21 rfl rfl)
theorem dX0_mean_48 : decode cX0_mean 48 = .ok (.aload_n 0, 1) := dk_42 (dk_at dksX0_mean_2 0 rfl rfl)
theorem dX0_mean_49 : decode cX0_mean 49 = .ok (.lload_n 3, 1) := dk_33 (dk_at dksX0_mean_2 1 rfl rfl)
theorem dX0_mean_50 : decode cX0_mean 50 = .ok (.aload_n 0, 1) := dk_42 (dk_at dksX0_mean_2 2 rfl rfl)
theorem dX0_mean_51 : decode cX0_mean 51 = .ok (.invokevirtual 377, 3) := dk_182 1 121 (dk_at dksX0_mean_2 3 rfl rfl)
theorem dX0_mean_54 : decode cX0_mean 54 = .ok (.invokevirtual 381, 3) := dk_182 1 125 (dk_at dksX0_mean_2 6 rfl rfl)
theorem dX0_mean_57 : decode cX0_mean 57 = .ok (.ireturn, 1) := dk_172 (dk_at dksX0_mean_2 9 rfl rfl)
abbrev cX0_times : ByteArray := prog_1_method_39_code
def yX0_times : MethodName := ⟨RX0, "times", "(II)J"⟩
def dkwX0_times_5 : List UInt8 := [132, 6, 1, 167, 255, 151, 21, 5, 153, 0, 7, 33, 167, 0, 6, 20, 0, 184, 173]
abbrev dktX0_times_5 : List UInt8 := dkwX0_times_5 ++ []
def dkwX0_times_4 : List UInt8 := [181, 1, 109, 33, 42, 21, 6, 21, 7, 182, 1, 105, 21, 8, 133, 105, 97, 66, 132, 7, 1, 167, 255, 172]
abbrev dktX0_times_4 : List UInt8 := dkwX0_times_4 ++ dktX0_times_5
def dkwX0_times_3 : List UInt8 := [21, 8, 2, 160, 0, 7, 20, 0, 184, 173, 4, 54, 5, 42, 42, 180, 1, 109, 21, 8, 184, 1, 112]
abbrev dktX0_times_3 : List UInt8 := dkwX0_times_3 ++ dktX0_times_4
def dkwX0_times_2 : List UInt8 := [182, 1, 105, 9, 148, 154, 0, 6, 167, 0, 56, 42, 27, 28, 21, 6, 21, 7, 182, 1, 97, 54, 8]
abbrev dktX0_times_2 : List UInt8 := dkwX0_times_2 ++ dktX0_times_3
def dkwX0_times_1 : List UInt8 := [162, 0, 99, 3, 54, 7, 21, 7, 42, 180, 0, 57, 180, 0, 200, 162, 0, 78, 42, 21, 6, 21, 7]
abbrev dktX0_times_1 : List UInt8 := dkwX0_times_1 ++ dktX0_times_2
def dkwX0_times_0 : List UInt8 := [9, 66, 42, 3, 181, 1, 109, 3, 54, 5, 3, 54, 6, 21, 6, 42, 180, 0, 57, 180, 0, 200]
abbrev dktX0_times_0 : List UInt8 := dkwX0_times_0 ++ dktX0_times_1
theorem dksX0_times_0 : cX0_times.data.toList.drop 0 = dktX0_times_0 := by decide +kernel
theorem dksX0_times_1 : cX0_times.data.toList.drop 22 = dktX0_times_1 := dk_seg dksX0_times_0 22 rfl rfl
theorem dksX0_times_2 : cX0_times.data.toList.drop 45 = dktX0_times_2 := dk_seg dksX0_times_1 23 rfl rfl
theorem dksX0_times_3 : cX0_times.data.toList.drop 68 = dktX0_times_3 := dk_seg dksX0_times_2 23 rfl rfl
theorem dksX0_times_4 : cX0_times.data.toList.drop 91 = dktX0_times_4 := dk_seg dksX0_times_3 23 rfl rfl
theorem dksX0_times_5 : cX0_times.data.toList.drop 115 = dktX0_times_5 := dk_seg dksX0_times_4 24 rfl rfl
theorem dX0_times_0 : decode cX0_times 0 = .ok (.lconst 0, 1) := dk_9 (dk_at dksX0_times_0 0 rfl rfl)
theorem dX0_times_1 : decode cX0_times 1 = .ok (.lstore_n 3, 1) := dk_66 (dk_at dksX0_times_0 1 rfl rfl)
theorem dX0_times_2 : decode cX0_times 2 = .ok (.aload_n 0, 1) := dk_42 (dk_at dksX0_times_0 2 rfl rfl)
theorem dX0_times_3 : decode cX0_times 3 = .ok (.iconst 0, 1) := dk_3 (dk_at dksX0_times_0 3 rfl rfl)
theorem dX0_times_4 : decode cX0_times 4 = .ok (.putfield 365, 3) := dk_181 1 109 (dk_at dksX0_times_0 4 rfl rfl)
theorem dX0_times_7 : decode cX0_times 7 = .ok (.iconst 0, 1) := dk_3 (dk_at dksX0_times_0 7 rfl rfl)
theorem dX0_times_8 : decode cX0_times 8 = .ok (.istore 5, 2) := dk_54 5 (dk_at dksX0_times_0 8 rfl rfl)
theorem dX0_times_10 : decode cX0_times 10 = .ok (.iconst 0, 1) := dk_3 (dk_at dksX0_times_0 10 rfl rfl)
theorem dX0_times_11 : decode cX0_times 11 = .ok (.istore 6, 2) := dk_54 6 (dk_at dksX0_times_0 11 rfl rfl)
theorem dX0_times_13 : decode cX0_times 13 = .ok (.iload 6, 2) := dk_21 6 (dk_at dksX0_times_0 13 rfl rfl)
theorem dX0_times_15 : decode cX0_times 15 = .ok (.aload_n 0, 1) := dk_42 (dk_at dksX0_times_0 15 rfl rfl)
theorem dX0_times_16 : decode cX0_times 16 = .ok (.getfield 57, 3) := dk_180 0 57 (dk_at dksX0_times_0 16 rfl rfl)
theorem dX0_times_19 : decode cX0_times 19 = .ok (.getfield 200, 3) := dk_180 0 200 (dk_at dksX0_times_0 19 rfl rfl)
theorem dX0_times_22 : decode cX0_times 22 = .ok (.if_icmp .ge 99, 3) := dk_162 0 99 (dk_at dksX0_times_1 0 rfl rfl)
theorem dX0_times_25 : decode cX0_times 25 = .ok (.iconst 0, 1) := dk_3 (dk_at dksX0_times_1 3 rfl rfl)
theorem dX0_times_26 : decode cX0_times 26 = .ok (.istore 7, 2) := dk_54 7 (dk_at dksX0_times_1 4 rfl rfl)
theorem dX0_times_28 : decode cX0_times 28 = .ok (.iload 7, 2) := dk_21 7 (dk_at dksX0_times_1 6 rfl rfl)
theorem dX0_times_30 : decode cX0_times 30 = .ok (.aload_n 0, 1) := dk_42 (dk_at dksX0_times_1 8 rfl rfl)
theorem dX0_times_31 : decode cX0_times 31 = .ok (.getfield 57, 3) := dk_180 0 57 (dk_at dksX0_times_1 9 rfl rfl)
theorem dX0_times_34 : decode cX0_times 34 = .ok (.getfield 200, 3) := dk_180 0 200 (dk_at dksX0_times_1 12 rfl rfl)
theorem dX0_times_37 : decode cX0_times 37 = .ok (.if_icmp .ge 78, 3) := dk_162 0 78 (dk_at dksX0_times_1 15 rfl rfl)
theorem dX0_times_40 : decode cX0_times 40 = .ok (.aload_n 0, 1) := dk_42 (dk_at dksX0_times_1 18 rfl rfl)
theorem dX0_times_41 : decode cX0_times 41 = .ok (.iload 6, 2) := dk_21 6 (dk_at dksX0_times_1 19 rfl rfl)
theorem dX0_times_43 : decode cX0_times 43 = .ok (.iload 7, 2) := dk_21 7 (dk_at dksX0_times_1 21 rfl rfl)
theorem dX0_times_45 : decode cX0_times 45 = .ok (.invokevirtual 361, 3) := dk_182 1 105 (dk_at dksX0_times_2 0 rfl rfl)
theorem dX0_times_48 : decode cX0_times 48 = .ok (.lconst 0, 1) := dk_9 (dk_at dksX0_times_2 3 rfl rfl)
theorem dX0_times_49 : decode cX0_times 49 = .ok (.lcmp, 1) := dk_148 (dk_at dksX0_times_2 4 rfl rfl)
theorem dX0_times_50 : decode cX0_times 50 = .ok (.ifCond .ne 6, 3) := dk_154 0 6 (dk_at dksX0_times_2 5 rfl rfl)
theorem dX0_times_53 : decode cX0_times 53 = .ok (.goto 56, 3) := dk_167 0 56 (dk_at dksX0_times_2 8 rfl rfl)
theorem dX0_times_56 : decode cX0_times 56 = .ok (.aload_n 0, 1) := dk_42 (dk_at dksX0_times_2 11 rfl rfl)
theorem dX0_times_57 : decode cX0_times 57 = .ok (.iload_n 1, 1) := dk_27 (dk_at dksX0_times_2 12 rfl rfl)
theorem dX0_times_58 : decode cX0_times 58 = .ok (.iload_n 2, 1) := dk_28 (dk_at dksX0_times_2 13 rfl rfl)
theorem dX0_times_59 : decode cX0_times 59 = .ok (.iload 6, 2) := dk_21 6 (dk_at dksX0_times_2 14 rfl rfl)
theorem dX0_times_61 : decode cX0_times 61 = .ok (.iload 7, 2) := dk_21 7 (dk_at dksX0_times_2 16 rfl rfl)
theorem dX0_times_63 : decode cX0_times 63 = .ok (.invokevirtual 353, 3) := dk_182 1 97 (dk_at dksX0_times_2 18 rfl rfl)
theorem dX0_times_66 : decode cX0_times 66 = .ok (.istore 8, 2) := dk_54 8 (dk_at dksX0_times_2 21 rfl rfl)
theorem dX0_times_68 : decode cX0_times 68 = .ok (.iload 8, 2) := dk_21 8 (dk_at dksX0_times_3 0 rfl rfl)
theorem dX0_times_70 : decode cX0_times 70 = .ok (.iconst (-1), 1) := dk_2 (dk_at dksX0_times_3 2 rfl rfl)
theorem dX0_times_71 : decode cX0_times 71 = .ok (.if_icmp .ne 7, 3) := dk_160 0 7 (dk_at dksX0_times_3 3 rfl rfl)
theorem dX0_times_74 : decode cX0_times 74 = .ok (.ldc2_w 184, 3) := dk_20 0 184 (dk_at dksX0_times_3 6 rfl rfl)
theorem dX0_times_77 : decode cX0_times 77 = .ok (.lreturn, 1) := dk_173 (dk_at dksX0_times_3 9 rfl rfl)
theorem dX0_times_78 : decode cX0_times 78 = .ok (.iconst 1, 1) := dk_4 (dk_at dksX0_times_3 10 rfl rfl)
theorem dX0_times_79 : decode cX0_times 79 = .ok (.istore 5, 2) := dk_54 5 (dk_at dksX0_times_3 11 rfl rfl)
theorem dX0_times_81 : decode cX0_times 81 = .ok (.aload_n 0, 1) := dk_42 (dk_at dksX0_times_3 13 rfl rfl)
theorem dX0_times_82 : decode cX0_times 82 = .ok (.aload_n 0, 1) := dk_42 (dk_at dksX0_times_3 14 rfl rfl)
theorem dX0_times_83 : decode cX0_times 83 = .ok (.getfield 365, 3) := dk_180 1 109 (dk_at dksX0_times_3 15 rfl rfl)
theorem dX0_times_86 : decode cX0_times 86 = .ok (.iload 8, 2) := dk_21 8 (dk_at dksX0_times_3 18 rfl rfl)
theorem dX0_times_88 : decode cX0_times 88 = .ok (.invokestatic 368, 3) := dk_184 1 112 (dk_at dksX0_times_3 20 rfl rfl)
theorem dX0_times_91 : decode cX0_times 91 = .ok (.putfield 365, 3) := dk_181 1 109 (dk_at dksX0_times_4 0 rfl rfl)
theorem dX0_times_94 : decode cX0_times 94 = .ok (.lload_n 3, 1) := dk_33 (dk_at dksX0_times_4 3 rfl rfl)
theorem dX0_times_95 : decode cX0_times 95 = .ok (.aload_n 0, 1) := dk_42 (dk_at dksX0_times_4 4 rfl rfl)
theorem dX0_times_96 : decode cX0_times 96 = .ok (.iload 6, 2) := dk_21 6 (dk_at dksX0_times_4 5 rfl rfl)
theorem dX0_times_98 : decode cX0_times 98 = .ok (.iload 7, 2) := dk_21 7 (dk_at dksX0_times_4 7 rfl rfl)
theorem dX0_times_100 : decode cX0_times 100 = .ok (.invokevirtual 361, 3) := dk_182 1 105 (dk_at dksX0_times_4 9 rfl rfl)
theorem dX0_times_103 : decode cX0_times 103 = .ok (.iload 8, 2) := dk_21 8 (dk_at dksX0_times_4 12 rfl rfl)
theorem dX0_times_105 : decode cX0_times 105 = .ok (.i2l, 1) := dk_133 (dk_at dksX0_times_4 14 rfl rfl)
theorem dX0_times_106 : decode cX0_times 106 = .ok (.lmul, 1) := dk_105 (dk_at dksX0_times_4 15 rfl rfl)
theorem dX0_times_107 : decode cX0_times 107 = .ok (.ladd, 1) := dk_97 (dk_at dksX0_times_4 16 rfl rfl)
theorem dX0_times_108 : decode cX0_times 108 = .ok (.lstore_n 3, 1) := dk_66 (dk_at dksX0_times_4 17 rfl rfl)
theorem dX0_times_109 : decode cX0_times 109 = .ok (.iinc 7 1, 3) := dk_132 7 1 (dk_at dksX0_times_4 18 rfl rfl)
theorem dX0_times_112 : decode cX0_times 112 = .ok (.goto (-84), 3) := dk_167 255 172 (dk_at dksX0_times_4 21 rfl rfl)
theorem dX0_times_115 : decode cX0_times 115 = .ok (.iinc 6 1, 3) := dk_132 6 1 (dk_at dksX0_times_5 0 rfl rfl)
theorem dX0_times_118 : decode cX0_times 118 = .ok (.goto (-105), 3) := dk_167 255 151 (dk_at dksX0_times_5 3 rfl rfl)
theorem dX0_times_121 : decode cX0_times 121 = .ok (.iload 5, 2) := dk_21 5 (dk_at dksX0_times_5 6 rfl rfl)
theorem dX0_times_123 : decode cX0_times 123 = .ok (.ifCond .eq 7, 3) := dk_153 0 7 (dk_at dksX0_times_5 8 rfl rfl)
theorem dX0_times_126 : decode cX0_times 126 = .ok (.lload_n 3, 1) := dk_33 (dk_at dksX0_times_5 11 rfl rfl)
theorem dX0_times_127 : decode cX0_times 127 = .ok (.goto 6, 3) := dk_167 0 6 (dk_at dksX0_times_5 12 rfl rfl)
theorem dX0_times_130 : decode cX0_times 130 = .ok (.ldc2_w 184, 3) := dk_20 0 184 (dk_at dksX0_times_5 15 rfl rfl)
theorem dX0_times_133 : decode cX0_times 133 = .ok (.lreturn, 1) := dk_173 (dk_at dksX0_times_5 18 rfl rfl)
abbrev cX0_likely : ByteArray := prog_1_method_37_code
def yX0_likely : MethodName := ⟨RX0, "likely", "(II)J"⟩
def dkwX0_likely_1 : List UInt8 := [180, 1, 103, 133, 105, 173]
abbrev dktX0_likely_1 : List UInt8 := dkwX0_likely_1 ++ []
def dkwX0_likely_0 : List UInt8 := [42, 180, 0, 57, 180, 0, 240, 27, 50, 180, 1, 101, 133, 42, 180, 0, 57, 180, 0, 240, 28, 50]
abbrev dktX0_likely_0 : List UInt8 := dkwX0_likely_0 ++ dktX0_likely_1
theorem dksX0_likely_0 : cX0_likely.data.toList.drop 0 = dktX0_likely_0 := by decide +kernel
theorem dksX0_likely_1 : cX0_likely.data.toList.drop 22 = dktX0_likely_1 := dk_seg dksX0_likely_0 22 rfl rfl
theorem dX0_likely_0 : decode cX0_likely 0 = .ok (.aload_n 0, 1) := dk_42 (dk_at dksX0_likely_0 0 rfl rfl)
theorem dX0_likely_1 : decode cX0_likely 1 = .ok (.getfield 57, 3) := dk_180 0 57 (dk_at dksX0_likely_0 1 rfl rfl)
theorem dX0_likely_4 : decode cX0_likely 4 = .ok (.getfield 240, 3) := dk_180 0 240 (dk_at dksX0_likely_0 4 rfl rfl)
theorem dX0_likely_7 : decode cX0_likely 7 = .ok (.iload_n 1, 1) := dk_27 (dk_at dksX0_likely_0 7 rfl rfl)
theorem dX0_likely_8 : decode cX0_likely 8 = .ok (.aaload, 1) := dk_50 (dk_at dksX0_likely_0 8 rfl rfl)
theorem dX0_likely_9 : decode cX0_likely 9 = .ok (.getfield 357, 3) := dk_180 1 101 (dk_at dksX0_likely_0 9 rfl rfl)
theorem dX0_likely_12 : decode cX0_likely 12 = .ok (.i2l, 1) := dk_133 (dk_at dksX0_likely_0 12 rfl rfl)
theorem dX0_likely_13 : decode cX0_likely 13 = .ok (.aload_n 0, 1) := dk_42 (dk_at dksX0_likely_0 13 rfl rfl)
theorem dX0_likely_14 : decode cX0_likely 14 = .ok (.getfield 57, 3) := dk_180 0 57 (dk_at dksX0_likely_0 14 rfl rfl)
theorem dX0_likely_17 : decode cX0_likely 17 = .ok (.getfield 240, 3) := dk_180 0 240 (dk_at dksX0_likely_0 17 rfl rfl)
theorem dX0_likely_20 : decode cX0_likely 20 = .ok (.iload_n 2, 1) := dk_28 (dk_at dksX0_likely_0 20 rfl rfl)
theorem dX0_likely_21 : decode cX0_likely 21 = .ok (.aaload, 1) := dk_50 (dk_at dksX0_likely_0 21 rfl rfl)
theorem dX0_likely_22 : decode cX0_likely 22 = .ok (.getfield 359, 3) := dk_180 1 103 (dk_at dksX0_likely_1 0 rfl rfl)
theorem dX0_likely_25 : decode cX0_likely 25 = .ok (.i2l, 1) := dk_133 (dk_at dksX0_likely_1 3 rfl rfl)
theorem dX0_likely_26 : decode cX0_likely 26 = .ok (.lmul, 1) := dk_105 (dk_at dksX0_likely_1 4 rfl rfl)
theorem dX0_likely_27 : decode cX0_likely 27 = .ok (.lreturn, 1) := dk_173 (dk_at dksX0_likely_1 5 rfl rfl)
abbrev cX0_allLikely : ByteArray := prog_1_method_38_code
def yX0_allLikely : MethodName := ⟨RX0, "allLikely", "()J"⟩
def dkwX0_allLikely_2 : List UInt8 := [132, 3, 1, 167, 255, 211, 31, 173]
abbrev dktX0_allLikely_2 : List UInt8 := dkwX0_allLikely_2 ++ []
def dkwX0_allLikely_1 : List UInt8 := [180, 0, 200, 162, 0, 19, 31, 42, 29, 21, 4, 182, 1, 105, 97, 64, 132, 4, 1, 167, 255, 231]
abbrev dktX0_allLikely_1 : List UInt8 := dkwX0_allLikely_1 ++ dktX0_allLikely_2
def dkwX0_allLikely_0 : List UInt8 := [9, 64, 3, 62, 29, 42, 180, 0, 57, 180, 0, 200, 162, 0, 40, 3, 54, 4, 21, 4, 42, 180, 0, 57]
abbrev dktX0_allLikely_0 : List UInt8 := dkwX0_allLikely_0 ++ dktX0_allLikely_1
theorem dksX0_allLikely_0 : cX0_allLikely.data.toList.drop 0 = dktX0_allLikely_0 := by decide +kernel
theorem dksX0_allLikely_1 : cX0_allLikely.data.toList.drop 24 = dktX0_allLikely_1 := dk_seg dksX0_allLikely_0 24 rfl rfl
theorem dksX0_allLikely_2 : cX0_allLikely.data.toList.drop 46 = dktX0_allLikely_2 := dk_seg dksX0_allLikely_1 22 rfl rfl
theorem dX0_allLikely_0 : decode cX0_allLikely 0 = .ok (.lconst 0, 1) := dk_9 (dk_at dksX0_allLikely_0 0 rfl rfl)
theorem dX0_allLikely_1 : decode cX0_allLikely 1 = .ok (.lstore_n 1, 1) := dk_64 (dk_at dksX0_allLikely_0 1 rfl rfl)
theorem dX0_allLikely_2 : decode cX0_allLikely 2 = .ok (.iconst 0, 1) := dk_3 (dk_at dksX0_allLikely_0 2 rfl rfl)
theorem dX0_allLikely_3 : decode cX0_allLikely 3 = .ok (.istore_n 3, 1) := dk_62 (dk_at dksX0_allLikely_0 3 rfl rfl)
theorem dX0_allLikely_4 : decode cX0_allLikely 4 = .ok (.iload_n 3, 1) := dk_29 (dk_at dksX0_allLikely_0 4 rfl rfl)
theorem dX0_allLikely_5 : decode cX0_allLikely 5 = .ok (.aload_n 0, 1) := dk_42 (dk_at dksX0_allLikely_0 5 rfl rfl)
theorem dX0_allLikely_6 : decode cX0_allLikely 6 = .ok (.getfield 57, 3) := dk_180 0 57 (dk_at dksX0_allLikely_0 6 rfl rfl)
theorem dX0_allLikely_9 : decode cX0_allLikely 9 = .ok (.getfield 200, 3) := dk_180 0 200 (dk_at dksX0_allLikely_0 9 rfl rfl)
theorem dX0_allLikely_12 : decode cX0_allLikely 12 = .ok (.if_icmp .ge 40, 3) := dk_162 0 40 (dk_at dksX0_allLikely_0 12 rfl rfl)
theorem dX0_allLikely_15 : decode cX0_allLikely 15 = .ok (.iconst 0, 1) := dk_3 (dk_at dksX0_allLikely_0 15 rfl rfl)
theorem dX0_allLikely_16 : decode cX0_allLikely 16 = .ok (.istore 4, 2) := dk_54 4 (dk_at dksX0_allLikely_0 16 rfl rfl)
theorem dX0_allLikely_18 : decode cX0_allLikely 18 = .ok (.iload 4, 2) := dk_21 4 (dk_at dksX0_allLikely_0 18 rfl rfl)
theorem dX0_allLikely_20 : decode cX0_allLikely 20 = .ok (.aload_n 0, 1) := dk_42 (dk_at dksX0_allLikely_0 20 rfl rfl)
theorem dX0_allLikely_21 : decode cX0_allLikely 21 = .ok (.getfield 57, 3) := dk_180 0 57 (dk_at dksX0_allLikely_0 21 rfl rfl)
theorem dX0_allLikely_24 : decode cX0_allLikely 24 = .ok (.getfield 200, 3) := dk_180 0 200 (dk_at dksX0_allLikely_1 0 rfl rfl)
theorem dX0_allLikely_27 : decode cX0_allLikely 27 = .ok (.if_icmp .ge 19, 3) := dk_162 0 19 (dk_at dksX0_allLikely_1 3 rfl rfl)
theorem dX0_allLikely_30 : decode cX0_allLikely 30 = .ok (.lload_n 1, 1) := dk_31 (dk_at dksX0_allLikely_1 6 rfl rfl)
theorem dX0_allLikely_31 : decode cX0_allLikely 31 = .ok (.aload_n 0, 1) := dk_42 (dk_at dksX0_allLikely_1 7 rfl rfl)
theorem dX0_allLikely_32 : decode cX0_allLikely 32 = .ok (.iload_n 3, 1) := dk_29 (dk_at dksX0_allLikely_1 8 rfl rfl)
theorem dX0_allLikely_33 : decode cX0_allLikely 33 = .ok (.iload 4, 2) := dk_21 4 (dk_at dksX0_allLikely_1 9 rfl rfl)
theorem dX0_allLikely_35 : decode cX0_allLikely 35 = .ok (.invokevirtual 361, 3) := dk_182 1 105 (dk_at dksX0_allLikely_1 11 rfl rfl)
theorem dX0_allLikely_38 : decode cX0_allLikely 38 = .ok (.ladd, 1) := dk_97 (dk_at dksX0_allLikely_1 14 rfl rfl)
theorem dX0_allLikely_39 : decode cX0_allLikely 39 = .ok (.lstore_n 1, 1) := dk_64 (dk_at dksX0_allLikely_1 15 rfl rfl)
theorem dX0_allLikely_40 : decode cX0_allLikely 40 = .ok (.iinc 4 1, 3) := dk_132 4 1 (dk_at dksX0_allLikely_1 16 rfl rfl)
theorem dX0_allLikely_43 : decode cX0_allLikely 43 = .ok (.goto (-25), 3) := dk_167 255 231 (dk_at dksX0_allLikely_1 19 rfl rfl)
theorem dX0_allLikely_46 : decode cX0_allLikely 46 = .ok (.iinc 3 1, 3) := dk_132 3 1 (dk_at dksX0_allLikely_2 0 rfl rfl)
theorem dX0_allLikely_49 : decode cX0_allLikely 49 = .ok (.goto (-45), 3) := dk_167 255 211 (dk_at dksX0_allLikely_2 3 rfl rfl)
theorem dX0_allLikely_52 : decode cX0_allLikely 52 = .ok (.lload_n 1, 1) := dk_31 (dk_at dksX0_allLikely_2 6 rfl rfl)
theorem dX0_allLikely_53 : decode cX0_allLikely 53 = .ok (.lreturn, 1) := dk_173 (dk_at dksX0_allLikely_2 7 rfl rfl)
abbrev cX0_tell : ByteArray := prog_1_method_8_code
def yX0_tell : MethodName := ⟨RX0, "tell", "(JJ)Z"⟩
def dkwX0_tell_2 : List UInt8 := [3, 182, 0, 155, 172]
abbrev dktX0_tell_2 : List UInt8 := dkwX0_tell_2 ++ []
def dkwX0_tell_1 : List UInt8 := [22, 9, 55, 7, 167, 255, 234, 42, 31, 22, 5, 109, 181, 0, 152, 42, 33, 22, 5, 109, 181, 0, 68, 42]
abbrev dktX0_tell_1 : List UInt8 := dkwX0_tell_1 ++ dktX0_tell_2
def dkwX0_tell_0 : List UInt8 := [31, 55, 5, 33, 55, 7, 22, 7, 9, 148, 153, 0, 21, 22, 5, 22, 7, 113, 55, 9, 22, 7, 55, 5]
abbrev dktX0_tell_0 : List UInt8 := dkwX0_tell_0 ++ dktX0_tell_1
theorem dksX0_tell_0 : cX0_tell.data.toList.drop 0 = dktX0_tell_0 := by decide +kernel
theorem dksX0_tell_1 : cX0_tell.data.toList.drop 24 = dktX0_tell_1 := dk_seg dksX0_tell_0 24 rfl rfl
theorem dksX0_tell_2 : cX0_tell.data.toList.drop 48 = dktX0_tell_2 := dk_seg dksX0_tell_1 24 rfl rfl
theorem dX0_tell_0 : decode cX0_tell 0 = .ok (.lload_n 1, 1) := dk_31 (dk_at dksX0_tell_0 0 rfl rfl)
theorem dX0_tell_1 : decode cX0_tell 1 = .ok (.lstore 5, 2) := dk_55 5 (dk_at dksX0_tell_0 1 rfl rfl)
theorem dX0_tell_3 : decode cX0_tell 3 = .ok (.lload_n 3, 1) := dk_33 (dk_at dksX0_tell_0 3 rfl rfl)
theorem dX0_tell_4 : decode cX0_tell 4 = .ok (.lstore 7, 2) := dk_55 7 (dk_at dksX0_tell_0 4 rfl rfl)
theorem dX0_tell_6 : decode cX0_tell 6 = .ok (.lload 7, 2) := dk_22 7 (dk_at dksX0_tell_0 6 rfl rfl)
theorem dX0_tell_8 : decode cX0_tell 8 = .ok (.lconst 0, 1) := dk_9 (dk_at dksX0_tell_0 8 rfl rfl)
theorem dX0_tell_9 : decode cX0_tell 9 = .ok (.lcmp, 1) := dk_148 (dk_at dksX0_tell_0 9 rfl rfl)
theorem dX0_tell_10 : decode cX0_tell 10 = .ok (.ifCond .eq 21, 3) := dk_153 0 21 (dk_at dksX0_tell_0 10 rfl rfl)
theorem dX0_tell_13 : decode cX0_tell 13 = .ok (.lload 5, 2) := dk_22 5 (dk_at dksX0_tell_0 13 rfl rfl)
theorem dX0_tell_15 : decode cX0_tell 15 = .ok (.lload 7, 2) := dk_22 7 (dk_at dksX0_tell_0 15 rfl rfl)
theorem dX0_tell_17 : decode cX0_tell 17 = .ok (.lrem, 1) := dk_113 (dk_at dksX0_tell_0 17 rfl rfl)
theorem dX0_tell_18 : decode cX0_tell 18 = .ok (.lstore 9, 2) := dk_55 9 (dk_at dksX0_tell_0 18 rfl rfl)
theorem dX0_tell_20 : decode cX0_tell 20 = .ok (.lload 7, 2) := dk_22 7 (dk_at dksX0_tell_0 20 rfl rfl)
theorem dX0_tell_22 : decode cX0_tell 22 = .ok (.lstore 5, 2) := dk_55 5 (dk_at dksX0_tell_0 22 rfl rfl)
theorem dX0_tell_24 : decode cX0_tell 24 = .ok (.lload 9, 2) := dk_22 9 (dk_at dksX0_tell_1 0 rfl rfl)
theorem dX0_tell_26 : decode cX0_tell 26 = .ok (.lstore 7, 2) := dk_55 7 (dk_at dksX0_tell_1 2 rfl rfl)
theorem dX0_tell_28 : decode cX0_tell 28 = .ok (.goto (-22), 3) := dk_167 255 234 (dk_at dksX0_tell_1 4 rfl rfl)
theorem dX0_tell_31 : decode cX0_tell 31 = .ok (.aload_n 0, 1) := dk_42 (dk_at dksX0_tell_1 7 rfl rfl)
theorem dX0_tell_32 : decode cX0_tell 32 = .ok (.lload_n 1, 1) := dk_31 (dk_at dksX0_tell_1 8 rfl rfl)
theorem dX0_tell_33 : decode cX0_tell 33 = .ok (.lload 5, 2) := dk_22 5 (dk_at dksX0_tell_1 9 rfl rfl)
theorem dX0_tell_35 : decode cX0_tell 35 = .ok (.ldiv, 1) := dk_109 (dk_at dksX0_tell_1 11 rfl rfl)
theorem dX0_tell_36 : decode cX0_tell 36 = .ok (.putfield 152, 3) := dk_181 0 152 (dk_at dksX0_tell_1 12 rfl rfl)
theorem dX0_tell_39 : decode cX0_tell 39 = .ok (.aload_n 0, 1) := dk_42 (dk_at dksX0_tell_1 15 rfl rfl)
theorem dX0_tell_40 : decode cX0_tell 40 = .ok (.lload_n 3, 1) := dk_33 (dk_at dksX0_tell_1 16 rfl rfl)
theorem dX0_tell_41 : decode cX0_tell 41 = .ok (.lload 5, 2) := dk_22 5 (dk_at dksX0_tell_1 17 rfl rfl)
theorem dX0_tell_43 : decode cX0_tell 43 = .ok (.ldiv, 1) := dk_109 (dk_at dksX0_tell_1 19 rfl rfl)
theorem dX0_tell_44 : decode cX0_tell 44 = .ok (.putfield 68, 3) := dk_181 0 68 (dk_at dksX0_tell_1 20 rfl rfl)
theorem dX0_tell_47 : decode cX0_tell 47 = .ok (.aload_n 0, 1) := dk_42 (dk_at dksX0_tell_1 23 rfl rfl)
theorem dX0_tell_48 : decode cX0_tell 48 = .ok (.iconst 0, 1) := dk_3 (dk_at dksX0_tell_2 0 rfl rfl)
theorem dX0_tell_49 : decode cX0_tell 49 = .ok (.invokevirtual 155, 3) := dk_182 0 155 (dk_at dksX0_tell_2 1 rfl rfl)
theorem dX0_tell_52 : decode cX0_tell 52 = .ok (.ireturn, 1) := dk_172 (dk_at dksX0_tell_2 4 rfl rfl)
abbrev cX0_worst : ByteArray := prog_1_method_41_code
def yX0_worst : MethodName := ⟨RX0, "worst", "(II)I"⟩
def dkwX0_worst_2 : List UInt8 := [180, 1, 109, 182, 0, 234, 172]
abbrev dktX0_worst_2 : List UInt8 := dkwX0_worst_2 ++ []
def dkwX0_worst_1 : List UInt8 := [42, 27, 28, 182, 1, 118, 20, 0, 184, 148, 154, 0, 12, 42, 16, 9, 182, 0, 176, 167, 0, 11, 42, 42]
abbrev dktX0_worst_1 : List UInt8 := dkwX0_worst_1 ++ dktX0_worst_2
def dkwX0_worst_0 : List UInt8 := [42, 27, 133, 182, 1, 93, 153, 0, 12, 42, 28, 133, 182, 1, 93, 154, 0, 9, 42, 5, 182, 0, 176, 172]
abbrev dktX0_worst_0 : List UInt8 := dkwX0_worst_0 ++ dktX0_worst_1
theorem dksX0_worst_0 : cX0_worst.data.toList.drop 0 = dktX0_worst_0 := by decide +kernel
theorem dksX0_worst_1 : cX0_worst.data.toList.drop 24 = dktX0_worst_1 := dk_seg dksX0_worst_0 24 rfl rfl
theorem dksX0_worst_2 : cX0_worst.data.toList.drop 48 = dktX0_worst_2 := dk_seg dksX0_worst_1 24 rfl rfl
theorem dX0_worst_0 : decode cX0_worst 0 = .ok (.aload_n 0, 1) := dk_42 (dk_at dksX0_worst_0 0 rfl rfl)
theorem dX0_worst_1 : decode cX0_worst 1 = .ok (.iload_n 1, 1) := dk_27 (dk_at dksX0_worst_0 1 rfl rfl)
theorem dX0_worst_2 : decode cX0_worst 2 = .ok (.i2l, 1) := dk_133 (dk_at dksX0_worst_0 2 rfl rfl)
theorem dX0_worst_3 : decode cX0_worst 3 = .ok (.invokevirtual 349, 3) := dk_182 1 93 (dk_at dksX0_worst_0 3 rfl rfl)
theorem dX0_worst_6 : decode cX0_worst 6 = .ok (.ifCond .eq 12, 3) := dk_153 0 12 (dk_at dksX0_worst_0 6 rfl rfl)
theorem dX0_worst_9 : decode cX0_worst 9 = .ok (.aload_n 0, 1) := dk_42 (dk_at dksX0_worst_0 9 rfl rfl)
theorem dX0_worst_10 : decode cX0_worst 10 = .ok (.iload_n 2, 1) := dk_28 (dk_at dksX0_worst_0 10 rfl rfl)
theorem dX0_worst_11 : decode cX0_worst 11 = .ok (.i2l, 1) := dk_133 (dk_at dksX0_worst_0 11 rfl rfl)
theorem dX0_worst_12 : decode cX0_worst 12 = .ok (.invokevirtual 349, 3) := dk_182 1 93 (dk_at dksX0_worst_0 12 rfl rfl)
theorem dX0_worst_15 : decode cX0_worst 15 = .ok (.ifCond .ne 9, 3) := dk_154 0 9 (dk_at dksX0_worst_0 15 rfl rfl)
theorem dX0_worst_18 : decode cX0_worst 18 = .ok (.aload_n 0, 1) := dk_42 (dk_at dksX0_worst_0 18 rfl rfl)
theorem dX0_worst_19 : decode cX0_worst 19 = .ok (.iconst 2, 1) := dk_5 (dk_at dksX0_worst_0 19 rfl rfl)
theorem dX0_worst_20 : decode cX0_worst 20 = .ok (.invokevirtual 176, 3) := dk_182 0 176 (dk_at dksX0_worst_0 20 rfl rfl)
theorem dX0_worst_23 : decode cX0_worst 23 = .ok (.ireturn, 1) := dk_172 (dk_at dksX0_worst_0 23 rfl rfl)
theorem dX0_worst_24 : decode cX0_worst 24 = .ok (.aload_n 0, 1) := dk_42 (dk_at dksX0_worst_1 0 rfl rfl)
theorem dX0_worst_25 : decode cX0_worst 25 = .ok (.iload_n 1, 1) := dk_27 (dk_at dksX0_worst_1 1 rfl rfl)
theorem dX0_worst_26 : decode cX0_worst 26 = .ok (.iload_n 2, 1) := dk_28 (dk_at dksX0_worst_1 2 rfl rfl)
theorem dX0_worst_27 : decode cX0_worst 27 = .ok (.invokevirtual 374, 3) := dk_182 1 118 (dk_at dksX0_worst_1 3 rfl rfl)
theorem dX0_worst_30 : decode cX0_worst 30 = .ok (.ldc2_w 184, 3) := dk_20 0 184 (dk_at dksX0_worst_1 6 rfl rfl)
theorem dX0_worst_33 : decode cX0_worst 33 = .ok (.lcmp, 1) := dk_148 (dk_at dksX0_worst_1 9 rfl rfl)
theorem dX0_worst_34 : decode cX0_worst 34 = .ok (.ifCond .ne 12, 3) := dk_154 0 12 (dk_at dksX0_worst_1 10 rfl rfl)
theorem dX0_worst_37 : decode cX0_worst 37 = .ok (.aload_n 0, 1) := dk_42 (dk_at dksX0_worst_1 13 rfl rfl)
theorem dX0_worst_38 : decode cX0_worst 38 = .ok (.bipush 9, 2) := dk_16 9 (dk_at dksX0_worst_1 14 rfl rfl)
theorem dX0_worst_40 : decode cX0_worst 40 = .ok (.invokevirtual 176, 3) := dk_182 0 176 (dk_at dksX0_worst_1 16 rfl rfl)
theorem dX0_worst_43 : decode cX0_worst 43 = .ok (.goto 11, 3) := dk_167 0 11 (dk_at dksX0_worst_1 19 rfl rfl)
theorem dX0_worst_46 : decode cX0_worst 46 = .ok (.aload_n 0, 1) := dk_42 (dk_at dksX0_worst_1 22 rfl rfl)
theorem dX0_worst_47 : decode cX0_worst 47 = .ok (.aload_n 0, 1) := dk_42 (dk_at dksX0_worst_1 23 rfl rfl)
theorem dX0_worst_48 : decode cX0_worst 48 = .ok (.getfield 365, 3) := dk_180 1 109 (dk_at dksX0_worst_2 0 rfl rfl)
theorem dX0_worst_51 : decode cX0_worst 51 = .ok (.invokevirtual 234, 3) := dk_182 0 234 (dk_at dksX0_worst_2 3 rfl rfl)
theorem dX0_worst_54 : decode cX0_worst 54 = .ok (.ireturn, 1) := dk_172 (dk_at dksX0_worst_2 6 rfl rfl)
abbrev cX0_same : ByteArray := prog_1_method_43_code
def yX0_same : MethodName := ⟨RX0, "same", "(II)I"⟩
def dkwX0_same_8 : List UInt8 := [172]
abbrev dktX0_same_8 : List UInt8 := dkwX0_same_8 ++ []
def dkwX0_same_7 : List UInt8 := [42, 42, 180, 0, 72, 27, 46, 42, 180, 0, 72, 28, 46, 160, 0, 7, 4, 167, 0, 4, 3, 182, 0, 234]
abbrev dktX0_same_7 : List UInt8 := dkwX0_same_7 ++ dktX0_same_8
def dkwX0_same_6 : List UInt8 := [167, 255, 190, 42, 180, 0, 75, 3, 42, 180, 0, 72, 3, 16, 8, 184, 0, 192, 132, 3, 1, 167, 255, 155]
abbrev dktX0_same_6 : List UInt8 := dkwX0_same_6 ++ dktX0_same_7
def dkwX0_same_5 : List UInt8 := [180, 0, 75, 21, 4, 42, 180, 0, 75, 21, 5, 46, 79, 132, 5, 255, 167, 255, 223, 132, 4, 1]
abbrev dktX0_same_5 : List UInt8 := dkwX0_same_5 ++ dktX0_same_6
def dkwX0_same_4 : List UInt8 := [21, 4, 4, 100, 54, 5, 21, 5, 155, 0, 34, 42, 21, 5, 21, 4, 182, 1, 129, 153, 0, 17, 42]
abbrev dktX0_same_4 : List UInt8 := dkwX0_same_4 ++ dktX0_same_5
def dkwX0_same_3 : List UInt8 := [3, 54, 4, 21, 4, 42, 180, 0, 57, 180, 0, 200, 162, 0, 60, 42, 180, 0, 75, 21, 4, 21, 4, 79]
abbrev dktX0_same_3 : List UInt8 := dkwX0_same_3 ++ dktX0_same_4
def dkwX0_same_2 : List UInt8 := [50, 180, 0, 244, 79, 132, 3, 1, 167, 255, 224, 3, 62, 29, 42, 180, 0, 57, 180, 0, 200, 163, 0, 96]
abbrev dktX0_same_2 : List UInt8 := dkwX0_same_2 ++ dktX0_same_3
def dkwX0_same_1 : List UInt8 := [29, 42, 180, 0, 57, 180, 0, 200, 162, 0, 27, 42, 180, 0, 72, 29, 42, 180, 0, 57, 180, 0, 240, 29]
abbrev dktX0_same_1 : List UInt8 := dkwX0_same_1 ++ dktX0_same_2
def dkwX0_same_0 : List UInt8 := [42, 27, 182, 0, 237, 153, 0, 11, 42, 28, 182, 0, 237, 154, 0, 9, 42, 5, 182, 0, 176, 172, 3, 62]
abbrev dktX0_same_0 : List UInt8 := dkwX0_same_0 ++ dktX0_same_1
theorem dksX0_same_0 : cX0_same.data.toList.drop 0 = dktX0_same_0 := by decide +kernel
theorem dksX0_same_1 : cX0_same.data.toList.drop 24 = dktX0_same_1 := dk_seg dksX0_same_0 24 rfl rfl
theorem dksX0_same_2 : cX0_same.data.toList.drop 48 = dktX0_same_2 := dk_seg dksX0_same_1 24 rfl rfl
theorem dksX0_same_3 : cX0_same.data.toList.drop 72 = dktX0_same_3 := dk_seg dksX0_same_2 24 rfl rfl
theorem dksX0_same_4 : cX0_same.data.toList.drop 96 = dktX0_same_4 := dk_seg dksX0_same_3 24 rfl rfl
theorem dksX0_same_5 : cX0_same.data.toList.drop 119 = dktX0_same_5 := dk_seg dksX0_same_4 23 rfl rfl
theorem dksX0_same_6 : cX0_same.data.toList.drop 141 = dktX0_same_6 := dk_seg dksX0_same_5 22 rfl rfl
theorem dksX0_same_7 : cX0_same.data.toList.drop 165 = dktX0_same_7 := dk_seg dksX0_same_6 24 rfl rfl
theorem dksX0_same_8 : cX0_same.data.toList.drop 189 = dktX0_same_8 := dk_seg dksX0_same_7 24 rfl rfl
theorem dX0_same_0 : decode cX0_same 0 = .ok (.aload_n 0, 1) := dk_42 (dk_at dksX0_same_0 0 rfl rfl)
theorem dX0_same_1 : decode cX0_same 1 = .ok (.iload_n 1, 1) := dk_27 (dk_at dksX0_same_0 1 rfl rfl)
theorem dX0_same_2 : decode cX0_same 2 = .ok (.invokevirtual 237, 3) := dk_182 0 237 (dk_at dksX0_same_0 2 rfl rfl)
theorem dX0_same_5 : decode cX0_same 5 = .ok (.ifCond .eq 11, 3) := dk_153 0 11 (dk_at dksX0_same_0 5 rfl rfl)
theorem dX0_same_8 : decode cX0_same 8 = .ok (.aload_n 0, 1) := dk_42 (dk_at dksX0_same_0 8 rfl rfl)
theorem dX0_same_9 : decode cX0_same 9 = .ok (.iload_n 2, 1) := dk_28 (dk_at dksX0_same_0 9 rfl rfl)
theorem dX0_same_10 : decode cX0_same 10 = .ok (.invokevirtual 237, 3) := dk_182 0 237 (dk_at dksX0_same_0 10 rfl rfl)
theorem dX0_same_13 : decode cX0_same 13 = .ok (.ifCond .ne 9, 3) := dk_154 0 9 (dk_at dksX0_same_0 13 rfl rfl)
theorem dX0_same_16 : decode cX0_same 16 = .ok (.aload_n 0, 1) := dk_42 (dk_at dksX0_same_0 16 rfl rfl)
theorem dX0_same_17 : decode cX0_same 17 = .ok (.iconst 2, 1) := dk_5 (dk_at dksX0_same_0 17 rfl rfl)
theorem dX0_same_18 : decode cX0_same 18 = .ok (.invokevirtual 176, 3) := dk_182 0 176 (dk_at dksX0_same_0 18 rfl rfl)
theorem dX0_same_21 : decode cX0_same 21 = .ok (.ireturn, 1) := dk_172 (dk_at dksX0_same_0 21 rfl rfl)
theorem dX0_same_22 : decode cX0_same 22 = .ok (.iconst 0, 1) := dk_3 (dk_at dksX0_same_0 22 rfl rfl)
theorem dX0_same_23 : decode cX0_same 23 = .ok (.istore_n 3, 1) := dk_62 (dk_at dksX0_same_0 23 rfl rfl)
theorem dX0_same_24 : decode cX0_same 24 = .ok (.iload_n 3, 1) := dk_29 (dk_at dksX0_same_1 0 rfl rfl)
theorem dX0_same_25 : decode cX0_same 25 = .ok (.aload_n 0, 1) := dk_42 (dk_at dksX0_same_1 1 rfl rfl)
theorem dX0_same_26 : decode cX0_same 26 = .ok (.getfield 57, 3) := dk_180 0 57 (dk_at dksX0_same_1 2 rfl rfl)
theorem dX0_same_29 : decode cX0_same 29 = .ok (.getfield 200, 3) := dk_180 0 200 (dk_at dksX0_same_1 5 rfl rfl)
theorem dX0_same_32 : decode cX0_same 32 = .ok (.if_icmp .ge 27, 3) := dk_162 0 27 (dk_at dksX0_same_1 8 rfl rfl)
theorem dX0_same_35 : decode cX0_same 35 = .ok (.aload_n 0, 1) := dk_42 (dk_at dksX0_same_1 11 rfl rfl)
theorem dX0_same_36 : decode cX0_same 36 = .ok (.getfield 72, 3) := dk_180 0 72 (dk_at dksX0_same_1 12 rfl rfl)
theorem dX0_same_39 : decode cX0_same 39 = .ok (.iload_n 3, 1) := dk_29 (dk_at dksX0_same_1 15 rfl rfl)
theorem dX0_same_40 : decode cX0_same 40 = .ok (.aload_n 0, 1) := dk_42 (dk_at dksX0_same_1 16 rfl rfl)
theorem dX0_same_41 : decode cX0_same 41 = .ok (.getfield 57, 3) := dk_180 0 57 (dk_at dksX0_same_1 17 rfl rfl)
theorem dX0_same_44 : decode cX0_same 44 = .ok (.getfield 240, 3) := dk_180 0 240 (dk_at dksX0_same_1 20 rfl rfl)
theorem dX0_same_47 : decode cX0_same 47 = .ok (.iload_n 3, 1) := dk_29 (dk_at dksX0_same_1 23 rfl rfl)
theorem dX0_same_48 : decode cX0_same 48 = .ok (.aaload, 1) := dk_50 (dk_at dksX0_same_2 0 rfl rfl)
theorem dX0_same_49 : decode cX0_same 49 = .ok (.getfield 244, 3) := dk_180 0 244 (dk_at dksX0_same_2 1 rfl rfl)
theorem dX0_same_52 : decode cX0_same 52 = .ok (.iastore, 1) := dk_79 (dk_at dksX0_same_2 4 rfl rfl)
theorem dX0_same_53 : decode cX0_same 53 = .ok (.iinc 3 1, 3) := dk_132 3 1 (dk_at dksX0_same_2 5 rfl rfl)
theorem dX0_same_56 : decode cX0_same 56 = .ok (.goto (-32), 3) := dk_167 255 224 (dk_at dksX0_same_2 8 rfl rfl)
theorem dX0_same_59 : decode cX0_same 59 = .ok (.iconst 0, 1) := dk_3 (dk_at dksX0_same_2 11 rfl rfl)
theorem dX0_same_60 : decode cX0_same 60 = .ok (.istore_n 3, 1) := dk_62 (dk_at dksX0_same_2 12 rfl rfl)
theorem dX0_same_61 : decode cX0_same 61 = .ok (.iload_n 3, 1) := dk_29 (dk_at dksX0_same_2 13 rfl rfl)
theorem dX0_same_62 : decode cX0_same 62 = .ok (.aload_n 0, 1) := dk_42 (dk_at dksX0_same_2 14 rfl rfl)
theorem dX0_same_63 : decode cX0_same 63 = .ok (.getfield 57, 3) := dk_180 0 57 (dk_at dksX0_same_2 15 rfl rfl)
theorem dX0_same_66 : decode cX0_same 66 = .ok (.getfield 200, 3) := dk_180 0 200 (dk_at dksX0_same_2 18 rfl rfl)
theorem dX0_same_69 : decode cX0_same 69 = .ok (.if_icmp .gt 96, 3) := dk_163 0 96 (dk_at dksX0_same_2 21 rfl rfl)
theorem dX0_same_72 : decode cX0_same 72 = .ok (.iconst 0, 1) := dk_3 (dk_at dksX0_same_3 0 rfl rfl)
theorem dX0_same_73 : decode cX0_same 73 = .ok (.istore 4, 2) := dk_54 4 (dk_at dksX0_same_3 1 rfl rfl)
theorem dX0_same_75 : decode cX0_same 75 = .ok (.iload 4, 2) := dk_21 4 (dk_at dksX0_same_3 3 rfl rfl)
theorem dX0_same_77 : decode cX0_same 77 = .ok (.aload_n 0, 1) := dk_42 (dk_at dksX0_same_3 5 rfl rfl)
theorem dX0_same_78 : decode cX0_same 78 = .ok (.getfield 57, 3) := dk_180 0 57 (dk_at dksX0_same_3 6 rfl rfl)
theorem dX0_same_81 : decode cX0_same 81 = .ok (.getfield 200, 3) := dk_180 0 200 (dk_at dksX0_same_3 9 rfl rfl)
theorem dX0_same_84 : decode cX0_same 84 = .ok (.if_icmp .ge 60, 3) := dk_162 0 60 (dk_at dksX0_same_3 12 rfl rfl)
theorem dX0_same_87 : decode cX0_same 87 = .ok (.aload_n 0, 1) := dk_42 (dk_at dksX0_same_3 15 rfl rfl)
theorem dX0_same_88 : decode cX0_same 88 = .ok (.getfield 75, 3) := dk_180 0 75 (dk_at dksX0_same_3 16 rfl rfl)
theorem dX0_same_91 : decode cX0_same 91 = .ok (.iload 4, 2) := dk_21 4 (dk_at dksX0_same_3 19 rfl rfl)
theorem dX0_same_93 : decode cX0_same 93 = .ok (.iload 4, 2) := dk_21 4 (dk_at dksX0_same_3 21 rfl rfl)
theorem dX0_same_95 : decode cX0_same 95 = .ok (.iastore, 1) := dk_79 (dk_at dksX0_same_3 23 rfl rfl)
theorem dX0_same_96 : decode cX0_same 96 = .ok (.iload 4, 2) := dk_21 4 (dk_at dksX0_same_4 0 rfl rfl)
theorem dX0_same_98 : decode cX0_same 98 = .ok (.iconst 1, 1) := dk_4 (dk_at dksX0_same_4 2 rfl rfl)
theorem dX0_same_99 : decode cX0_same 99 = .ok (.isub, 1) := dk_100 (dk_at dksX0_same_4 3 rfl rfl)
theorem dX0_same_100 : decode cX0_same 100 = .ok (.istore 5, 2) := dk_54 5 (dk_at dksX0_same_4 4 rfl rfl)
theorem dX0_same_102 : decode cX0_same 102 = .ok (.iload 5, 2) := dk_21 5 (dk_at dksX0_same_4 6 rfl rfl)
theorem dX0_same_104 : decode cX0_same 104 = .ok (.ifCond .lt 34, 3) := dk_155 0 34 (dk_at dksX0_same_4 8 rfl rfl)
theorem dX0_same_107 : decode cX0_same 107 = .ok (.aload_n 0, 1) := dk_42 (dk_at dksX0_same_4 11 rfl rfl)
theorem dX0_same_108 : decode cX0_same 108 = .ok (.iload 5, 2) := dk_21 5 (dk_at dksX0_same_4 12 rfl rfl)
theorem dX0_same_110 : decode cX0_same 110 = .ok (.iload 4, 2) := dk_21 4 (dk_at dksX0_same_4 14 rfl rfl)
theorem dX0_same_112 : decode cX0_same 112 = .ok (.invokevirtual 385, 3) := dk_182 1 129 (dk_at dksX0_same_4 16 rfl rfl)
theorem dX0_same_115 : decode cX0_same 115 = .ok (.ifCond .eq 17, 3) := dk_153 0 17 (dk_at dksX0_same_4 19 rfl rfl)
theorem dX0_same_118 : decode cX0_same 118 = .ok (.aload_n 0, 1) := dk_42 (dk_at dksX0_same_4 22 rfl rfl)
theorem dX0_same_119 : decode cX0_same 119 = .ok (.getfield 75, 3) := dk_180 0 75 (dk_at dksX0_same_5 0 rfl rfl)
theorem dX0_same_122 : decode cX0_same 122 = .ok (.iload 4, 2) := dk_21 4 (dk_at dksX0_same_5 3 rfl rfl)
theorem dX0_same_124 : decode cX0_same 124 = .ok (.aload_n 0, 1) := dk_42 (dk_at dksX0_same_5 5 rfl rfl)
theorem dX0_same_125 : decode cX0_same 125 = .ok (.getfield 75, 3) := dk_180 0 75 (dk_at dksX0_same_5 6 rfl rfl)
theorem dX0_same_128 : decode cX0_same 128 = .ok (.iload 5, 2) := dk_21 5 (dk_at dksX0_same_5 9 rfl rfl)
theorem dX0_same_130 : decode cX0_same 130 = .ok (.iaload, 1) := dk_46 (dk_at dksX0_same_5 11 rfl rfl)
theorem dX0_same_131 : decode cX0_same 131 = .ok (.iastore, 1) := dk_79 (dk_at dksX0_same_5 12 rfl rfl)
theorem dX0_same_132 : decode cX0_same 132 = .ok (.iinc 5 (-1), 3) := dk_132 5 255 (dk_at dksX0_same_5 13 rfl rfl)
theorem dX0_same_135 : decode cX0_same 135 = .ok (.goto (-33), 3) := dk_167 255 223 (dk_at dksX0_same_5 16 rfl rfl)
theorem dX0_same_138 : decode cX0_same 138 = .ok (.iinc 4 1, 3) := dk_132 4 1 (dk_at dksX0_same_5 19 rfl rfl)
theorem dX0_same_141 : decode cX0_same 141 = .ok (.goto (-66), 3) := dk_167 255 190 (dk_at dksX0_same_6 0 rfl rfl)
theorem dX0_same_144 : decode cX0_same 144 = .ok (.aload_n 0, 1) := dk_42 (dk_at dksX0_same_6 3 rfl rfl)
theorem dX0_same_145 : decode cX0_same 145 = .ok (.getfield 75, 3) := dk_180 0 75 (dk_at dksX0_same_6 4 rfl rfl)
theorem dX0_same_148 : decode cX0_same 148 = .ok (.iconst 0, 1) := dk_3 (dk_at dksX0_same_6 7 rfl rfl)
theorem dX0_same_149 : decode cX0_same 149 = .ok (.aload_n 0, 1) := dk_42 (dk_at dksX0_same_6 8 rfl rfl)
theorem dX0_same_150 : decode cX0_same 150 = .ok (.getfield 72, 3) := dk_180 0 72 (dk_at dksX0_same_6 9 rfl rfl)
theorem dX0_same_153 : decode cX0_same 153 = .ok (.iconst 0, 1) := dk_3 (dk_at dksX0_same_6 12 rfl rfl)
theorem dX0_same_154 : decode cX0_same 154 = .ok (.bipush 8, 2) := dk_16 8 (dk_at dksX0_same_6 13 rfl rfl)
theorem dX0_same_156 : decode cX0_same 156 = .ok (.invokestatic 192, 3) := dk_184 0 192 (dk_at dksX0_same_6 15 rfl rfl)
theorem dX0_same_159 : decode cX0_same 159 = .ok (.iinc 3 1, 3) := dk_132 3 1 (dk_at dksX0_same_6 18 rfl rfl)
theorem dX0_same_162 : decode cX0_same 162 = .ok (.goto (-101), 3) := dk_167 255 155 (dk_at dksX0_same_6 21 rfl rfl)
theorem dX0_same_165 : decode cX0_same 165 = .ok (.aload_n 0, 1) := dk_42 (dk_at dksX0_same_7 0 rfl rfl)
theorem dX0_same_166 : decode cX0_same 166 = .ok (.aload_n 0, 1) := dk_42 (dk_at dksX0_same_7 1 rfl rfl)
theorem dX0_same_167 : decode cX0_same 167 = .ok (.getfield 72, 3) := dk_180 0 72 (dk_at dksX0_same_7 2 rfl rfl)
theorem dX0_same_170 : decode cX0_same 170 = .ok (.iload_n 1, 1) := dk_27 (dk_at dksX0_same_7 5 rfl rfl)
theorem dX0_same_171 : decode cX0_same 171 = .ok (.iaload, 1) := dk_46 (dk_at dksX0_same_7 6 rfl rfl)
theorem dX0_same_172 : decode cX0_same 172 = .ok (.aload_n 0, 1) := dk_42 (dk_at dksX0_same_7 7 rfl rfl)
theorem dX0_same_173 : decode cX0_same 173 = .ok (.getfield 72, 3) := dk_180 0 72 (dk_at dksX0_same_7 8 rfl rfl)
theorem dX0_same_176 : decode cX0_same 176 = .ok (.iload_n 2, 1) := dk_28 (dk_at dksX0_same_7 11 rfl rfl)
theorem dX0_same_177 : decode cX0_same 177 = .ok (.iaload, 1) := dk_46 (dk_at dksX0_same_7 12 rfl rfl)
theorem dX0_same_178 : decode cX0_same 178 = .ok (.if_icmp .ne 7, 3) := dk_160 0 7 (dk_at dksX0_same_7 13 rfl rfl)
theorem dX0_same_181 : decode cX0_same 181 = .ok (.iconst 1, 1) := dk_4 (dk_at dksX0_same_7 16 rfl rfl)
theorem dX0_same_182 : decode cX0_same 182 = .ok (.goto 4, 3) := dk_167 0 4 (dk_at dksX0_same_7 17 rfl rfl)
theorem dX0_same_185 : decode cX0_same 185 = .ok (.iconst 0, 1) := dk_3 (dk_at dksX0_same_7 20 rfl rfl)
theorem dX0_same_186 : decode cX0_same 186 = .ok (.invokevirtual 234, 3) := dk_182 0 234 (dk_at dksX0_same_7 21 rfl rfl)
theorem dX0_same_189 : decode cX0_same 189 = .ok (.ireturn, 1) := dk_172 (dk_at dksX0_same_8 0 rfl rfl)
abbrev cX0_areLike : ByteArray := prog_1_method_42_code
def yX0_areLike : MethodName := ⟨RX0, "areLike", "(II)Z"⟩
def dkwX0_areLike_5 : List UInt8 := [172]
abbrev dktX0_areLike_5 : List UInt8 := dkwX0_areLike_5 ++ []
def dkwX0_areLike_4 : List UInt8 := [21, 5, 50, 25, 4, 182, 0, 254, 180, 1, 4, 46, 159, 0, 5, 3, 172, 132, 5, 1, 167, 255, 199, 4]
abbrev dktX0_areLike_4 : List UInt8 := dkwX0_areLike_4 ++ dktX0_areLike_5
def dkwX0_areLike_3 : List UInt8 := [180, 0, 250, 21, 5, 50, 45, 182, 0, 254, 180, 1, 4, 46, 42, 180, 0, 72, 25, 4, 180, 0, 250]
abbrev dktX0_areLike_3 : List UInt8 := dkwX0_areLike_3 ++ dktX0_areLike_4
def dkwX0_areLike_2 : List UInt8 := [159, 0, 5, 3, 172, 3, 54, 5, 21, 5, 45, 180, 0, 249, 162, 0, 54, 42, 180, 0, 72, 45]
abbrev dktX0_areLike_2 : List UInt8 := dkwX0_areLike_2 ++ dktX0_areLike_3
def dkwX0_areLike_1 : List UInt8 := [180, 0, 72, 27, 46, 42, 180, 0, 72, 28, 46, 160, 0, 15, 45, 180, 0, 249, 25, 4, 180, 0, 249]
abbrev dktX0_areLike_1 : List UInt8 := dkwX0_areLike_1 ++ dktX0_areLike_2
def dkwX0_areLike_0 : List UInt8 := [42, 180, 0, 57, 180, 0, 240, 27, 50, 78, 42, 180, 0, 57, 180, 0, 240, 28, 50, 58, 4, 42]
abbrev dktX0_areLike_0 : List UInt8 := dkwX0_areLike_0 ++ dktX0_areLike_1
theorem dksX0_areLike_0 : cX0_areLike.data.toList.drop 0 = dktX0_areLike_0 := by decide +kernel
theorem dksX0_areLike_1 : cX0_areLike.data.toList.drop 22 = dktX0_areLike_1 := dk_seg dksX0_areLike_0 22 rfl rfl
theorem dksX0_areLike_2 : cX0_areLike.data.toList.drop 45 = dktX0_areLike_2 := dk_seg dksX0_areLike_1 23 rfl rfl
theorem dksX0_areLike_3 : cX0_areLike.data.toList.drop 67 = dktX0_areLike_3 := dk_seg dksX0_areLike_2 22 rfl rfl
theorem dksX0_areLike_4 : cX0_areLike.data.toList.drop 90 = dktX0_areLike_4 := dk_seg dksX0_areLike_3 23 rfl rfl
theorem dksX0_areLike_5 : cX0_areLike.data.toList.drop 114 = dktX0_areLike_5 := dk_seg dksX0_areLike_4 24 rfl rfl
theorem dX0_areLike_0 : decode cX0_areLike 0 = .ok (.aload_n 0, 1) := dk_42 (dk_at dksX0_areLike_0 0 rfl rfl)
theorem dX0_areLike_1 : decode cX0_areLike 1 = .ok (.getfield 57, 3) := dk_180 0 57 (dk_at dksX0_areLike_0 1 rfl rfl)
theorem dX0_areLike_4 : decode cX0_areLike 4 = .ok (.getfield 240, 3) := dk_180 0 240 (dk_at dksX0_areLike_0 4 rfl rfl)
theorem dX0_areLike_7 : decode cX0_areLike 7 = .ok (.iload_n 1, 1) := dk_27 (dk_at dksX0_areLike_0 7 rfl rfl)
theorem dX0_areLike_8 : decode cX0_areLike 8 = .ok (.aaload, 1) := dk_50 (dk_at dksX0_areLike_0 8 rfl rfl)
theorem dX0_areLike_9 : decode cX0_areLike 9 = .ok (.astore_n 3, 1) := dk_78 (dk_at dksX0_areLike_0 9 rfl rfl)
theorem dX0_areLike_10 : decode cX0_areLike 10 = .ok (.aload_n 0, 1) := dk_42 (dk_at dksX0_areLike_0 10 rfl rfl)
theorem dX0_areLike_11 : decode cX0_areLike 11 = .ok (.getfield 57, 3) := dk_180 0 57 (dk_at dksX0_areLike_0 11 rfl rfl)
theorem dX0_areLike_14 : decode cX0_areLike 14 = .ok (.getfield 240, 3) := dk_180 0 240 (dk_at dksX0_areLike_0 14 rfl rfl)
theorem dX0_areLike_17 : decode cX0_areLike 17 = .ok (.iload_n 2, 1) := dk_28 (dk_at dksX0_areLike_0 17 rfl rfl)
theorem dX0_areLike_18 : decode cX0_areLike 18 = .ok (.aaload, 1) := dk_50 (dk_at dksX0_areLike_0 18 rfl rfl)
theorem dX0_areLike_19 : decode cX0_areLike 19 = .ok (.astore 4, 2) := dk_58 4 (dk_at dksX0_areLike_0 19 rfl rfl)
theorem dX0_areLike_21 : decode cX0_areLike 21 = .ok (.aload_n 0, 1) := dk_42 (dk_at dksX0_areLike_0 21 rfl rfl)
theorem dX0_areLike_22 : decode cX0_areLike 22 = .ok (.getfield 72, 3) := dk_180 0 72 (dk_at dksX0_areLike_1 0 rfl rfl)
theorem dX0_areLike_25 : decode cX0_areLike 25 = .ok (.iload_n 1, 1) := dk_27 (dk_at dksX0_areLike_1 3 rfl rfl)
theorem dX0_areLike_26 : decode cX0_areLike 26 = .ok (.iaload, 1) := dk_46 (dk_at dksX0_areLike_1 4 rfl rfl)
theorem dX0_areLike_27 : decode cX0_areLike 27 = .ok (.aload_n 0, 1) := dk_42 (dk_at dksX0_areLike_1 5 rfl rfl)
theorem dX0_areLike_28 : decode cX0_areLike 28 = .ok (.getfield 72, 3) := dk_180 0 72 (dk_at dksX0_areLike_1 6 rfl rfl)
theorem dX0_areLike_31 : decode cX0_areLike 31 = .ok (.iload_n 2, 1) := dk_28 (dk_at dksX0_areLike_1 9 rfl rfl)
theorem dX0_areLike_32 : decode cX0_areLike 32 = .ok (.iaload, 1) := dk_46 (dk_at dksX0_areLike_1 10 rfl rfl)
theorem dX0_areLike_33 : decode cX0_areLike 33 = .ok (.if_icmp .ne 15, 3) := dk_160 0 15 (dk_at dksX0_areLike_1 11 rfl rfl)
theorem dX0_areLike_36 : decode cX0_areLike 36 = .ok (.aload_n 3, 1) := dk_45 (dk_at dksX0_areLike_1 14 rfl rfl)
theorem dX0_areLike_37 : decode cX0_areLike 37 = .ok (.getfield 249, 3) := dk_180 0 249 (dk_at dksX0_areLike_1 15 rfl rfl)
theorem dX0_areLike_40 : decode cX0_areLike 40 = .ok (.aload 4, 2) := dk_25 4 (dk_at dksX0_areLike_1 18 rfl rfl)
theorem dX0_areLike_42 : decode cX0_areLike 42 = .ok (.getfield 249, 3) := dk_180 0 249 (dk_at dksX0_areLike_1 20 rfl rfl)
theorem dX0_areLike_45 : decode cX0_areLike 45 = .ok (.if_icmp .eq 5, 3) := dk_159 0 5 (dk_at dksX0_areLike_2 0 rfl rfl)
theorem dX0_areLike_48 : decode cX0_areLike 48 = .ok (.iconst 0, 1) := dk_3 (dk_at dksX0_areLike_2 3 rfl rfl)
theorem dX0_areLike_49 : decode cX0_areLike 49 = .ok (.ireturn, 1) := dk_172 (dk_at dksX0_areLike_2 4 rfl rfl)
theorem dX0_areLike_50 : decode cX0_areLike 50 = .ok (.iconst 0, 1) := dk_3 (dk_at dksX0_areLike_2 5 rfl rfl)
theorem dX0_areLike_51 : decode cX0_areLike 51 = .ok (.istore 5, 2) := dk_54 5 (dk_at dksX0_areLike_2 6 rfl rfl)
theorem dX0_areLike_53 : decode cX0_areLike 53 = .ok (.iload 5, 2) := dk_21 5 (dk_at dksX0_areLike_2 8 rfl rfl)
theorem dX0_areLike_55 : decode cX0_areLike 55 = .ok (.aload_n 3, 1) := dk_45 (dk_at dksX0_areLike_2 10 rfl rfl)
theorem dX0_areLike_56 : decode cX0_areLike 56 = .ok (.getfield 249, 3) := dk_180 0 249 (dk_at dksX0_areLike_2 11 rfl rfl)
theorem dX0_areLike_59 : decode cX0_areLike 59 = .ok (.if_icmp .ge 54, 3) := dk_162 0 54 (dk_at dksX0_areLike_2 14 rfl rfl)
theorem dX0_areLike_62 : decode cX0_areLike 62 = .ok (.aload_n 0, 1) := dk_42 (dk_at dksX0_areLike_2 17 rfl rfl)
theorem dX0_areLike_63 : decode cX0_areLike 63 = .ok (.getfield 72, 3) := dk_180 0 72 (dk_at dksX0_areLike_2 18 rfl rfl)
theorem dX0_areLike_66 : decode cX0_areLike 66 = .ok (.aload_n 3, 1) := dk_45 (dk_at dksX0_areLike_2 21 rfl rfl)
theorem dX0_areLike_67 : decode cX0_areLike 67 = .ok (.getfield 250, 3) := dk_180 0 250 (dk_at dksX0_areLike_3 0 rfl rfl)
theorem dX0_areLike_70 : decode cX0_areLike 70 = .ok (.iload 5, 2) := dk_21 5 (dk_at dksX0_areLike_3 3 rfl rfl)
theorem dX0_areLike_72 : decode cX0_areLike 72 = .ok (.aaload, 1) := dk_50 (dk_at dksX0_areLike_3 5 rfl rfl)
theorem dX0_areLike_73 : decode cX0_areLike 73 = .ok (.aload_n 3, 1) := dk_45 (dk_at dksX0_areLike_3 6 rfl rfl)
theorem dX0_areLike_74 : decode cX0_areLike 74 = .ok (.invokevirtual 254, 3) := dk_182 0 254 (dk_at dksX0_areLike_3 7 rfl rfl)
theorem dX0_areLike_77 : decode cX0_areLike 77 = .ok (.getfield 260, 3) := dk_180 1 4 (dk_at dksX0_areLike_3 10 rfl rfl)
theorem dX0_areLike_80 : decode cX0_areLike 80 = .ok (.iaload, 1) := dk_46 (dk_at dksX0_areLike_3 13 rfl rfl)
theorem dX0_areLike_81 : decode cX0_areLike 81 = .ok (.aload_n 0, 1) := dk_42 (dk_at dksX0_areLike_3 14 rfl rfl)
theorem dX0_areLike_82 : decode cX0_areLike 82 = .ok (.getfield 72, 3) := dk_180 0 72 (dk_at dksX0_areLike_3 15 rfl rfl)
theorem dX0_areLike_85 : decode cX0_areLike 85 = .ok (.aload 4, 2) := dk_25 4 (dk_at dksX0_areLike_3 18 rfl rfl)
theorem dX0_areLike_87 : decode cX0_areLike 87 = .ok (.getfield 250, 3) := dk_180 0 250 (dk_at dksX0_areLike_3 20 rfl rfl)
theorem dX0_areLike_90 : decode cX0_areLike 90 = .ok (.iload 5, 2) := dk_21 5 (dk_at dksX0_areLike_4 0 rfl rfl)
theorem dX0_areLike_92 : decode cX0_areLike 92 = .ok (.aaload, 1) := dk_50 (dk_at dksX0_areLike_4 2 rfl rfl)
theorem dX0_areLike_93 : decode cX0_areLike 93 = .ok (.aload 4, 2) := dk_25 4 (dk_at dksX0_areLike_4 3 rfl rfl)
theorem dX0_areLike_95 : decode cX0_areLike 95 = .ok (.invokevirtual 254, 3) := dk_182 0 254 (dk_at dksX0_areLike_4 5 rfl rfl)
theorem dX0_areLike_98 : decode cX0_areLike 98 = .ok (.getfield 260, 3) := dk_180 1 4 (dk_at dksX0_areLike_4 8 rfl rfl)
theorem dX0_areLike_101 : decode cX0_areLike 101 = .ok (.iaload, 1) := dk_46 (dk_at dksX0_areLike_4 11 rfl rfl)
theorem dX0_areLike_102 : decode cX0_areLike 102 = .ok (.if_icmp .eq 5, 3) := dk_159 0 5 (dk_at dksX0_areLike_4 12 rfl rfl)
theorem dX0_areLike_105 : decode cX0_areLike 105 = .ok (.iconst 0, 1) := dk_3 (dk_at dksX0_areLike_4 15 rfl rfl)
theorem dX0_areLike_106 : decode cX0_areLike 106 = .ok (.ireturn, 1) := dk_172 (dk_at dksX0_areLike_4 16 rfl rfl)
theorem dX0_areLike_107 : decode cX0_areLike 107 = .ok (.iinc 5 1, 3) := dk_132 5 1 (dk_at dksX0_areLike_4 17 rfl rfl)
theorem dX0_areLike_110 : decode cX0_areLike 110 = .ok (.goto (-57), 3) := dk_167 255 199 (dk_at dksX0_areLike_4 20 rfl rfl)
theorem dX0_areLike_113 : decode cX0_areLike 113 = .ok (.iconst 1, 1) := dk_4 (dk_at dksX0_areLike_4 23 rfl rfl)
theorem dX0_areLike_114 : decode cX0_areLike 114 = .ok (.ireturn, 1) := dk_172 (dk_at dksX0_areLike_5 0 rfl rfl)
abbrev cX0_agreed : ByteArray := prog_1_method_48_code
def yX0_agreed : MethodName := ⟨RX0, "agreed", "(I)I"⟩
def dkwX0_agreed_4 : List UInt8 := [87, 42, 42, 180, 1, 136, 136, 182, 0, 234, 172]
abbrev dktX0_agreed_4 : List UInt8 := dkwX0_agreed_4 ++ []
def dkwX0_agreed_3 : List UInt8 := [4, 50, 3, 6, 184, 0, 192, 42, 27, 181, 1, 157, 42, 42, 180, 1, 139, 42, 182, 1, 121, 182, 1, 125]
abbrev dktX0_agreed_3 : List UInt8 := dkwX0_agreed_3 ++ dktX0_agreed_4
def dkwX0_agreed_2 : List UInt8 := [180, 0, 92, 3, 42, 180, 0, 98, 3, 50, 3, 6, 184, 0, 192, 42, 180, 0, 95, 3, 42, 180, 0, 98]
abbrev dktX0_agreed_2 : List UInt8 := dkwX0_agreed_2 ++ dktX0_agreed_3
def dkwX0_agreed_1 : List UInt8 := [154, 0, 10, 42, 16, 9, 182, 0, 176, 172, 42, 27, 182, 1, 154, 42, 3, 9, 3, 182, 1, 150, 42]
abbrev dktX0_agreed_1 : List UInt8 := dkwX0_agreed_1 ++ dktX0_agreed_2
def dkwX0_agreed_0 : List UInt8 := [27, 4, 161, 0, 8, 27, 6, 164, 0, 9, 42, 8, 182, 0, 176, 172, 42, 182, 1, 121, 9, 148]
abbrev dktX0_agreed_0 : List UInt8 := dkwX0_agreed_0 ++ dktX0_agreed_1
theorem dksX0_agreed_0 : cX0_agreed.data.toList.drop 0 = dktX0_agreed_0 := by decide +kernel
theorem dksX0_agreed_1 : cX0_agreed.data.toList.drop 22 = dktX0_agreed_1 := dk_seg dksX0_agreed_0 22 rfl rfl
theorem dksX0_agreed_2 : cX0_agreed.data.toList.drop 45 = dktX0_agreed_2 := dk_seg dksX0_agreed_1 23 rfl rfl
theorem dksX0_agreed_3 : cX0_agreed.data.toList.drop 69 = dktX0_agreed_3 := dk_seg dksX0_agreed_2 24 rfl rfl
theorem dksX0_agreed_4 : cX0_agreed.data.toList.drop 93 = dktX0_agreed_4 := dk_seg dksX0_agreed_3 24 rfl rfl
theorem dX0_agreed_0 : decode cX0_agreed 0 = .ok (.iload_n 1, 1) := dk_27 (dk_at dksX0_agreed_0 0 rfl rfl)
theorem dX0_agreed_1 : decode cX0_agreed 1 = .ok (.iconst 1, 1) := dk_4 (dk_at dksX0_agreed_0 1 rfl rfl)
theorem dX0_agreed_2 : decode cX0_agreed 2 = .ok (.if_icmp .lt 8, 3) := dk_161 0 8 (dk_at dksX0_agreed_0 2 rfl rfl)
theorem dX0_agreed_5 : decode cX0_agreed 5 = .ok (.iload_n 1, 1) := dk_27 (dk_at dksX0_agreed_0 5 rfl rfl)
theorem dX0_agreed_6 : decode cX0_agreed 6 = .ok (.iconst 3, 1) := dk_6 (dk_at dksX0_agreed_0 6 rfl rfl)
theorem dX0_agreed_7 : decode cX0_agreed 7 = .ok (.if_icmp .le 9, 3) := dk_164 0 9 (dk_at dksX0_agreed_0 7 rfl rfl)
theorem dX0_agreed_10 : decode cX0_agreed 10 = .ok (.aload_n 0, 1) := dk_42 (dk_at dksX0_agreed_0 10 rfl rfl)
theorem dX0_agreed_11 : decode cX0_agreed 11 = .ok (.iconst 5, 1) := dk_8 (dk_at dksX0_agreed_0 11 rfl rfl)
theorem dX0_agreed_12 : decode cX0_agreed 12 = .ok (.invokevirtual 176, 3) := dk_182 0 176 (dk_at dksX0_agreed_0 12 rfl rfl)
theorem dX0_agreed_15 : decode cX0_agreed 15 = .ok (.ireturn, 1) := dk_172 (dk_at dksX0_agreed_0 15 rfl rfl)
theorem dX0_agreed_16 : decode cX0_agreed 16 = .ok (.aload_n 0, 1) := dk_42 (dk_at dksX0_agreed_0 16 rfl rfl)
theorem dX0_agreed_17 : decode cX0_agreed 17 = .ok (.invokevirtual 377, 3) := dk_182 1 121 (dk_at dksX0_agreed_0 17 rfl rfl)
theorem dX0_agreed_20 : decode cX0_agreed 20 = .ok (.lconst 0, 1) := dk_9 (dk_at dksX0_agreed_0 20 rfl rfl)
theorem dX0_agreed_21 : decode cX0_agreed 21 = .ok (.lcmp, 1) := dk_148 (dk_at dksX0_agreed_0 21 rfl rfl)
theorem dX0_agreed_22 : decode cX0_agreed 22 = .ok (.ifCond .ne 10, 3) := dk_154 0 10 (dk_at dksX0_agreed_1 0 rfl rfl)
theorem dX0_agreed_25 : decode cX0_agreed 25 = .ok (.aload_n 0, 1) := dk_42 (dk_at dksX0_agreed_1 3 rfl rfl)
theorem dX0_agreed_26 : decode cX0_agreed 26 = .ok (.bipush 9, 2) := dk_16 9 (dk_at dksX0_agreed_1 4 rfl rfl)
theorem dX0_agreed_28 : decode cX0_agreed 28 = .ok (.invokevirtual 176, 3) := dk_182 0 176 (dk_at dksX0_agreed_1 6 rfl rfl)
theorem dX0_agreed_31 : decode cX0_agreed 31 = .ok (.ireturn, 1) := dk_172 (dk_at dksX0_agreed_1 9 rfl rfl)
theorem dX0_agreed_32 : decode cX0_agreed 32 = .ok (.aload_n 0, 1) := dk_42 (dk_at dksX0_agreed_1 10 rfl rfl)
theorem dX0_agreed_33 : decode cX0_agreed 33 = .ok (.iload_n 1, 1) := dk_27 (dk_at dksX0_agreed_1 11 rfl rfl)
theorem dX0_agreed_34 : decode cX0_agreed 34 = .ok (.invokevirtual 410, 3) := dk_182 1 154 (dk_at dksX0_agreed_1 12 rfl rfl)
theorem dX0_agreed_37 : decode cX0_agreed 37 = .ok (.aload_n 0, 1) := dk_42 (dk_at dksX0_agreed_1 15 rfl rfl)
theorem dX0_agreed_38 : decode cX0_agreed 38 = .ok (.iconst 0, 1) := dk_3 (dk_at dksX0_agreed_1 16 rfl rfl)
theorem dX0_agreed_39 : decode cX0_agreed 39 = .ok (.lconst 0, 1) := dk_9 (dk_at dksX0_agreed_1 17 rfl rfl)
theorem dX0_agreed_40 : decode cX0_agreed 40 = .ok (.iconst 0, 1) := dk_3 (dk_at dksX0_agreed_1 18 rfl rfl)
theorem dX0_agreed_41 : decode cX0_agreed 41 = .ok (.invokevirtual 406, 3) := dk_182 1 150 (dk_at dksX0_agreed_1 19 rfl rfl)
theorem dX0_agreed_44 : decode cX0_agreed 44 = .ok (.aload_n 0, 1) := dk_42 (dk_at dksX0_agreed_1 22 rfl rfl)
theorem dX0_agreed_45 : decode cX0_agreed 45 = .ok (.getfield 92, 3) := dk_180 0 92 (dk_at dksX0_agreed_2 0 rfl rfl)
theorem dX0_agreed_48 : decode cX0_agreed 48 = .ok (.iconst 0, 1) := dk_3 (dk_at dksX0_agreed_2 3 rfl rfl)
theorem dX0_agreed_49 : decode cX0_agreed 49 = .ok (.aload_n 0, 1) := dk_42 (dk_at dksX0_agreed_2 4 rfl rfl)
theorem dX0_agreed_50 : decode cX0_agreed 50 = .ok (.getfield 98, 3) := dk_180 0 98 (dk_at dksX0_agreed_2 5 rfl rfl)
theorem dX0_agreed_53 : decode cX0_agreed 53 = .ok (.iconst 0, 1) := dk_3 (dk_at dksX0_agreed_2 8 rfl rfl)
theorem dX0_agreed_54 : decode cX0_agreed 54 = .ok (.aaload, 1) := dk_50 (dk_at dksX0_agreed_2 9 rfl rfl)
theorem dX0_agreed_55 : decode cX0_agreed 55 = .ok (.iconst 0, 1) := dk_3 (dk_at dksX0_agreed_2 10 rfl rfl)
theorem dX0_agreed_56 : decode cX0_agreed 56 = .ok (.iconst 3, 1) := dk_6 (dk_at dksX0_agreed_2 11 rfl rfl)
theorem dX0_agreed_57 : decode cX0_agreed 57 = .ok (.invokestatic 192, 3) := dk_184 0 192 (dk_at dksX0_agreed_2 12 rfl rfl)
theorem dX0_agreed_60 : decode cX0_agreed 60 = .ok (.aload_n 0, 1) := dk_42 (dk_at dksX0_agreed_2 15 rfl rfl)
theorem dX0_agreed_61 : decode cX0_agreed 61 = .ok (.getfield 95, 3) := dk_180 0 95 (dk_at dksX0_agreed_2 16 rfl rfl)
theorem dX0_agreed_64 : decode cX0_agreed 64 = .ok (.iconst 0, 1) := dk_3 (dk_at dksX0_agreed_2 19 rfl rfl)
theorem dX0_agreed_65 : decode cX0_agreed 65 = .ok (.aload_n 0, 1) := dk_42 (dk_at dksX0_agreed_2 20 rfl rfl)
theorem dX0_agreed_66 : decode cX0_agreed 66 = .ok (.getfield 98, 3) := dk_180 0 98 (dk_at dksX0_agreed_2 21 rfl rfl)
theorem dX0_agreed_69 : decode cX0_agreed 69 = .ok (.iconst 1, 1) := dk_4 (dk_at dksX0_agreed_3 0 rfl rfl)
theorem dX0_agreed_70 : decode cX0_agreed 70 = .ok (.aaload, 1) := dk_50 (dk_at dksX0_agreed_3 1 rfl rfl)
theorem dX0_agreed_71 : decode cX0_agreed 71 = .ok (.iconst 0, 1) := dk_3 (dk_at dksX0_agreed_3 2 rfl rfl)
theorem dX0_agreed_72 : decode cX0_agreed 72 = .ok (.iconst 3, 1) := dk_6 (dk_at dksX0_agreed_3 3 rfl rfl)
theorem dX0_agreed_73 : decode cX0_agreed 73 = .ok (.invokestatic 192, 3) := dk_184 0 192 (dk_at dksX0_agreed_3 4 rfl rfl)
theorem dX0_agreed_76 : decode cX0_agreed 76 = .ok (.aload_n 0, 1) := dk_42 (dk_at dksX0_agreed_3 7 rfl rfl)
theorem dX0_agreed_77 : decode cX0_agreed 77 = .ok (.iload_n 1, 1) := dk_27 (dk_at dksX0_agreed_3 8 rfl rfl)
theorem dX0_agreed_78 : decode cX0_agreed 78 = .ok (.putfield 413, 3) := dk_181 1 157 (dk_at dksX0_agreed_3 9 rfl rfl)
theorem dX0_agreed_81 : decode cX0_agreed 81 = .ok (.aload_n 0, 1) := dk_42 (dk_at dksX0_agreed_3 12 rfl rfl)
theorem dX0_agreed_82 : decode cX0_agreed 82 = .ok (.aload_n 0, 1) := dk_42 (dk_at dksX0_agreed_3 13 rfl rfl)
theorem dX0_agreed_83 : decode cX0_agreed 83 = .ok (.getfield 395, 3) := dk_180 1 139 (dk_at dksX0_agreed_3 14 rfl rfl)
theorem dX0_agreed_86 : decode cX0_agreed 86 = .ok (.aload_n 0, 1) := dk_42 (dk_at dksX0_agreed_3 17 rfl rfl)
theorem dX0_agreed_87 : decode cX0_agreed 87 = .ok (.invokevirtual 377, 3) := dk_182 1 121 (dk_at dksX0_agreed_3 18 rfl rfl)
theorem dX0_agreed_90 : decode cX0_agreed 90 = .ok (.invokevirtual 381, 3) := dk_182 1 125 (dk_at dksX0_agreed_3 21 rfl rfl)
theorem dX0_agreed_93 : decode cX0_agreed 93 = .ok (.pop, 1) := dk_87 (dk_at dksX0_agreed_4 0 rfl rfl)
theorem dX0_agreed_94 : decode cX0_agreed 94 = .ok (.aload_n 0, 1) := dk_42 (dk_at dksX0_agreed_4 1 rfl rfl)
theorem dX0_agreed_95 : decode cX0_agreed 95 = .ok (.aload_n 0, 1) := dk_42 (dk_at dksX0_agreed_4 2 rfl rfl)
theorem dX0_agreed_96 : decode cX0_agreed 96 = .ok (.getfield 392, 3) := dk_180 1 136 (dk_at dksX0_agreed_4 3 rfl rfl)
theorem dX0_agreed_99 : decode cX0_agreed 99 = .ok (.l2i, 1) := dk_136 (dk_at dksX0_agreed_4 6 rfl rfl)
theorem dX0_agreed_100 : decode cX0_agreed 100 = .ok (.invokevirtual 234, 3) := dk_182 0 234 (dk_at dksX0_agreed_4 7 rfl rfl)
theorem dX0_agreed_103 : decode cX0_agreed 103 = .ok (.ireturn, 1) := dk_172 (dk_at dksX0_agreed_4 10 rfl rfl)
abbrev cX0_beginRows : ByteArray := prog_1_method_44_code
def yX0_beginRows : MethodName := ⟨RX0, "beginRows", "(I)V"⟩
def dkwX0_beginRows_4 : List UInt8 := [3, 50, 28, 21, 4, 79, 132, 2, 1, 167, 255, 166, 177]
abbrev dktX0_beginRows_4 : List UInt8 := dkwX0_beginRows_4 ++ []
def dkwX0_beginRows_3 : List UInt8 := [54, 5, 42, 180, 0, 80, 3, 50, 28, 21, 5, 153, 0, 7, 29, 167, 0, 4, 2, 79, 42, 180, 0, 83]
abbrev dktX0_beginRows_3 : List UInt8 := dkwX0_beginRows_3 ++ dktX0_beginRows_4
def dkwX0_beginRows_2 : List UInt8 := [29, 21, 4, 159, 0, 19, 42, 29, 21, 4, 182, 1, 105, 9, 148, 158, 0, 7, 4, 167, 0, 4, 3]
abbrev dktX0_beginRows_2 : List UInt8 := dkwX0_beginRows_2 ++ dktX0_beginRows_3
def dkwX0_beginRows_1 : List UInt8 := [62, 28, 16, 8, 112, 54, 4, 42, 29, 182, 0, 237, 153, 0, 34, 42, 21, 4, 182, 0, 237, 153, 0, 25]
abbrev dktX0_beginRows_1 : List UInt8 := dkwX0_beginRows_1 ++ dktX0_beginRows_2
def dkwX0_beginRows_0 : List UInt8 := [42, 27, 181, 1, 133, 42, 20, 0, 184, 181, 1, 136, 3, 61, 28, 16, 64, 162, 0, 90, 28, 16, 8, 108]
abbrev dktX0_beginRows_0 : List UInt8 := dkwX0_beginRows_0 ++ dktX0_beginRows_1
theorem dksX0_beginRows_0 : cX0_beginRows.data.toList.drop 0 = dktX0_beginRows_0 := by decide +kernel
theorem dksX0_beginRows_1 : cX0_beginRows.data.toList.drop 24 = dktX0_beginRows_1 := dk_seg dksX0_beginRows_0 24 rfl rfl
theorem dksX0_beginRows_2 : cX0_beginRows.data.toList.drop 48 = dktX0_beginRows_2 := dk_seg dksX0_beginRows_1 24 rfl rfl
theorem dksX0_beginRows_3 : cX0_beginRows.data.toList.drop 71 = dktX0_beginRows_3 := dk_seg dksX0_beginRows_2 23 rfl rfl
theorem dksX0_beginRows_4 : cX0_beginRows.data.toList.drop 95 = dktX0_beginRows_4 := dk_seg dksX0_beginRows_3 24 rfl rfl
theorem dX0_beginRows_0 : decode cX0_beginRows 0 = .ok (.aload_n 0, 1) := dk_42 (dk_at dksX0_beginRows_0 0 rfl rfl)
theorem dX0_beginRows_1 : decode cX0_beginRows 1 = .ok (.iload_n 1, 1) := dk_27 (dk_at dksX0_beginRows_0 1 rfl rfl)
theorem dX0_beginRows_2 : decode cX0_beginRows 2 = .ok (.putfield 389, 3) := dk_181 1 133 (dk_at dksX0_beginRows_0 2 rfl rfl)
theorem dX0_beginRows_5 : decode cX0_beginRows 5 = .ok (.aload_n 0, 1) := dk_42 (dk_at dksX0_beginRows_0 5 rfl rfl)
theorem dX0_beginRows_6 : decode cX0_beginRows 6 = .ok (.ldc2_w 184, 3) := dk_20 0 184 (dk_at dksX0_beginRows_0 6 rfl rfl)
theorem dX0_beginRows_9 : decode cX0_beginRows 9 = .ok (.putfield 392, 3) := dk_181 1 136 (dk_at dksX0_beginRows_0 9 rfl rfl)
theorem dX0_beginRows_12 : decode cX0_beginRows 12 = .ok (.iconst 0, 1) := dk_3 (dk_at dksX0_beginRows_0 12 rfl rfl)
theorem dX0_beginRows_13 : decode cX0_beginRows 13 = .ok (.istore_n 2, 1) := dk_61 (dk_at dksX0_beginRows_0 13 rfl rfl)
theorem dX0_beginRows_14 : decode cX0_beginRows 14 = .ok (.iload_n 2, 1) := dk_28 (dk_at dksX0_beginRows_0 14 rfl rfl)
theorem dX0_beginRows_15 : decode cX0_beginRows 15 = .ok (.bipush 64, 2) := dk_16 64 (dk_at dksX0_beginRows_0 15 rfl rfl)
theorem dX0_beginRows_17 : decode cX0_beginRows 17 = .ok (.if_icmp .ge 90, 3) := dk_162 0 90 (dk_at dksX0_beginRows_0 17 rfl rfl)
theorem dX0_beginRows_20 : decode cX0_beginRows 20 = .ok (.iload_n 2, 1) := dk_28 (dk_at dksX0_beginRows_0 20 rfl rfl)
theorem dX0_beginRows_21 : decode cX0_beginRows 21 = .ok (.bipush 8, 2) := dk_16 8 (dk_at dksX0_beginRows_0 21 rfl rfl)
theorem dX0_beginRows_23 : decode cX0_beginRows 23 = .ok (.idiv, 1) := dk_108 (dk_at dksX0_beginRows_0 23 rfl rfl)
theorem dX0_beginRows_24 : decode cX0_beginRows 24 = .ok (.istore_n 3, 1) := dk_62 (dk_at dksX0_beginRows_1 0 rfl rfl)
theorem dX0_beginRows_25 : decode cX0_beginRows 25 = .ok (.iload_n 2, 1) := dk_28 (dk_at dksX0_beginRows_1 1 rfl rfl)
theorem dX0_beginRows_26 : decode cX0_beginRows 26 = .ok (.bipush 8, 2) := dk_16 8 (dk_at dksX0_beginRows_1 2 rfl rfl)
theorem dX0_beginRows_28 : decode cX0_beginRows 28 = .ok (.irem, 1) := dk_112 (dk_at dksX0_beginRows_1 4 rfl rfl)
theorem dX0_beginRows_29 : decode cX0_beginRows 29 = .ok (.istore 4, 2) := dk_54 4 (dk_at dksX0_beginRows_1 5 rfl rfl)
theorem dX0_beginRows_31 : decode cX0_beginRows 31 = .ok (.aload_n 0, 1) := dk_42 (dk_at dksX0_beginRows_1 7 rfl rfl)
theorem dX0_beginRows_32 : decode cX0_beginRows 32 = .ok (.iload_n 3, 1) := dk_29 (dk_at dksX0_beginRows_1 8 rfl rfl)
theorem dX0_beginRows_33 : decode cX0_beginRows 33 = .ok (.invokevirtual 237, 3) := dk_182 0 237 (dk_at dksX0_beginRows_1 9 rfl rfl)
theorem dX0_beginRows_36 : decode cX0_beginRows 36 = .ok (.ifCond .eq 34, 3) := dk_153 0 34 (dk_at dksX0_beginRows_1 12 rfl rfl)
theorem dX0_beginRows_39 : decode cX0_beginRows 39 = .ok (.aload_n 0, 1) := dk_42 (dk_at dksX0_beginRows_1 15 rfl rfl)
theorem dX0_beginRows_40 : decode cX0_beginRows 40 = .ok (.iload 4, 2) := dk_21 4 (dk_at dksX0_beginRows_1 16 rfl rfl)
theorem dX0_beginRows_42 : decode cX0_beginRows 42 = .ok (.invokevirtual 237, 3) := dk_182 0 237 (dk_at dksX0_beginRows_1 18 rfl rfl)
theorem dX0_beginRows_45 : decode cX0_beginRows 45 = .ok (.ifCond .eq 25, 3) := dk_153 0 25 (dk_at dksX0_beginRows_1 21 rfl rfl)
theorem dX0_beginRows_48 : decode cX0_beginRows 48 = .ok (.iload_n 3, 1) := dk_29 (dk_at dksX0_beginRows_2 0 rfl rfl)
theorem dX0_beginRows_49 : decode cX0_beginRows 49 = .ok (.iload 4, 2) := dk_21 4 (dk_at dksX0_beginRows_2 1 rfl rfl)
theorem dX0_beginRows_51 : decode cX0_beginRows 51 = .ok (.if_icmp .eq 19, 3) := dk_159 0 19 (dk_at dksX0_beginRows_2 3 rfl rfl)
theorem dX0_beginRows_54 : decode cX0_beginRows 54 = .ok (.aload_n 0, 1) := dk_42 (dk_at dksX0_beginRows_2 6 rfl rfl)
theorem dX0_beginRows_55 : decode cX0_beginRows 55 = .ok (.iload_n 3, 1) := dk_29 (dk_at dksX0_beginRows_2 7 rfl rfl)
theorem dX0_beginRows_56 : decode cX0_beginRows 56 = .ok (.iload 4, 2) := dk_21 4 (dk_at dksX0_beginRows_2 8 rfl rfl)
theorem dX0_beginRows_58 : decode cX0_beginRows 58 = .ok (.invokevirtual 361, 3) := dk_182 1 105 (dk_at dksX0_beginRows_2 10 rfl rfl)
theorem dX0_beginRows_61 : decode cX0_beginRows 61 = .ok (.lconst 0, 1) := dk_9 (dk_at dksX0_beginRows_2 13 rfl rfl)
theorem dX0_beginRows_62 : decode cX0_beginRows 62 = .ok (.lcmp, 1) := dk_148 (dk_at dksX0_beginRows_2 14 rfl rfl)
theorem dX0_beginRows_63 : decode cX0_beginRows 63 = .ok (.ifCond .le 7, 3) := dk_158 0 7 (dk_at dksX0_beginRows_2 15 rfl rfl)
theorem dX0_beginRows_66 : decode cX0_beginRows 66 = .ok (.iconst 1, 1) := dk_4 (dk_at dksX0_beginRows_2 18 rfl rfl)
theorem dX0_beginRows_67 : decode cX0_beginRows 67 = .ok (.goto 4, 3) := dk_167 0 4 (dk_at dksX0_beginRows_2 19 rfl rfl)
theorem dX0_beginRows_70 : decode cX0_beginRows 70 = .ok (.iconst 0, 1) := dk_3 (dk_at dksX0_beginRows_2 22 rfl rfl)
theorem dX0_beginRows_71 : decode cX0_beginRows 71 = .ok (.istore 5, 2) := dk_54 5 (dk_at dksX0_beginRows_3 0 rfl rfl)
theorem dX0_beginRows_73 : decode cX0_beginRows 73 = .ok (.aload_n 0, 1) := dk_42 (dk_at dksX0_beginRows_3 2 rfl rfl)
theorem dX0_beginRows_74 : decode cX0_beginRows 74 = .ok (.getfield 80, 3) := dk_180 0 80 (dk_at dksX0_beginRows_3 3 rfl rfl)
theorem dX0_beginRows_77 : decode cX0_beginRows 77 = .ok (.iconst 0, 1) := dk_3 (dk_at dksX0_beginRows_3 6 rfl rfl)
theorem dX0_beginRows_78 : decode cX0_beginRows 78 = .ok (.aaload, 1) := dk_50 (dk_at dksX0_beginRows_3 7 rfl rfl)
theorem dX0_beginRows_79 : decode cX0_beginRows 79 = .ok (.iload_n 2, 1) := dk_28 (dk_at dksX0_beginRows_3 8 rfl rfl)
theorem dX0_beginRows_80 : decode cX0_beginRows 80 = .ok (.iload 5, 2) := dk_21 5 (dk_at dksX0_beginRows_3 9 rfl rfl)
theorem dX0_beginRows_82 : decode cX0_beginRows 82 = .ok (.ifCond .eq 7, 3) := dk_153 0 7 (dk_at dksX0_beginRows_3 11 rfl rfl)
theorem dX0_beginRows_85 : decode cX0_beginRows 85 = .ok (.iload_n 3, 1) := dk_29 (dk_at dksX0_beginRows_3 14 rfl rfl)
theorem dX0_beginRows_86 : decode cX0_beginRows 86 = .ok (.goto 4, 3) := dk_167 0 4 (dk_at dksX0_beginRows_3 15 rfl rfl)
theorem dX0_beginRows_89 : decode cX0_beginRows 89 = .ok (.iconst (-1), 1) := dk_2 (dk_at dksX0_beginRows_3 18 rfl rfl)
theorem dX0_beginRows_90 : decode cX0_beginRows 90 = .ok (.iastore, 1) := dk_79 (dk_at dksX0_beginRows_3 19 rfl rfl)
theorem dX0_beginRows_91 : decode cX0_beginRows 91 = .ok (.aload_n 0, 1) := dk_42 (dk_at dksX0_beginRows_3 20 rfl rfl)
theorem dX0_beginRows_92 : decode cX0_beginRows 92 = .ok (.getfield 83, 3) := dk_180 0 83 (dk_at dksX0_beginRows_3 21 rfl rfl)
theorem dX0_beginRows_95 : decode cX0_beginRows 95 = .ok (.iconst 0, 1) := dk_3 (dk_at dksX0_beginRows_4 0 rfl rfl)
theorem dX0_beginRows_96 : decode cX0_beginRows 96 = .ok (.aaload, 1) := dk_50 (dk_at dksX0_beginRows_4 1 rfl rfl)
theorem dX0_beginRows_97 : decode cX0_beginRows 97 = .ok (.iload_n 2, 1) := dk_28 (dk_at dksX0_beginRows_4 2 rfl rfl)
theorem dX0_beginRows_98 : decode cX0_beginRows 98 = .ok (.iload 4, 2) := dk_21 4 (dk_at dksX0_beginRows_4 3 rfl rfl)
theorem dX0_beginRows_100 : decode cX0_beginRows 100 = .ok (.iastore, 1) := dk_79 (dk_at dksX0_beginRows_4 5 rfl rfl)
theorem dX0_beginRows_101 : decode cX0_beginRows 101 = .ok (.iinc 2 1, 3) := dk_132 2 1 (dk_at dksX0_beginRows_4 6 rfl rfl)
theorem dX0_beginRows_104 : decode cX0_beginRows 104 = .ok (.goto (-90), 3) := dk_167 255 166 (dk_at dksX0_beginRows_4 9 rfl rfl)
theorem dX0_beginRows_107 : decode cX0_beginRows 107 = .ok (.return_, 1) := dk_177 (dk_at dksX0_beginRows_4 12 rfl rfl)
abbrev cX0_goRows : ByteArray := prog_1_method_47_code
def yX0_goRows : MethodName := ⟨RX0, "goRows", "(IJZ)V"⟩
def dkwX0_goRows_4 : List UInt8 := [167, 255, 199, 132, 5, 1, 167, 255, 174, 177]
abbrev dktX0_goRows_4 : List UInt8 := dkwX0_goRows_4 ++ []
def dkwX0_goRows_3 : List UInt8 := [27, 4, 96, 32, 42, 27, 21, 5, 21, 6, 182, 1, 146, 97, 21, 4, 182, 1, 150, 132, 6, 1]
abbrev dktX0_goRows_3 : List UInt8 := dkwX0_goRows_3 ++ dktX0_goRows_4
def dkwX0_goRows_2 : List UInt8 := [167, 0, 4, 8, 162, 0, 45, 42, 180, 0, 86, 27, 21, 5, 79, 42, 180, 0, 89, 27, 21, 6, 79, 42]
abbrev dktX0_goRows_2 : List UInt8 := dkwX0_goRows_2 ++ dktX0_goRows_3
def dkwX0_goRows_1 : List UInt8 := [21, 4, 153, 0, 8, 21, 5, 167, 0, 4, 3, 54, 6, 21, 6, 21, 4, 153, 0, 10, 21, 5, 4, 96]
abbrev dktX0_goRows_1 : List UInt8 := dkwX0_goRows_1 ++ dktX0_goRows_2
def dkwX0_goRows_0 : List UInt8 := [27, 42, 180, 1, 133, 160, 0, 9, 42, 32, 182, 1, 142, 177, 3, 54, 5, 21, 5, 8, 162, 0, 82]
abbrev dktX0_goRows_0 : List UInt8 := dkwX0_goRows_0 ++ dktX0_goRows_1
theorem dksX0_goRows_0 : cX0_goRows.data.toList.drop 0 = dktX0_goRows_0 := by decide +kernel
theorem dksX0_goRows_1 : cX0_goRows.data.toList.drop 23 = dktX0_goRows_1 := dk_seg dksX0_goRows_0 23 rfl rfl
theorem dksX0_goRows_2 : cX0_goRows.data.toList.drop 47 = dktX0_goRows_2 := dk_seg dksX0_goRows_1 24 rfl rfl
theorem dksX0_goRows_3 : cX0_goRows.data.toList.drop 71 = dktX0_goRows_3 := dk_seg dksX0_goRows_2 24 rfl rfl
theorem dksX0_goRows_4 : cX0_goRows.data.toList.drop 93 = dktX0_goRows_4 := dk_seg dksX0_goRows_3 22 rfl rfl
theorem dX0_goRows_0 : decode cX0_goRows 0 = .ok (.iload_n 1, 1) := dk_27 (dk_at dksX0_goRows_0 0 rfl rfl)
theorem dX0_goRows_1 : decode cX0_goRows 1 = .ok (.aload_n 0, 1) := dk_42 (dk_at dksX0_goRows_0 1 rfl rfl)
theorem dX0_goRows_2 : decode cX0_goRows 2 = .ok (.getfield 389, 3) := dk_180 1 133 (dk_at dksX0_goRows_0 2 rfl rfl)
theorem dX0_goRows_5 : decode cX0_goRows 5 = .ok (.if_icmp .ne 9, 3) := dk_160 0 9 (dk_at dksX0_goRows_0 5 rfl rfl)
theorem dX0_goRows_8 : decode cX0_goRows 8 = .ok (.aload_n 0, 1) := dk_42 (dk_at dksX0_goRows_0 8 rfl rfl)
theorem dX0_goRows_9 : decode cX0_goRows 9 = .ok (.lload_n 2, 1) := dk_32 (dk_at dksX0_goRows_0 9 rfl rfl)
theorem dX0_goRows_10 : decode cX0_goRows 10 = .ok (.invokevirtual 398, 3) := dk_182 1 142 (dk_at dksX0_goRows_0 10 rfl rfl)
theorem dX0_goRows_13 : decode cX0_goRows 13 = .ok (.return_, 1) := dk_177 (dk_at dksX0_goRows_0 13 rfl rfl)
theorem dX0_goRows_14 : decode cX0_goRows 14 = .ok (.iconst 0, 1) := dk_3 (dk_at dksX0_goRows_0 14 rfl rfl)
theorem dX0_goRows_15 : decode cX0_goRows 15 = .ok (.istore 5, 2) := dk_54 5 (dk_at dksX0_goRows_0 15 rfl rfl)
theorem dX0_goRows_17 : decode cX0_goRows 17 = .ok (.iload 5, 2) := dk_21 5 (dk_at dksX0_goRows_0 17 rfl rfl)
theorem dX0_goRows_19 : decode cX0_goRows 19 = .ok (.iconst 5, 1) := dk_8 (dk_at dksX0_goRows_0 19 rfl rfl)
theorem dX0_goRows_20 : decode cX0_goRows 20 = .ok (.if_icmp .ge 82, 3) := dk_162 0 82 (dk_at dksX0_goRows_0 20 rfl rfl)
theorem dX0_goRows_23 : decode cX0_goRows 23 = .ok (.iload 4, 2) := dk_21 4 (dk_at dksX0_goRows_1 0 rfl rfl)
theorem dX0_goRows_25 : decode cX0_goRows 25 = .ok (.ifCond .eq 8, 3) := dk_153 0 8 (dk_at dksX0_goRows_1 2 rfl rfl)
theorem dX0_goRows_28 : decode cX0_goRows 28 = .ok (.iload 5, 2) := dk_21 5 (dk_at dksX0_goRows_1 5 rfl rfl)
theorem dX0_goRows_30 : decode cX0_goRows 30 = .ok (.goto 4, 3) := dk_167 0 4 (dk_at dksX0_goRows_1 7 rfl rfl)
theorem dX0_goRows_33 : decode cX0_goRows 33 = .ok (.iconst 0, 1) := dk_3 (dk_at dksX0_goRows_1 10 rfl rfl)
theorem dX0_goRows_34 : decode cX0_goRows 34 = .ok (.istore 6, 2) := dk_54 6 (dk_at dksX0_goRows_1 11 rfl rfl)
theorem dX0_goRows_36 : decode cX0_goRows 36 = .ok (.iload 6, 2) := dk_21 6 (dk_at dksX0_goRows_1 13 rfl rfl)
theorem dX0_goRows_38 : decode cX0_goRows 38 = .ok (.iload 4, 2) := dk_21 4 (dk_at dksX0_goRows_1 15 rfl rfl)
theorem dX0_goRows_40 : decode cX0_goRows 40 = .ok (.ifCond .eq 10, 3) := dk_153 0 10 (dk_at dksX0_goRows_1 17 rfl rfl)
theorem dX0_goRows_43 : decode cX0_goRows 43 = .ok (.iload 5, 2) := dk_21 5 (dk_at dksX0_goRows_1 20 rfl rfl)
theorem dX0_goRows_45 : decode cX0_goRows 45 = .ok (.iconst 1, 1) := dk_4 (dk_at dksX0_goRows_1 22 rfl rfl)
theorem dX0_goRows_46 : decode cX0_goRows 46 = .ok (.iadd, 1) := dk_96 (dk_at dksX0_goRows_1 23 rfl rfl)
theorem dX0_goRows_47 : decode cX0_goRows 47 = .ok (.goto 4, 3) := dk_167 0 4 (dk_at dksX0_goRows_2 0 rfl rfl)
theorem dX0_goRows_50 : decode cX0_goRows 50 = .ok (.iconst 5, 1) := dk_8 (dk_at dksX0_goRows_2 3 rfl rfl)
theorem dX0_goRows_51 : decode cX0_goRows 51 = .ok (.if_icmp .ge 45, 3) := dk_162 0 45 (dk_at dksX0_goRows_2 4 rfl rfl)
theorem dX0_goRows_54 : decode cX0_goRows 54 = .ok (.aload_n 0, 1) := dk_42 (dk_at dksX0_goRows_2 7 rfl rfl)
theorem dX0_goRows_55 : decode cX0_goRows 55 = .ok (.getfield 86, 3) := dk_180 0 86 (dk_at dksX0_goRows_2 8 rfl rfl)
theorem dX0_goRows_58 : decode cX0_goRows 58 = .ok (.iload_n 1, 1) := dk_27 (dk_at dksX0_goRows_2 11 rfl rfl)
theorem dX0_goRows_59 : decode cX0_goRows 59 = .ok (.iload 5, 2) := dk_21 5 (dk_at dksX0_goRows_2 12 rfl rfl)
theorem dX0_goRows_61 : decode cX0_goRows 61 = .ok (.iastore, 1) := dk_79 (dk_at dksX0_goRows_2 14 rfl rfl)
theorem dX0_goRows_62 : decode cX0_goRows 62 = .ok (.aload_n 0, 1) := dk_42 (dk_at dksX0_goRows_2 15 rfl rfl)
theorem dX0_goRows_63 : decode cX0_goRows 63 = .ok (.getfield 89, 3) := dk_180 0 89 (dk_at dksX0_goRows_2 16 rfl rfl)
theorem dX0_goRows_66 : decode cX0_goRows 66 = .ok (.iload_n 1, 1) := dk_27 (dk_at dksX0_goRows_2 19 rfl rfl)
theorem dX0_goRows_67 : decode cX0_goRows 67 = .ok (.iload 6, 2) := dk_21 6 (dk_at dksX0_goRows_2 20 rfl rfl)
theorem dX0_goRows_69 : decode cX0_goRows 69 = .ok (.iastore, 1) := dk_79 (dk_at dksX0_goRows_2 22 rfl rfl)
theorem dX0_goRows_70 : decode cX0_goRows 70 = .ok (.aload_n 0, 1) := dk_42 (dk_at dksX0_goRows_2 23 rfl rfl)
theorem dX0_goRows_71 : decode cX0_goRows 71 = .ok (.iload_n 1, 1) := dk_27 (dk_at dksX0_goRows_3 0 rfl rfl)
theorem dX0_goRows_72 : decode cX0_goRows 72 = .ok (.iconst 1, 1) := dk_4 (dk_at dksX0_goRows_3 1 rfl rfl)
theorem dX0_goRows_73 : decode cX0_goRows 73 = .ok (.iadd, 1) := dk_96 (dk_at dksX0_goRows_3 2 rfl rfl)
theorem dX0_goRows_74 : decode cX0_goRows 74 = .ok (.lload_n 2, 1) := dk_32 (dk_at dksX0_goRows_3 3 rfl rfl)
theorem dX0_goRows_75 : decode cX0_goRows 75 = .ok (.aload_n 0, 1) := dk_42 (dk_at dksX0_goRows_3 4 rfl rfl)
theorem dX0_goRows_76 : decode cX0_goRows 76 = .ok (.iload_n 1, 1) := dk_27 (dk_at dksX0_goRows_3 5 rfl rfl)
theorem dX0_goRows_77 : decode cX0_goRows 77 = .ok (.iload 5, 2) := dk_21 5 (dk_at dksX0_goRows_3 6 rfl rfl)
theorem dX0_goRows_79 : decode cX0_goRows 79 = .ok (.iload 6, 2) := dk_21 6 (dk_at dksX0_goRows_3 8 rfl rfl)
theorem dX0_goRows_81 : decode cX0_goRows 81 = .ok (.invokevirtual 402, 3) := dk_182 1 146 (dk_at dksX0_goRows_3 10 rfl rfl)
theorem dX0_goRows_84 : decode cX0_goRows 84 = .ok (.ladd, 1) := dk_97 (dk_at dksX0_goRows_3 13 rfl rfl)
theorem dX0_goRows_85 : decode cX0_goRows 85 = .ok (.iload 4, 2) := dk_21 4 (dk_at dksX0_goRows_3 14 rfl rfl)
theorem dX0_goRows_87 : decode cX0_goRows 87 = .ok (.invokevirtual 406, 3) := dk_182 1 150 (dk_at dksX0_goRows_3 16 rfl rfl)
theorem dX0_goRows_90 : decode cX0_goRows 90 = .ok (.iinc 6 1, 3) := dk_132 6 1 (dk_at dksX0_goRows_3 19 rfl rfl)
theorem dX0_goRows_93 : decode cX0_goRows 93 = .ok (.goto (-57), 3) := dk_167 255 199 (dk_at dksX0_goRows_4 0 rfl rfl)
theorem dX0_goRows_96 : decode cX0_goRows 96 = .ok (.iinc 5 1, 3) := dk_132 5 1 (dk_at dksX0_goRows_4 3 rfl rfl)
theorem dX0_goRows_99 : decode cX0_goRows 99 = .ok (.goto (-82), 3) := dk_167 255 174 (dk_at dksX0_goRows_4 6 rfl rfl)
theorem dX0_goRows_102 : decode cX0_goRows 102 = .ok (.return_, 1) := dk_177 (dk_at dksX0_goRows_4 9 rfl rfl)
abbrev cX0_endRows : ByteArray := prog_1_method_46_code
def yX0_endRows : MethodName := ⟨RX0, "endRows", "(J)V"⟩
def dkwX0_endRows_5 : List UInt8 := [42, 180, 0, 92, 3, 8, 184, 0, 192, 42, 180, 0, 89, 3, 42, 180, 0, 95, 3, 8, 184, 0, 192, 177]
abbrev dktX0_endRows_5 : List UInt8 := dkwX0_endRows_5 ++ []
def dkwX0_endRows_4 : List UInt8 := [180, 1, 139, 148, 155, 0, 4, 177, 42, 33, 181, 1, 136, 42, 22, 5, 181, 1, 139, 42, 180, 0, 86, 3]
abbrev dktX0_endRows_4 : List UInt8 := dkwX0_endRows_4 ++ dktX0_endRows_5
def dkwX0_endRows_3 : List UInt8 := [153, 0, 32, 33, 42, 180, 1, 136, 148, 157, 0, 22, 33, 42, 180, 1, 136, 148, 154, 0, 14, 22, 5, 42]
abbrev dktX0_endRows_3 : List UInt8 := dkwX0_endRows_3 ++ dktX0_endRows_4
def dkwX0_endRows_2 : List UInt8 := [167, 255, 213, 31, 33, 42, 180, 1, 133, 133, 10, 97, 105, 97, 55, 5, 42, 180, 1, 136, 20, 0, 184, 148]
abbrev dktX0_endRows_2 : List UInt8 := dkwX0_endRows_2 ++ dktX0_endRows_3
def dkwX0_endRows_1 : List UInt8 := [2, 159, 0, 20, 33, 42, 21, 5, 16, 8, 108, 21, 5, 16, 8, 112, 182, 1, 105, 97, 66, 132, 5, 1]
abbrev dktX0_endRows_1 : List UInt8 := dkwX0_endRows_1 ++ dktX0_endRows_2
def dkwX0_endRows_0 : List UInt8 := [9, 66, 3, 54, 5, 21, 5, 16, 64, 162, 0, 42, 42, 180, 0, 80, 42, 180, 1, 133, 50, 21, 5, 46]
abbrev dktX0_endRows_0 : List UInt8 := dkwX0_endRows_0 ++ dktX0_endRows_1
theorem dksX0_endRows_0 : cX0_endRows.data.toList.drop 0 = dktX0_endRows_0 := by decide +kernel
theorem dksX0_endRows_1 : cX0_endRows.data.toList.drop 24 = dktX0_endRows_1 := dk_seg dksX0_endRows_0 24 rfl rfl
theorem dksX0_endRows_2 : cX0_endRows.data.toList.drop 48 = dktX0_endRows_2 := dk_seg dksX0_endRows_1 24 rfl rfl
theorem dksX0_endRows_3 : cX0_endRows.data.toList.drop 72 = dktX0_endRows_3 := dk_seg dksX0_endRows_2 24 rfl rfl
theorem dksX0_endRows_4 : cX0_endRows.data.toList.drop 96 = dktX0_endRows_4 := dk_seg dksX0_endRows_3 24 rfl rfl
theorem dksX0_endRows_5 : cX0_endRows.data.toList.drop 120 = dktX0_endRows_5 := dk_seg dksX0_endRows_4 24 rfl rfl
theorem dX0_endRows_0 : decode cX0_endRows 0 = .ok (.lconst 0, 1) := dk_9 (dk_at dksX0_endRows_0 0 rfl rfl)
theorem dX0_endRows_1 : decode cX0_endRows 1 = .ok (.lstore_n 3, 1) := dk_66 (dk_at dksX0_endRows_0 1 rfl rfl)
theorem dX0_endRows_2 : decode cX0_endRows 2 = .ok (.iconst 0, 1) := dk_3 (dk_at dksX0_endRows_0 2 rfl rfl)
theorem dX0_endRows_3 : decode cX0_endRows 3 = .ok (.istore 5, 2) := dk_54 5 (dk_at dksX0_endRows_0 3 rfl rfl)
theorem dX0_endRows_5 : decode cX0_endRows 5 = .ok (.iload 5, 2) := dk_21 5 (dk_at dksX0_endRows_0 5 rfl rfl)
theorem dX0_endRows_7 : decode cX0_endRows 7 = .ok (.bipush 64, 2) := dk_16 64 (dk_at dksX0_endRows_0 7 rfl rfl)
theorem dX0_endRows_9 : decode cX0_endRows 9 = .ok (.if_icmp .ge 42, 3) := dk_162 0 42 (dk_at dksX0_endRows_0 9 rfl rfl)
theorem dX0_endRows_12 : decode cX0_endRows 12 = .ok (.aload_n 0, 1) := dk_42 (dk_at dksX0_endRows_0 12 rfl rfl)
theorem dX0_endRows_13 : decode cX0_endRows 13 = .ok (.getfield 80, 3) := dk_180 0 80 (dk_at dksX0_endRows_0 13 rfl rfl)
theorem dX0_endRows_16 : decode cX0_endRows 16 = .ok (.aload_n 0, 1) := dk_42 (dk_at dksX0_endRows_0 16 rfl rfl)
theorem dX0_endRows_17 : decode cX0_endRows 17 = .ok (.getfield 389, 3) := dk_180 1 133 (dk_at dksX0_endRows_0 17 rfl rfl)
theorem dX0_endRows_20 : decode cX0_endRows 20 = .ok (.aaload, 1) := dk_50 (dk_at dksX0_endRows_0 20 rfl rfl)
theorem dX0_endRows_21 : decode cX0_endRows 21 = .ok (.iload 5, 2) := dk_21 5 (dk_at dksX0_endRows_0 21 rfl rfl)
theorem dX0_endRows_23 : decode cX0_endRows 23 = .ok (.iaload, 1) := dk_46 (dk_at dksX0_endRows_0 23 rfl rfl)
theorem dX0_endRows_24 : decode cX0_endRows 24 = .ok (.iconst (-1), 1) := dk_2 (dk_at dksX0_endRows_1 0 rfl rfl)
theorem dX0_endRows_25 : decode cX0_endRows 25 = .ok (.if_icmp .eq 20, 3) := dk_159 0 20 (dk_at dksX0_endRows_1 1 rfl rfl)
theorem dX0_endRows_28 : decode cX0_endRows 28 = .ok (.lload_n 3, 1) := dk_33 (dk_at dksX0_endRows_1 4 rfl rfl)
theorem dX0_endRows_29 : decode cX0_endRows 29 = .ok (.aload_n 0, 1) := dk_42 (dk_at dksX0_endRows_1 5 rfl rfl)
theorem dX0_endRows_30 : decode cX0_endRows 30 = .ok (.iload 5, 2) := dk_21 5 (dk_at dksX0_endRows_1 6 rfl rfl)
theorem dX0_endRows_32 : decode cX0_endRows 32 = .ok (.bipush 8, 2) := dk_16 8 (dk_at dksX0_endRows_1 8 rfl rfl)
theorem dX0_endRows_34 : decode cX0_endRows 34 = .ok (.idiv, 1) := dk_108 (dk_at dksX0_endRows_1 10 rfl rfl)
theorem dX0_endRows_35 : decode cX0_endRows 35 = .ok (.iload 5, 2) := dk_21 5 (dk_at dksX0_endRows_1 11 rfl rfl)
theorem dX0_endRows_37 : decode cX0_endRows 37 = .ok (.bipush 8, 2) := dk_16 8 (dk_at dksX0_endRows_1 13 rfl rfl)
theorem dX0_endRows_39 : decode cX0_endRows 39 = .ok (.irem, 1) := dk_112 (dk_at dksX0_endRows_1 15 rfl rfl)
theorem dX0_endRows_40 : decode cX0_endRows 40 = .ok (.invokevirtual 361, 3) := dk_182 1 105 (dk_at dksX0_endRows_1 16 rfl rfl)
theorem dX0_endRows_43 : decode cX0_endRows 43 = .ok (.ladd, 1) := dk_97 (dk_at dksX0_endRows_1 19 rfl rfl)
theorem dX0_endRows_44 : decode cX0_endRows 44 = .ok (.lstore_n 3, 1) := dk_66 (dk_at dksX0_endRows_1 20 rfl rfl)
theorem dX0_endRows_45 : decode cX0_endRows 45 = .ok (.iinc 5 1, 3) := dk_132 5 1 (dk_at dksX0_endRows_1 21 rfl rfl)
theorem dX0_endRows_48 : decode cX0_endRows 48 = .ok (.goto (-43), 3) := dk_167 255 213 (dk_at dksX0_endRows_2 0 rfl rfl)
theorem dX0_endRows_51 : decode cX0_endRows 51 = .ok (.lload_n 1, 1) := dk_31 (dk_at dksX0_endRows_2 3 rfl rfl)
theorem dX0_endRows_52 : decode cX0_endRows 52 = .ok (.lload_n 3, 1) := dk_33 (dk_at dksX0_endRows_2 4 rfl rfl)
theorem dX0_endRows_53 : decode cX0_endRows 53 = .ok (.aload_n 0, 1) := dk_42 (dk_at dksX0_endRows_2 5 rfl rfl)
theorem dX0_endRows_54 : decode cX0_endRows 54 = .ok (.getfield 389, 3) := dk_180 1 133 (dk_at dksX0_endRows_2 6 rfl rfl)
theorem dX0_endRows_57 : decode cX0_endRows 57 = .ok (.i2l, 1) := dk_133 (dk_at dksX0_endRows_2 9 rfl rfl)
theorem dX0_endRows_58 : decode cX0_endRows 58 = .ok (.lconst 1, 1) := dk_10 (dk_at dksX0_endRows_2 10 rfl rfl)
theorem dX0_endRows_59 : decode cX0_endRows 59 = .ok (.ladd, 1) := dk_97 (dk_at dksX0_endRows_2 11 rfl rfl)
theorem dX0_endRows_60 : decode cX0_endRows 60 = .ok (.lmul, 1) := dk_105 (dk_at dksX0_endRows_2 12 rfl rfl)
theorem dX0_endRows_61 : decode cX0_endRows 61 = .ok (.ladd, 1) := dk_97 (dk_at dksX0_endRows_2 13 rfl rfl)
theorem dX0_endRows_62 : decode cX0_endRows 62 = .ok (.lstore 5, 2) := dk_55 5 (dk_at dksX0_endRows_2 14 rfl rfl)
theorem dX0_endRows_64 : decode cX0_endRows 64 = .ok (.aload_n 0, 1) := dk_42 (dk_at dksX0_endRows_2 16 rfl rfl)
theorem dX0_endRows_65 : decode cX0_endRows 65 = .ok (.getfield 392, 3) := dk_180 1 136 (dk_at dksX0_endRows_2 17 rfl rfl)
theorem dX0_endRows_68 : decode cX0_endRows 68 = .ok (.ldc2_w 184, 3) := dk_20 0 184 (dk_at dksX0_endRows_2 20 rfl rfl)
theorem dX0_endRows_71 : decode cX0_endRows 71 = .ok (.lcmp, 1) := dk_148 (dk_at dksX0_endRows_2 23 rfl rfl)
theorem dX0_endRows_72 : decode cX0_endRows 72 = .ok (.ifCond .eq 32, 3) := dk_153 0 32 (dk_at dksX0_endRows_3 0 rfl rfl)
theorem dX0_endRows_75 : decode cX0_endRows 75 = .ok (.lload_n 3, 1) := dk_33 (dk_at dksX0_endRows_3 3 rfl rfl)
theorem dX0_endRows_76 : decode cX0_endRows 76 = .ok (.aload_n 0, 1) := dk_42 (dk_at dksX0_endRows_3 4 rfl rfl)
theorem dX0_endRows_77 : decode cX0_endRows 77 = .ok (.getfield 392, 3) := dk_180 1 136 (dk_at dksX0_endRows_3 5 rfl rfl)
theorem dX0_endRows_80 : decode cX0_endRows 80 = .ok (.lcmp, 1) := dk_148 (dk_at dksX0_endRows_3 8 rfl rfl)
theorem dX0_endRows_81 : decode cX0_endRows 81 = .ok (.ifCond .gt 22, 3) := dk_157 0 22 (dk_at dksX0_endRows_3 9 rfl rfl)
theorem dX0_endRows_84 : decode cX0_endRows 84 = .ok (.lload_n 3, 1) := dk_33 (dk_at dksX0_endRows_3 12 rfl rfl)
theorem dX0_endRows_85 : decode cX0_endRows 85 = .ok (.aload_n 0, 1) := dk_42 (dk_at dksX0_endRows_3 13 rfl rfl)
theorem dX0_endRows_86 : decode cX0_endRows 86 = .ok (.getfield 392, 3) := dk_180 1 136 (dk_at dksX0_endRows_3 14 rfl rfl)
theorem dX0_endRows_89 : decode cX0_endRows 89 = .ok (.lcmp, 1) := dk_148 (dk_at dksX0_endRows_3 17 rfl rfl)
theorem dX0_endRows_90 : decode cX0_endRows 90 = .ok (.ifCond .ne 14, 3) := dk_154 0 14 (dk_at dksX0_endRows_3 18 rfl rfl)
theorem dX0_endRows_93 : decode cX0_endRows 93 = .ok (.lload 5, 2) := dk_22 5 (dk_at dksX0_endRows_3 21 rfl rfl)
theorem dX0_endRows_95 : decode cX0_endRows 95 = .ok (.aload_n 0, 1) := dk_42 (dk_at dksX0_endRows_3 23 rfl rfl)
theorem dX0_endRows_96 : decode cX0_endRows 96 = .ok (.getfield 395, 3) := dk_180 1 139 (dk_at dksX0_endRows_4 0 rfl rfl)
theorem dX0_endRows_99 : decode cX0_endRows 99 = .ok (.lcmp, 1) := dk_148 (dk_at dksX0_endRows_4 3 rfl rfl)
theorem dX0_endRows_100 : decode cX0_endRows 100 = .ok (.ifCond .lt 4, 3) := dk_155 0 4 (dk_at dksX0_endRows_4 4 rfl rfl)
theorem dX0_endRows_103 : decode cX0_endRows 103 = .ok (.return_, 1) := dk_177 (dk_at dksX0_endRows_4 7 rfl rfl)
theorem dX0_endRows_104 : decode cX0_endRows 104 = .ok (.aload_n 0, 1) := dk_42 (dk_at dksX0_endRows_4 8 rfl rfl)
theorem dX0_endRows_105 : decode cX0_endRows 105 = .ok (.lload_n 3, 1) := dk_33 (dk_at dksX0_endRows_4 9 rfl rfl)
theorem dX0_endRows_106 : decode cX0_endRows 106 = .ok (.putfield 392, 3) := dk_181 1 136 (dk_at dksX0_endRows_4 10 rfl rfl)
theorem dX0_endRows_109 : decode cX0_endRows 109 = .ok (.aload_n 0, 1) := dk_42 (dk_at dksX0_endRows_4 13 rfl rfl)
theorem dX0_endRows_110 : decode cX0_endRows 110 = .ok (.lload 5, 2) := dk_22 5 (dk_at dksX0_endRows_4 14 rfl rfl)
theorem dX0_endRows_112 : decode cX0_endRows 112 = .ok (.putfield 395, 3) := dk_181 1 139 (dk_at dksX0_endRows_4 16 rfl rfl)
theorem dX0_endRows_115 : decode cX0_endRows 115 = .ok (.aload_n 0, 1) := dk_42 (dk_at dksX0_endRows_4 19 rfl rfl)
theorem dX0_endRows_116 : decode cX0_endRows 116 = .ok (.getfield 86, 3) := dk_180 0 86 (dk_at dksX0_endRows_4 20 rfl rfl)
theorem dX0_endRows_119 : decode cX0_endRows 119 = .ok (.iconst 0, 1) := dk_3 (dk_at dksX0_endRows_4 23 rfl rfl)
theorem dX0_endRows_120 : decode cX0_endRows 120 = .ok (.aload_n 0, 1) := dk_42 (dk_at dksX0_endRows_5 0 rfl rfl)
theorem dX0_endRows_121 : decode cX0_endRows 121 = .ok (.getfield 92, 3) := dk_180 0 92 (dk_at dksX0_endRows_5 1 rfl rfl)
theorem dX0_endRows_124 : decode cX0_endRows 124 = .ok (.iconst 0, 1) := dk_3 (dk_at dksX0_endRows_5 4 rfl rfl)
theorem dX0_endRows_125 : decode cX0_endRows 125 = .ok (.iconst 5, 1) := dk_8 (dk_at dksX0_endRows_5 5 rfl rfl)
theorem dX0_endRows_126 : decode cX0_endRows 126 = .ok (.invokestatic 192, 3) := dk_184 0 192 (dk_at dksX0_endRows_5 6 rfl rfl)
theorem dX0_endRows_129 : decode cX0_endRows 129 = .ok (.aload_n 0, 1) := dk_42 (dk_at dksX0_endRows_5 9 rfl rfl)
theorem dX0_endRows_130 : decode cX0_endRows 130 = .ok (.getfield 89, 3) := dk_180 0 89 (dk_at dksX0_endRows_5 10 rfl rfl)
theorem dX0_endRows_133 : decode cX0_endRows 133 = .ok (.iconst 0, 1) := dk_3 (dk_at dksX0_endRows_5 13 rfl rfl)
theorem dX0_endRows_134 : decode cX0_endRows 134 = .ok (.aload_n 0, 1) := dk_42 (dk_at dksX0_endRows_5 14 rfl rfl)
theorem dX0_endRows_135 : decode cX0_endRows 135 = .ok (.getfield 95, 3) := dk_180 0 95 (dk_at dksX0_endRows_5 15 rfl rfl)
theorem dX0_endRows_138 : decode cX0_endRows 138 = .ok (.iconst 0, 1) := dk_3 (dk_at dksX0_endRows_5 18 rfl rfl)
theorem dX0_endRows_139 : decode cX0_endRows 139 = .ok (.iconst 5, 1) := dk_8 (dk_at dksX0_endRows_5 19 rfl rfl)
theorem dX0_endRows_140 : decode cX0_endRows 140 = .ok (.invokestatic 192, 3) := dk_184 0 192 (dk_at dksX0_endRows_5 20 rfl rfl)
theorem dX0_endRows_143 : decode cX0_endRows 143 = .ok (.return_, 1) := dk_177 (dk_at dksX0_endRows_5 23 rfl rfl)
abbrev cX0_doesStep : ByteArray := prog_1_method_45_code
def yX0_doesStep : MethodName := ⟨RX0, "doesStep", "(III)J"⟩
def dkwX0_doesStep_10 : List UInt8 := [132, 7, 1, 167, 255, 47, 22, 4, 173]
abbrev dktX0_doesStep_10 : List UInt8 := dkwX0_doesStep_10 ++ []
def dkwX0_doesStep_9 : List UInt8 := [42, 21, 7, 16, 8, 108, 21, 7, 16, 8, 112, 182, 1, 105, 27, 133, 10, 97, 105, 97, 55, 4]
abbrev dktX0_doesStep_9 : List UInt8 := dkwX0_doesStep_9 ++ dktX0_doesStep_10
def dkwX0_doesStep_8 : List UInt8 := [79, 42, 180, 0, 83, 27, 4, 96, 50, 21, 7, 25, 11, 180, 1, 4, 79, 21, 12, 153, 0, 27, 22, 4]
abbrev dktX0_doesStep_8 : List UInt8 := dkwX0_doesStep_8 ++ dktX0_doesStep_9
def dkwX0_doesStep_7 : List UInt8 := [42, 180, 0, 80, 27, 4, 96, 50, 21, 7, 21, 12, 153, 0, 7, 2, 167, 0, 8, 25, 10, 180, 1, 4]
abbrev dktX0_doesStep_7 : List UInt8 := dkwX0_doesStep_7 ++ dktX0_doesStep_8
def dkwX0_doesStep_6 : List UInt8 := [153, 0, 21, 25, 10, 25, 9, 166, 0, 14, 25, 11, 25, 8, 166, 0, 7, 4, 167, 0, 4, 3, 54, 12]
abbrev dktX0_doesStep_6 : List UInt8 := dkwX0_doesStep_6 ++ dktX0_doesStep_7
def dkwX0_doesStep_5 : List UInt8 := [25, 9, 21, 6, 182, 1, 61, 58, 11, 25, 10, 25, 11, 165, 0, 27, 42, 180, 0, 57, 180, 1, 58]
abbrev dktX0_doesStep_5 : List UInt8 := dkwX0_doesStep_5 ++ dktX0_doesStep_6
def dkwX0_doesStep_4 : List UInt8 := [180, 0, 240, 42, 180, 0, 83, 27, 50, 21, 7, 46, 50, 58, 9, 25, 8, 28, 182, 1, 61, 58, 10]
abbrev dktX0_doesStep_4 : List UInt8 := dkwX0_doesStep_4 ++ dktX0_doesStep_5
def dkwX0_doesStep_3 : List UInt8 := [180, 0, 57, 180, 0, 240, 42, 180, 0, 80, 27, 50, 21, 7, 46, 50, 58, 8, 42, 180, 0, 57]
abbrev dktX0_doesStep_3 : List UInt8 := dkwX0_doesStep_3 ++ dktX0_doesStep_4
def dkwX0_doesStep_2 : List UInt8 := [50, 21, 7, 46, 79, 42, 180, 0, 80, 27, 50, 21, 7, 46, 2, 160, 0, 6, 167, 0, 166, 42]
abbrev dktX0_doesStep_2 : List UInt8 := dkwX0_doesStep_2 ++ dktX0_doesStep_3
def dkwX0_doesStep_1 : List UInt8 := [54, 7, 21, 7, 16, 64, 162, 0, 208, 42, 180, 0, 80, 27, 4, 96, 50, 21, 7, 42, 180, 0, 80, 27]
abbrev dktX0_doesStep_1 : List UInt8 := dkwX0_doesStep_1 ++ dktX0_doesStep_2
def dkwX0_doesStep_0 : List UInt8 := [9, 55, 4, 27, 42, 180, 0, 57, 180, 1, 69, 112, 154, 0, 7, 29, 167, 0, 4, 3, 54, 6, 3]
abbrev dktX0_doesStep_0 : List UInt8 := dkwX0_doesStep_0 ++ dktX0_doesStep_1
theorem dksX0_doesStep_0 : cX0_doesStep.data.toList.drop 0 = dktX0_doesStep_0 := by decide +kernel
theorem dksX0_doesStep_1 : cX0_doesStep.data.toList.drop 23 = dktX0_doesStep_1 := dk_seg dksX0_doesStep_0 23 rfl rfl
theorem dksX0_doesStep_2 : cX0_doesStep.data.toList.drop 47 = dktX0_doesStep_2 := dk_seg dksX0_doesStep_1 24 rfl rfl
theorem dksX0_doesStep_3 : cX0_doesStep.data.toList.drop 69 = dktX0_doesStep_3 := dk_seg dksX0_doesStep_2 22 rfl rfl
theorem dksX0_doesStep_4 : cX0_doesStep.data.toList.drop 91 = dktX0_doesStep_4 := dk_seg dksX0_doesStep_3 22 rfl rfl
theorem dksX0_doesStep_5 : cX0_doesStep.data.toList.drop 114 = dktX0_doesStep_5 := dk_seg dksX0_doesStep_4 23 rfl rfl
theorem dksX0_doesStep_6 : cX0_doesStep.data.toList.drop 137 = dktX0_doesStep_6 := dk_seg dksX0_doesStep_5 23 rfl rfl
theorem dksX0_doesStep_7 : cX0_doesStep.data.toList.drop 161 = dktX0_doesStep_7 := dk_seg dksX0_doesStep_6 24 rfl rfl
theorem dksX0_doesStep_8 : cX0_doesStep.data.toList.drop 185 = dktX0_doesStep_8 := dk_seg dksX0_doesStep_7 24 rfl rfl
theorem dksX0_doesStep_9 : cX0_doesStep.data.toList.drop 209 = dktX0_doesStep_9 := dk_seg dksX0_doesStep_8 24 rfl rfl
theorem dksX0_doesStep_10 : cX0_doesStep.data.toList.drop 231 = dktX0_doesStep_10 := dk_seg dksX0_doesStep_9 22 rfl rfl
theorem dX0_doesStep_0 : decode cX0_doesStep 0 = .ok (.lconst 0, 1) := dk_9 (dk_at dksX0_doesStep_0 0 rfl rfl)
theorem dX0_doesStep_1 : decode cX0_doesStep 1 = .ok (.lstore 4, 2) := dk_55 4 (dk_at dksX0_doesStep_0 1 rfl rfl)
theorem dX0_doesStep_3 : decode cX0_doesStep 3 = .ok (.iload_n 1, 1) := dk_27 (dk_at dksX0_doesStep_0 3 rfl rfl)
theorem dX0_doesStep_4 : decode cX0_doesStep 4 = .ok (.aload_n 0, 1) := dk_42 (dk_at dksX0_doesStep_0 4 rfl rfl)
theorem dX0_doesStep_5 : decode cX0_doesStep 5 = .ok (.getfield 57, 3) := dk_180 0 57 (dk_at dksX0_doesStep_0 5 rfl rfl)
theorem dX0_doesStep_8 : decode cX0_doesStep 8 = .ok (.getfield 325, 3) := dk_180 1 69 (dk_at dksX0_doesStep_0 8 rfl rfl)
theorem dX0_doesStep_11 : decode cX0_doesStep 11 = .ok (.irem, 1) := dk_112 (dk_at dksX0_doesStep_0 11 rfl rfl)
theorem dX0_doesStep_12 : decode cX0_doesStep 12 = .ok (.ifCond .ne 7, 3) := dk_154 0 7 (dk_at dksX0_doesStep_0 12 rfl rfl)
theorem dX0_doesStep_15 : decode cX0_doesStep 15 = .ok (.iload_n 3, 1) := dk_29 (dk_at dksX0_doesStep_0 15 rfl rfl)
theorem dX0_doesStep_16 : decode cX0_doesStep 16 = .ok (.goto 4, 3) := dk_167 0 4 (dk_at dksX0_doesStep_0 16 rfl rfl)
theorem dX0_doesStep_19 : decode cX0_doesStep 19 = .ok (.iconst 0, 1) := dk_3 (dk_at dksX0_doesStep_0 19 rfl rfl)
theorem dX0_doesStep_20 : decode cX0_doesStep 20 = .ok (.istore 6, 2) := dk_54 6 (dk_at dksX0_doesStep_0 20 rfl rfl)
theorem dX0_doesStep_22 : decode cX0_doesStep 22 = .ok (.iconst 0, 1) := dk_3 (dk_at dksX0_doesStep_0 22 rfl rfl)
theorem dX0_doesStep_23 : decode cX0_doesStep 23 = .ok (.istore 7, 2) := dk_54 7 (dk_at dksX0_doesStep_1 0 rfl rfl)
theorem dX0_doesStep_25 : decode cX0_doesStep 25 = .ok (.iload 7, 2) := dk_21 7 (dk_at dksX0_doesStep_1 2 rfl rfl)
theorem dX0_doesStep_27 : decode cX0_doesStep 27 = .ok (.bipush 64, 2) := dk_16 64 (dk_at dksX0_doesStep_1 4 rfl rfl)
theorem dX0_doesStep_29 : decode cX0_doesStep 29 = .ok (.if_icmp .ge 208, 3) := dk_162 0 208 (dk_at dksX0_doesStep_1 6 rfl rfl)
theorem dX0_doesStep_32 : decode cX0_doesStep 32 = .ok (.aload_n 0, 1) := dk_42 (dk_at dksX0_doesStep_1 9 rfl rfl)
theorem dX0_doesStep_33 : decode cX0_doesStep 33 = .ok (.getfield 80, 3) := dk_180 0 80 (dk_at dksX0_doesStep_1 10 rfl rfl)
theorem dX0_doesStep_36 : decode cX0_doesStep 36 = .ok (.iload_n 1, 1) := dk_27 (dk_at dksX0_doesStep_1 13 rfl rfl)
theorem dX0_doesStep_37 : decode cX0_doesStep 37 = .ok (.iconst 1, 1) := dk_4 (dk_at dksX0_doesStep_1 14 rfl rfl)
theorem dX0_doesStep_38 : decode cX0_doesStep 38 = .ok (.iadd, 1) := dk_96 (dk_at dksX0_doesStep_1 15 rfl rfl)
theorem dX0_doesStep_39 : decode cX0_doesStep 39 = .ok (.aaload, 1) := dk_50 (dk_at dksX0_doesStep_1 16 rfl rfl)
theorem dX0_doesStep_40 : decode cX0_doesStep 40 = .ok (.iload 7, 2) := dk_21 7 (dk_at dksX0_doesStep_1 17 rfl rfl)
theorem dX0_doesStep_42 : decode cX0_doesStep 42 = .ok (.aload_n 0, 1) := dk_42 (dk_at dksX0_doesStep_1 19 rfl rfl)
theorem dX0_doesStep_43 : decode cX0_doesStep 43 = .ok (.getfield 80, 3) := dk_180 0 80 (dk_at dksX0_doesStep_1 20 rfl rfl)
theorem dX0_doesStep_46 : decode cX0_doesStep 46 = .ok (.iload_n 1, 1) := dk_27 (dk_at dksX0_doesStep_1 23 rfl rfl)
theorem dX0_doesStep_47 : decode cX0_doesStep 47 = .ok (.aaload, 1) := dk_50 (dk_at dksX0_doesStep_2 0 rfl rfl)
theorem dX0_doesStep_48 : decode cX0_doesStep 48 = .ok (.iload 7, 2) := dk_21 7 (dk_at dksX0_doesStep_2 1 rfl rfl)
theorem dX0_doesStep_50 : decode cX0_doesStep 50 = .ok (.iaload, 1) := dk_46 (dk_at dksX0_doesStep_2 3 rfl rfl)
theorem dX0_doesStep_51 : decode cX0_doesStep 51 = .ok (.iastore, 1) := dk_79 (dk_at dksX0_doesStep_2 4 rfl rfl)
theorem dX0_doesStep_52 : decode cX0_doesStep 52 = .ok (.aload_n 0, 1) := dk_42 (dk_at dksX0_doesStep_2 5 rfl rfl)
theorem dX0_doesStep_53 : decode cX0_doesStep 53 = .ok (.getfield 80, 3) := dk_180 0 80 (dk_at dksX0_doesStep_2 6 rfl rfl)
theorem dX0_doesStep_56 : decode cX0_doesStep 56 = .ok (.iload_n 1, 1) := dk_27 (dk_at dksX0_doesStep_2 9 rfl rfl)
theorem dX0_doesStep_57 : decode cX0_doesStep 57 = .ok (.aaload, 1) := dk_50 (dk_at dksX0_doesStep_2 10 rfl rfl)
theorem dX0_doesStep_58 : decode cX0_doesStep 58 = .ok (.iload 7, 2) := dk_21 7 (dk_at dksX0_doesStep_2 11 rfl rfl)
theorem dX0_doesStep_60 : decode cX0_doesStep 60 = .ok (.iaload, 1) := dk_46 (dk_at dksX0_doesStep_2 13 rfl rfl)
theorem dX0_doesStep_61 : decode cX0_doesStep 61 = .ok (.iconst (-1), 1) := dk_2 (dk_at dksX0_doesStep_2 14 rfl rfl)
theorem dX0_doesStep_62 : decode cX0_doesStep 62 = .ok (.if_icmp .ne 6, 3) := dk_160 0 6 (dk_at dksX0_doesStep_2 15 rfl rfl)
theorem dX0_doesStep_65 : decode cX0_doesStep 65 = .ok (.goto 166, 3) := dk_167 0 166 (dk_at dksX0_doesStep_2 18 rfl rfl)
theorem dX0_doesStep_68 : decode cX0_doesStep 68 = .ok (.aload_n 0, 1) := dk_42 (dk_at dksX0_doesStep_2 21 rfl rfl)
theorem dX0_doesStep_69 : decode cX0_doesStep 69 = .ok (.getfield 57, 3) := dk_180 0 57 (dk_at dksX0_doesStep_3 0 rfl rfl)
theorem dX0_doesStep_72 : decode cX0_doesStep 72 = .ok (.getfield 240, 3) := dk_180 0 240 (dk_at dksX0_doesStep_3 3 rfl rfl)
theorem dX0_doesStep_75 : decode cX0_doesStep 75 = .ok (.aload_n 0, 1) := dk_42 (dk_at dksX0_doesStep_3 6 rfl rfl)
theorem dX0_doesStep_76 : decode cX0_doesStep 76 = .ok (.getfield 80, 3) := dk_180 0 80 (dk_at dksX0_doesStep_3 7 rfl rfl)
theorem dX0_doesStep_79 : decode cX0_doesStep 79 = .ok (.iload_n 1, 1) := dk_27 (dk_at dksX0_doesStep_3 10 rfl rfl)
theorem dX0_doesStep_80 : decode cX0_doesStep 80 = .ok (.aaload, 1) := dk_50 (dk_at dksX0_doesStep_3 11 rfl rfl)
theorem dX0_doesStep_81 : decode cX0_doesStep 81 = .ok (.iload 7, 2) := dk_21 7 (dk_at dksX0_doesStep_3 12 rfl rfl)
theorem dX0_doesStep_83 : decode cX0_doesStep 83 = .ok (.iaload, 1) := dk_46 (dk_at dksX0_doesStep_3 14 rfl rfl)
theorem dX0_doesStep_84 : decode cX0_doesStep 84 = .ok (.aaload, 1) := dk_50 (dk_at dksX0_doesStep_3 15 rfl rfl)
theorem dX0_doesStep_85 : decode cX0_doesStep 85 = .ok (.astore 8, 2) := dk_58 8 (dk_at dksX0_doesStep_3 16 rfl rfl)
theorem dX0_doesStep_87 : decode cX0_doesStep 87 = .ok (.aload_n 0, 1) := dk_42 (dk_at dksX0_doesStep_3 18 rfl rfl)
theorem dX0_doesStep_88 : decode cX0_doesStep 88 = .ok (.getfield 57, 3) := dk_180 0 57 (dk_at dksX0_doesStep_3 19 rfl rfl)
theorem dX0_doesStep_91 : decode cX0_doesStep 91 = .ok (.getfield 240, 3) := dk_180 0 240 (dk_at dksX0_doesStep_4 0 rfl rfl)
theorem dX0_doesStep_94 : decode cX0_doesStep 94 = .ok (.aload_n 0, 1) := dk_42 (dk_at dksX0_doesStep_4 3 rfl rfl)
theorem dX0_doesStep_95 : decode cX0_doesStep 95 = .ok (.getfield 83, 3) := dk_180 0 83 (dk_at dksX0_doesStep_4 4 rfl rfl)
theorem dX0_doesStep_98 : decode cX0_doesStep 98 = .ok (.iload_n 1, 1) := dk_27 (dk_at dksX0_doesStep_4 7 rfl rfl)
theorem dX0_doesStep_99 : decode cX0_doesStep 99 = .ok (.aaload, 1) := dk_50 (dk_at dksX0_doesStep_4 8 rfl rfl)
theorem dX0_doesStep_100 : decode cX0_doesStep 100 = .ok (.iload 7, 2) := dk_21 7 (dk_at dksX0_doesStep_4 9 rfl rfl)
theorem dX0_doesStep_102 : decode cX0_doesStep 102 = .ok (.iaload, 1) := dk_46 (dk_at dksX0_doesStep_4 11 rfl rfl)
theorem dX0_doesStep_103 : decode cX0_doesStep 103 = .ok (.aaload, 1) := dk_50 (dk_at dksX0_doesStep_4 12 rfl rfl)
theorem dX0_doesStep_104 : decode cX0_doesStep 104 = .ok (.astore 9, 2) := dk_58 9 (dk_at dksX0_doesStep_4 13 rfl rfl)
theorem dX0_doesStep_106 : decode cX0_doesStep 106 = .ok (.aload 8, 2) := dk_25 8 (dk_at dksX0_doesStep_4 15 rfl rfl)
theorem dX0_doesStep_108 : decode cX0_doesStep 108 = .ok (.iload_n 2, 1) := dk_28 (dk_at dksX0_doesStep_4 17 rfl rfl)
theorem dX0_doesStep_109 : decode cX0_doesStep 109 = .ok (.invokevirtual 317, 3) := dk_182 1 61 (dk_at dksX0_doesStep_4 18 rfl rfl)
theorem dX0_doesStep_112 : decode cX0_doesStep 112 = .ok (.astore 10, 2) := dk_58 10 (dk_at dksX0_doesStep_4 21 rfl rfl)
theorem dX0_doesStep_114 : decode cX0_doesStep 114 = .ok (.aload 9, 2) := dk_25 9 (dk_at dksX0_doesStep_5 0 rfl rfl)
theorem dX0_doesStep_116 : decode cX0_doesStep 116 = .ok (.iload 6, 2) := dk_21 6 (dk_at dksX0_doesStep_5 2 rfl rfl)
theorem dX0_doesStep_118 : decode cX0_doesStep 118 = .ok (.invokevirtual 317, 3) := dk_182 1 61 (dk_at dksX0_doesStep_5 4 rfl rfl)
theorem dX0_doesStep_121 : decode cX0_doesStep 121 = .ok (.astore 11, 2) := dk_58 11 (dk_at dksX0_doesStep_5 7 rfl rfl)
theorem dX0_doesStep_123 : decode cX0_doesStep 123 = .ok (.aload 10, 2) := dk_25 10 (dk_at dksX0_doesStep_5 9 rfl rfl)
theorem dX0_doesStep_125 : decode cX0_doesStep 125 = .ok (.aload 11, 2) := dk_25 11 (dk_at dksX0_doesStep_5 11 rfl rfl)
theorem dX0_doesStep_127 : decode cX0_doesStep 127 = .ok (.if_acmp .eq 27, 3) := dk_165 0 27 (dk_at dksX0_doesStep_5 13 rfl rfl)
theorem dX0_doesStep_130 : decode cX0_doesStep 130 = .ok (.aload_n 0, 1) := dk_42 (dk_at dksX0_doesStep_5 16 rfl rfl)
theorem dX0_doesStep_131 : decode cX0_doesStep 131 = .ok (.getfield 57, 3) := dk_180 0 57 (dk_at dksX0_doesStep_5 17 rfl rfl)
theorem dX0_doesStep_134 : decode cX0_doesStep 134 = .ok (.getfield 314, 3) := dk_180 1 58 (dk_at dksX0_doesStep_5 20 rfl rfl)
theorem dX0_doesStep_137 : decode cX0_doesStep 137 = .ok (.ifCond .eq 21, 3) := dk_153 0 21 (dk_at dksX0_doesStep_6 0 rfl rfl)
theorem dX0_doesStep_140 : decode cX0_doesStep 140 = .ok (.aload 10, 2) := dk_25 10 (dk_at dksX0_doesStep_6 3 rfl rfl)
theorem dX0_doesStep_142 : decode cX0_doesStep 142 = .ok (.aload 9, 2) := dk_25 9 (dk_at dksX0_doesStep_6 5 rfl rfl)
theorem dX0_doesStep_144 : decode cX0_doesStep 144 = .ok (.if_acmp .ne 14, 3) := dk_166 0 14 (dk_at dksX0_doesStep_6 7 rfl rfl)
theorem dX0_doesStep_147 : decode cX0_doesStep 147 = .ok (.aload 11, 2) := dk_25 11 (dk_at dksX0_doesStep_6 10 rfl rfl)
theorem dX0_doesStep_149 : decode cX0_doesStep 149 = .ok (.aload 8, 2) := dk_25 8 (dk_at dksX0_doesStep_6 12 rfl rfl)
theorem dX0_doesStep_151 : decode cX0_doesStep 151 = .ok (.if_acmp .ne 7, 3) := dk_166 0 7 (dk_at dksX0_doesStep_6 14 rfl rfl)
theorem dX0_doesStep_154 : decode cX0_doesStep 154 = .ok (.iconst 1, 1) := dk_4 (dk_at dksX0_doesStep_6 17 rfl rfl)
theorem dX0_doesStep_155 : decode cX0_doesStep 155 = .ok (.goto 4, 3) := dk_167 0 4 (dk_at dksX0_doesStep_6 18 rfl rfl)
theorem dX0_doesStep_158 : decode cX0_doesStep 158 = .ok (.iconst 0, 1) := dk_3 (dk_at dksX0_doesStep_6 21 rfl rfl)
theorem dX0_doesStep_159 : decode cX0_doesStep 159 = .ok (.istore 12, 2) := dk_54 12 (dk_at dksX0_doesStep_6 22 rfl rfl)
theorem dX0_doesStep_161 : decode cX0_doesStep 161 = .ok (.aload_n 0, 1) := dk_42 (dk_at dksX0_doesStep_7 0 rfl rfl)
theorem dX0_doesStep_162 : decode cX0_doesStep 162 = .ok (.getfield 80, 3) := dk_180 0 80 (dk_at dksX0_doesStep_7 1 rfl rfl)
theorem dX0_doesStep_165 : decode cX0_doesStep 165 = .ok (.iload_n 1, 1) := dk_27 (dk_at dksX0_doesStep_7 4 rfl rfl)
theorem dX0_doesStep_166 : decode cX0_doesStep 166 = .ok (.iconst 1, 1) := dk_4 (dk_at dksX0_doesStep_7 5 rfl rfl)
theorem dX0_doesStep_167 : decode cX0_doesStep 167 = .ok (.iadd, 1) := dk_96 (dk_at dksX0_doesStep_7 6 rfl rfl)
theorem dX0_doesStep_168 : decode cX0_doesStep 168 = .ok (.aaload, 1) := dk_50 (dk_at dksX0_doesStep_7 7 rfl rfl)
theorem dX0_doesStep_169 : decode cX0_doesStep 169 = .ok (.iload 7, 2) := dk_21 7 (dk_at dksX0_doesStep_7 8 rfl rfl)
theorem dX0_doesStep_171 : decode cX0_doesStep 171 = .ok (.iload 12, 2) := dk_21 12 (dk_at dksX0_doesStep_7 10 rfl rfl)
theorem dX0_doesStep_173 : decode cX0_doesStep 173 = .ok (.ifCond .eq 7, 3) := dk_153 0 7 (dk_at dksX0_doesStep_7 12 rfl rfl)
theorem dX0_doesStep_176 : decode cX0_doesStep 176 = .ok (.iconst (-1), 1) := dk_2 (dk_at dksX0_doesStep_7 15 rfl rfl)
theorem dX0_doesStep_177 : decode cX0_doesStep 177 = .ok (.goto 8, 3) := dk_167 0 8 (dk_at dksX0_doesStep_7 16 rfl rfl)
theorem dX0_doesStep_180 : decode cX0_doesStep 180 = .ok (.aload 10, 2) := dk_25 10 (dk_at dksX0_doesStep_7 19 rfl rfl)
theorem dX0_doesStep_182 : decode cX0_doesStep 182 = .ok (.getfield 260, 3) := dk_180 1 4 (dk_at dksX0_doesStep_7 21 rfl rfl)
theorem dX0_doesStep_185 : decode cX0_doesStep 185 = .ok (.iastore, 1) := dk_79 (dk_at dksX0_doesStep_8 0 rfl rfl)
theorem dX0_doesStep_186 : decode cX0_doesStep 186 = .ok (.aload_n 0, 1) := dk_42 (dk_at dksX0_doesStep_8 1 rfl rfl)
theorem dX0_doesStep_187 : decode cX0_doesStep 187 = .ok (.getfield 83, 3) := dk_180 0 83 (dk_at dksX0_doesStep_8 2 rfl rfl)
theorem dX0_doesStep_190 : decode cX0_doesStep 190 = .ok (.iload_n 1, 1) := dk_27 (dk_at dksX0_doesStep_8 5 rfl rfl)
theorem dX0_doesStep_191 : decode cX0_doesStep 191 = .ok (.iconst 1, 1) := dk_4 (dk_at dksX0_doesStep_8 6 rfl rfl)
theorem dX0_doesStep_192 : decode cX0_doesStep 192 = .ok (.iadd, 1) := dk_96 (dk_at dksX0_doesStep_8 7 rfl rfl)
theorem dX0_doesStep_193 : decode cX0_doesStep 193 = .ok (.aaload, 1) := dk_50 (dk_at dksX0_doesStep_8 8 rfl rfl)
theorem dX0_doesStep_194 : decode cX0_doesStep 194 = .ok (.iload 7, 2) := dk_21 7 (dk_at dksX0_doesStep_8 9 rfl rfl)
theorem dX0_doesStep_196 : decode cX0_doesStep 196 = .ok (.aload 11, 2) := dk_25 11 (dk_at dksX0_doesStep_8 11 rfl rfl)
theorem dX0_doesStep_198 : decode cX0_doesStep 198 = .ok (.getfield 260, 3) := dk_180 1 4 (dk_at dksX0_doesStep_8 13 rfl rfl)
theorem dX0_doesStep_201 : decode cX0_doesStep 201 = .ok (.iastore, 1) := dk_79 (dk_at dksX0_doesStep_8 16 rfl rfl)
theorem dX0_doesStep_202 : decode cX0_doesStep 202 = .ok (.iload 12, 2) := dk_21 12 (dk_at dksX0_doesStep_8 17 rfl rfl)
theorem dX0_doesStep_204 : decode cX0_doesStep 204 = .ok (.ifCond .eq 27, 3) := dk_153 0 27 (dk_at dksX0_doesStep_8 19 rfl rfl)
theorem dX0_doesStep_207 : decode cX0_doesStep 207 = .ok (.lload 4, 2) := dk_22 4 (dk_at dksX0_doesStep_8 22 rfl rfl)
theorem dX0_doesStep_209 : decode cX0_doesStep 209 = .ok (.aload_n 0, 1) := dk_42 (dk_at dksX0_doesStep_9 0 rfl rfl)
theorem dX0_doesStep_210 : decode cX0_doesStep 210 = .ok (.iload 7, 2) := dk_21 7 (dk_at dksX0_doesStep_9 1 rfl rfl)
theorem dX0_doesStep_212 : decode cX0_doesStep 212 = .ok (.bipush 8, 2) := dk_16 8 (dk_at dksX0_doesStep_9 3 rfl rfl)
theorem dX0_doesStep_214 : decode cX0_doesStep 214 = .ok (.idiv, 1) := dk_108 (dk_at dksX0_doesStep_9 5 rfl rfl)
theorem dX0_doesStep_215 : decode cX0_doesStep 215 = .ok (.iload 7, 2) := dk_21 7 (dk_at dksX0_doesStep_9 6 rfl rfl)
theorem dX0_doesStep_217 : decode cX0_doesStep 217 = .ok (.bipush 8, 2) := dk_16 8 (dk_at dksX0_doesStep_9 8 rfl rfl)
theorem dX0_doesStep_219 : decode cX0_doesStep 219 = .ok (.irem, 1) := dk_112 (dk_at dksX0_doesStep_9 10 rfl rfl)
theorem dX0_doesStep_220 : decode cX0_doesStep 220 = .ok (.invokevirtual 361, 3) := dk_182 1 105 (dk_at dksX0_doesStep_9 11 rfl rfl)
theorem dX0_doesStep_223 : decode cX0_doesStep 223 = .ok (.iload_n 1, 1) := dk_27 (dk_at dksX0_doesStep_9 14 rfl rfl)
theorem dX0_doesStep_224 : decode cX0_doesStep 224 = .ok (.i2l, 1) := dk_133 (dk_at dksX0_doesStep_9 15 rfl rfl)
theorem dX0_doesStep_225 : decode cX0_doesStep 225 = .ok (.lconst 1, 1) := dk_10 (dk_at dksX0_doesStep_9 16 rfl rfl)
theorem dX0_doesStep_226 : decode cX0_doesStep 226 = .ok (.ladd, 1) := dk_97 (dk_at dksX0_doesStep_9 17 rfl rfl)
theorem dX0_doesStep_227 : decode cX0_doesStep 227 = .ok (.lmul, 1) := dk_105 (dk_at dksX0_doesStep_9 18 rfl rfl)
theorem dX0_doesStep_228 : decode cX0_doesStep 228 = .ok (.ladd, 1) := dk_97 (dk_at dksX0_doesStep_9 19 rfl rfl)
theorem dX0_doesStep_229 : decode cX0_doesStep 229 = .ok (.lstore 4, 2) := dk_55 4 (dk_at dksX0_doesStep_9 20 rfl rfl)
theorem dX0_doesStep_231 : decode cX0_doesStep 231 = .ok (.iinc 7 1, 3) := dk_132 7 1 (dk_at dksX0_doesStep_10 0 rfl rfl)
theorem dX0_doesStep_234 : decode cX0_doesStep 234 = .ok (.goto (-209), 3) := dk_167 255 47 (dk_at dksX0_doesStep_10 3 rfl rfl)
theorem dX0_doesStep_237 : decode cX0_doesStep 237 = .ok (.lload 4, 2) := dk_22 4 (dk_at dksX0_doesStep_10 6 rfl rfl)
theorem dX0_doesStep_239 : decode cX0_doesStep 239 = .ok (.lreturn, 1) := dk_173 (dk_at dksX0_doesStep_10 8 rfl rfl)
abbrev cX0_step : ByteArray := prog_1_method_49_code
def yX0_step : MethodName := ⟨RX0, "step", "(II)I"⟩
def dkwX0_step_2 : List UInt8 := [172]
abbrev dktX0_step_2 : List UInt8 := dkwX0_step_2 ++ []
def dkwX0_step_1 : List UInt8 := [161, 0, 12, 42, 16, 8, 182, 0, 176, 167, 0, 15, 42, 42, 180, 0, 98, 27, 50, 28, 46, 182, 0, 234]
abbrev dktX0_step_1 : List UInt8 := dkwX0_step_1 ++ dktX0_step_2
def dkwX0_step_0 : List UInt8 := [27, 155, 0, 8, 27, 4, 164, 0, 9, 42, 8, 182, 0, 176, 172, 28, 155, 0, 11, 28, 42, 180, 1, 157]
abbrev dktX0_step_0 : List UInt8 := dkwX0_step_0 ++ dktX0_step_1
theorem dksX0_step_0 : cX0_step.data.toList.drop 0 = dktX0_step_0 := by decide +kernel
theorem dksX0_step_1 : cX0_step.data.toList.drop 24 = dktX0_step_1 := dk_seg dksX0_step_0 24 rfl rfl
theorem dksX0_step_2 : cX0_step.data.toList.drop 48 = dktX0_step_2 := dk_seg dksX0_step_1 24 rfl rfl
theorem dX0_step_0 : decode cX0_step 0 = .ok (.iload_n 1, 1) := dk_27 (dk_at dksX0_step_0 0 rfl rfl)
theorem dX0_step_1 : decode cX0_step 1 = .ok (.ifCond .lt 8, 3) := dk_155 0 8 (dk_at dksX0_step_0 1 rfl rfl)
theorem dX0_step_4 : decode cX0_step 4 = .ok (.iload_n 1, 1) := dk_27 (dk_at dksX0_step_0 4 rfl rfl)
theorem dX0_step_5 : decode cX0_step 5 = .ok (.iconst 1, 1) := dk_4 (dk_at dksX0_step_0 5 rfl rfl)
theorem dX0_step_6 : decode cX0_step 6 = .ok (.if_icmp .le 9, 3) := dk_164 0 9 (dk_at dksX0_step_0 6 rfl rfl)
theorem dX0_step_9 : decode cX0_step 9 = .ok (.aload_n 0, 1) := dk_42 (dk_at dksX0_step_0 9 rfl rfl)
theorem dX0_step_10 : decode cX0_step 10 = .ok (.iconst 5, 1) := dk_8 (dk_at dksX0_step_0 10 rfl rfl)
theorem dX0_step_11 : decode cX0_step 11 = .ok (.invokevirtual 176, 3) := dk_182 0 176 (dk_at dksX0_step_0 11 rfl rfl)
theorem dX0_step_14 : decode cX0_step 14 = .ok (.ireturn, 1) := dk_172 (dk_at dksX0_step_0 14 rfl rfl)
theorem dX0_step_15 : decode cX0_step 15 = .ok (.iload_n 2, 1) := dk_28 (dk_at dksX0_step_0 15 rfl rfl)
theorem dX0_step_16 : decode cX0_step 16 = .ok (.ifCond .lt 11, 3) := dk_155 0 11 (dk_at dksX0_step_0 16 rfl rfl)
theorem dX0_step_19 : decode cX0_step 19 = .ok (.iload_n 2, 1) := dk_28 (dk_at dksX0_step_0 19 rfl rfl)
theorem dX0_step_20 : decode cX0_step 20 = .ok (.aload_n 0, 1) := dk_42 (dk_at dksX0_step_0 20 rfl rfl)
theorem dX0_step_21 : decode cX0_step 21 = .ok (.getfield 413, 3) := dk_180 1 157 (dk_at dksX0_step_0 21 rfl rfl)
theorem dX0_step_24 : decode cX0_step 24 = .ok (.if_icmp .lt 12, 3) := dk_161 0 12 (dk_at dksX0_step_1 0 rfl rfl)
theorem dX0_step_27 : decode cX0_step 27 = .ok (.aload_n 0, 1) := dk_42 (dk_at dksX0_step_1 3 rfl rfl)
theorem dX0_step_28 : decode cX0_step 28 = .ok (.bipush 8, 2) := dk_16 8 (dk_at dksX0_step_1 4 rfl rfl)
theorem dX0_step_30 : decode cX0_step 30 = .ok (.invokevirtual 176, 3) := dk_182 0 176 (dk_at dksX0_step_1 6 rfl rfl)
theorem dX0_step_33 : decode cX0_step 33 = .ok (.goto 15, 3) := dk_167 0 15 (dk_at dksX0_step_1 9 rfl rfl)
theorem dX0_step_36 : decode cX0_step 36 = .ok (.aload_n 0, 1) := dk_42 (dk_at dksX0_step_1 12 rfl rfl)
theorem dX0_step_37 : decode cX0_step 37 = .ok (.aload_n 0, 1) := dk_42 (dk_at dksX0_step_1 13 rfl rfl)
theorem dX0_step_38 : decode cX0_step 38 = .ok (.getfield 98, 3) := dk_180 0 98 (dk_at dksX0_step_1 14 rfl rfl)
theorem dX0_step_41 : decode cX0_step 41 = .ok (.iload_n 1, 1) := dk_27 (dk_at dksX0_step_1 17 rfl rfl)
theorem dX0_step_42 : decode cX0_step 42 = .ok (.aaload, 1) := dk_50 (dk_at dksX0_step_1 18 rfl rfl)
theorem dX0_step_43 : decode cX0_step 43 = .ok (.iload_n 2, 1) := dk_28 (dk_at dksX0_step_1 19 rfl rfl)
theorem dX0_step_44 : decode cX0_step 44 = .ok (.iaload, 1) := dk_46 (dk_at dksX0_step_1 20 rfl rfl)
theorem dX0_step_45 : decode cX0_step 45 = .ok (.invokevirtual 234, 3) := dk_182 0 234 (dk_at dksX0_step_1 21 rfl rfl)
theorem dX0_step_48 : decode cX0_step 48 = .ok (.ireturn, 1) := dk_172 (dk_at dksX0_step_2 0 rfl rfl)
abbrev cX0_alike : ByteArray := prog_1_method_50_code
def yX0_alike : MethodName := ⟨RX0, "alike", "(I)I"⟩
def dkwX0_alike_3 : List UInt8 := [182, 1, 121, 182, 1, 125, 87, 42, 42, 180, 1, 136, 136, 182, 0, 234, 172]
abbrev dktX0_alike_3 : List UInt8 := dkwX0_alike_3 ++ []
def dkwX0_alike_2 : List UInt8 := [180, 0, 92, 3, 42, 180, 0, 101, 3, 8, 184, 0, 192, 42, 27, 181, 1, 160, 42, 42, 180, 1, 139, 42]
abbrev dktX0_alike_2 : List UInt8 := dkwX0_alike_2 ++ dktX0_alike_3
def dkwX0_alike_1 : List UInt8 := [154, 0, 10, 42, 16, 9, 182, 0, 176, 172, 42, 27, 182, 1, 154, 42, 3, 9, 4, 182, 1, 150, 42]
abbrev dktX0_alike_1 : List UInt8 := dkwX0_alike_1 ++ dktX0_alike_2
def dkwX0_alike_0 : List UInt8 := [27, 4, 161, 0, 8, 27, 8, 164, 0, 9, 42, 8, 182, 0, 176, 172, 42, 182, 1, 121, 9, 148]
abbrev dktX0_alike_0 : List UInt8 := dkwX0_alike_0 ++ dktX0_alike_1
theorem dksX0_alike_0 : cX0_alike.data.toList.drop 0 = dktX0_alike_0 := by decide +kernel
theorem dksX0_alike_1 : cX0_alike.data.toList.drop 22 = dktX0_alike_1 := dk_seg dksX0_alike_0 22 rfl rfl
theorem dksX0_alike_2 : cX0_alike.data.toList.drop 45 = dktX0_alike_2 := dk_seg dksX0_alike_1 23 rfl rfl
theorem dksX0_alike_3 : cX0_alike.data.toList.drop 69 = dktX0_alike_3 := dk_seg dksX0_alike_2 24 rfl rfl
theorem dX0_alike_0 : decode cX0_alike 0 = .ok (.iload_n 1, 1) := dk_27 (dk_at dksX0_alike_0 0 rfl rfl)
theorem dX0_alike_1 : decode cX0_alike 1 = .ok (.iconst 1, 1) := dk_4 (dk_at dksX0_alike_0 1 rfl rfl)
theorem dX0_alike_2 : decode cX0_alike 2 = .ok (.if_icmp .lt 8, 3) := dk_161 0 8 (dk_at dksX0_alike_0 2 rfl rfl)
theorem dX0_alike_5 : decode cX0_alike 5 = .ok (.iload_n 1, 1) := dk_27 (dk_at dksX0_alike_0 5 rfl rfl)
theorem dX0_alike_6 : decode cX0_alike 6 = .ok (.iconst 5, 1) := dk_8 (dk_at dksX0_alike_0 6 rfl rfl)
theorem dX0_alike_7 : decode cX0_alike 7 = .ok (.if_icmp .le 9, 3) := dk_164 0 9 (dk_at dksX0_alike_0 7 rfl rfl)
theorem dX0_alike_10 : decode cX0_alike 10 = .ok (.aload_n 0, 1) := dk_42 (dk_at dksX0_alike_0 10 rfl rfl)
theorem dX0_alike_11 : decode cX0_alike 11 = .ok (.iconst 5, 1) := dk_8 (dk_at dksX0_alike_0 11 rfl rfl)
theorem dX0_alike_12 : decode cX0_alike 12 = .ok (.invokevirtual 176, 3) := dk_182 0 176 (dk_at dksX0_alike_0 12 rfl rfl)
theorem dX0_alike_15 : decode cX0_alike 15 = .ok (.ireturn, 1) := dk_172 (dk_at dksX0_alike_0 15 rfl rfl)
theorem dX0_alike_16 : decode cX0_alike 16 = .ok (.aload_n 0, 1) := dk_42 (dk_at dksX0_alike_0 16 rfl rfl)
theorem dX0_alike_17 : decode cX0_alike 17 = .ok (.invokevirtual 377, 3) := dk_182 1 121 (dk_at dksX0_alike_0 17 rfl rfl)
theorem dX0_alike_20 : decode cX0_alike 20 = .ok (.lconst 0, 1) := dk_9 (dk_at dksX0_alike_0 20 rfl rfl)
theorem dX0_alike_21 : decode cX0_alike 21 = .ok (.lcmp, 1) := dk_148 (dk_at dksX0_alike_0 21 rfl rfl)
theorem dX0_alike_22 : decode cX0_alike 22 = .ok (.ifCond .ne 10, 3) := dk_154 0 10 (dk_at dksX0_alike_1 0 rfl rfl)
theorem dX0_alike_25 : decode cX0_alike 25 = .ok (.aload_n 0, 1) := dk_42 (dk_at dksX0_alike_1 3 rfl rfl)
theorem dX0_alike_26 : decode cX0_alike 26 = .ok (.bipush 9, 2) := dk_16 9 (dk_at dksX0_alike_1 4 rfl rfl)
theorem dX0_alike_28 : decode cX0_alike 28 = .ok (.invokevirtual 176, 3) := dk_182 0 176 (dk_at dksX0_alike_1 6 rfl rfl)
theorem dX0_alike_31 : decode cX0_alike 31 = .ok (.ireturn, 1) := dk_172 (dk_at dksX0_alike_1 9 rfl rfl)
theorem dX0_alike_32 : decode cX0_alike 32 = .ok (.aload_n 0, 1) := dk_42 (dk_at dksX0_alike_1 10 rfl rfl)
theorem dX0_alike_33 : decode cX0_alike 33 = .ok (.iload_n 1, 1) := dk_27 (dk_at dksX0_alike_1 11 rfl rfl)
theorem dX0_alike_34 : decode cX0_alike 34 = .ok (.invokevirtual 410, 3) := dk_182 1 154 (dk_at dksX0_alike_1 12 rfl rfl)
theorem dX0_alike_37 : decode cX0_alike 37 = .ok (.aload_n 0, 1) := dk_42 (dk_at dksX0_alike_1 15 rfl rfl)
theorem dX0_alike_38 : decode cX0_alike 38 = .ok (.iconst 0, 1) := dk_3 (dk_at dksX0_alike_1 16 rfl rfl)
theorem dX0_alike_39 : decode cX0_alike 39 = .ok (.lconst 0, 1) := dk_9 (dk_at dksX0_alike_1 17 rfl rfl)
theorem dX0_alike_40 : decode cX0_alike 40 = .ok (.iconst 1, 1) := dk_4 (dk_at dksX0_alike_1 18 rfl rfl)
theorem dX0_alike_41 : decode cX0_alike 41 = .ok (.invokevirtual 406, 3) := dk_182 1 150 (dk_at dksX0_alike_1 19 rfl rfl)
theorem dX0_alike_44 : decode cX0_alike 44 = .ok (.aload_n 0, 1) := dk_42 (dk_at dksX0_alike_1 22 rfl rfl)
theorem dX0_alike_45 : decode cX0_alike 45 = .ok (.getfield 92, 3) := dk_180 0 92 (dk_at dksX0_alike_2 0 rfl rfl)
theorem dX0_alike_48 : decode cX0_alike 48 = .ok (.iconst 0, 1) := dk_3 (dk_at dksX0_alike_2 3 rfl rfl)
theorem dX0_alike_49 : decode cX0_alike 49 = .ok (.aload_n 0, 1) := dk_42 (dk_at dksX0_alike_2 4 rfl rfl)
theorem dX0_alike_50 : decode cX0_alike 50 = .ok (.getfield 101, 3) := dk_180 0 101 (dk_at dksX0_alike_2 5 rfl rfl)
theorem dX0_alike_53 : decode cX0_alike 53 = .ok (.iconst 0, 1) := dk_3 (dk_at dksX0_alike_2 8 rfl rfl)
theorem dX0_alike_54 : decode cX0_alike 54 = .ok (.iconst 5, 1) := dk_8 (dk_at dksX0_alike_2 9 rfl rfl)
theorem dX0_alike_55 : decode cX0_alike 55 = .ok (.invokestatic 192, 3) := dk_184 0 192 (dk_at dksX0_alike_2 10 rfl rfl)
theorem dX0_alike_58 : decode cX0_alike 58 = .ok (.aload_n 0, 1) := dk_42 (dk_at dksX0_alike_2 13 rfl rfl)
theorem dX0_alike_59 : decode cX0_alike 59 = .ok (.iload_n 1, 1) := dk_27 (dk_at dksX0_alike_2 14 rfl rfl)
theorem dX0_alike_60 : decode cX0_alike 60 = .ok (.putfield 416, 3) := dk_181 1 160 (dk_at dksX0_alike_2 15 rfl rfl)
theorem dX0_alike_63 : decode cX0_alike 63 = .ok (.aload_n 0, 1) := dk_42 (dk_at dksX0_alike_2 18 rfl rfl)
theorem dX0_alike_64 : decode cX0_alike 64 = .ok (.aload_n 0, 1) := dk_42 (dk_at dksX0_alike_2 19 rfl rfl)
theorem dX0_alike_65 : decode cX0_alike 65 = .ok (.getfield 395, 3) := dk_180 1 139 (dk_at dksX0_alike_2 20 rfl rfl)
theorem dX0_alike_68 : decode cX0_alike 68 = .ok (.aload_n 0, 1) := dk_42 (dk_at dksX0_alike_2 23 rfl rfl)
theorem dX0_alike_69 : decode cX0_alike 69 = .ok (.invokevirtual 377, 3) := dk_182 1 121 (dk_at dksX0_alike_3 0 rfl rfl)
theorem dX0_alike_72 : decode cX0_alike 72 = .ok (.invokevirtual 381, 3) := dk_182 1 125 (dk_at dksX0_alike_3 3 rfl rfl)
theorem dX0_alike_75 : decode cX0_alike 75 = .ok (.pop, 1) := dk_87 (dk_at dksX0_alike_3 6 rfl rfl)
theorem dX0_alike_76 : decode cX0_alike 76 = .ok (.aload_n 0, 1) := dk_42 (dk_at dksX0_alike_3 7 rfl rfl)
theorem dX0_alike_77 : decode cX0_alike 77 = .ok (.aload_n 0, 1) := dk_42 (dk_at dksX0_alike_3 8 rfl rfl)
theorem dX0_alike_78 : decode cX0_alike 78 = .ok (.getfield 392, 3) := dk_180 1 136 (dk_at dksX0_alike_3 9 rfl rfl)
theorem dX0_alike_81 : decode cX0_alike 81 = .ok (.l2i, 1) := dk_136 (dk_at dksX0_alike_3 12 rfl rfl)
theorem dX0_alike_82 : decode cX0_alike 82 = .ok (.invokevirtual 234, 3) := dk_182 0 234 (dk_at dksX0_alike_3 13 rfl rfl)
theorem dX0_alike_85 : decode cX0_alike 85 = .ok (.ireturn, 1) := dk_172 (dk_at dksX0_alike_3 16 rfl rfl)
abbrev cX0_alikeStep : ByteArray := prog_1_method_51_code
def yX0_alikeStep : MethodName := ⟨RX0, "alikeStep", "(I)I"⟩
def dkwX0_alikeStep_1 : List UInt8 := [180, 0, 101, 27, 46, 182, 0, 234, 172]
abbrev dktX0_alikeStep_1 : List UInt8 := dkwX0_alikeStep_1 ++ []
def dkwX0_alikeStep_0 : List UInt8 := [27, 155, 0, 11, 27, 42, 180, 1, 160, 161, 0, 12, 42, 16, 8, 182, 0, 176, 167, 0, 13, 42, 42]
abbrev dktX0_alikeStep_0 : List UInt8 := dkwX0_alikeStep_0 ++ dktX0_alikeStep_1
theorem dksX0_alikeStep_0 : cX0_alikeStep.data.toList.drop 0 = dktX0_alikeStep_0 := by decide +kernel
theorem dksX0_alikeStep_1 : cX0_alikeStep.data.toList.drop 23 = dktX0_alikeStep_1 := dk_seg dksX0_alikeStep_0 23 rfl rfl
theorem dX0_alikeStep_0 : decode cX0_alikeStep 0 = .ok (.iload_n 1, 1) := dk_27 (dk_at dksX0_alikeStep_0 0 rfl rfl)
theorem dX0_alikeStep_1 : decode cX0_alikeStep 1 = .ok (.ifCond .lt 11, 3) := dk_155 0 11 (dk_at dksX0_alikeStep_0 1 rfl rfl)
theorem dX0_alikeStep_4 : decode cX0_alikeStep 4 = .ok (.iload_n 1, 1) := dk_27 (dk_at dksX0_alikeStep_0 4 rfl rfl)
theorem dX0_alikeStep_5 : decode cX0_alikeStep 5 = .ok (.aload_n 0, 1) := dk_42 (dk_at dksX0_alikeStep_0 5 rfl rfl)
theorem dX0_alikeStep_6 : decode cX0_alikeStep 6 = .ok (.getfield 416, 3) := dk_180 1 160 (dk_at dksX0_alikeStep_0 6 rfl rfl)
theorem dX0_alikeStep_9 : decode cX0_alikeStep 9 = .ok (.if_icmp .lt 12, 3) := dk_161 0 12 (dk_at dksX0_alikeStep_0 9 rfl rfl)
theorem dX0_alikeStep_12 : decode cX0_alikeStep 12 = .ok (.aload_n 0, 1) := dk_42 (dk_at dksX0_alikeStep_0 12 rfl rfl)
theorem dX0_alikeStep_13 : decode cX0_alikeStep 13 = .ok (.bipush 8, 2) := dk_16 8 (dk_at dksX0_alikeStep_0 13 rfl rfl)
theorem dX0_alikeStep_15 : decode cX0_alikeStep 15 = .ok (.invokevirtual 176, 3) := dk_182 0 176 (dk_at dksX0_alikeStep_0 15 rfl rfl)
theorem dX0_alikeStep_18 : decode cX0_alikeStep 18 = .ok (.goto 13, 3) := dk_167 0 13 (dk_at dksX0_alikeStep_0 18 rfl rfl)
theorem dX0_alikeStep_21 : decode cX0_alikeStep 21 = .ok (.aload_n 0, 1) := dk_42 (dk_at dksX0_alikeStep_0 21 rfl rfl)
theorem dX0_alikeStep_22 : decode cX0_alikeStep 22 = .ok (.aload_n 0, 1) := dk_42 (dk_at dksX0_alikeStep_0 22 rfl rfl)
theorem dX0_alikeStep_23 : decode cX0_alikeStep 23 = .ok (.getfield 101, 3) := dk_180 0 101 (dk_at dksX0_alikeStep_1 0 rfl rfl)
theorem dX0_alikeStep_26 : decode cX0_alikeStep 26 = .ok (.iload_n 1, 1) := dk_27 (dk_at dksX0_alikeStep_1 3 rfl rfl)
theorem dX0_alikeStep_27 : decode cX0_alikeStep 27 = .ok (.iaload, 1) := dk_46 (dk_at dksX0_alikeStep_1 4 rfl rfl)
theorem dX0_alikeStep_28 : decode cX0_alikeStep 28 = .ok (.invokevirtual 234, 3) := dk_182 0 234 (dk_at dksX0_alikeStep_1 5 rfl rfl)
theorem dX0_alikeStep_31 : decode cX0_alikeStep 31 = .ok (.ireturn, 1) := dk_172 (dk_at dksX0_alikeStep_1 8 rfl rfl)
abbrev cX0_parted : ByteArray := prog_1_method_55_code
def yX0_parted : MethodName := ⟨RX0, "parted", "(III)I"⟩
def dkwX0_parted_3 : List UInt8 := [167, 0, 4, 3, 182, 0, 234, 172]
abbrev dktX0_parted_3 : List UInt8 := dkwX0_parted_3 ++ []
def dkwX0_parted_2 : List UInt8 := [42, 27, 28, 182, 1, 167, 153, 0, 19, 167, 0, 12, 42, 27, 28, 182, 1, 170, 153, 0, 7, 4]
abbrev dktX0_parted_2 : List UInt8 := dkwX0_parted_2 ++ dktX0_parted_3
def dkwX0_parted_1 : List UInt8 := [182, 0, 176, 172, 29, 155, 0, 8, 29, 4, 164, 0, 9, 42, 8, 182, 0, 176, 172, 42, 29, 154, 0, 15]
abbrev dktX0_parted_1 : List UInt8 := dkwX0_parted_1 ++ dktX0_parted_2
def dkwX0_parted_0 : List UInt8 := [42, 27, 182, 0, 237, 153, 0, 16, 42, 28, 182, 0, 237, 153, 0, 8, 27, 28, 160, 0, 9, 42, 5]
abbrev dktX0_parted_0 : List UInt8 := dkwX0_parted_0 ++ dktX0_parted_1
theorem dksX0_parted_0 : cX0_parted.data.toList.drop 0 = dktX0_parted_0 := by decide +kernel
theorem dksX0_parted_1 : cX0_parted.data.toList.drop 23 = dktX0_parted_1 := dk_seg dksX0_parted_0 23 rfl rfl
theorem dksX0_parted_2 : cX0_parted.data.toList.drop 47 = dktX0_parted_2 := dk_seg dksX0_parted_1 24 rfl rfl
theorem dksX0_parted_3 : cX0_parted.data.toList.drop 69 = dktX0_parted_3 := dk_seg dksX0_parted_2 22 rfl rfl
theorem dX0_parted_0 : decode cX0_parted 0 = .ok (.aload_n 0, 1) := dk_42 (dk_at dksX0_parted_0 0 rfl rfl)
theorem dX0_parted_1 : decode cX0_parted 1 = .ok (.iload_n 1, 1) := dk_27 (dk_at dksX0_parted_0 1 rfl rfl)
theorem dX0_parted_2 : decode cX0_parted 2 = .ok (.invokevirtual 237, 3) := dk_182 0 237 (dk_at dksX0_parted_0 2 rfl rfl)
theorem dX0_parted_5 : decode cX0_parted 5 = .ok (.ifCond .eq 16, 3) := dk_153 0 16 (dk_at dksX0_parted_0 5 rfl rfl)
theorem dX0_parted_8 : decode cX0_parted 8 = .ok (.aload_n 0, 1) := dk_42 (dk_at dksX0_parted_0 8 rfl rfl)
theorem dX0_parted_9 : decode cX0_parted 9 = .ok (.iload_n 2, 1) := dk_28 (dk_at dksX0_parted_0 9 rfl rfl)
theorem dX0_parted_10 : decode cX0_parted 10 = .ok (.invokevirtual 237, 3) := dk_182 0 237 (dk_at dksX0_parted_0 10 rfl rfl)
theorem dX0_parted_13 : decode cX0_parted 13 = .ok (.ifCond .eq 8, 3) := dk_153 0 8 (dk_at dksX0_parted_0 13 rfl rfl)
theorem dX0_parted_16 : decode cX0_parted 16 = .ok (.iload_n 1, 1) := dk_27 (dk_at dksX0_parted_0 16 rfl rfl)
theorem dX0_parted_17 : decode cX0_parted 17 = .ok (.iload_n 2, 1) := dk_28 (dk_at dksX0_parted_0 17 rfl rfl)
theorem dX0_parted_18 : decode cX0_parted 18 = .ok (.if_icmp .ne 9, 3) := dk_160 0 9 (dk_at dksX0_parted_0 18 rfl rfl)
theorem dX0_parted_21 : decode cX0_parted 21 = .ok (.aload_n 0, 1) := dk_42 (dk_at dksX0_parted_0 21 rfl rfl)
theorem dX0_parted_22 : decode cX0_parted 22 = .ok (.iconst 2, 1) := dk_5 (dk_at dksX0_parted_0 22 rfl rfl)
theorem dX0_parted_23 : decode cX0_parted 23 = .ok (.invokevirtual 176, 3) := dk_182 0 176 (dk_at dksX0_parted_1 0 rfl rfl)
theorem dX0_parted_26 : decode cX0_parted 26 = .ok (.ireturn, 1) := dk_172 (dk_at dksX0_parted_1 3 rfl rfl)
theorem dX0_parted_27 : decode cX0_parted 27 = .ok (.iload_n 3, 1) := dk_29 (dk_at dksX0_parted_1 4 rfl rfl)
theorem dX0_parted_28 : decode cX0_parted 28 = .ok (.ifCond .lt 8, 3) := dk_155 0 8 (dk_at dksX0_parted_1 5 rfl rfl)
theorem dX0_parted_31 : decode cX0_parted 31 = .ok (.iload_n 3, 1) := dk_29 (dk_at dksX0_parted_1 8 rfl rfl)
theorem dX0_parted_32 : decode cX0_parted 32 = .ok (.iconst 1, 1) := dk_4 (dk_at dksX0_parted_1 9 rfl rfl)
theorem dX0_parted_33 : decode cX0_parted 33 = .ok (.if_icmp .le 9, 3) := dk_164 0 9 (dk_at dksX0_parted_1 10 rfl rfl)
theorem dX0_parted_36 : decode cX0_parted 36 = .ok (.aload_n 0, 1) := dk_42 (dk_at dksX0_parted_1 13 rfl rfl)
theorem dX0_parted_37 : decode cX0_parted 37 = .ok (.iconst 5, 1) := dk_8 (dk_at dksX0_parted_1 14 rfl rfl)
theorem dX0_parted_38 : decode cX0_parted 38 = .ok (.invokevirtual 176, 3) := dk_182 0 176 (dk_at dksX0_parted_1 15 rfl rfl)
theorem dX0_parted_41 : decode cX0_parted 41 = .ok (.ireturn, 1) := dk_172 (dk_at dksX0_parted_1 18 rfl rfl)
theorem dX0_parted_42 : decode cX0_parted 42 = .ok (.aload_n 0, 1) := dk_42 (dk_at dksX0_parted_1 19 rfl rfl)
theorem dX0_parted_43 : decode cX0_parted 43 = .ok (.iload_n 3, 1) := dk_29 (dk_at dksX0_parted_1 20 rfl rfl)
theorem dX0_parted_44 : decode cX0_parted 44 = .ok (.ifCond .ne 15, 3) := dk_154 0 15 (dk_at dksX0_parted_1 21 rfl rfl)
theorem dX0_parted_47 : decode cX0_parted 47 = .ok (.aload_n 0, 1) := dk_42 (dk_at dksX0_parted_2 0 rfl rfl)
theorem dX0_parted_48 : decode cX0_parted 48 = .ok (.iload_n 1, 1) := dk_27 (dk_at dksX0_parted_2 1 rfl rfl)
theorem dX0_parted_49 : decode cX0_parted 49 = .ok (.iload_n 2, 1) := dk_28 (dk_at dksX0_parted_2 2 rfl rfl)
theorem dX0_parted_50 : decode cX0_parted 50 = .ok (.invokevirtual 423, 3) := dk_182 1 167 (dk_at dksX0_parted_2 3 rfl rfl)
theorem dX0_parted_53 : decode cX0_parted 53 = .ok (.ifCond .eq 19, 3) := dk_153 0 19 (dk_at dksX0_parted_2 6 rfl rfl)
theorem dX0_parted_56 : decode cX0_parted 56 = .ok (.goto 12, 3) := dk_167 0 12 (dk_at dksX0_parted_2 9 rfl rfl)
theorem dX0_parted_59 : decode cX0_parted 59 = .ok (.aload_n 0, 1) := dk_42 (dk_at dksX0_parted_2 12 rfl rfl)
theorem dX0_parted_60 : decode cX0_parted 60 = .ok (.iload_n 1, 1) := dk_27 (dk_at dksX0_parted_2 13 rfl rfl)
theorem dX0_parted_61 : decode cX0_parted 61 = .ok (.iload_n 2, 1) := dk_28 (dk_at dksX0_parted_2 14 rfl rfl)
theorem dX0_parted_62 : decode cX0_parted 62 = .ok (.invokevirtual 426, 3) := dk_182 1 170 (dk_at dksX0_parted_2 15 rfl rfl)
theorem dX0_parted_65 : decode cX0_parted 65 = .ok (.ifCond .eq 7, 3) := dk_153 0 7 (dk_at dksX0_parted_2 18 rfl rfl)
theorem dX0_parted_68 : decode cX0_parted 68 = .ok (.iconst 1, 1) := dk_4 (dk_at dksX0_parted_2 21 rfl rfl)
theorem dX0_parted_69 : decode cX0_parted 69 = .ok (.goto 4, 3) := dk_167 0 4 (dk_at dksX0_parted_3 0 rfl rfl)
theorem dX0_parted_72 : decode cX0_parted 72 = .ok (.iconst 0, 1) := dk_3 (dk_at dksX0_parted_3 3 rfl rfl)
theorem dX0_parted_73 : decode cX0_parted 73 = .ok (.invokevirtual 234, 3) := dk_182 0 234 (dk_at dksX0_parted_3 4 rfl rfl)
theorem dX0_parted_76 : decode cX0_parted 76 = .ok (.ireturn, 1) := dk_172 (dk_at dksX0_parted_3 7 rfl rfl)
abbrev cX0_isParted : ByteArray := prog_1_method_52_code
def yX0_isParted : MethodName := ⟨RX0, "isParted", "(II)Z"⟩
def dkwX0_isParted_9 : List UInt8 := [167, 255, 93, 4, 172]
abbrev dktX0_isParted_9 : List UInt8 := dkwX0_isParted_9 ++ []
def dkwX0_isParted_8 : List UInt8 := [21, 10, 4, 84, 42, 180, 0, 108, 29, 21, 10, 79, 132, 3, 1, 132, 7, 1, 167, 255, 148, 132, 4, 1]
abbrev dktX0_isParted_8 : List UInt8 := dkwX0_isParted_8 ++ dktX0_isParted_9
def dkwX0_isParted_7 : List UInt8 := [180, 1, 4, 96, 54, 10, 42, 180, 0, 104, 21, 10, 51, 153, 0, 6, 167, 0, 22, 42, 180, 0, 104]
abbrev dktX0_isParted_7 : List UInt8 := dkwX0_isParted_7 ++ dktX0_isParted_8
def dkwX0_isParted_6 : List UInt8 := [25, 6, 166, 0, 12, 25, 9, 25, 5, 166, 0, 5, 3, 172, 16, 8, 25, 8, 180, 1, 4, 104, 25, 9]
abbrev dktX0_isParted_6 : List UInt8 := dkwX0_isParted_6 ++ dktX0_isParted_7
def dkwX0_isParted_5 : List UInt8 := [182, 1, 61, 58, 9, 25, 8, 25, 9, 165, 0, 27, 42, 180, 0, 57, 180, 1, 58, 153, 0, 19, 25, 8]
abbrev dktX0_isParted_5 : List UInt8 := dkwX0_isParted_5 ++ dktX0_isParted_6
def dkwX0_isParted_4 : List UInt8 := [58, 6, 4, 54, 7, 21, 7, 8, 162, 0, 108, 25, 5, 21, 7, 182, 1, 61, 58, 8, 25, 6, 21, 7]
abbrev dktX0_isParted_4 : List UInt8 := dkwX0_isParted_4 ++ dktX0_isParted_5
def dkwX0_isParted_3 : List UInt8 := [16, 8, 108, 50, 58, 5, 42, 180, 0, 57, 180, 0, 240, 42, 180, 0, 108, 21, 4, 46, 16, 8, 112, 50]
abbrev dktX0_isParted_3 : List UInt8 := dkwX0_isParted_3 ++ dktX0_isParted_4
def dkwX0_isParted_2 : List UInt8 := [62, 3, 54, 4, 21, 4, 29, 162, 0, 163, 42, 180, 0, 57, 180, 0, 240, 42, 180, 0, 108, 21, 4, 46]
abbrev dktX0_isParted_2 : List UInt8 := dkwX0_isParted_2 ++ dktX0_isParted_3
def dkwX0_isParted_1 : List UInt8 := [167, 0, 4, 3, 84, 132, 3, 1, 167, 255, 226, 42, 180, 0, 108, 3, 16, 8, 27, 104, 28, 96, 79, 4]
abbrev dktX0_isParted_1 : List UInt8 := dkwX0_isParted_1 ++ dktX0_isParted_2
def dkwX0_isParted_0 : List UInt8 := [3, 62, 29, 16, 64, 162, 0, 30, 42, 180, 0, 104, 29, 29, 16, 8, 27, 104, 28, 96, 160, 0, 7, 4]
abbrev dktX0_isParted_0 : List UInt8 := dkwX0_isParted_0 ++ dktX0_isParted_1
theorem dksX0_isParted_0 : cX0_isParted.data.toList.drop 0 = dktX0_isParted_0 := by decide +kernel
theorem dksX0_isParted_1 : cX0_isParted.data.toList.drop 24 = dktX0_isParted_1 := dk_seg dksX0_isParted_0 24 rfl rfl
theorem dksX0_isParted_2 : cX0_isParted.data.toList.drop 48 = dktX0_isParted_2 := dk_seg dksX0_isParted_1 24 rfl rfl
theorem dksX0_isParted_3 : cX0_isParted.data.toList.drop 72 = dktX0_isParted_3 := dk_seg dksX0_isParted_2 24 rfl rfl
theorem dksX0_isParted_4 : cX0_isParted.data.toList.drop 96 = dktX0_isParted_4 := dk_seg dksX0_isParted_3 24 rfl rfl
theorem dksX0_isParted_5 : cX0_isParted.data.toList.drop 120 = dktX0_isParted_5 := dk_seg dksX0_isParted_4 24 rfl rfl
theorem dksX0_isParted_6 : cX0_isParted.data.toList.drop 144 = dktX0_isParted_6 := dk_seg dksX0_isParted_5 24 rfl rfl
theorem dksX0_isParted_7 : cX0_isParted.data.toList.drop 168 = dktX0_isParted_7 := dk_seg dksX0_isParted_6 24 rfl rfl
theorem dksX0_isParted_8 : cX0_isParted.data.toList.drop 191 = dktX0_isParted_8 := dk_seg dksX0_isParted_7 23 rfl rfl
theorem dksX0_isParted_9 : cX0_isParted.data.toList.drop 215 = dktX0_isParted_9 := dk_seg dksX0_isParted_8 24 rfl rfl
theorem dX0_isParted_0 : decode cX0_isParted 0 = .ok (.iconst 0, 1) := dk_3 (dk_at dksX0_isParted_0 0 rfl rfl)
theorem dX0_isParted_1 : decode cX0_isParted 1 = .ok (.istore_n 3, 1) := dk_62 (dk_at dksX0_isParted_0 1 rfl rfl)
theorem dX0_isParted_2 : decode cX0_isParted 2 = .ok (.iload_n 3, 1) := dk_29 (dk_at dksX0_isParted_0 2 rfl rfl)
theorem dX0_isParted_3 : decode cX0_isParted 3 = .ok (.bipush 64, 2) := dk_16 64 (dk_at dksX0_isParted_0 3 rfl rfl)
theorem dX0_isParted_5 : decode cX0_isParted 5 = .ok (.if_icmp .ge 30, 3) := dk_162 0 30 (dk_at dksX0_isParted_0 5 rfl rfl)
theorem dX0_isParted_8 : decode cX0_isParted 8 = .ok (.aload_n 0, 1) := dk_42 (dk_at dksX0_isParted_0 8 rfl rfl)
theorem dX0_isParted_9 : decode cX0_isParted 9 = .ok (.getfield 104, 3) := dk_180 0 104 (dk_at dksX0_isParted_0 9 rfl rfl)
theorem dX0_isParted_12 : decode cX0_isParted 12 = .ok (.iload_n 3, 1) := dk_29 (dk_at dksX0_isParted_0 12 rfl rfl)
theorem dX0_isParted_13 : decode cX0_isParted 13 = .ok (.iload_n 3, 1) := dk_29 (dk_at dksX0_isParted_0 13 rfl rfl)
theorem dX0_isParted_14 : decode cX0_isParted 14 = .ok (.bipush 8, 2) := dk_16 8 (dk_at dksX0_isParted_0 14 rfl rfl)
theorem dX0_isParted_16 : decode cX0_isParted 16 = .ok (.iload_n 1, 1) := dk_27 (dk_at dksX0_isParted_0 16 rfl rfl)
theorem dX0_isParted_17 : decode cX0_isParted 17 = .ok (.imul, 1) := dk_104 (dk_at dksX0_isParted_0 17 rfl rfl)
theorem dX0_isParted_18 : decode cX0_isParted 18 = .ok (.iload_n 2, 1) := dk_28 (dk_at dksX0_isParted_0 18 rfl rfl)
theorem dX0_isParted_19 : decode cX0_isParted 19 = .ok (.iadd, 1) := dk_96 (dk_at dksX0_isParted_0 19 rfl rfl)
theorem dX0_isParted_20 : decode cX0_isParted 20 = .ok (.if_icmp .ne 7, 3) := dk_160 0 7 (dk_at dksX0_isParted_0 20 rfl rfl)
theorem dX0_isParted_23 : decode cX0_isParted 23 = .ok (.iconst 1, 1) := dk_4 (dk_at dksX0_isParted_0 23 rfl rfl)
theorem dX0_isParted_24 : decode cX0_isParted 24 = .ok (.goto 4, 3) := dk_167 0 4 (dk_at dksX0_isParted_1 0 rfl rfl)
theorem dX0_isParted_27 : decode cX0_isParted 27 = .ok (.iconst 0, 1) := dk_3 (dk_at dksX0_isParted_1 3 rfl rfl)
theorem dX0_isParted_28 : decode cX0_isParted 28 = .ok (.bastore, 1) := dk_84 (dk_at dksX0_isParted_1 4 rfl rfl)
theorem dX0_isParted_29 : decode cX0_isParted 29 = .ok (.iinc 3 1, 3) := dk_132 3 1 (dk_at dksX0_isParted_1 5 rfl rfl)
theorem dX0_isParted_32 : decode cX0_isParted 32 = .ok (.goto (-30), 3) := dk_167 255 226 (dk_at dksX0_isParted_1 8 rfl rfl)
theorem dX0_isParted_35 : decode cX0_isParted 35 = .ok (.aload_n 0, 1) := dk_42 (dk_at dksX0_isParted_1 11 rfl rfl)
theorem dX0_isParted_36 : decode cX0_isParted 36 = .ok (.getfield 108, 3) := dk_180 0 108 (dk_at dksX0_isParted_1 12 rfl rfl)
theorem dX0_isParted_39 : decode cX0_isParted 39 = .ok (.iconst 0, 1) := dk_3 (dk_at dksX0_isParted_1 15 rfl rfl)
theorem dX0_isParted_40 : decode cX0_isParted 40 = .ok (.bipush 8, 2) := dk_16 8 (dk_at dksX0_isParted_1 16 rfl rfl)
theorem dX0_isParted_42 : decode cX0_isParted 42 = .ok (.iload_n 1, 1) := dk_27 (dk_at dksX0_isParted_1 18 rfl rfl)
theorem dX0_isParted_43 : decode cX0_isParted 43 = .ok (.imul, 1) := dk_104 (dk_at dksX0_isParted_1 19 rfl rfl)
theorem dX0_isParted_44 : decode cX0_isParted 44 = .ok (.iload_n 2, 1) := dk_28 (dk_at dksX0_isParted_1 20 rfl rfl)
theorem dX0_isParted_45 : decode cX0_isParted 45 = .ok (.iadd, 1) := dk_96 (dk_at dksX0_isParted_1 21 rfl rfl)
theorem dX0_isParted_46 : decode cX0_isParted 46 = .ok (.iastore, 1) := dk_79 (dk_at dksX0_isParted_1 22 rfl rfl)
theorem dX0_isParted_47 : decode cX0_isParted 47 = .ok (.iconst 1, 1) := dk_4 (dk_at dksX0_isParted_1 23 rfl rfl)
theorem dX0_isParted_48 : decode cX0_isParted 48 = .ok (.istore_n 3, 1) := dk_62 (dk_at dksX0_isParted_2 0 rfl rfl)
theorem dX0_isParted_49 : decode cX0_isParted 49 = .ok (.iconst 0, 1) := dk_3 (dk_at dksX0_isParted_2 1 rfl rfl)
theorem dX0_isParted_50 : decode cX0_isParted 50 = .ok (.istore 4, 2) := dk_54 4 (dk_at dksX0_isParted_2 2 rfl rfl)
theorem dX0_isParted_52 : decode cX0_isParted 52 = .ok (.iload 4, 2) := dk_21 4 (dk_at dksX0_isParted_2 4 rfl rfl)
theorem dX0_isParted_54 : decode cX0_isParted 54 = .ok (.iload_n 3, 1) := dk_29 (dk_at dksX0_isParted_2 6 rfl rfl)
theorem dX0_isParted_55 : decode cX0_isParted 55 = .ok (.if_icmp .ge 163, 3) := dk_162 0 163 (dk_at dksX0_isParted_2 7 rfl rfl)
theorem dX0_isParted_58 : decode cX0_isParted 58 = .ok (.aload_n 0, 1) := dk_42 (dk_at dksX0_isParted_2 10 rfl rfl)
theorem dX0_isParted_59 : decode cX0_isParted 59 = .ok (.getfield 57, 3) := dk_180 0 57 (dk_at dksX0_isParted_2 11 rfl rfl)
theorem dX0_isParted_62 : decode cX0_isParted 62 = .ok (.getfield 240, 3) := dk_180 0 240 (dk_at dksX0_isParted_2 14 rfl rfl)
theorem dX0_isParted_65 : decode cX0_isParted 65 = .ok (.aload_n 0, 1) := dk_42 (dk_at dksX0_isParted_2 17 rfl rfl)
theorem dX0_isParted_66 : decode cX0_isParted 66 = .ok (.getfield 108, 3) := dk_180 0 108 (dk_at dksX0_isParted_2 18 rfl rfl)
theorem dX0_isParted_69 : decode cX0_isParted 69 = .ok (.iload 4, 2) := dk_21 4 (dk_at dksX0_isParted_2 21 rfl rfl)
theorem dX0_isParted_71 : decode cX0_isParted 71 = .ok (.iaload, 1) := dk_46 (dk_at dksX0_isParted_2 23 rfl rfl)
theorem dX0_isParted_72 : decode cX0_isParted 72 = .ok (.bipush 8, 2) := dk_16 8 (dk_at dksX0_isParted_3 0 rfl rfl)
theorem dX0_isParted_74 : decode cX0_isParted 74 = .ok (.idiv, 1) := dk_108 (dk_at dksX0_isParted_3 2 rfl rfl)
theorem dX0_isParted_75 : decode cX0_isParted 75 = .ok (.aaload, 1) := dk_50 (dk_at dksX0_isParted_3 3 rfl rfl)
theorem dX0_isParted_76 : decode cX0_isParted 76 = .ok (.astore 5, 2) := dk_58 5 (dk_at dksX0_isParted_3 4 rfl rfl)
theorem dX0_isParted_78 : decode cX0_isParted 78 = .ok (.aload_n 0, 1) := dk_42 (dk_at dksX0_isParted_3 6 rfl rfl)
theorem dX0_isParted_79 : decode cX0_isParted 79 = .ok (.getfield 57, 3) := dk_180 0 57 (dk_at dksX0_isParted_3 7 rfl rfl)
theorem dX0_isParted_82 : decode cX0_isParted 82 = .ok (.getfield 240, 3) := dk_180 0 240 (dk_at dksX0_isParted_3 10 rfl rfl)
theorem dX0_isParted_85 : decode cX0_isParted 85 = .ok (.aload_n 0, 1) := dk_42 (dk_at dksX0_isParted_3 13 rfl rfl)
theorem dX0_isParted_86 : decode cX0_isParted 86 = .ok (.getfield 108, 3) := dk_180 0 108 (dk_at dksX0_isParted_3 14 rfl rfl)
theorem dX0_isParted_89 : decode cX0_isParted 89 = .ok (.iload 4, 2) := dk_21 4 (dk_at dksX0_isParted_3 17 rfl rfl)
theorem dX0_isParted_91 : decode cX0_isParted 91 = .ok (.iaload, 1) := dk_46 (dk_at dksX0_isParted_3 19 rfl rfl)
theorem dX0_isParted_92 : decode cX0_isParted 92 = .ok (.bipush 8, 2) := dk_16 8 (dk_at dksX0_isParted_3 20 rfl rfl)
theorem dX0_isParted_94 : decode cX0_isParted 94 = .ok (.irem, 1) := dk_112 (dk_at dksX0_isParted_3 22 rfl rfl)
theorem dX0_isParted_95 : decode cX0_isParted 95 = .ok (.aaload, 1) := dk_50 (dk_at dksX0_isParted_3 23 rfl rfl)
theorem dX0_isParted_96 : decode cX0_isParted 96 = .ok (.astore 6, 2) := dk_58 6 (dk_at dksX0_isParted_4 0 rfl rfl)
theorem dX0_isParted_98 : decode cX0_isParted 98 = .ok (.iconst 1, 1) := dk_4 (dk_at dksX0_isParted_4 2 rfl rfl)
theorem dX0_isParted_99 : decode cX0_isParted 99 = .ok (.istore 7, 2) := dk_54 7 (dk_at dksX0_isParted_4 3 rfl rfl)
theorem dX0_isParted_101 : decode cX0_isParted 101 = .ok (.iload 7, 2) := dk_21 7 (dk_at dksX0_isParted_4 5 rfl rfl)
theorem dX0_isParted_103 : decode cX0_isParted 103 = .ok (.iconst 5, 1) := dk_8 (dk_at dksX0_isParted_4 7 rfl rfl)
theorem dX0_isParted_104 : decode cX0_isParted 104 = .ok (.if_icmp .ge 108, 3) := dk_162 0 108 (dk_at dksX0_isParted_4 8 rfl rfl)
theorem dX0_isParted_107 : decode cX0_isParted 107 = .ok (.aload 5, 2) := dk_25 5 (dk_at dksX0_isParted_4 11 rfl rfl)
theorem dX0_isParted_109 : decode cX0_isParted 109 = .ok (.iload 7, 2) := dk_21 7 (dk_at dksX0_isParted_4 13 rfl rfl)
theorem dX0_isParted_111 : decode cX0_isParted 111 = .ok (.invokevirtual 317, 3) := dk_182 1 61 (dk_at dksX0_isParted_4 15 rfl rfl)
theorem dX0_isParted_114 : decode cX0_isParted 114 = .ok (.astore 8, 2) := dk_58 8 (dk_at dksX0_isParted_4 18 rfl rfl)
theorem dX0_isParted_116 : decode cX0_isParted 116 = .ok (.aload 6, 2) := dk_25 6 (dk_at dksX0_isParted_4 20 rfl rfl)
theorem dX0_isParted_118 : decode cX0_isParted 118 = .ok (.iload 7, 2) := dk_21 7 (dk_at dksX0_isParted_4 22 rfl rfl)
theorem dX0_isParted_120 : decode cX0_isParted 120 = .ok (.invokevirtual 317, 3) := dk_182 1 61 (dk_at dksX0_isParted_5 0 rfl rfl)
theorem dX0_isParted_123 : decode cX0_isParted 123 = .ok (.astore 9, 2) := dk_58 9 (dk_at dksX0_isParted_5 3 rfl rfl)
theorem dX0_isParted_125 : decode cX0_isParted 125 = .ok (.aload 8, 2) := dk_25 8 (dk_at dksX0_isParted_5 5 rfl rfl)
theorem dX0_isParted_127 : decode cX0_isParted 127 = .ok (.aload 9, 2) := dk_25 9 (dk_at dksX0_isParted_5 7 rfl rfl)
theorem dX0_isParted_129 : decode cX0_isParted 129 = .ok (.if_acmp .eq 27, 3) := dk_165 0 27 (dk_at dksX0_isParted_5 9 rfl rfl)
theorem dX0_isParted_132 : decode cX0_isParted 132 = .ok (.aload_n 0, 1) := dk_42 (dk_at dksX0_isParted_5 12 rfl rfl)
theorem dX0_isParted_133 : decode cX0_isParted 133 = .ok (.getfield 57, 3) := dk_180 0 57 (dk_at dksX0_isParted_5 13 rfl rfl)
theorem dX0_isParted_136 : decode cX0_isParted 136 = .ok (.getfield 314, 3) := dk_180 1 58 (dk_at dksX0_isParted_5 16 rfl rfl)
theorem dX0_isParted_139 : decode cX0_isParted 139 = .ok (.ifCond .eq 19, 3) := dk_153 0 19 (dk_at dksX0_isParted_5 19 rfl rfl)
theorem dX0_isParted_142 : decode cX0_isParted 142 = .ok (.aload 8, 2) := dk_25 8 (dk_at dksX0_isParted_5 22 rfl rfl)
theorem dX0_isParted_144 : decode cX0_isParted 144 = .ok (.aload 6, 2) := dk_25 6 (dk_at dksX0_isParted_6 0 rfl rfl)
theorem dX0_isParted_146 : decode cX0_isParted 146 = .ok (.if_acmp .ne 12, 3) := dk_166 0 12 (dk_at dksX0_isParted_6 2 rfl rfl)
theorem dX0_isParted_149 : decode cX0_isParted 149 = .ok (.aload 9, 2) := dk_25 9 (dk_at dksX0_isParted_6 5 rfl rfl)
theorem dX0_isParted_151 : decode cX0_isParted 151 = .ok (.aload 5, 2) := dk_25 5 (dk_at dksX0_isParted_6 7 rfl rfl)
theorem dX0_isParted_153 : decode cX0_isParted 153 = .ok (.if_acmp .ne 5, 3) := dk_166 0 5 (dk_at dksX0_isParted_6 9 rfl rfl)
theorem dX0_isParted_156 : decode cX0_isParted 156 = .ok (.iconst 0, 1) := dk_3 (dk_at dksX0_isParted_6 12 rfl rfl)
theorem dX0_isParted_157 : decode cX0_isParted 157 = .ok (.ireturn, 1) := dk_172 (dk_at dksX0_isParted_6 13 rfl rfl)
theorem dX0_isParted_158 : decode cX0_isParted 158 = .ok (.bipush 8, 2) := dk_16 8 (dk_at dksX0_isParted_6 14 rfl rfl)
theorem dX0_isParted_160 : decode cX0_isParted 160 = .ok (.aload 8, 2) := dk_25 8 (dk_at dksX0_isParted_6 16 rfl rfl)
theorem dX0_isParted_162 : decode cX0_isParted 162 = .ok (.getfield 260, 3) := dk_180 1 4 (dk_at dksX0_isParted_6 18 rfl rfl)
theorem dX0_isParted_165 : decode cX0_isParted 165 = .ok (.imul, 1) := dk_104 (dk_at dksX0_isParted_6 21 rfl rfl)
theorem dX0_isParted_166 : decode cX0_isParted 166 = .ok (.aload 9, 2) := dk_25 9 (dk_at dksX0_isParted_6 22 rfl rfl)
theorem dX0_isParted_168 : decode cX0_isParted 168 = .ok (.getfield 260, 3) := dk_180 1 4 (dk_at dksX0_isParted_7 0 rfl rfl)
theorem dX0_isParted_171 : decode cX0_isParted 171 = .ok (.iadd, 1) := dk_96 (dk_at dksX0_isParted_7 3 rfl rfl)
theorem dX0_isParted_172 : decode cX0_isParted 172 = .ok (.istore 10, 2) := dk_54 10 (dk_at dksX0_isParted_7 4 rfl rfl)
theorem dX0_isParted_174 : decode cX0_isParted 174 = .ok (.aload_n 0, 1) := dk_42 (dk_at dksX0_isParted_7 6 rfl rfl)
theorem dX0_isParted_175 : decode cX0_isParted 175 = .ok (.getfield 104, 3) := dk_180 0 104 (dk_at dksX0_isParted_7 7 rfl rfl)
theorem dX0_isParted_178 : decode cX0_isParted 178 = .ok (.iload 10, 2) := dk_21 10 (dk_at dksX0_isParted_7 10 rfl rfl)
theorem dX0_isParted_180 : decode cX0_isParted 180 = .ok (.baload, 1) := dk_51 (dk_at dksX0_isParted_7 12 rfl rfl)
theorem dX0_isParted_181 : decode cX0_isParted 181 = .ok (.ifCond .eq 6, 3) := dk_153 0 6 (dk_at dksX0_isParted_7 13 rfl rfl)
theorem dX0_isParted_184 : decode cX0_isParted 184 = .ok (.goto 22, 3) := dk_167 0 22 (dk_at dksX0_isParted_7 16 rfl rfl)
theorem dX0_isParted_187 : decode cX0_isParted 187 = .ok (.aload_n 0, 1) := dk_42 (dk_at dksX0_isParted_7 19 rfl rfl)
theorem dX0_isParted_188 : decode cX0_isParted 188 = .ok (.getfield 104, 3) := dk_180 0 104 (dk_at dksX0_isParted_7 20 rfl rfl)
theorem dX0_isParted_191 : decode cX0_isParted 191 = .ok (.iload 10, 2) := dk_21 10 (dk_at dksX0_isParted_8 0 rfl rfl)
theorem dX0_isParted_193 : decode cX0_isParted 193 = .ok (.iconst 1, 1) := dk_4 (dk_at dksX0_isParted_8 2 rfl rfl)
theorem dX0_isParted_194 : decode cX0_isParted 194 = .ok (.bastore, 1) := dk_84 (dk_at dksX0_isParted_8 3 rfl rfl)
theorem dX0_isParted_195 : decode cX0_isParted 195 = .ok (.aload_n 0, 1) := dk_42 (dk_at dksX0_isParted_8 4 rfl rfl)
theorem dX0_isParted_196 : decode cX0_isParted 196 = .ok (.getfield 108, 3) := dk_180 0 108 (dk_at dksX0_isParted_8 5 rfl rfl)
theorem dX0_isParted_199 : decode cX0_isParted 199 = .ok (.iload_n 3, 1) := dk_29 (dk_at dksX0_isParted_8 8 rfl rfl)
theorem dX0_isParted_200 : decode cX0_isParted 200 = .ok (.iload 10, 2) := dk_21 10 (dk_at dksX0_isParted_8 9 rfl rfl)
theorem dX0_isParted_202 : decode cX0_isParted 202 = .ok (.iastore, 1) := dk_79 (dk_at dksX0_isParted_8 11 rfl rfl)
theorem dX0_isParted_203 : decode cX0_isParted 203 = .ok (.iinc 3 1, 3) := dk_132 3 1 (dk_at dksX0_isParted_8 12 rfl rfl)
theorem dX0_isParted_206 : decode cX0_isParted 206 = .ok (.iinc 7 1, 3) := dk_132 7 1 (dk_at dksX0_isParted_8 15 rfl rfl)
theorem dX0_isParted_209 : decode cX0_isParted 209 = .ok (.goto (-108), 3) := dk_167 255 148 (dk_at dksX0_isParted_8 18 rfl rfl)
theorem dX0_isParted_212 : decode cX0_isParted 212 = .ok (.iinc 4 1, 3) := dk_132 4 1 (dk_at dksX0_isParted_8 21 rfl rfl)
theorem dX0_isParted_215 : decode cX0_isParted 215 = .ok (.goto (-163), 3) := dk_167 255 93 (dk_at dksX0_isParted_9 0 rfl rfl)
theorem dX0_isParted_218 : decode cX0_isParted 218 = .ok (.iconst 1, 1) := dk_4 (dk_at dksX0_isParted_9 3 rfl rfl)
theorem dX0_isParted_219 : decode cX0_isParted 219 = .ok (.ireturn, 1) := dk_172 (dk_at dksX0_isParted_9 4 rfl rfl)
abbrev cX0_isTurned : ByteArray := prog_1_method_54_code
def yX0_isTurned : MethodName := ⟨RX0, "isTurned", "(II)Z"⟩
def dkwX0_isTurned_13 : List UInt8 := [172]
abbrev dktX0_isTurned_13 : List UInt8 := dkwX0_isTurned_13 ++ []
def dkwX0_isTurned_12 : List UInt8 := [153, 0, 7, 4, 167, 0, 4, 3, 96, 62, 132, 8, 1, 167, 255, 121, 132, 5, 1, 167, 255, 42, 21, 4]
abbrev dktX0_isTurned_12 : List UInt8 := dkwX0_isTurned_12 ++ dktX0_isTurned_13
def dkwX0_isTurned_11 : List UInt8 := [25, 6, 21, 8, 182, 1, 61, 25, 7, 21, 8, 182, 1, 61, 29, 182, 1, 163, 54, 4, 29, 21, 10]
abbrev dktX0_isTurned_11 : List UInt8 := dkwX0_isTurned_11 ++ dktX0_isTurned_12
def dkwX0_isTurned_10 : List UInt8 := [25, 6, 21, 8, 182, 1, 61, 180, 1, 4, 46, 2, 160, 0, 7, 4, 167, 0, 4, 3, 54, 10, 42]
abbrev dktX0_isTurned_10 : List UInt8 := dkwX0_isTurned_10 ++ dktX0_isTurned_11
def dkwX0_isTurned_9 : List UInt8 := [167, 0, 4, 3, 54, 4, 21, 4, 153, 0, 71, 21, 9, 154, 0, 6, 167, 0, 63, 42, 180, 0, 111]
abbrev dktX0_isTurned_9 : List UInt8 := dkwX0_isTurned_9 ++ dktX0_isTurned_10
def dkwX0_isTurned_8 : List UInt8 := [21, 9, 25, 7, 21, 8, 182, 1, 61, 25, 7, 165, 0, 7, 4, 167, 0, 4, 3, 160, 0, 7, 4]
abbrev dktX0_isTurned_8 : List UInt8 := dkwX0_isTurned_8 ++ dktX0_isTurned_9
def dkwX0_isTurned_7 : List UInt8 := [21, 4, 153, 0, 130, 25, 6, 21, 8, 182, 1, 61, 25, 6, 165, 0, 7, 4, 167, 0, 4, 3, 54, 9]
abbrev dktX0_isTurned_7 : List UInt8 := dkwX0_isTurned_7 ++ dktX0_isTurned_8
def dkwX0_isTurned_6 : List UInt8 := [25, 7, 180, 0, 244, 160, 0, 7, 4, 167, 0, 4, 3, 54, 4, 4, 54, 8, 21, 8, 8, 162, 0, 135]
abbrev dktX0_isTurned_6 : List UInt8 := dkwX0_isTurned_6 ++ dktX0_isTurned_7
def dkwX0_isTurned_5 : List UInt8 := [180, 0, 240, 42, 180, 0, 111, 42, 180, 0, 108, 21, 5, 46, 46, 50, 58, 7, 25, 6, 180, 0, 244]
abbrev dktX0_isTurned_5 : List UInt8 := dkwX0_isTurned_5 ++ dktX0_isTurned_6
def dkwX0_isTurned_4 : List UInt8 := [153, 0, 209, 42, 180, 0, 57, 180, 0, 240, 42, 180, 0, 108, 21, 5, 46, 50, 58, 6, 42, 180, 0, 57]
abbrev dktX0_isTurned_4 : List UInt8 := dkwX0_isTurned_4 ++ dktX0_isTurned_5
def dkwX0_isTurned_3 : List UInt8 := [182, 1, 163, 153, 0, 7, 4, 167, 0, 4, 3, 54, 4, 3, 54, 5, 21, 5, 29, 162, 0, 214, 21, 4]
abbrev dktX0_isTurned_3 : List UInt8 := dkwX0_isTurned_3 ++ dktX0_isTurned_4
def dkwX0_isTurned_2 : List UInt8 := [153, 0, 33, 42, 42, 180, 0, 57, 180, 0, 240, 28, 50, 42, 180, 0, 57, 180, 0, 240, 27, 50, 4]
abbrev dktX0_isTurned_2 : List UInt8 := dkwX0_isTurned_2 ++ dktX0_isTurned_3
def dkwX0_isTurned_1 : List UInt8 := [42, 180, 0, 57, 180, 0, 240, 27, 50, 42, 180, 0, 57, 180, 0, 240, 28, 50, 3, 182, 1, 163]
abbrev dktX0_isTurned_1 : List UInt8 := dkwX0_isTurned_1 ++ dktX0_isTurned_2
def dkwX0_isTurned_0 : List UInt8 := [3, 62, 29, 16, 8, 162, 0, 16, 42, 180, 0, 111, 29, 2, 79, 132, 3, 1, 167, 255, 240, 5, 62, 42]
abbrev dktX0_isTurned_0 : List UInt8 := dkwX0_isTurned_0 ++ dktX0_isTurned_1
theorem dksX0_isTurned_0 : cX0_isTurned.data.toList.drop 0 = dktX0_isTurned_0 := by decide +kernel
theorem dksX0_isTurned_1 : cX0_isTurned.data.toList.drop 24 = dktX0_isTurned_1 := dk_seg dksX0_isTurned_0 24 rfl rfl
theorem dksX0_isTurned_2 : cX0_isTurned.data.toList.drop 46 = dktX0_isTurned_2 := dk_seg dksX0_isTurned_1 22 rfl rfl
theorem dksX0_isTurned_3 : cX0_isTurned.data.toList.drop 69 = dktX0_isTurned_3 := dk_seg dksX0_isTurned_2 23 rfl rfl
theorem dksX0_isTurned_4 : cX0_isTurned.data.toList.drop 93 = dktX0_isTurned_4 := dk_seg dksX0_isTurned_3 24 rfl rfl
theorem dksX0_isTurned_5 : cX0_isTurned.data.toList.drop 117 = dktX0_isTurned_5 := dk_seg dksX0_isTurned_4 24 rfl rfl
theorem dksX0_isTurned_6 : cX0_isTurned.data.toList.drop 140 = dktX0_isTurned_6 := dk_seg dksX0_isTurned_5 23 rfl rfl
theorem dksX0_isTurned_7 : cX0_isTurned.data.toList.drop 164 = dktX0_isTurned_7 := dk_seg dksX0_isTurned_6 24 rfl rfl
theorem dksX0_isTurned_8 : cX0_isTurned.data.toList.drop 188 = dktX0_isTurned_8 := dk_seg dksX0_isTurned_7 24 rfl rfl
theorem dksX0_isTurned_9 : cX0_isTurned.data.toList.drop 211 = dktX0_isTurned_9 := dk_seg dksX0_isTurned_8 23 rfl rfl
theorem dksX0_isTurned_10 : cX0_isTurned.data.toList.drop 234 = dktX0_isTurned_10 := dk_seg dksX0_isTurned_9 23 rfl rfl
theorem dksX0_isTurned_11 : cX0_isTurned.data.toList.drop 257 = dktX0_isTurned_11 := dk_seg dksX0_isTurned_10 23 rfl rfl
theorem dksX0_isTurned_12 : cX0_isTurned.data.toList.drop 280 = dktX0_isTurned_12 := dk_seg dksX0_isTurned_11 23 rfl rfl
theorem dksX0_isTurned_13 : cX0_isTurned.data.toList.drop 304 = dktX0_isTurned_13 := dk_seg dksX0_isTurned_12 24 rfl rfl
theorem dX0_isTurned_0 : decode cX0_isTurned 0 = .ok (.iconst 0, 1) := dk_3 (dk_at dksX0_isTurned_0 0 rfl rfl)
theorem dX0_isTurned_1 : decode cX0_isTurned 1 = .ok (.istore_n 3, 1) := dk_62 (dk_at dksX0_isTurned_0 1 rfl rfl)
theorem dX0_isTurned_2 : decode cX0_isTurned 2 = .ok (.iload_n 3, 1) := dk_29 (dk_at dksX0_isTurned_0 2 rfl rfl)
theorem dX0_isTurned_3 : decode cX0_isTurned 3 = .ok (.bipush 8, 2) := dk_16 8 (dk_at dksX0_isTurned_0 3 rfl rfl)
theorem dX0_isTurned_5 : decode cX0_isTurned 5 = .ok (.if_icmp .ge 16, 3) := dk_162 0 16 (dk_at dksX0_isTurned_0 5 rfl rfl)
theorem dX0_isTurned_8 : decode cX0_isTurned 8 = .ok (.aload_n 0, 1) := dk_42 (dk_at dksX0_isTurned_0 8 rfl rfl)
theorem dX0_isTurned_9 : decode cX0_isTurned 9 = .ok (.getfield 111, 3) := dk_180 0 111 (dk_at dksX0_isTurned_0 9 rfl rfl)
theorem dX0_isTurned_12 : decode cX0_isTurned 12 = .ok (.iload_n 3, 1) := dk_29 (dk_at dksX0_isTurned_0 12 rfl rfl)
theorem dX0_isTurned_13 : decode cX0_isTurned 13 = .ok (.iconst (-1), 1) := dk_2 (dk_at dksX0_isTurned_0 13 rfl rfl)
theorem dX0_isTurned_14 : decode cX0_isTurned 14 = .ok (.iastore, 1) := dk_79 (dk_at dksX0_isTurned_0 14 rfl rfl)
theorem dX0_isTurned_15 : decode cX0_isTurned 15 = .ok (.iinc 3 1, 3) := dk_132 3 1 (dk_at dksX0_isTurned_0 15 rfl rfl)
theorem dX0_isTurned_18 : decode cX0_isTurned 18 = .ok (.goto (-16), 3) := dk_167 255 240 (dk_at dksX0_isTurned_0 18 rfl rfl)
theorem dX0_isTurned_21 : decode cX0_isTurned 21 = .ok (.iconst 2, 1) := dk_5 (dk_at dksX0_isTurned_0 21 rfl rfl)
theorem dX0_isTurned_22 : decode cX0_isTurned 22 = .ok (.istore_n 3, 1) := dk_62 (dk_at dksX0_isTurned_0 22 rfl rfl)
theorem dX0_isTurned_23 : decode cX0_isTurned 23 = .ok (.aload_n 0, 1) := dk_42 (dk_at dksX0_isTurned_0 23 rfl rfl)
theorem dX0_isTurned_24 : decode cX0_isTurned 24 = .ok (.aload_n 0, 1) := dk_42 (dk_at dksX0_isTurned_1 0 rfl rfl)
theorem dX0_isTurned_25 : decode cX0_isTurned 25 = .ok (.getfield 57, 3) := dk_180 0 57 (dk_at dksX0_isTurned_1 1 rfl rfl)
theorem dX0_isTurned_28 : decode cX0_isTurned 28 = .ok (.getfield 240, 3) := dk_180 0 240 (dk_at dksX0_isTurned_1 4 rfl rfl)
theorem dX0_isTurned_31 : decode cX0_isTurned 31 = .ok (.iload_n 1, 1) := dk_27 (dk_at dksX0_isTurned_1 7 rfl rfl)
theorem dX0_isTurned_32 : decode cX0_isTurned 32 = .ok (.aaload, 1) := dk_50 (dk_at dksX0_isTurned_1 8 rfl rfl)
theorem dX0_isTurned_33 : decode cX0_isTurned 33 = .ok (.aload_n 0, 1) := dk_42 (dk_at dksX0_isTurned_1 9 rfl rfl)
theorem dX0_isTurned_34 : decode cX0_isTurned 34 = .ok (.getfield 57, 3) := dk_180 0 57 (dk_at dksX0_isTurned_1 10 rfl rfl)
theorem dX0_isTurned_37 : decode cX0_isTurned 37 = .ok (.getfield 240, 3) := dk_180 0 240 (dk_at dksX0_isTurned_1 13 rfl rfl)
theorem dX0_isTurned_40 : decode cX0_isTurned 40 = .ok (.iload_n 2, 1) := dk_28 (dk_at dksX0_isTurned_1 16 rfl rfl)
theorem dX0_isTurned_41 : decode cX0_isTurned 41 = .ok (.aaload, 1) := dk_50 (dk_at dksX0_isTurned_1 17 rfl rfl)
theorem dX0_isTurned_42 : decode cX0_isTurned 42 = .ok (.iconst 0, 1) := dk_3 (dk_at dksX0_isTurned_1 18 rfl rfl)
theorem dX0_isTurned_43 : decode cX0_isTurned 43 = .ok (.invokevirtual 419, 3) := dk_182 1 163 (dk_at dksX0_isTurned_1 19 rfl rfl)
theorem dX0_isTurned_46 : decode cX0_isTurned 46 = .ok (.ifCond .eq 33, 3) := dk_153 0 33 (dk_at dksX0_isTurned_2 0 rfl rfl)
theorem dX0_isTurned_49 : decode cX0_isTurned 49 = .ok (.aload_n 0, 1) := dk_42 (dk_at dksX0_isTurned_2 3 rfl rfl)
theorem dX0_isTurned_50 : decode cX0_isTurned 50 = .ok (.aload_n 0, 1) := dk_42 (dk_at dksX0_isTurned_2 4 rfl rfl)
theorem dX0_isTurned_51 : decode cX0_isTurned 51 = .ok (.getfield 57, 3) := dk_180 0 57 (dk_at dksX0_isTurned_2 5 rfl rfl)
theorem dX0_isTurned_54 : decode cX0_isTurned 54 = .ok (.getfield 240, 3) := dk_180 0 240 (dk_at dksX0_isTurned_2 8 rfl rfl)
theorem dX0_isTurned_57 : decode cX0_isTurned 57 = .ok (.iload_n 2, 1) := dk_28 (dk_at dksX0_isTurned_2 11 rfl rfl)
theorem dX0_isTurned_58 : decode cX0_isTurned 58 = .ok (.aaload, 1) := dk_50 (dk_at dksX0_isTurned_2 12 rfl rfl)
theorem dX0_isTurned_59 : decode cX0_isTurned 59 = .ok (.aload_n 0, 1) := dk_42 (dk_at dksX0_isTurned_2 13 rfl rfl)
theorem dX0_isTurned_60 : decode cX0_isTurned 60 = .ok (.getfield 57, 3) := dk_180 0 57 (dk_at dksX0_isTurned_2 14 rfl rfl)
theorem dX0_isTurned_63 : decode cX0_isTurned 63 = .ok (.getfield 240, 3) := dk_180 0 240 (dk_at dksX0_isTurned_2 17 rfl rfl)
theorem dX0_isTurned_66 : decode cX0_isTurned 66 = .ok (.iload_n 1, 1) := dk_27 (dk_at dksX0_isTurned_2 20 rfl rfl)
theorem dX0_isTurned_67 : decode cX0_isTurned 67 = .ok (.aaload, 1) := dk_50 (dk_at dksX0_isTurned_2 21 rfl rfl)
theorem dX0_isTurned_68 : decode cX0_isTurned 68 = .ok (.iconst 1, 1) := dk_4 (dk_at dksX0_isTurned_2 22 rfl rfl)
theorem dX0_isTurned_69 : decode cX0_isTurned 69 = .ok (.invokevirtual 419, 3) := dk_182 1 163 (dk_at dksX0_isTurned_3 0 rfl rfl)
theorem dX0_isTurned_72 : decode cX0_isTurned 72 = .ok (.ifCond .eq 7, 3) := dk_153 0 7 (dk_at dksX0_isTurned_3 3 rfl rfl)
theorem dX0_isTurned_75 : decode cX0_isTurned 75 = .ok (.iconst 1, 1) := dk_4 (dk_at dksX0_isTurned_3 6 rfl rfl)
theorem dX0_isTurned_76 : decode cX0_isTurned 76 = .ok (.goto 4, 3) := dk_167 0 4 (dk_at dksX0_isTurned_3 7 rfl rfl)
theorem dX0_isTurned_79 : decode cX0_isTurned 79 = .ok (.iconst 0, 1) := dk_3 (dk_at dksX0_isTurned_3 10 rfl rfl)
theorem dX0_isTurned_80 : decode cX0_isTurned 80 = .ok (.istore 4, 2) := dk_54 4 (dk_at dksX0_isTurned_3 11 rfl rfl)
theorem dX0_isTurned_82 : decode cX0_isTurned 82 = .ok (.iconst 0, 1) := dk_3 (dk_at dksX0_isTurned_3 13 rfl rfl)
theorem dX0_isTurned_83 : decode cX0_isTurned 83 = .ok (.istore 5, 2) := dk_54 5 (dk_at dksX0_isTurned_3 14 rfl rfl)
theorem dX0_isTurned_85 : decode cX0_isTurned 85 = .ok (.iload 5, 2) := dk_21 5 (dk_at dksX0_isTurned_3 16 rfl rfl)
theorem dX0_isTurned_87 : decode cX0_isTurned 87 = .ok (.iload_n 3, 1) := dk_29 (dk_at dksX0_isTurned_3 18 rfl rfl)
theorem dX0_isTurned_88 : decode cX0_isTurned 88 = .ok (.if_icmp .ge 214, 3) := dk_162 0 214 (dk_at dksX0_isTurned_3 19 rfl rfl)
theorem dX0_isTurned_91 : decode cX0_isTurned 91 = .ok (.iload 4, 2) := dk_21 4 (dk_at dksX0_isTurned_3 22 rfl rfl)
theorem dX0_isTurned_93 : decode cX0_isTurned 93 = .ok (.ifCond .eq 209, 3) := dk_153 0 209 (dk_at dksX0_isTurned_4 0 rfl rfl)
theorem dX0_isTurned_96 : decode cX0_isTurned 96 = .ok (.aload_n 0, 1) := dk_42 (dk_at dksX0_isTurned_4 3 rfl rfl)
theorem dX0_isTurned_97 : decode cX0_isTurned 97 = .ok (.getfield 57, 3) := dk_180 0 57 (dk_at dksX0_isTurned_4 4 rfl rfl)
theorem dX0_isTurned_100 : decode cX0_isTurned 100 = .ok (.getfield 240, 3) := dk_180 0 240 (dk_at dksX0_isTurned_4 7 rfl rfl)
theorem dX0_isTurned_103 : decode cX0_isTurned 103 = .ok (.aload_n 0, 1) := dk_42 (dk_at dksX0_isTurned_4 10 rfl rfl)
theorem dX0_isTurned_104 : decode cX0_isTurned 104 = .ok (.getfield 108, 3) := dk_180 0 108 (dk_at dksX0_isTurned_4 11 rfl rfl)
theorem dX0_isTurned_107 : decode cX0_isTurned 107 = .ok (.iload 5, 2) := dk_21 5 (dk_at dksX0_isTurned_4 14 rfl rfl)
theorem dX0_isTurned_109 : decode cX0_isTurned 109 = .ok (.iaload, 1) := dk_46 (dk_at dksX0_isTurned_4 16 rfl rfl)
theorem dX0_isTurned_110 : decode cX0_isTurned 110 = .ok (.aaload, 1) := dk_50 (dk_at dksX0_isTurned_4 17 rfl rfl)
theorem dX0_isTurned_111 : decode cX0_isTurned 111 = .ok (.astore 6, 2) := dk_58 6 (dk_at dksX0_isTurned_4 18 rfl rfl)
theorem dX0_isTurned_113 : decode cX0_isTurned 113 = .ok (.aload_n 0, 1) := dk_42 (dk_at dksX0_isTurned_4 20 rfl rfl)
theorem dX0_isTurned_114 : decode cX0_isTurned 114 = .ok (.getfield 57, 3) := dk_180 0 57 (dk_at dksX0_isTurned_4 21 rfl rfl)
theorem dX0_isTurned_117 : decode cX0_isTurned 117 = .ok (.getfield 240, 3) := dk_180 0 240 (dk_at dksX0_isTurned_5 0 rfl rfl)
theorem dX0_isTurned_120 : decode cX0_isTurned 120 = .ok (.aload_n 0, 1) := dk_42 (dk_at dksX0_isTurned_5 3 rfl rfl)
theorem dX0_isTurned_121 : decode cX0_isTurned 121 = .ok (.getfield 111, 3) := dk_180 0 111 (dk_at dksX0_isTurned_5 4 rfl rfl)
theorem dX0_isTurned_124 : decode cX0_isTurned 124 = .ok (.aload_n 0, 1) := dk_42 (dk_at dksX0_isTurned_5 7 rfl rfl)
theorem dX0_isTurned_125 : decode cX0_isTurned 125 = .ok (.getfield 108, 3) := dk_180 0 108 (dk_at dksX0_isTurned_5 8 rfl rfl)
theorem dX0_isTurned_128 : decode cX0_isTurned 128 = .ok (.iload 5, 2) := dk_21 5 (dk_at dksX0_isTurned_5 11 rfl rfl)
theorem dX0_isTurned_130 : decode cX0_isTurned 130 = .ok (.iaload, 1) := dk_46 (dk_at dksX0_isTurned_5 13 rfl rfl)
theorem dX0_isTurned_131 : decode cX0_isTurned 131 = .ok (.iaload, 1) := dk_46 (dk_at dksX0_isTurned_5 14 rfl rfl)
theorem dX0_isTurned_132 : decode cX0_isTurned 132 = .ok (.aaload, 1) := dk_50 (dk_at dksX0_isTurned_5 15 rfl rfl)
theorem dX0_isTurned_133 : decode cX0_isTurned 133 = .ok (.astore 7, 2) := dk_58 7 (dk_at dksX0_isTurned_5 16 rfl rfl)
theorem dX0_isTurned_135 : decode cX0_isTurned 135 = .ok (.aload 6, 2) := dk_25 6 (dk_at dksX0_isTurned_5 18 rfl rfl)
theorem dX0_isTurned_137 : decode cX0_isTurned 137 = .ok (.getfield 244, 3) := dk_180 0 244 (dk_at dksX0_isTurned_5 20 rfl rfl)
theorem dX0_isTurned_140 : decode cX0_isTurned 140 = .ok (.aload 7, 2) := dk_25 7 (dk_at dksX0_isTurned_6 0 rfl rfl)
theorem dX0_isTurned_142 : decode cX0_isTurned 142 = .ok (.getfield 244, 3) := dk_180 0 244 (dk_at dksX0_isTurned_6 2 rfl rfl)
theorem dX0_isTurned_145 : decode cX0_isTurned 145 = .ok (.if_icmp .ne 7, 3) := dk_160 0 7 (dk_at dksX0_isTurned_6 5 rfl rfl)
theorem dX0_isTurned_148 : decode cX0_isTurned 148 = .ok (.iconst 1, 1) := dk_4 (dk_at dksX0_isTurned_6 8 rfl rfl)
theorem dX0_isTurned_149 : decode cX0_isTurned 149 = .ok (.goto 4, 3) := dk_167 0 4 (dk_at dksX0_isTurned_6 9 rfl rfl)
theorem dX0_isTurned_152 : decode cX0_isTurned 152 = .ok (.iconst 0, 1) := dk_3 (dk_at dksX0_isTurned_6 12 rfl rfl)
theorem dX0_isTurned_153 : decode cX0_isTurned 153 = .ok (.istore 4, 2) := dk_54 4 (dk_at dksX0_isTurned_6 13 rfl rfl)
theorem dX0_isTurned_155 : decode cX0_isTurned 155 = .ok (.iconst 1, 1) := dk_4 (dk_at dksX0_isTurned_6 15 rfl rfl)
theorem dX0_isTurned_156 : decode cX0_isTurned 156 = .ok (.istore 8, 2) := dk_54 8 (dk_at dksX0_isTurned_6 16 rfl rfl)
theorem dX0_isTurned_158 : decode cX0_isTurned 158 = .ok (.iload 8, 2) := dk_21 8 (dk_at dksX0_isTurned_6 18 rfl rfl)
theorem dX0_isTurned_160 : decode cX0_isTurned 160 = .ok (.iconst 5, 1) := dk_8 (dk_at dksX0_isTurned_6 20 rfl rfl)
theorem dX0_isTurned_161 : decode cX0_isTurned 161 = .ok (.if_icmp .ge 135, 3) := dk_162 0 135 (dk_at dksX0_isTurned_6 21 rfl rfl)
theorem dX0_isTurned_164 : decode cX0_isTurned 164 = .ok (.iload 4, 2) := dk_21 4 (dk_at dksX0_isTurned_7 0 rfl rfl)
theorem dX0_isTurned_166 : decode cX0_isTurned 166 = .ok (.ifCond .eq 130, 3) := dk_153 0 130 (dk_at dksX0_isTurned_7 2 rfl rfl)
theorem dX0_isTurned_169 : decode cX0_isTurned 169 = .ok (.aload 6, 2) := dk_25 6 (dk_at dksX0_isTurned_7 5 rfl rfl)
theorem dX0_isTurned_171 : decode cX0_isTurned 171 = .ok (.iload 8, 2) := dk_21 8 (dk_at dksX0_isTurned_7 7 rfl rfl)
theorem dX0_isTurned_173 : decode cX0_isTurned 173 = .ok (.invokevirtual 317, 3) := dk_182 1 61 (dk_at dksX0_isTurned_7 9 rfl rfl)
theorem dX0_isTurned_176 : decode cX0_isTurned 176 = .ok (.aload 6, 2) := dk_25 6 (dk_at dksX0_isTurned_7 12 rfl rfl)
theorem dX0_isTurned_178 : decode cX0_isTurned 178 = .ok (.if_acmp .eq 7, 3) := dk_165 0 7 (dk_at dksX0_isTurned_7 14 rfl rfl)
theorem dX0_isTurned_181 : decode cX0_isTurned 181 = .ok (.iconst 1, 1) := dk_4 (dk_at dksX0_isTurned_7 17 rfl rfl)
theorem dX0_isTurned_182 : decode cX0_isTurned 182 = .ok (.goto 4, 3) := dk_167 0 4 (dk_at dksX0_isTurned_7 18 rfl rfl)
theorem dX0_isTurned_185 : decode cX0_isTurned 185 = .ok (.iconst 0, 1) := dk_3 (dk_at dksX0_isTurned_7 21 rfl rfl)
theorem dX0_isTurned_186 : decode cX0_isTurned 186 = .ok (.istore 9, 2) := dk_54 9 (dk_at dksX0_isTurned_7 22 rfl rfl)
theorem dX0_isTurned_188 : decode cX0_isTurned 188 = .ok (.iload 9, 2) := dk_21 9 (dk_at dksX0_isTurned_8 0 rfl rfl)
theorem dX0_isTurned_190 : decode cX0_isTurned 190 = .ok (.aload 7, 2) := dk_25 7 (dk_at dksX0_isTurned_8 2 rfl rfl)
theorem dX0_isTurned_192 : decode cX0_isTurned 192 = .ok (.iload 8, 2) := dk_21 8 (dk_at dksX0_isTurned_8 4 rfl rfl)
theorem dX0_isTurned_194 : decode cX0_isTurned 194 = .ok (.invokevirtual 317, 3) := dk_182 1 61 (dk_at dksX0_isTurned_8 6 rfl rfl)
theorem dX0_isTurned_197 : decode cX0_isTurned 197 = .ok (.aload 7, 2) := dk_25 7 (dk_at dksX0_isTurned_8 9 rfl rfl)
theorem dX0_isTurned_199 : decode cX0_isTurned 199 = .ok (.if_acmp .eq 7, 3) := dk_165 0 7 (dk_at dksX0_isTurned_8 11 rfl rfl)
theorem dX0_isTurned_202 : decode cX0_isTurned 202 = .ok (.iconst 1, 1) := dk_4 (dk_at dksX0_isTurned_8 14 rfl rfl)
theorem dX0_isTurned_203 : decode cX0_isTurned 203 = .ok (.goto 4, 3) := dk_167 0 4 (dk_at dksX0_isTurned_8 15 rfl rfl)
theorem dX0_isTurned_206 : decode cX0_isTurned 206 = .ok (.iconst 0, 1) := dk_3 (dk_at dksX0_isTurned_8 18 rfl rfl)
theorem dX0_isTurned_207 : decode cX0_isTurned 207 = .ok (.if_icmp .ne 7, 3) := dk_160 0 7 (dk_at dksX0_isTurned_8 19 rfl rfl)
theorem dX0_isTurned_210 : decode cX0_isTurned 210 = .ok (.iconst 1, 1) := dk_4 (dk_at dksX0_isTurned_8 22 rfl rfl)
theorem dX0_isTurned_211 : decode cX0_isTurned 211 = .ok (.goto 4, 3) := dk_167 0 4 (dk_at dksX0_isTurned_9 0 rfl rfl)
theorem dX0_isTurned_214 : decode cX0_isTurned 214 = .ok (.iconst 0, 1) := dk_3 (dk_at dksX0_isTurned_9 3 rfl rfl)
theorem dX0_isTurned_215 : decode cX0_isTurned 215 = .ok (.istore 4, 2) := dk_54 4 (dk_at dksX0_isTurned_9 4 rfl rfl)
theorem dX0_isTurned_217 : decode cX0_isTurned 217 = .ok (.iload 4, 2) := dk_21 4 (dk_at dksX0_isTurned_9 6 rfl rfl)
theorem dX0_isTurned_219 : decode cX0_isTurned 219 = .ok (.ifCond .eq 71, 3) := dk_153 0 71 (dk_at dksX0_isTurned_9 8 rfl rfl)
theorem dX0_isTurned_222 : decode cX0_isTurned 222 = .ok (.iload 9, 2) := dk_21 9 (dk_at dksX0_isTurned_9 11 rfl rfl)
theorem dX0_isTurned_224 : decode cX0_isTurned 224 = .ok (.ifCond .ne 6, 3) := dk_154 0 6 (dk_at dksX0_isTurned_9 13 rfl rfl)
theorem dX0_isTurned_227 : decode cX0_isTurned 227 = .ok (.goto 63, 3) := dk_167 0 63 (dk_at dksX0_isTurned_9 16 rfl rfl)
theorem dX0_isTurned_230 : decode cX0_isTurned 230 = .ok (.aload_n 0, 1) := dk_42 (dk_at dksX0_isTurned_9 19 rfl rfl)
theorem dX0_isTurned_231 : decode cX0_isTurned 231 = .ok (.getfield 111, 3) := dk_180 0 111 (dk_at dksX0_isTurned_9 20 rfl rfl)
theorem dX0_isTurned_234 : decode cX0_isTurned 234 = .ok (.aload 6, 2) := dk_25 6 (dk_at dksX0_isTurned_10 0 rfl rfl)
theorem dX0_isTurned_236 : decode cX0_isTurned 236 = .ok (.iload 8, 2) := dk_21 8 (dk_at dksX0_isTurned_10 2 rfl rfl)
theorem dX0_isTurned_238 : decode cX0_isTurned 238 = .ok (.invokevirtual 317, 3) := dk_182 1 61 (dk_at dksX0_isTurned_10 4 rfl rfl)
theorem dX0_isTurned_241 : decode cX0_isTurned 241 = .ok (.getfield 260, 3) := dk_180 1 4 (dk_at dksX0_isTurned_10 7 rfl rfl)
theorem dX0_isTurned_244 : decode cX0_isTurned 244 = .ok (.iaload, 1) := dk_46 (dk_at dksX0_isTurned_10 10 rfl rfl)
theorem dX0_isTurned_245 : decode cX0_isTurned 245 = .ok (.iconst (-1), 1) := dk_2 (dk_at dksX0_isTurned_10 11 rfl rfl)
theorem dX0_isTurned_246 : decode cX0_isTurned 246 = .ok (.if_icmp .ne 7, 3) := dk_160 0 7 (dk_at dksX0_isTurned_10 12 rfl rfl)
theorem dX0_isTurned_249 : decode cX0_isTurned 249 = .ok (.iconst 1, 1) := dk_4 (dk_at dksX0_isTurned_10 15 rfl rfl)
theorem dX0_isTurned_250 : decode cX0_isTurned 250 = .ok (.goto 4, 3) := dk_167 0 4 (dk_at dksX0_isTurned_10 16 rfl rfl)
theorem dX0_isTurned_253 : decode cX0_isTurned 253 = .ok (.iconst 0, 1) := dk_3 (dk_at dksX0_isTurned_10 19 rfl rfl)
theorem dX0_isTurned_254 : decode cX0_isTurned 254 = .ok (.istore 10, 2) := dk_54 10 (dk_at dksX0_isTurned_10 20 rfl rfl)
theorem dX0_isTurned_256 : decode cX0_isTurned 256 = .ok (.aload_n 0, 1) := dk_42 (dk_at dksX0_isTurned_10 22 rfl rfl)
theorem dX0_isTurned_257 : decode cX0_isTurned 257 = .ok (.aload 6, 2) := dk_25 6 (dk_at dksX0_isTurned_11 0 rfl rfl)
theorem dX0_isTurned_259 : decode cX0_isTurned 259 = .ok (.iload 8, 2) := dk_21 8 (dk_at dksX0_isTurned_11 2 rfl rfl)
theorem dX0_isTurned_261 : decode cX0_isTurned 261 = .ok (.invokevirtual 317, 3) := dk_182 1 61 (dk_at dksX0_isTurned_11 4 rfl rfl)
theorem dX0_isTurned_264 : decode cX0_isTurned 264 = .ok (.aload 7, 2) := dk_25 7 (dk_at dksX0_isTurned_11 7 rfl rfl)
theorem dX0_isTurned_266 : decode cX0_isTurned 266 = .ok (.iload 8, 2) := dk_21 8 (dk_at dksX0_isTurned_11 9 rfl rfl)
theorem dX0_isTurned_268 : decode cX0_isTurned 268 = .ok (.invokevirtual 317, 3) := dk_182 1 61 (dk_at dksX0_isTurned_11 11 rfl rfl)
theorem dX0_isTurned_271 : decode cX0_isTurned 271 = .ok (.iload_n 3, 1) := dk_29 (dk_at dksX0_isTurned_11 14 rfl rfl)
theorem dX0_isTurned_272 : decode cX0_isTurned 272 = .ok (.invokevirtual 419, 3) := dk_182 1 163 (dk_at dksX0_isTurned_11 15 rfl rfl)
theorem dX0_isTurned_275 : decode cX0_isTurned 275 = .ok (.istore 4, 2) := dk_54 4 (dk_at dksX0_isTurned_11 18 rfl rfl)
theorem dX0_isTurned_277 : decode cX0_isTurned 277 = .ok (.iload_n 3, 1) := dk_29 (dk_at dksX0_isTurned_11 20 rfl rfl)
theorem dX0_isTurned_278 : decode cX0_isTurned 278 = .ok (.iload 10, 2) := dk_21 10 (dk_at dksX0_isTurned_11 21 rfl rfl)
theorem dX0_isTurned_280 : decode cX0_isTurned 280 = .ok (.ifCond .eq 7, 3) := dk_153 0 7 (dk_at dksX0_isTurned_12 0 rfl rfl)
theorem dX0_isTurned_283 : decode cX0_isTurned 283 = .ok (.iconst 1, 1) := dk_4 (dk_at dksX0_isTurned_12 3 rfl rfl)
theorem dX0_isTurned_284 : decode cX0_isTurned 284 = .ok (.goto 4, 3) := dk_167 0 4 (dk_at dksX0_isTurned_12 4 rfl rfl)
theorem dX0_isTurned_287 : decode cX0_isTurned 287 = .ok (.iconst 0, 1) := dk_3 (dk_at dksX0_isTurned_12 7 rfl rfl)
theorem dX0_isTurned_288 : decode cX0_isTurned 288 = .ok (.iadd, 1) := dk_96 (dk_at dksX0_isTurned_12 8 rfl rfl)
theorem dX0_isTurned_289 : decode cX0_isTurned 289 = .ok (.istore_n 3, 1) := dk_62 (dk_at dksX0_isTurned_12 9 rfl rfl)
theorem dX0_isTurned_290 : decode cX0_isTurned 290 = .ok (.iinc 8 1, 3) := dk_132 8 1 (dk_at dksX0_isTurned_12 10 rfl rfl)
theorem dX0_isTurned_293 : decode cX0_isTurned 293 = .ok (.goto (-135), 3) := dk_167 255 121 (dk_at dksX0_isTurned_12 13 rfl rfl)
theorem dX0_isTurned_296 : decode cX0_isTurned 296 = .ok (.iinc 5 1, 3) := dk_132 5 1 (dk_at dksX0_isTurned_12 16 rfl rfl)
theorem dX0_isTurned_299 : decode cX0_isTurned 299 = .ok (.goto (-214), 3) := dk_167 255 42 (dk_at dksX0_isTurned_12 19 rfl rfl)
theorem dX0_isTurned_302 : decode cX0_isTurned 302 = .ok (.iload 4, 2) := dk_21 4 (dk_at dksX0_isTurned_12 22 rfl rfl)
theorem dX0_isTurned_304 : decode cX0_isTurned 304 = .ok (.ireturn, 1) := dk_172 (dk_at dksX0_isTurned_13 0 rfl rfl)
abbrev cX0_puts : ByteArray := prog_1_method_53_code
def yX0_puts : MethodName := ⟨RX0, "puts", "(LTwoSeek$Place;LTwoSeek$Place;I)Z"⟩
def dkwX0_puts_2 : List UInt8 := [79, 42, 180, 0, 108, 29, 43, 180, 1, 4, 79, 4, 172]
abbrev dktX0_puts_2 : List UInt8 := dkwX0_puts_2 ++ []
def dkwX0_puts_1 : List UInt8 := [180, 1, 4, 160, 0, 7, 4, 167, 0, 4, 3, 172, 42, 180, 0, 111, 43, 180, 1, 4, 44, 180, 1, 4]
abbrev dktX0_puts_1 : List UInt8 := dkwX0_puts_1 ++ dktX0_puts_2
def dkwX0_puts_0 : List UInt8 := [42, 180, 0, 111, 43, 180, 1, 4, 46, 2, 159, 0, 25, 42, 180, 0, 111, 43, 180, 1, 4, 46, 44]
abbrev dktX0_puts_0 : List UInt8 := dkwX0_puts_0 ++ dktX0_puts_1
theorem dksX0_puts_0 : cX0_puts.data.toList.drop 0 = dktX0_puts_0 := by decide +kernel
theorem dksX0_puts_1 : cX0_puts.data.toList.drop 23 = dktX0_puts_1 := dk_seg dksX0_puts_0 23 rfl rfl
theorem dksX0_puts_2 : cX0_puts.data.toList.drop 47 = dktX0_puts_2 := dk_seg dksX0_puts_1 24 rfl rfl
theorem dX0_puts_0 : decode cX0_puts 0 = .ok (.aload_n 0, 1) := dk_42 (dk_at dksX0_puts_0 0 rfl rfl)
theorem dX0_puts_1 : decode cX0_puts 1 = .ok (.getfield 111, 3) := dk_180 0 111 (dk_at dksX0_puts_0 1 rfl rfl)
theorem dX0_puts_4 : decode cX0_puts 4 = .ok (.aload_n 1, 1) := dk_43 (dk_at dksX0_puts_0 4 rfl rfl)
theorem dX0_puts_5 : decode cX0_puts 5 = .ok (.getfield 260, 3) := dk_180 1 4 (dk_at dksX0_puts_0 5 rfl rfl)
theorem dX0_puts_8 : decode cX0_puts 8 = .ok (.iaload, 1) := dk_46 (dk_at dksX0_puts_0 8 rfl rfl)
theorem dX0_puts_9 : decode cX0_puts 9 = .ok (.iconst (-1), 1) := dk_2 (dk_at dksX0_puts_0 9 rfl rfl)
theorem dX0_puts_10 : decode cX0_puts 10 = .ok (.if_icmp .eq 25, 3) := dk_159 0 25 (dk_at dksX0_puts_0 10 rfl rfl)
theorem dX0_puts_13 : decode cX0_puts 13 = .ok (.aload_n 0, 1) := dk_42 (dk_at dksX0_puts_0 13 rfl rfl)
theorem dX0_puts_14 : decode cX0_puts 14 = .ok (.getfield 111, 3) := dk_180 0 111 (dk_at dksX0_puts_0 14 rfl rfl)
theorem dX0_puts_17 : decode cX0_puts 17 = .ok (.aload_n 1, 1) := dk_43 (dk_at dksX0_puts_0 17 rfl rfl)
theorem dX0_puts_18 : decode cX0_puts 18 = .ok (.getfield 260, 3) := dk_180 1 4 (dk_at dksX0_puts_0 18 rfl rfl)
theorem dX0_puts_21 : decode cX0_puts 21 = .ok (.iaload, 1) := dk_46 (dk_at dksX0_puts_0 21 rfl rfl)
theorem dX0_puts_22 : decode cX0_puts 22 = .ok (.aload_n 2, 1) := dk_44 (dk_at dksX0_puts_0 22 rfl rfl)
theorem dX0_puts_23 : decode cX0_puts 23 = .ok (.getfield 260, 3) := dk_180 1 4 (dk_at dksX0_puts_1 0 rfl rfl)
theorem dX0_puts_26 : decode cX0_puts 26 = .ok (.if_icmp .ne 7, 3) := dk_160 0 7 (dk_at dksX0_puts_1 3 rfl rfl)
theorem dX0_puts_29 : decode cX0_puts 29 = .ok (.iconst 1, 1) := dk_4 (dk_at dksX0_puts_1 6 rfl rfl)
theorem dX0_puts_30 : decode cX0_puts 30 = .ok (.goto 4, 3) := dk_167 0 4 (dk_at dksX0_puts_1 7 rfl rfl)
theorem dX0_puts_33 : decode cX0_puts 33 = .ok (.iconst 0, 1) := dk_3 (dk_at dksX0_puts_1 10 rfl rfl)
theorem dX0_puts_34 : decode cX0_puts 34 = .ok (.ireturn, 1) := dk_172 (dk_at dksX0_puts_1 11 rfl rfl)
theorem dX0_puts_35 : decode cX0_puts 35 = .ok (.aload_n 0, 1) := dk_42 (dk_at dksX0_puts_1 12 rfl rfl)
theorem dX0_puts_36 : decode cX0_puts 36 = .ok (.getfield 111, 3) := dk_180 0 111 (dk_at dksX0_puts_1 13 rfl rfl)
theorem dX0_puts_39 : decode cX0_puts 39 = .ok (.aload_n 1, 1) := dk_43 (dk_at dksX0_puts_1 16 rfl rfl)
theorem dX0_puts_40 : decode cX0_puts 40 = .ok (.getfield 260, 3) := dk_180 1 4 (dk_at dksX0_puts_1 17 rfl rfl)
theorem dX0_puts_43 : decode cX0_puts 43 = .ok (.aload_n 2, 1) := dk_44 (dk_at dksX0_puts_1 20 rfl rfl)
theorem dX0_puts_44 : decode cX0_puts 44 = .ok (.getfield 260, 3) := dk_180 1 4 (dk_at dksX0_puts_1 21 rfl rfl)
theorem dX0_puts_47 : decode cX0_puts 47 = .ok (.iastore, 1) := dk_79 (dk_at dksX0_puts_2 0 rfl rfl)
theorem dX0_puts_48 : decode cX0_puts 48 = .ok (.aload_n 0, 1) := dk_42 (dk_at dksX0_puts_2 1 rfl rfl)
theorem dX0_puts_49 : decode cX0_puts 49 = .ok (.getfield 108, 3) := dk_180 0 108 (dk_at dksX0_puts_2 2 rfl rfl)
theorem dX0_puts_52 : decode cX0_puts 52 = .ok (.iload_n 3, 1) := dk_29 (dk_at dksX0_puts_2 5 rfl rfl)
theorem dX0_puts_53 : decode cX0_puts 53 = .ok (.aload_n 1, 1) := dk_43 (dk_at dksX0_puts_2 6 rfl rfl)
theorem dX0_puts_54 : decode cX0_puts 54 = .ok (.getfield 260, 3) := dk_180 1 4 (dk_at dksX0_puts_2 7 rfl rfl)
theorem dX0_puts_57 : decode cX0_puts 57 = .ok (.iastore, 1) := dk_79 (dk_at dksX0_puts_2 10 rfl rfl)
theorem dX0_puts_58 : decode cX0_puts 58 = .ok (.iconst 1, 1) := dk_4 (dk_at dksX0_puts_2 11 rfl rfl)
theorem dX0_puts_59 : decode cX0_puts 59 = .ok (.ireturn, 1) := dk_172 (dk_at dksX0_puts_2 12 rfl rfl)
abbrev cX0_drawn : ByteArray := prog_1_method_60_code
def yX0_drawn : MethodName := ⟨RX0, "drawn", "(IIIII)Z"⟩
def dkwX0_drawn_2 : List UInt8 := [21, 4, 21, 5, 182, 1, 180, 21, 5, 182, 1, 184, 172]
abbrev dktX0_drawn_2 : List UInt8 := dkwX0_drawn_2 ++ []
def dkwX0_drawn_1 : List UInt8 := [182, 1, 176, 54, 6, 21, 6, 158, 0, 12, 42, 21, 6, 182, 0, 155, 167, 0, 20, 42, 42, 27, 28, 29]
abbrev dktX0_drawn_1 : List UInt8 := dkwX0_drawn_1 ++ dktX0_drawn_2
def dkwX0_drawn_0 : List UInt8 := [42, 27, 28, 21, 4, 21, 5, 29, 155, 0, 13, 29, 16, 16, 163, 0, 7, 4, 167, 0, 4, 3]
abbrev dktX0_drawn_0 : List UInt8 := dkwX0_drawn_0 ++ dktX0_drawn_1
theorem dksX0_drawn_0 : cX0_drawn.data.toList.drop 0 = dktX0_drawn_0 := by decide +kernel
theorem dksX0_drawn_1 : cX0_drawn.data.toList.drop 22 = dktX0_drawn_1 := dk_seg dksX0_drawn_0 22 rfl rfl
theorem dksX0_drawn_2 : cX0_drawn.data.toList.drop 46 = dktX0_drawn_2 := dk_seg dksX0_drawn_1 24 rfl rfl
theorem dX0_drawn_0 : decode cX0_drawn 0 = .ok (.aload_n 0, 1) := dk_42 (dk_at dksX0_drawn_0 0 rfl rfl)
theorem dX0_drawn_1 : decode cX0_drawn 1 = .ok (.iload_n 1, 1) := dk_27 (dk_at dksX0_drawn_0 1 rfl rfl)
theorem dX0_drawn_2 : decode cX0_drawn 2 = .ok (.iload_n 2, 1) := dk_28 (dk_at dksX0_drawn_0 2 rfl rfl)
theorem dX0_drawn_3 : decode cX0_drawn 3 = .ok (.iload 4, 2) := dk_21 4 (dk_at dksX0_drawn_0 3 rfl rfl)
theorem dX0_drawn_5 : decode cX0_drawn 5 = .ok (.iload 5, 2) := dk_21 5 (dk_at dksX0_drawn_0 5 rfl rfl)
theorem dX0_drawn_7 : decode cX0_drawn 7 = .ok (.iload_n 3, 1) := dk_29 (dk_at dksX0_drawn_0 7 rfl rfl)
theorem dX0_drawn_8 : decode cX0_drawn 8 = .ok (.ifCond .lt 13, 3) := dk_155 0 13 (dk_at dksX0_drawn_0 8 rfl rfl)
theorem dX0_drawn_11 : decode cX0_drawn 11 = .ok (.iload_n 3, 1) := dk_29 (dk_at dksX0_drawn_0 11 rfl rfl)
theorem dX0_drawn_12 : decode cX0_drawn 12 = .ok (.bipush 16, 2) := dk_16 16 (dk_at dksX0_drawn_0 12 rfl rfl)
theorem dX0_drawn_14 : decode cX0_drawn 14 = .ok (.if_icmp .gt 7, 3) := dk_163 0 7 (dk_at dksX0_drawn_0 14 rfl rfl)
theorem dX0_drawn_17 : decode cX0_drawn 17 = .ok (.iconst 1, 1) := dk_4 (dk_at dksX0_drawn_0 17 rfl rfl)
theorem dX0_drawn_18 : decode cX0_drawn 18 = .ok (.goto 4, 3) := dk_167 0 4 (dk_at dksX0_drawn_0 18 rfl rfl)
theorem dX0_drawn_21 : decode cX0_drawn 21 = .ok (.iconst 0, 1) := dk_3 (dk_at dksX0_drawn_0 21 rfl rfl)
theorem dX0_drawn_22 : decode cX0_drawn 22 = .ok (.invokevirtual 432, 3) := dk_182 1 176 (dk_at dksX0_drawn_1 0 rfl rfl)
theorem dX0_drawn_25 : decode cX0_drawn 25 = .ok (.istore 6, 2) := dk_54 6 (dk_at dksX0_drawn_1 3 rfl rfl)
theorem dX0_drawn_27 : decode cX0_drawn 27 = .ok (.iload 6, 2) := dk_21 6 (dk_at dksX0_drawn_1 5 rfl rfl)
theorem dX0_drawn_29 : decode cX0_drawn 29 = .ok (.ifCond .le 12, 3) := dk_158 0 12 (dk_at dksX0_drawn_1 7 rfl rfl)
theorem dX0_drawn_32 : decode cX0_drawn 32 = .ok (.aload_n 0, 1) := dk_42 (dk_at dksX0_drawn_1 10 rfl rfl)
theorem dX0_drawn_33 : decode cX0_drawn 33 = .ok (.iload 6, 2) := dk_21 6 (dk_at dksX0_drawn_1 11 rfl rfl)
theorem dX0_drawn_35 : decode cX0_drawn 35 = .ok (.invokevirtual 155, 3) := dk_182 0 155 (dk_at dksX0_drawn_1 13 rfl rfl)
theorem dX0_drawn_38 : decode cX0_drawn 38 = .ok (.goto 20, 3) := dk_167 0 20 (dk_at dksX0_drawn_1 16 rfl rfl)
theorem dX0_drawn_41 : decode cX0_drawn 41 = .ok (.aload_n 0, 1) := dk_42 (dk_at dksX0_drawn_1 19 rfl rfl)
theorem dX0_drawn_42 : decode cX0_drawn 42 = .ok (.aload_n 0, 1) := dk_42 (dk_at dksX0_drawn_1 20 rfl rfl)
theorem dX0_drawn_43 : decode cX0_drawn 43 = .ok (.iload_n 1, 1) := dk_27 (dk_at dksX0_drawn_1 21 rfl rfl)
theorem dX0_drawn_44 : decode cX0_drawn 44 = .ok (.iload_n 2, 1) := dk_28 (dk_at dksX0_drawn_1 22 rfl rfl)
theorem dX0_drawn_45 : decode cX0_drawn 45 = .ok (.iload_n 3, 1) := dk_29 (dk_at dksX0_drawn_1 23 rfl rfl)
theorem dX0_drawn_46 : decode cX0_drawn 46 = .ok (.iload 4, 2) := dk_21 4 (dk_at dksX0_drawn_2 0 rfl rfl)
theorem dX0_drawn_48 : decode cX0_drawn 48 = .ok (.iload 5, 2) := dk_21 5 (dk_at dksX0_drawn_2 2 rfl rfl)
theorem dX0_drawn_50 : decode cX0_drawn 50 = .ok (.invokevirtual 436, 3) := dk_182 1 180 (dk_at dksX0_drawn_2 4 rfl rfl)
theorem dX0_drawn_53 : decode cX0_drawn 53 = .ok (.iload 5, 2) := dk_21 5 (dk_at dksX0_drawn_2 7 rfl rfl)
theorem dX0_drawn_55 : decode cX0_drawn 55 = .ok (.invokevirtual 440, 3) := dk_182 1 184 (dk_at dksX0_drawn_2 9 rfl rfl)
theorem dX0_drawn_58 : decode cX0_drawn 58 = .ok (.ireturn, 1) := dk_172 (dk_at dksX0_drawn_2 12 rfl rfl)
abbrev cX0_wrongDraws : ByteArray := prog_1_method_58_code
def yX0_wrongDraws : MethodName := ⟨RX0, "wrongDraws", "(IIIIZ)I"⟩
def dkwX0_wrongDraws_2 : List UInt8 := [164, 0, 5, 8, 172, 42, 182, 1, 121, 9, 148, 154, 0, 8, 16, 9, 167, 0, 4, 3, 172]
abbrev dktX0_wrongDraws_2 : List UInt8 := dkwX0_wrongDraws_2 ++ []
def dkwX0_wrongDraws_1 : List UInt8 := [153, 0, 26, 29, 4, 161, 0, 21, 29, 16, 24, 163, 0, 15, 21, 4, 4, 161, 0, 9, 21, 4, 8]
abbrev dktX0_wrongDraws_1 : List UInt8 := dkwX0_wrongDraws_1 ++ dktX0_wrongDraws_2
def dkwX0_wrongDraws_0 : List UInt8 := [42, 27, 133, 182, 1, 93, 153, 0, 12, 42, 28, 133, 182, 1, 93, 154, 0, 5, 5, 172, 21, 5]
abbrev dktX0_wrongDraws_0 : List UInt8 := dkwX0_wrongDraws_0 ++ dktX0_wrongDraws_1
theorem dksX0_wrongDraws_0 : cX0_wrongDraws.data.toList.drop 0 = dktX0_wrongDraws_0 := by decide +kernel
theorem dksX0_wrongDraws_1 : cX0_wrongDraws.data.toList.drop 22 = dktX0_wrongDraws_1 := dk_seg dksX0_wrongDraws_0 22 rfl rfl
theorem dksX0_wrongDraws_2 : cX0_wrongDraws.data.toList.drop 45 = dktX0_wrongDraws_2 := dk_seg dksX0_wrongDraws_1 23 rfl rfl
theorem dX0_wrongDraws_0 : decode cX0_wrongDraws 0 = .ok (.aload_n 0, 1) := dk_42 (dk_at dksX0_wrongDraws_0 0 rfl rfl)
theorem dX0_wrongDraws_1 : decode cX0_wrongDraws 1 = .ok (.iload_n 1, 1) := dk_27 (dk_at dksX0_wrongDraws_0 1 rfl rfl)
theorem dX0_wrongDraws_2 : decode cX0_wrongDraws 2 = .ok (.i2l, 1) := dk_133 (dk_at dksX0_wrongDraws_0 2 rfl rfl)
theorem dX0_wrongDraws_3 : decode cX0_wrongDraws 3 = .ok (.invokevirtual 349, 3) := dk_182 1 93 (dk_at dksX0_wrongDraws_0 3 rfl rfl)
theorem dX0_wrongDraws_6 : decode cX0_wrongDraws 6 = .ok (.ifCond .eq 12, 3) := dk_153 0 12 (dk_at dksX0_wrongDraws_0 6 rfl rfl)
theorem dX0_wrongDraws_9 : decode cX0_wrongDraws 9 = .ok (.aload_n 0, 1) := dk_42 (dk_at dksX0_wrongDraws_0 9 rfl rfl)
theorem dX0_wrongDraws_10 : decode cX0_wrongDraws 10 = .ok (.iload_n 2, 1) := dk_28 (dk_at dksX0_wrongDraws_0 10 rfl rfl)
theorem dX0_wrongDraws_11 : decode cX0_wrongDraws 11 = .ok (.i2l, 1) := dk_133 (dk_at dksX0_wrongDraws_0 11 rfl rfl)
theorem dX0_wrongDraws_12 : decode cX0_wrongDraws 12 = .ok (.invokevirtual 349, 3) := dk_182 1 93 (dk_at dksX0_wrongDraws_0 12 rfl rfl)
theorem dX0_wrongDraws_15 : decode cX0_wrongDraws 15 = .ok (.ifCond .ne 5, 3) := dk_154 0 5 (dk_at dksX0_wrongDraws_0 15 rfl rfl)
theorem dX0_wrongDraws_18 : decode cX0_wrongDraws 18 = .ok (.iconst 2, 1) := dk_5 (dk_at dksX0_wrongDraws_0 18 rfl rfl)
theorem dX0_wrongDraws_19 : decode cX0_wrongDraws 19 = .ok (.ireturn, 1) := dk_172 (dk_at dksX0_wrongDraws_0 19 rfl rfl)
theorem dX0_wrongDraws_20 : decode cX0_wrongDraws 20 = .ok (.iload 5, 2) := dk_21 5 (dk_at dksX0_wrongDraws_0 20 rfl rfl)
theorem dX0_wrongDraws_22 : decode cX0_wrongDraws 22 = .ok (.ifCond .eq 26, 3) := dk_153 0 26 (dk_at dksX0_wrongDraws_1 0 rfl rfl)
theorem dX0_wrongDraws_25 : decode cX0_wrongDraws 25 = .ok (.iload_n 3, 1) := dk_29 (dk_at dksX0_wrongDraws_1 3 rfl rfl)
theorem dX0_wrongDraws_26 : decode cX0_wrongDraws 26 = .ok (.iconst 1, 1) := dk_4 (dk_at dksX0_wrongDraws_1 4 rfl rfl)
theorem dX0_wrongDraws_27 : decode cX0_wrongDraws 27 = .ok (.if_icmp .lt 21, 3) := dk_161 0 21 (dk_at dksX0_wrongDraws_1 5 rfl rfl)
theorem dX0_wrongDraws_30 : decode cX0_wrongDraws 30 = .ok (.iload_n 3, 1) := dk_29 (dk_at dksX0_wrongDraws_1 8 rfl rfl)
theorem dX0_wrongDraws_31 : decode cX0_wrongDraws 31 = .ok (.bipush 24, 2) := dk_16 24 (dk_at dksX0_wrongDraws_1 9 rfl rfl)
theorem dX0_wrongDraws_33 : decode cX0_wrongDraws 33 = .ok (.if_icmp .gt 15, 3) := dk_163 0 15 (dk_at dksX0_wrongDraws_1 11 rfl rfl)
theorem dX0_wrongDraws_36 : decode cX0_wrongDraws 36 = .ok (.iload 4, 2) := dk_21 4 (dk_at dksX0_wrongDraws_1 14 rfl rfl)
theorem dX0_wrongDraws_38 : decode cX0_wrongDraws 38 = .ok (.iconst 1, 1) := dk_4 (dk_at dksX0_wrongDraws_1 16 rfl rfl)
theorem dX0_wrongDraws_39 : decode cX0_wrongDraws 39 = .ok (.if_icmp .lt 9, 3) := dk_161 0 9 (dk_at dksX0_wrongDraws_1 17 rfl rfl)
theorem dX0_wrongDraws_42 : decode cX0_wrongDraws 42 = .ok (.iload 4, 2) := dk_21 4 (dk_at dksX0_wrongDraws_1 20 rfl rfl)
theorem dX0_wrongDraws_44 : decode cX0_wrongDraws 44 = .ok (.iconst 5, 1) := dk_8 (dk_at dksX0_wrongDraws_1 22 rfl rfl)
theorem dX0_wrongDraws_45 : decode cX0_wrongDraws 45 = .ok (.if_icmp .le 5, 3) := dk_164 0 5 (dk_at dksX0_wrongDraws_2 0 rfl rfl)
theorem dX0_wrongDraws_48 : decode cX0_wrongDraws 48 = .ok (.iconst 5, 1) := dk_8 (dk_at dksX0_wrongDraws_2 3 rfl rfl)
theorem dX0_wrongDraws_49 : decode cX0_wrongDraws 49 = .ok (.ireturn, 1) := dk_172 (dk_at dksX0_wrongDraws_2 4 rfl rfl)
theorem dX0_wrongDraws_50 : decode cX0_wrongDraws 50 = .ok (.aload_n 0, 1) := dk_42 (dk_at dksX0_wrongDraws_2 5 rfl rfl)
theorem dX0_wrongDraws_51 : decode cX0_wrongDraws 51 = .ok (.invokevirtual 377, 3) := dk_182 1 121 (dk_at dksX0_wrongDraws_2 6 rfl rfl)
theorem dX0_wrongDraws_54 : decode cX0_wrongDraws 54 = .ok (.lconst 0, 1) := dk_9 (dk_at dksX0_wrongDraws_2 9 rfl rfl)
theorem dX0_wrongDraws_55 : decode cX0_wrongDraws 55 = .ok (.lcmp, 1) := dk_148 (dk_at dksX0_wrongDraws_2 10 rfl rfl)
theorem dX0_wrongDraws_56 : decode cX0_wrongDraws 56 = .ok (.ifCond .ne 8, 3) := dk_154 0 8 (dk_at dksX0_wrongDraws_2 11 rfl rfl)
theorem dX0_wrongDraws_59 : decode cX0_wrongDraws 59 = .ok (.bipush 9, 2) := dk_16 9 (dk_at dksX0_wrongDraws_2 14 rfl rfl)
theorem dX0_wrongDraws_61 : decode cX0_wrongDraws 61 = .ok (.goto 4, 3) := dk_167 0 4 (dk_at dksX0_wrongDraws_2 16 rfl rfl)
theorem dX0_wrongDraws_64 : decode cX0_wrongDraws 64 = .ok (.iconst 0, 1) := dk_3 (dk_at dksX0_wrongDraws_2 19 rfl rfl)
theorem dX0_wrongDraws_65 : decode cX0_wrongDraws 65 = .ok (.ireturn, 1) := dk_172 (dk_at dksX0_wrongDraws_2 20 rfl rfl)
abbrev cX0_apart : ByteArray := prog_1_method_57_code
def yX0_apart : MethodName := ⟨RX0, "apart", "(IIIII)J"⟩
def dkwX0_apart_13 : List UInt8 := [22, 6, 173]
abbrev dktX0_apart_13 : List UInt8 := dkwX0_apart_13 ++ []
def dkwX0_apart_12 : List UInt8 := [16, 64, 162, 0, 21, 22, 6, 42, 180, 0, 114, 21, 8, 47, 97, 55, 6, 132, 8, 1, 167, 255, 234]
abbrev dktX0_apart_12 : List UInt8 := dkwX0_apart_12 ++ dktX0_apart_13
def dkwX0_apart_11 : List UInt8 := [180, 0, 114, 3, 16, 64, 184, 0, 192, 132, 6, 1, 167, 255, 61, 9, 55, 6, 3, 54, 8, 21, 8]
abbrev dktX0_apart_11 : List UInt8 := dkwX0_apart_11 ++ dktX0_apart_12
def dkwX0_apart_10 : List UInt8 := [22, 9, 105, 97, 80, 132, 8, 1, 167, 255, 132, 132, 7, 1, 167, 255, 116, 42, 180, 0, 118, 3, 42]
abbrev dktX0_apart_10 : List UInt8 := dkwX0_apart_10 ++ dktX0_apart_11
def dkwX0_apart_9 : List UInt8 := [54, 11, 21, 11, 2, 159, 0, 23, 42, 180, 0, 118, 21, 11, 92, 47, 42, 180, 0, 114, 21, 7, 47]
abbrev dktX0_apart_9 : List UInt8 := dkwX0_apart_9 ++ dktX0_apart_10
def dkwX0_apart_8 : List UInt8 := [27, 167, 0, 4, 28, 21, 8, 5, 162, 0, 7, 27, 167, 0, 4, 28, 21, 7, 21, 4, 182, 1, 173]
abbrev dktX0_apart_8 : List UInt8 := dkwX0_apart_8 ++ dktX0_apart_9
def dkwX0_apart_7 : List UInt8 := [29, 100, 133, 105, 55, 9, 22, 9, 9, 148, 154, 0, 6, 167, 0, 62, 42, 21, 8, 5, 112, 154, 0, 7]
abbrev dktX0_apart_7 : List UInt8 := dkwX0_apart_7 ++ dktX0_apart_8
def dkwX0_apart_6 : List UInt8 := [154, 0, 7, 29, 167, 0, 7, 16, 16, 29, 100, 133, 21, 8, 5, 162, 0, 7, 29, 167, 0, 7, 16, 16]
abbrev dktX0_apart_6 : List UInt8 := dkwX0_apart_6 ++ dktX0_apart_7
def dkwX0_apart_5 : List UInt8 := [54, 8, 21, 8, 7, 162, 0, 124, 42, 180, 0, 114, 21, 7, 47, 9, 148, 158, 0, 112, 21, 8, 5, 112]
abbrev dktX0_apart_5 : List UInt8 := dkwX0_apart_5 ++ dktX0_apart_6
def dkwX0_apart_4 : List UInt8 := [180, 0, 118, 21, 7, 9, 80, 132, 7, 1, 167, 255, 238, 3, 54, 7, 21, 7, 16, 64, 162, 0, 139, 3]
abbrev dktX0_apart_4 : List UInt8 := dkwX0_apart_4 ++ dktX0_apart_5
def dkwX0_apart_3 : List UInt8 := [167, 255, 188, 3, 54, 6, 21, 6, 21, 5, 162, 0, 194, 3, 54, 7, 21, 7, 16, 64, 162, 0, 17, 42]
abbrev dktX0_apart_3 : List UInt8 := dkwX0_apart_3 ++ dktX0_apart_4
def dkwX0_apart_2 : List UInt8 := [21, 7, 21, 8, 159, 0, 14, 42, 21, 7, 21, 8, 182, 1, 105, 167, 0, 4, 9, 80, 132, 6, 1]
abbrev dktX0_apart_2 : List UInt8 := dkwX0_apart_2 ++ dktX0_apart_3
def dkwX0_apart_1 : List UInt8 := [42, 180, 0, 114, 21, 6, 42, 21, 7, 182, 0, 237, 153, 0, 30, 42, 21, 8, 182, 0, 237, 153, 0, 21]
abbrev dktX0_apart_1 : List UInt8 := dkwX0_apart_1 ++ dktX0_apart_2
def dkwX0_apart_0 : List UInt8 := [3, 54, 6, 21, 6, 16, 64, 162, 0, 67, 21, 6, 16, 8, 108, 54, 7, 21, 6, 16, 8, 112, 54, 8]
abbrev dktX0_apart_0 : List UInt8 := dkwX0_apart_0 ++ dktX0_apart_1
theorem dksX0_apart_0 : cX0_apart.data.toList.drop 0 = dktX0_apart_0 := by decide +kernel
theorem dksX0_apart_1 : cX0_apart.data.toList.drop 24 = dktX0_apart_1 := dk_seg dksX0_apart_0 24 rfl rfl
theorem dksX0_apart_2 : cX0_apart.data.toList.drop 48 = dktX0_apart_2 := dk_seg dksX0_apart_1 24 rfl rfl
theorem dksX0_apart_3 : cX0_apart.data.toList.drop 71 = dktX0_apart_3 := dk_seg dksX0_apart_2 23 rfl rfl
theorem dksX0_apart_4 : cX0_apart.data.toList.drop 95 = dktX0_apart_4 := dk_seg dksX0_apart_3 24 rfl rfl
theorem dksX0_apart_5 : cX0_apart.data.toList.drop 119 = dktX0_apart_5 := dk_seg dksX0_apart_4 24 rfl rfl
theorem dksX0_apart_6 : cX0_apart.data.toList.drop 143 = dktX0_apart_6 := dk_seg dksX0_apart_5 24 rfl rfl
theorem dksX0_apart_7 : cX0_apart.data.toList.drop 167 = dktX0_apart_7 := dk_seg dksX0_apart_6 24 rfl rfl
theorem dksX0_apart_8 : cX0_apart.data.toList.drop 191 = dktX0_apart_8 := dk_seg dksX0_apart_7 24 rfl rfl
theorem dksX0_apart_9 : cX0_apart.data.toList.drop 214 = dktX0_apart_9 := dk_seg dksX0_apart_8 23 rfl rfl
theorem dksX0_apart_10 : cX0_apart.data.toList.drop 237 = dktX0_apart_10 := dk_seg dksX0_apart_9 23 rfl rfl
theorem dksX0_apart_11 : cX0_apart.data.toList.drop 260 = dktX0_apart_11 := dk_seg dksX0_apart_10 23 rfl rfl
theorem dksX0_apart_12 : cX0_apart.data.toList.drop 283 = dktX0_apart_12 := dk_seg dksX0_apart_11 23 rfl rfl
theorem dksX0_apart_13 : cX0_apart.data.toList.drop 306 = dktX0_apart_13 := dk_seg dksX0_apart_12 23 rfl rfl
theorem dX0_apart_0 : decode cX0_apart 0 = .ok (.iconst 0, 1) := dk_3 (dk_at dksX0_apart_0 0 rfl rfl)
theorem dX0_apart_1 : decode cX0_apart 1 = .ok (.istore 6, 2) := dk_54 6 (dk_at dksX0_apart_0 1 rfl rfl)
theorem dX0_apart_3 : decode cX0_apart 3 = .ok (.iload 6, 2) := dk_21 6 (dk_at dksX0_apart_0 3 rfl rfl)
theorem dX0_apart_5 : decode cX0_apart 5 = .ok (.bipush 64, 2) := dk_16 64 (dk_at dksX0_apart_0 5 rfl rfl)
theorem dX0_apart_7 : decode cX0_apart 7 = .ok (.if_icmp .ge 67, 3) := dk_162 0 67 (dk_at dksX0_apart_0 7 rfl rfl)
theorem dX0_apart_10 : decode cX0_apart 10 = .ok (.iload 6, 2) := dk_21 6 (dk_at dksX0_apart_0 10 rfl rfl)
theorem dX0_apart_12 : decode cX0_apart 12 = .ok (.bipush 8, 2) := dk_16 8 (dk_at dksX0_apart_0 12 rfl rfl)
theorem dX0_apart_14 : decode cX0_apart 14 = .ok (.idiv, 1) := dk_108 (dk_at dksX0_apart_0 14 rfl rfl)
theorem dX0_apart_15 : decode cX0_apart 15 = .ok (.istore 7, 2) := dk_54 7 (dk_at dksX0_apart_0 15 rfl rfl)
theorem dX0_apart_17 : decode cX0_apart 17 = .ok (.iload 6, 2) := dk_21 6 (dk_at dksX0_apart_0 17 rfl rfl)
theorem dX0_apart_19 : decode cX0_apart 19 = .ok (.bipush 8, 2) := dk_16 8 (dk_at dksX0_apart_0 19 rfl rfl)
theorem dX0_apart_21 : decode cX0_apart 21 = .ok (.irem, 1) := dk_112 (dk_at dksX0_apart_0 21 rfl rfl)
theorem dX0_apart_22 : decode cX0_apart 22 = .ok (.istore 8, 2) := dk_54 8 (dk_at dksX0_apart_0 22 rfl rfl)
theorem dX0_apart_24 : decode cX0_apart 24 = .ok (.aload_n 0, 1) := dk_42 (dk_at dksX0_apart_1 0 rfl rfl)
theorem dX0_apart_25 : decode cX0_apart 25 = .ok (.getfield 114, 3) := dk_180 0 114 (dk_at dksX0_apart_1 1 rfl rfl)
theorem dX0_apart_28 : decode cX0_apart 28 = .ok (.iload 6, 2) := dk_21 6 (dk_at dksX0_apart_1 4 rfl rfl)
theorem dX0_apart_30 : decode cX0_apart 30 = .ok (.aload_n 0, 1) := dk_42 (dk_at dksX0_apart_1 6 rfl rfl)
theorem dX0_apart_31 : decode cX0_apart 31 = .ok (.iload 7, 2) := dk_21 7 (dk_at dksX0_apart_1 7 rfl rfl)
theorem dX0_apart_33 : decode cX0_apart 33 = .ok (.invokevirtual 237, 3) := dk_182 0 237 (dk_at dksX0_apart_1 9 rfl rfl)
theorem dX0_apart_36 : decode cX0_apart 36 = .ok (.ifCond .eq 30, 3) := dk_153 0 30 (dk_at dksX0_apart_1 12 rfl rfl)
theorem dX0_apart_39 : decode cX0_apart 39 = .ok (.aload_n 0, 1) := dk_42 (dk_at dksX0_apart_1 15 rfl rfl)
theorem dX0_apart_40 : decode cX0_apart 40 = .ok (.iload 8, 2) := dk_21 8 (dk_at dksX0_apart_1 16 rfl rfl)
theorem dX0_apart_42 : decode cX0_apart 42 = .ok (.invokevirtual 237, 3) := dk_182 0 237 (dk_at dksX0_apart_1 18 rfl rfl)
theorem dX0_apart_45 : decode cX0_apart 45 = .ok (.ifCond .eq 21, 3) := dk_153 0 21 (dk_at dksX0_apart_1 21 rfl rfl)
theorem dX0_apart_48 : decode cX0_apart 48 = .ok (.iload 7, 2) := dk_21 7 (dk_at dksX0_apart_2 0 rfl rfl)
theorem dX0_apart_50 : decode cX0_apart 50 = .ok (.iload 8, 2) := dk_21 8 (dk_at dksX0_apart_2 2 rfl rfl)
theorem dX0_apart_52 : decode cX0_apart 52 = .ok (.if_icmp .eq 14, 3) := dk_159 0 14 (dk_at dksX0_apart_2 4 rfl rfl)
theorem dX0_apart_55 : decode cX0_apart 55 = .ok (.aload_n 0, 1) := dk_42 (dk_at dksX0_apart_2 7 rfl rfl)
theorem dX0_apart_56 : decode cX0_apart 56 = .ok (.iload 7, 2) := dk_21 7 (dk_at dksX0_apart_2 8 rfl rfl)
theorem dX0_apart_58 : decode cX0_apart 58 = .ok (.iload 8, 2) := dk_21 8 (dk_at dksX0_apart_2 10 rfl rfl)
theorem dX0_apart_60 : decode cX0_apart 60 = .ok (.invokevirtual 361, 3) := dk_182 1 105 (dk_at dksX0_apart_2 12 rfl rfl)
theorem dX0_apart_63 : decode cX0_apart 63 = .ok (.goto 4, 3) := dk_167 0 4 (dk_at dksX0_apart_2 15 rfl rfl)
theorem dX0_apart_66 : decode cX0_apart 66 = .ok (.lconst 0, 1) := dk_9 (dk_at dksX0_apart_2 18 rfl rfl)
theorem dX0_apart_67 : decode cX0_apart 67 = .ok (.lastore, 1) := dk_80 (dk_at dksX0_apart_2 19 rfl rfl)
theorem dX0_apart_68 : decode cX0_apart 68 = .ok (.iinc 6 1, 3) := dk_132 6 1 (dk_at dksX0_apart_2 20 rfl rfl)
theorem dX0_apart_71 : decode cX0_apart 71 = .ok (.goto (-68), 3) := dk_167 255 188 (dk_at dksX0_apart_3 0 rfl rfl)
theorem dX0_apart_74 : decode cX0_apart 74 = .ok (.iconst 0, 1) := dk_3 (dk_at dksX0_apart_3 3 rfl rfl)
theorem dX0_apart_75 : decode cX0_apart 75 = .ok (.istore 6, 2) := dk_54 6 (dk_at dksX0_apart_3 4 rfl rfl)
theorem dX0_apart_77 : decode cX0_apart 77 = .ok (.iload 6, 2) := dk_21 6 (dk_at dksX0_apart_3 6 rfl rfl)
theorem dX0_apart_79 : decode cX0_apart 79 = .ok (.iload 5, 2) := dk_21 5 (dk_at dksX0_apart_3 8 rfl rfl)
theorem dX0_apart_81 : decode cX0_apart 81 = .ok (.if_icmp .ge 194, 3) := dk_162 0 194 (dk_at dksX0_apart_3 10 rfl rfl)
theorem dX0_apart_84 : decode cX0_apart 84 = .ok (.iconst 0, 1) := dk_3 (dk_at dksX0_apart_3 13 rfl rfl)
theorem dX0_apart_85 : decode cX0_apart 85 = .ok (.istore 7, 2) := dk_54 7 (dk_at dksX0_apart_3 14 rfl rfl)
theorem dX0_apart_87 : decode cX0_apart 87 = .ok (.iload 7, 2) := dk_21 7 (dk_at dksX0_apart_3 16 rfl rfl)
theorem dX0_apart_89 : decode cX0_apart 89 = .ok (.bipush 64, 2) := dk_16 64 (dk_at dksX0_apart_3 18 rfl rfl)
theorem dX0_apart_91 : decode cX0_apart 91 = .ok (.if_icmp .ge 17, 3) := dk_162 0 17 (dk_at dksX0_apart_3 20 rfl rfl)
theorem dX0_apart_94 : decode cX0_apart 94 = .ok (.aload_n 0, 1) := dk_42 (dk_at dksX0_apart_3 23 rfl rfl)
theorem dX0_apart_95 : decode cX0_apart 95 = .ok (.getfield 118, 3) := dk_180 0 118 (dk_at dksX0_apart_4 0 rfl rfl)
theorem dX0_apart_98 : decode cX0_apart 98 = .ok (.iload 7, 2) := dk_21 7 (dk_at dksX0_apart_4 3 rfl rfl)
theorem dX0_apart_100 : decode cX0_apart 100 = .ok (.lconst 0, 1) := dk_9 (dk_at dksX0_apart_4 5 rfl rfl)
theorem dX0_apart_101 : decode cX0_apart 101 = .ok (.lastore, 1) := dk_80 (dk_at dksX0_apart_4 6 rfl rfl)
theorem dX0_apart_102 : decode cX0_apart 102 = .ok (.iinc 7 1, 3) := dk_132 7 1 (dk_at dksX0_apart_4 7 rfl rfl)
theorem dX0_apart_105 : decode cX0_apart 105 = .ok (.goto (-18), 3) := dk_167 255 238 (dk_at dksX0_apart_4 10 rfl rfl)
theorem dX0_apart_108 : decode cX0_apart 108 = .ok (.iconst 0, 1) := dk_3 (dk_at dksX0_apart_4 13 rfl rfl)
theorem dX0_apart_109 : decode cX0_apart 109 = .ok (.istore 7, 2) := dk_54 7 (dk_at dksX0_apart_4 14 rfl rfl)
theorem dX0_apart_111 : decode cX0_apart 111 = .ok (.iload 7, 2) := dk_21 7 (dk_at dksX0_apart_4 16 rfl rfl)
theorem dX0_apart_113 : decode cX0_apart 113 = .ok (.bipush 64, 2) := dk_16 64 (dk_at dksX0_apart_4 18 rfl rfl)
theorem dX0_apart_115 : decode cX0_apart 115 = .ok (.if_icmp .ge 139, 3) := dk_162 0 139 (dk_at dksX0_apart_4 20 rfl rfl)
theorem dX0_apart_118 : decode cX0_apart 118 = .ok (.iconst 0, 1) := dk_3 (dk_at dksX0_apart_4 23 rfl rfl)
theorem dX0_apart_119 : decode cX0_apart 119 = .ok (.istore 8, 2) := dk_54 8 (dk_at dksX0_apart_5 0 rfl rfl)
theorem dX0_apart_121 : decode cX0_apart 121 = .ok (.iload 8, 2) := dk_21 8 (dk_at dksX0_apart_5 2 rfl rfl)
theorem dX0_apart_123 : decode cX0_apart 123 = .ok (.iconst 4, 1) := dk_7 (dk_at dksX0_apart_5 4 rfl rfl)
theorem dX0_apart_124 : decode cX0_apart 124 = .ok (.if_icmp .ge 124, 3) := dk_162 0 124 (dk_at dksX0_apart_5 5 rfl rfl)
theorem dX0_apart_127 : decode cX0_apart 127 = .ok (.aload_n 0, 1) := dk_42 (dk_at dksX0_apart_5 8 rfl rfl)
theorem dX0_apart_128 : decode cX0_apart 128 = .ok (.getfield 114, 3) := dk_180 0 114 (dk_at dksX0_apart_5 9 rfl rfl)
theorem dX0_apart_131 : decode cX0_apart 131 = .ok (.iload 7, 2) := dk_21 7 (dk_at dksX0_apart_5 12 rfl rfl)
theorem dX0_apart_133 : decode cX0_apart 133 = .ok (.laload, 1) := dk_47 (dk_at dksX0_apart_5 14 rfl rfl)
theorem dX0_apart_134 : decode cX0_apart 134 = .ok (.lconst 0, 1) := dk_9 (dk_at dksX0_apart_5 15 rfl rfl)
theorem dX0_apart_135 : decode cX0_apart 135 = .ok (.lcmp, 1) := dk_148 (dk_at dksX0_apart_5 16 rfl rfl)
theorem dX0_apart_136 : decode cX0_apart 136 = .ok (.ifCond .le 112, 3) := dk_158 0 112 (dk_at dksX0_apart_5 17 rfl rfl)
theorem dX0_apart_139 : decode cX0_apart 139 = .ok (.iload 8, 2) := dk_21 8 (dk_at dksX0_apart_5 20 rfl rfl)
theorem dX0_apart_141 : decode cX0_apart 141 = .ok (.iconst 2, 1) := dk_5 (dk_at dksX0_apart_5 22 rfl rfl)
theorem dX0_apart_142 : decode cX0_apart 142 = .ok (.irem, 1) := dk_112 (dk_at dksX0_apart_5 23 rfl rfl)
theorem dX0_apart_143 : decode cX0_apart 143 = .ok (.ifCond .ne 7, 3) := dk_154 0 7 (dk_at dksX0_apart_6 0 rfl rfl)
theorem dX0_apart_146 : decode cX0_apart 146 = .ok (.iload_n 3, 1) := dk_29 (dk_at dksX0_apart_6 3 rfl rfl)
theorem dX0_apart_147 : decode cX0_apart 147 = .ok (.goto 7, 3) := dk_167 0 7 (dk_at dksX0_apart_6 4 rfl rfl)
theorem dX0_apart_150 : decode cX0_apart 150 = .ok (.bipush 16, 2) := dk_16 16 (dk_at dksX0_apart_6 7 rfl rfl)
theorem dX0_apart_152 : decode cX0_apart 152 = .ok (.iload_n 3, 1) := dk_29 (dk_at dksX0_apart_6 9 rfl rfl)
theorem dX0_apart_153 : decode cX0_apart 153 = .ok (.isub, 1) := dk_100 (dk_at dksX0_apart_6 10 rfl rfl)
theorem dX0_apart_154 : decode cX0_apart 154 = .ok (.i2l, 1) := dk_133 (dk_at dksX0_apart_6 11 rfl rfl)
theorem dX0_apart_155 : decode cX0_apart 155 = .ok (.iload 8, 2) := dk_21 8 (dk_at dksX0_apart_6 12 rfl rfl)
theorem dX0_apart_157 : decode cX0_apart 157 = .ok (.iconst 2, 1) := dk_5 (dk_at dksX0_apart_6 14 rfl rfl)
theorem dX0_apart_158 : decode cX0_apart 158 = .ok (.if_icmp .ge 7, 3) := dk_162 0 7 (dk_at dksX0_apart_6 15 rfl rfl)
theorem dX0_apart_161 : decode cX0_apart 161 = .ok (.iload_n 3, 1) := dk_29 (dk_at dksX0_apart_6 18 rfl rfl)
theorem dX0_apart_162 : decode cX0_apart 162 = .ok (.goto 7, 3) := dk_167 0 7 (dk_at dksX0_apart_6 19 rfl rfl)
theorem dX0_apart_165 : decode cX0_apart 165 = .ok (.bipush 16, 2) := dk_16 16 (dk_at dksX0_apart_6 22 rfl rfl)
theorem dX0_apart_167 : decode cX0_apart 167 = .ok (.iload_n 3, 1) := dk_29 (dk_at dksX0_apart_7 0 rfl rfl)
theorem dX0_apart_168 : decode cX0_apart 168 = .ok (.isub, 1) := dk_100 (dk_at dksX0_apart_7 1 rfl rfl)
theorem dX0_apart_169 : decode cX0_apart 169 = .ok (.i2l, 1) := dk_133 (dk_at dksX0_apart_7 2 rfl rfl)
theorem dX0_apart_170 : decode cX0_apart 170 = .ok (.lmul, 1) := dk_105 (dk_at dksX0_apart_7 3 rfl rfl)
theorem dX0_apart_171 : decode cX0_apart 171 = .ok (.lstore 9, 2) := dk_55 9 (dk_at dksX0_apart_7 4 rfl rfl)
theorem dX0_apart_173 : decode cX0_apart 173 = .ok (.lload 9, 2) := dk_22 9 (dk_at dksX0_apart_7 6 rfl rfl)
theorem dX0_apart_175 : decode cX0_apart 175 = .ok (.lconst 0, 1) := dk_9 (dk_at dksX0_apart_7 8 rfl rfl)
theorem dX0_apart_176 : decode cX0_apart 176 = .ok (.lcmp, 1) := dk_148 (dk_at dksX0_apart_7 9 rfl rfl)
theorem dX0_apart_177 : decode cX0_apart 177 = .ok (.ifCond .ne 6, 3) := dk_154 0 6 (dk_at dksX0_apart_7 10 rfl rfl)
theorem dX0_apart_180 : decode cX0_apart 180 = .ok (.goto 62, 3) := dk_167 0 62 (dk_at dksX0_apart_7 13 rfl rfl)
theorem dX0_apart_183 : decode cX0_apart 183 = .ok (.aload_n 0, 1) := dk_42 (dk_at dksX0_apart_7 16 rfl rfl)
theorem dX0_apart_184 : decode cX0_apart 184 = .ok (.iload 8, 2) := dk_21 8 (dk_at dksX0_apart_7 17 rfl rfl)
theorem dX0_apart_186 : decode cX0_apart 186 = .ok (.iconst 2, 1) := dk_5 (dk_at dksX0_apart_7 19 rfl rfl)
theorem dX0_apart_187 : decode cX0_apart 187 = .ok (.irem, 1) := dk_112 (dk_at dksX0_apart_7 20 rfl rfl)
theorem dX0_apart_188 : decode cX0_apart 188 = .ok (.ifCond .ne 7, 3) := dk_154 0 7 (dk_at dksX0_apart_7 21 rfl rfl)
theorem dX0_apart_191 : decode cX0_apart 191 = .ok (.iload_n 1, 1) := dk_27 (dk_at dksX0_apart_8 0 rfl rfl)
theorem dX0_apart_192 : decode cX0_apart 192 = .ok (.goto 4, 3) := dk_167 0 4 (dk_at dksX0_apart_8 1 rfl rfl)
theorem dX0_apart_195 : decode cX0_apart 195 = .ok (.iload_n 2, 1) := dk_28 (dk_at dksX0_apart_8 4 rfl rfl)
theorem dX0_apart_196 : decode cX0_apart 196 = .ok (.iload 8, 2) := dk_21 8 (dk_at dksX0_apart_8 5 rfl rfl)
theorem dX0_apart_198 : decode cX0_apart 198 = .ok (.iconst 2, 1) := dk_5 (dk_at dksX0_apart_8 7 rfl rfl)
theorem dX0_apart_199 : decode cX0_apart 199 = .ok (.if_icmp .ge 7, 3) := dk_162 0 7 (dk_at dksX0_apart_8 8 rfl rfl)
theorem dX0_apart_202 : decode cX0_apart 202 = .ok (.iload_n 1, 1) := dk_27 (dk_at dksX0_apart_8 11 rfl rfl)
theorem dX0_apart_203 : decode cX0_apart 203 = .ok (.goto 4, 3) := dk_167 0 4 (dk_at dksX0_apart_8 12 rfl rfl)
theorem dX0_apart_206 : decode cX0_apart 206 = .ok (.iload_n 2, 1) := dk_28 (dk_at dksX0_apart_8 15 rfl rfl)
theorem dX0_apart_207 : decode cX0_apart 207 = .ok (.iload 7, 2) := dk_21 7 (dk_at dksX0_apart_8 16 rfl rfl)
theorem dX0_apart_209 : decode cX0_apart 209 = .ok (.iload 4, 2) := dk_21 4 (dk_at dksX0_apart_8 18 rfl rfl)
theorem dX0_apart_211 : decode cX0_apart 211 = .ok (.invokevirtual 429, 3) := dk_182 1 173 (dk_at dksX0_apart_8 20 rfl rfl)
theorem dX0_apart_214 : decode cX0_apart 214 = .ok (.istore 11, 2) := dk_54 11 (dk_at dksX0_apart_9 0 rfl rfl)
theorem dX0_apart_216 : decode cX0_apart 216 = .ok (.iload 11, 2) := dk_21 11 (dk_at dksX0_apart_9 2 rfl rfl)
theorem dX0_apart_218 : decode cX0_apart 218 = .ok (.iconst (-1), 1) := dk_2 (dk_at dksX0_apart_9 4 rfl rfl)
theorem dX0_apart_219 : decode cX0_apart 219 = .ok (.if_icmp .eq 23, 3) := dk_159 0 23 (dk_at dksX0_apart_9 5 rfl rfl)
theorem dX0_apart_222 : decode cX0_apart 222 = .ok (.aload_n 0, 1) := dk_42 (dk_at dksX0_apart_9 8 rfl rfl)
theorem dX0_apart_223 : decode cX0_apart 223 = .ok (.getfield 118, 3) := dk_180 0 118 (dk_at dksX0_apart_9 9 rfl rfl)
theorem dX0_apart_226 : decode cX0_apart 226 = .ok (.iload 11, 2) := dk_21 11 (dk_at dksX0_apart_9 12 rfl rfl)
theorem dX0_apart_228 : decode cX0_apart 228 = .ok (.dup2, 1) := dk_92 (dk_at dksX0_apart_9 14 rfl rfl)
theorem dX0_apart_229 : decode cX0_apart 229 = .ok (.laload, 1) := dk_47 (dk_at dksX0_apart_9 15 rfl rfl)
theorem dX0_apart_230 : decode cX0_apart 230 = .ok (.aload_n 0, 1) := dk_42 (dk_at dksX0_apart_9 16 rfl rfl)
theorem dX0_apart_231 : decode cX0_apart 231 = .ok (.getfield 114, 3) := dk_180 0 114 (dk_at dksX0_apart_9 17 rfl rfl)
theorem dX0_apart_234 : decode cX0_apart 234 = .ok (.iload 7, 2) := dk_21 7 (dk_at dksX0_apart_9 20 rfl rfl)
theorem dX0_apart_236 : decode cX0_apart 236 = .ok (.laload, 1) := dk_47 (dk_at dksX0_apart_9 22 rfl rfl)
theorem dX0_apart_237 : decode cX0_apart 237 = .ok (.lload 9, 2) := dk_22 9 (dk_at dksX0_apart_10 0 rfl rfl)
theorem dX0_apart_239 : decode cX0_apart 239 = .ok (.lmul, 1) := dk_105 (dk_at dksX0_apart_10 2 rfl rfl)
theorem dX0_apart_240 : decode cX0_apart 240 = .ok (.ladd, 1) := dk_97 (dk_at dksX0_apart_10 3 rfl rfl)
theorem dX0_apart_241 : decode cX0_apart 241 = .ok (.lastore, 1) := dk_80 (dk_at dksX0_apart_10 4 rfl rfl)
theorem dX0_apart_242 : decode cX0_apart 242 = .ok (.iinc 8 1, 3) := dk_132 8 1 (dk_at dksX0_apart_10 5 rfl rfl)
theorem dX0_apart_245 : decode cX0_apart 245 = .ok (.goto (-124), 3) := dk_167 255 132 (dk_at dksX0_apart_10 8 rfl rfl)
theorem dX0_apart_248 : decode cX0_apart 248 = .ok (.iinc 7 1, 3) := dk_132 7 1 (dk_at dksX0_apart_10 11 rfl rfl)
theorem dX0_apart_251 : decode cX0_apart 251 = .ok (.goto (-140), 3) := dk_167 255 116 (dk_at dksX0_apart_10 14 rfl rfl)
theorem dX0_apart_254 : decode cX0_apart 254 = .ok (.aload_n 0, 1) := dk_42 (dk_at dksX0_apart_10 17 rfl rfl)
theorem dX0_apart_255 : decode cX0_apart 255 = .ok (.getfield 118, 3) := dk_180 0 118 (dk_at dksX0_apart_10 18 rfl rfl)
theorem dX0_apart_258 : decode cX0_apart 258 = .ok (.iconst 0, 1) := dk_3 (dk_at dksX0_apart_10 21 rfl rfl)
theorem dX0_apart_259 : decode cX0_apart 259 = .ok (.aload_n 0, 1) := dk_42 (dk_at dksX0_apart_10 22 rfl rfl)
theorem dX0_apart_260 : decode cX0_apart 260 = .ok (.getfield 114, 3) := dk_180 0 114 (dk_at dksX0_apart_11 0 rfl rfl)
theorem dX0_apart_263 : decode cX0_apart 263 = .ok (.iconst 0, 1) := dk_3 (dk_at dksX0_apart_11 3 rfl rfl)
theorem dX0_apart_264 : decode cX0_apart 264 = .ok (.bipush 64, 2) := dk_16 64 (dk_at dksX0_apart_11 4 rfl rfl)
theorem dX0_apart_266 : decode cX0_apart 266 = .ok (.invokestatic 192, 3) := dk_184 0 192 (dk_at dksX0_apart_11 6 rfl rfl)
theorem dX0_apart_269 : decode cX0_apart 269 = .ok (.iinc 6 1, 3) := dk_132 6 1 (dk_at dksX0_apart_11 9 rfl rfl)
theorem dX0_apart_272 : decode cX0_apart 272 = .ok (.goto (-195), 3) := dk_167 255 61 (dk_at dksX0_apart_11 12 rfl rfl)
theorem dX0_apart_275 : decode cX0_apart 275 = .ok (.lconst 0, 1) := dk_9 (dk_at dksX0_apart_11 15 rfl rfl)
theorem dX0_apart_276 : decode cX0_apart 276 = .ok (.lstore 6, 2) := dk_55 6 (dk_at dksX0_apart_11 16 rfl rfl)
theorem dX0_apart_278 : decode cX0_apart 278 = .ok (.iconst 0, 1) := dk_3 (dk_at dksX0_apart_11 18 rfl rfl)
theorem dX0_apart_279 : decode cX0_apart 279 = .ok (.istore 8, 2) := dk_54 8 (dk_at dksX0_apart_11 19 rfl rfl)
theorem dX0_apart_281 : decode cX0_apart 281 = .ok (.iload 8, 2) := dk_21 8 (dk_at dksX0_apart_11 21 rfl rfl)
theorem dX0_apart_283 : decode cX0_apart 283 = .ok (.bipush 64, 2) := dk_16 64 (dk_at dksX0_apart_12 0 rfl rfl)
theorem dX0_apart_285 : decode cX0_apart 285 = .ok (.if_icmp .ge 21, 3) := dk_162 0 21 (dk_at dksX0_apart_12 2 rfl rfl)
theorem dX0_apart_288 : decode cX0_apart 288 = .ok (.lload 6, 2) := dk_22 6 (dk_at dksX0_apart_12 5 rfl rfl)
theorem dX0_apart_290 : decode cX0_apart 290 = .ok (.aload_n 0, 1) := dk_42 (dk_at dksX0_apart_12 7 rfl rfl)
theorem dX0_apart_291 : decode cX0_apart 291 = .ok (.getfield 114, 3) := dk_180 0 114 (dk_at dksX0_apart_12 8 rfl rfl)
theorem dX0_apart_294 : decode cX0_apart 294 = .ok (.iload 8, 2) := dk_21 8 (dk_at dksX0_apart_12 11 rfl rfl)
theorem dX0_apart_296 : decode cX0_apart 296 = .ok (.laload, 1) := dk_47 (dk_at dksX0_apart_12 13 rfl rfl)
theorem dX0_apart_297 : decode cX0_apart 297 = .ok (.ladd, 1) := dk_97 (dk_at dksX0_apart_12 14 rfl rfl)
theorem dX0_apart_298 : decode cX0_apart 298 = .ok (.lstore 6, 2) := dk_55 6 (dk_at dksX0_apart_12 15 rfl rfl)
theorem dX0_apart_300 : decode cX0_apart 300 = .ok (.iinc 8 1, 3) := dk_132 8 1 (dk_at dksX0_apart_12 17 rfl rfl)
theorem dX0_apart_303 : decode cX0_apart 303 = .ok (.goto (-22), 3) := dk_167 255 234 (dk_at dksX0_apart_12 20 rfl rfl)
theorem dX0_apart_306 : decode cX0_apart 306 = .ok (.lload 6, 2) := dk_22 6 (dk_at dksX0_apart_13 0 rfl rfl)
theorem dX0_apart_308 : decode cX0_apart 308 = .ok (.lreturn, 1) := dk_173 (dk_at dksX0_apart_13 2 rfl rfl)
abbrev cX0_walks : ByteArray := prog_1_method_56_code
def yX0_walks : MethodName := ⟨RX0, "walks", "(IIII)I"⟩
def dkwX0_walks_6 : List UInt8 := [180, 0, 44, 180, 1, 55, 180, 1, 4, 96, 172]
abbrev dktX0_walks_6 : List UInt8 := dkwX0_walks_6 ++ []
def dkwX0_walks_5 : List UInt8 := [2, 172, 132, 5, 1, 167, 255, 187, 16, 8, 42, 180, 0, 40, 180, 1, 55, 180, 1, 4, 104, 42]
abbrev dktX0_walks_5 : List UInt8 := dkwX0_walks_5 ++ dktX0_walks_6
def dkwX0_walks_4 : List UInt8 := [180, 0, 44, 42, 180, 0, 44, 182, 1, 86, 181, 1, 55, 42, 25, 6, 25, 7, 182, 1, 89, 153, 0, 5]
abbrev dktX0_walks_4 : List UInt8 := dkwX0_walks_4 ++ dktX0_walks_5
def dkwX0_walks_3 : List UInt8 := [180, 0, 44, 180, 1, 55, 58, 7, 42, 180, 0, 40, 42, 180, 0, 40, 182, 1, 86, 181, 1, 55, 42]
abbrev dktX0_walks_3 : List UInt8 := dkwX0_walks_3 ++ dktX0_walks_4
def dkwX0_walks_2 : List UInt8 := [50, 182, 1, 65, 3, 54, 5, 21, 5, 21, 4, 162, 0, 68, 42, 180, 0, 40, 180, 1, 55, 58, 6, 42]
abbrev dktX0_walks_2 : List UInt8 := dkwX0_walks_2 ++ dktX0_walks_3
def dkwX0_walks_1 : List UInt8 := [182, 1, 65, 42, 180, 0, 44, 42, 180, 0, 33, 28, 50, 42, 180, 0, 57, 180, 0, 240, 29, 16, 8, 112]
abbrev dktX0_walks_1 : List UInt8 := dkwX0_walks_1 ++ dktX0_walks_2
def dkwX0_walks_0 : List UInt8 := [42, 180, 0, 40, 42, 180, 0, 33, 27, 50, 42, 180, 0, 57, 180, 0, 240, 29, 16, 8, 108, 50]
abbrev dktX0_walks_0 : List UInt8 := dkwX0_walks_0 ++ dktX0_walks_1
theorem dksX0_walks_0 : cX0_walks.data.toList.drop 0 = dktX0_walks_0 := by decide +kernel
theorem dksX0_walks_1 : cX0_walks.data.toList.drop 22 = dktX0_walks_1 := dk_seg dksX0_walks_0 22 rfl rfl
theorem dksX0_walks_2 : cX0_walks.data.toList.drop 46 = dktX0_walks_2 := dk_seg dksX0_walks_1 24 rfl rfl
theorem dksX0_walks_3 : cX0_walks.data.toList.drop 70 = dktX0_walks_3 := dk_seg dksX0_walks_2 24 rfl rfl
theorem dksX0_walks_4 : cX0_walks.data.toList.drop 93 = dktX0_walks_4 := dk_seg dksX0_walks_3 23 rfl rfl
theorem dksX0_walks_5 : cX0_walks.data.toList.drop 117 = dktX0_walks_5 := dk_seg dksX0_walks_4 24 rfl rfl
theorem dksX0_walks_6 : cX0_walks.data.toList.drop 139 = dktX0_walks_6 := dk_seg dksX0_walks_5 22 rfl rfl
theorem dX0_walks_0 : decode cX0_walks 0 = .ok (.aload_n 0, 1) := dk_42 (dk_at dksX0_walks_0 0 rfl rfl)
theorem dX0_walks_1 : decode cX0_walks 1 = .ok (.getfield 40, 3) := dk_180 0 40 (dk_at dksX0_walks_0 1 rfl rfl)
theorem dX0_walks_4 : decode cX0_walks 4 = .ok (.aload_n 0, 1) := dk_42 (dk_at dksX0_walks_0 4 rfl rfl)
theorem dX0_walks_5 : decode cX0_walks 5 = .ok (.getfield 33, 3) := dk_180 0 33 (dk_at dksX0_walks_0 5 rfl rfl)
theorem dX0_walks_8 : decode cX0_walks 8 = .ok (.iload_n 1, 1) := dk_27 (dk_at dksX0_walks_0 8 rfl rfl)
theorem dX0_walks_9 : decode cX0_walks 9 = .ok (.aaload, 1) := dk_50 (dk_at dksX0_walks_0 9 rfl rfl)
theorem dX0_walks_10 : decode cX0_walks 10 = .ok (.aload_n 0, 1) := dk_42 (dk_at dksX0_walks_0 10 rfl rfl)
theorem dX0_walks_11 : decode cX0_walks 11 = .ok (.getfield 57, 3) := dk_180 0 57 (dk_at dksX0_walks_0 11 rfl rfl)
theorem dX0_walks_14 : decode cX0_walks 14 = .ok (.getfield 240, 3) := dk_180 0 240 (dk_at dksX0_walks_0 14 rfl rfl)
theorem dX0_walks_17 : decode cX0_walks 17 = .ok (.iload_n 3, 1) := dk_29 (dk_at dksX0_walks_0 17 rfl rfl)
theorem dX0_walks_18 : decode cX0_walks 18 = .ok (.bipush 8, 2) := dk_16 8 (dk_at dksX0_walks_0 18 rfl rfl)
theorem dX0_walks_20 : decode cX0_walks 20 = .ok (.idiv, 1) := dk_108 (dk_at dksX0_walks_0 20 rfl rfl)
theorem dX0_walks_21 : decode cX0_walks 21 = .ok (.aaload, 1) := dk_50 (dk_at dksX0_walks_0 21 rfl rfl)
theorem dX0_walks_22 : decode cX0_walks 22 = .ok (.invokevirtual 321, 3) := dk_182 1 65 (dk_at dksX0_walks_1 0 rfl rfl)
theorem dX0_walks_25 : decode cX0_walks 25 = .ok (.aload_n 0, 1) := dk_42 (dk_at dksX0_walks_1 3 rfl rfl)
theorem dX0_walks_26 : decode cX0_walks 26 = .ok (.getfield 44, 3) := dk_180 0 44 (dk_at dksX0_walks_1 4 rfl rfl)
theorem dX0_walks_29 : decode cX0_walks 29 = .ok (.aload_n 0, 1) := dk_42 (dk_at dksX0_walks_1 7 rfl rfl)
theorem dX0_walks_30 : decode cX0_walks 30 = .ok (.getfield 33, 3) := dk_180 0 33 (dk_at dksX0_walks_1 8 rfl rfl)
theorem dX0_walks_33 : decode cX0_walks 33 = .ok (.iload_n 2, 1) := dk_28 (dk_at dksX0_walks_1 11 rfl rfl)
theorem dX0_walks_34 : decode cX0_walks 34 = .ok (.aaload, 1) := dk_50 (dk_at dksX0_walks_1 12 rfl rfl)
theorem dX0_walks_35 : decode cX0_walks 35 = .ok (.aload_n 0, 1) := dk_42 (dk_at dksX0_walks_1 13 rfl rfl)
theorem dX0_walks_36 : decode cX0_walks 36 = .ok (.getfield 57, 3) := dk_180 0 57 (dk_at dksX0_walks_1 14 rfl rfl)
theorem dX0_walks_39 : decode cX0_walks 39 = .ok (.getfield 240, 3) := dk_180 0 240 (dk_at dksX0_walks_1 17 rfl rfl)
theorem dX0_walks_42 : decode cX0_walks 42 = .ok (.iload_n 3, 1) := dk_29 (dk_at dksX0_walks_1 20 rfl rfl)
theorem dX0_walks_43 : decode cX0_walks 43 = .ok (.bipush 8, 2) := dk_16 8 (dk_at dksX0_walks_1 21 rfl rfl)
theorem dX0_walks_45 : decode cX0_walks 45 = .ok (.irem, 1) := dk_112 (dk_at dksX0_walks_1 23 rfl rfl)
theorem dX0_walks_46 : decode cX0_walks 46 = .ok (.aaload, 1) := dk_50 (dk_at dksX0_walks_2 0 rfl rfl)
theorem dX0_walks_47 : decode cX0_walks 47 = .ok (.invokevirtual 321, 3) := dk_182 1 65 (dk_at dksX0_walks_2 1 rfl rfl)
theorem dX0_walks_50 : decode cX0_walks 50 = .ok (.iconst 0, 1) := dk_3 (dk_at dksX0_walks_2 4 rfl rfl)
theorem dX0_walks_51 : decode cX0_walks 51 = .ok (.istore 5, 2) := dk_54 5 (dk_at dksX0_walks_2 5 rfl rfl)
theorem dX0_walks_53 : decode cX0_walks 53 = .ok (.iload 5, 2) := dk_21 5 (dk_at dksX0_walks_2 7 rfl rfl)
theorem dX0_walks_55 : decode cX0_walks 55 = .ok (.iload 4, 2) := dk_21 4 (dk_at dksX0_walks_2 9 rfl rfl)
theorem dX0_walks_57 : decode cX0_walks 57 = .ok (.if_icmp .ge 68, 3) := dk_162 0 68 (dk_at dksX0_walks_2 11 rfl rfl)
theorem dX0_walks_60 : decode cX0_walks 60 = .ok (.aload_n 0, 1) := dk_42 (dk_at dksX0_walks_2 14 rfl rfl)
theorem dX0_walks_61 : decode cX0_walks 61 = .ok (.getfield 40, 3) := dk_180 0 40 (dk_at dksX0_walks_2 15 rfl rfl)
theorem dX0_walks_64 : decode cX0_walks 64 = .ok (.getfield 311, 3) := dk_180 1 55 (dk_at dksX0_walks_2 18 rfl rfl)
theorem dX0_walks_67 : decode cX0_walks 67 = .ok (.astore 6, 2) := dk_58 6 (dk_at dksX0_walks_2 21 rfl rfl)
theorem dX0_walks_69 : decode cX0_walks 69 = .ok (.aload_n 0, 1) := dk_42 (dk_at dksX0_walks_2 23 rfl rfl)
theorem dX0_walks_70 : decode cX0_walks 70 = .ok (.getfield 44, 3) := dk_180 0 44 (dk_at dksX0_walks_3 0 rfl rfl)
theorem dX0_walks_73 : decode cX0_walks 73 = .ok (.getfield 311, 3) := dk_180 1 55 (dk_at dksX0_walks_3 3 rfl rfl)
theorem dX0_walks_76 : decode cX0_walks 76 = .ok (.astore 7, 2) := dk_58 7 (dk_at dksX0_walks_3 6 rfl rfl)
theorem dX0_walks_78 : decode cX0_walks 78 = .ok (.aload_n 0, 1) := dk_42 (dk_at dksX0_walks_3 8 rfl rfl)
theorem dX0_walks_79 : decode cX0_walks 79 = .ok (.getfield 40, 3) := dk_180 0 40 (dk_at dksX0_walks_3 9 rfl rfl)
theorem dX0_walks_82 : decode cX0_walks 82 = .ok (.aload_n 0, 1) := dk_42 (dk_at dksX0_walks_3 12 rfl rfl)
theorem dX0_walks_83 : decode cX0_walks 83 = .ok (.getfield 40, 3) := dk_180 0 40 (dk_at dksX0_walks_3 13 rfl rfl)
theorem dX0_walks_86 : decode cX0_walks 86 = .ok (.invokevirtual 342, 3) := dk_182 1 86 (dk_at dksX0_walks_3 16 rfl rfl)
theorem dX0_walks_89 : decode cX0_walks 89 = .ok (.putfield 311, 3) := dk_181 1 55 (dk_at dksX0_walks_3 19 rfl rfl)
theorem dX0_walks_92 : decode cX0_walks 92 = .ok (.aload_n 0, 1) := dk_42 (dk_at dksX0_walks_3 22 rfl rfl)
theorem dX0_walks_93 : decode cX0_walks 93 = .ok (.getfield 44, 3) := dk_180 0 44 (dk_at dksX0_walks_4 0 rfl rfl)
theorem dX0_walks_96 : decode cX0_walks 96 = .ok (.aload_n 0, 1) := dk_42 (dk_at dksX0_walks_4 3 rfl rfl)
theorem dX0_walks_97 : decode cX0_walks 97 = .ok (.getfield 44, 3) := dk_180 0 44 (dk_at dksX0_walks_4 4 rfl rfl)
theorem dX0_walks_100 : decode cX0_walks 100 = .ok (.invokevirtual 342, 3) := dk_182 1 86 (dk_at dksX0_walks_4 7 rfl rfl)
theorem dX0_walks_103 : decode cX0_walks 103 = .ok (.putfield 311, 3) := dk_181 1 55 (dk_at dksX0_walks_4 10 rfl rfl)
theorem dX0_walks_106 : decode cX0_walks 106 = .ok (.aload_n 0, 1) := dk_42 (dk_at dksX0_walks_4 13 rfl rfl)
theorem dX0_walks_107 : decode cX0_walks 107 = .ok (.aload 6, 2) := dk_25 6 (dk_at dksX0_walks_4 14 rfl rfl)
theorem dX0_walks_109 : decode cX0_walks 109 = .ok (.aload 7, 2) := dk_25 7 (dk_at dksX0_walks_4 16 rfl rfl)
theorem dX0_walks_111 : decode cX0_walks 111 = .ok (.invokevirtual 345, 3) := dk_182 1 89 (dk_at dksX0_walks_4 18 rfl rfl)
theorem dX0_walks_114 : decode cX0_walks 114 = .ok (.ifCond .eq 5, 3) := dk_153 0 5 (dk_at dksX0_walks_4 21 rfl rfl)
theorem dX0_walks_117 : decode cX0_walks 117 = .ok (.iconst (-1), 1) := dk_2 (dk_at dksX0_walks_5 0 rfl rfl)
theorem dX0_walks_118 : decode cX0_walks 118 = .ok (.ireturn, 1) := dk_172 (dk_at dksX0_walks_5 1 rfl rfl)
theorem dX0_walks_119 : decode cX0_walks 119 = .ok (.iinc 5 1, 3) := dk_132 5 1 (dk_at dksX0_walks_5 2 rfl rfl)
theorem dX0_walks_122 : decode cX0_walks 122 = .ok (.goto (-69), 3) := dk_167 255 187 (dk_at dksX0_walks_5 5 rfl rfl)
theorem dX0_walks_125 : decode cX0_walks 125 = .ok (.bipush 8, 2) := dk_16 8 (dk_at dksX0_walks_5 8 rfl rfl)
theorem dX0_walks_127 : decode cX0_walks 127 = .ok (.aload_n 0, 1) := dk_42 (dk_at dksX0_walks_5 10 rfl rfl)
theorem dX0_walks_128 : decode cX0_walks 128 = .ok (.getfield 40, 3) := dk_180 0 40 (dk_at dksX0_walks_5 11 rfl rfl)
theorem dX0_walks_131 : decode cX0_walks 131 = .ok (.getfield 311, 3) := dk_180 1 55 (dk_at dksX0_walks_5 14 rfl rfl)
theorem dX0_walks_134 : decode cX0_walks 134 = .ok (.getfield 260, 3) := dk_180 1 4 (dk_at dksX0_walks_5 17 rfl rfl)
theorem dX0_walks_137 : decode cX0_walks 137 = .ok (.imul, 1) := dk_104 (dk_at dksX0_walks_5 20 rfl rfl)
theorem dX0_walks_138 : decode cX0_walks 138 = .ok (.aload_n 0, 1) := dk_42 (dk_at dksX0_walks_5 21 rfl rfl)
theorem dX0_walks_139 : decode cX0_walks 139 = .ok (.getfield 44, 3) := dk_180 0 44 (dk_at dksX0_walks_6 0 rfl rfl)
theorem dX0_walks_142 : decode cX0_walks 142 = .ok (.getfield 311, 3) := dk_180 1 55 (dk_at dksX0_walks_6 3 rfl rfl)
theorem dX0_walks_145 : decode cX0_walks 145 = .ok (.getfield 260, 3) := dk_180 1 4 (dk_at dksX0_walks_6 6 rfl rfl)
theorem dX0_walks_148 : decode cX0_walks 148 = .ok (.iadd, 1) := dk_96 (dk_at dksX0_walks_6 9 rfl rfl)
theorem dX0_walks_149 : decode cX0_walks 149 = .ok (.ireturn, 1) := dk_172 (dk_at dksX0_walks_6 10 rfl rfl)
abbrev cX0_tellMet : ByteArray := prog_1_method_59_code
def yX0_tellMet : MethodName := ⟨RX0, "tellMet", "(JI)Z"⟩
def dkwX0_tellMet_0 : List UInt8 := [42, 182, 1, 121, 16, 8, 29, 104, 121, 55, 4, 42, 22, 4, 31, 101, 22, 4, 182, 1, 125, 172]
abbrev dktX0_tellMet_0 : List UInt8 := dkwX0_tellMet_0 ++ []
theorem dksX0_tellMet_0 : cX0_tellMet.data.toList.drop 0 = dktX0_tellMet_0 := by decide +kernel
theorem dX0_tellMet_0 : decode cX0_tellMet 0 = .ok (.aload_n 0, 1) := dk_42 (dk_at dksX0_tellMet_0 0 rfl rfl)
theorem dX0_tellMet_1 : decode cX0_tellMet 1 = .ok (.invokevirtual 377, 3) := dk_182 1 121 (dk_at dksX0_tellMet_0 1 rfl rfl)
theorem dX0_tellMet_4 : decode cX0_tellMet 4 = .ok (.bipush 8, 2) := dk_16 8 (dk_at dksX0_tellMet_0 4 rfl rfl)
theorem dX0_tellMet_6 : decode cX0_tellMet 6 = .ok (.iload_n 3, 1) := dk_29 (dk_at dksX0_tellMet_0 6 rfl rfl)
theorem dX0_tellMet_7 : decode cX0_tellMet 7 = .ok (.imul, 1) := dk_104 (dk_at dksX0_tellMet_0 7 rfl rfl)
theorem dX0_tellMet_8 : decode cX0_tellMet 8 = .ok (.lshl, 1) := dk_121 (dk_at dksX0_tellMet_0 8 rfl rfl)
theorem dX0_tellMet_9 : decode cX0_tellMet 9 = .ok (.lstore 4, 2) := dk_55 4 (dk_at dksX0_tellMet_0 9 rfl rfl)
theorem dX0_tellMet_11 : decode cX0_tellMet 11 = .ok (.aload_n 0, 1) := dk_42 (dk_at dksX0_tellMet_0 11 rfl rfl)
theorem dX0_tellMet_12 : decode cX0_tellMet 12 = .ok (.lload 4, 2) := dk_22 4 (dk_at dksX0_tellMet_0 12 rfl rfl)
theorem dX0_tellMet_14 : decode cX0_tellMet 14 = .ok (.lload_n 1, 1) := dk_31 (dk_at dksX0_tellMet_0 14 rfl rfl)
theorem dX0_tellMet_15 : decode cX0_tellMet 15 = .ok (.lsub, 1) := dk_101 (dk_at dksX0_tellMet_0 15 rfl rfl)
theorem dX0_tellMet_16 : decode cX0_tellMet 16 = .ok (.lload 4, 2) := dk_22 4 (dk_at dksX0_tellMet_0 16 rfl rfl)
theorem dX0_tellMet_18 : decode cX0_tellMet 18 = .ok (.invokevirtual 381, 3) := dk_182 1 125 (dk_at dksX0_tellMet_0 18 rfl rfl)
theorem dX0_tellMet_21 : decode cX0_tellMet 21 = .ok (.ireturn, 1) := dk_172 (dk_at dksX0_tellMet_0 21 rfl rfl)
abbrev cX0_bestDrawn : ByteArray := prog_1_method_61_code
def yX0_bestDrawn : MethodName := ⟨RX0, "bestDrawn", "(IIII)I"⟩
def dkwX0_bestDrawn_4 : List UInt8 := [182, 1, 184, 87, 42, 21, 6, 182, 0, 234, 172]
abbrev dktX0_bestDrawn_4 : List UInt8 := dkwX0_bestDrawn_4 ++ []
def dkwX0_bestDrawn_3 : List UInt8 := [167, 0, 11, 22, 10, 55, 7, 21, 9, 54, 6, 132, 9, 1, 167, 255, 214, 42, 22, 7, 21, 4]
abbrev dktX0_bestDrawn_3 : List UInt8 := dkwX0_bestDrawn_3 ++ dktX0_bestDrawn_4
def dkwX0_bestDrawn_2 : List UInt8 := [163, 0, 41, 42, 27, 28, 21, 9, 29, 21, 4, 182, 1, 180, 55, 10, 22, 10, 22, 7, 148, 155, 0, 6]
abbrev dktX0_bestDrawn_2 : List UInt8 := dkwX0_bestDrawn_2 ++ dktX0_bestDrawn_3
def dkwX0_bestDrawn_1 : List UInt8 := [3, 54, 6, 42, 27, 28, 3, 29, 21, 4, 182, 1, 180, 55, 7, 4, 54, 9, 21, 9, 16, 16]
abbrev dktX0_bestDrawn_1 : List UInt8 := dkwX0_bestDrawn_1 ++ dktX0_bestDrawn_2
def dkwX0_bestDrawn_0 : List UInt8 := [42, 27, 28, 29, 21, 4, 4, 182, 1, 176, 54, 5, 21, 5, 158, 0, 10, 42, 21, 5, 182, 0, 176, 172]
abbrev dktX0_bestDrawn_0 : List UInt8 := dkwX0_bestDrawn_0 ++ dktX0_bestDrawn_1
theorem dksX0_bestDrawn_0 : cX0_bestDrawn.data.toList.drop 0 = dktX0_bestDrawn_0 := by decide +kernel
theorem dksX0_bestDrawn_1 : cX0_bestDrawn.data.toList.drop 24 = dktX0_bestDrawn_1 := dk_seg dksX0_bestDrawn_0 24 rfl rfl
theorem dksX0_bestDrawn_2 : cX0_bestDrawn.data.toList.drop 46 = dktX0_bestDrawn_2 := dk_seg dksX0_bestDrawn_1 22 rfl rfl
theorem dksX0_bestDrawn_3 : cX0_bestDrawn.data.toList.drop 70 = dktX0_bestDrawn_3 := dk_seg dksX0_bestDrawn_2 24 rfl rfl
theorem dksX0_bestDrawn_4 : cX0_bestDrawn.data.toList.drop 92 = dktX0_bestDrawn_4 := dk_seg dksX0_bestDrawn_3 22 rfl rfl
theorem dX0_bestDrawn_0 : decode cX0_bestDrawn 0 = .ok (.aload_n 0, 1) := dk_42 (dk_at dksX0_bestDrawn_0 0 rfl rfl)
theorem dX0_bestDrawn_1 : decode cX0_bestDrawn 1 = .ok (.iload_n 1, 1) := dk_27 (dk_at dksX0_bestDrawn_0 1 rfl rfl)
theorem dX0_bestDrawn_2 : decode cX0_bestDrawn 2 = .ok (.iload_n 2, 1) := dk_28 (dk_at dksX0_bestDrawn_0 2 rfl rfl)
theorem dX0_bestDrawn_3 : decode cX0_bestDrawn 3 = .ok (.iload_n 3, 1) := dk_29 (dk_at dksX0_bestDrawn_0 3 rfl rfl)
theorem dX0_bestDrawn_4 : decode cX0_bestDrawn 4 = .ok (.iload 4, 2) := dk_21 4 (dk_at dksX0_bestDrawn_0 4 rfl rfl)
theorem dX0_bestDrawn_6 : decode cX0_bestDrawn 6 = .ok (.iconst 1, 1) := dk_4 (dk_at dksX0_bestDrawn_0 6 rfl rfl)
theorem dX0_bestDrawn_7 : decode cX0_bestDrawn 7 = .ok (.invokevirtual 432, 3) := dk_182 1 176 (dk_at dksX0_bestDrawn_0 7 rfl rfl)
theorem dX0_bestDrawn_10 : decode cX0_bestDrawn 10 = .ok (.istore 5, 2) := dk_54 5 (dk_at dksX0_bestDrawn_0 10 rfl rfl)
theorem dX0_bestDrawn_12 : decode cX0_bestDrawn 12 = .ok (.iload 5, 2) := dk_21 5 (dk_at dksX0_bestDrawn_0 12 rfl rfl)
theorem dX0_bestDrawn_14 : decode cX0_bestDrawn 14 = .ok (.ifCond .le 10, 3) := dk_158 0 10 (dk_at dksX0_bestDrawn_0 14 rfl rfl)
theorem dX0_bestDrawn_17 : decode cX0_bestDrawn 17 = .ok (.aload_n 0, 1) := dk_42 (dk_at dksX0_bestDrawn_0 17 rfl rfl)
theorem dX0_bestDrawn_18 : decode cX0_bestDrawn 18 = .ok (.iload 5, 2) := dk_21 5 (dk_at dksX0_bestDrawn_0 18 rfl rfl)
theorem dX0_bestDrawn_20 : decode cX0_bestDrawn 20 = .ok (.invokevirtual 176, 3) := dk_182 0 176 (dk_at dksX0_bestDrawn_0 20 rfl rfl)
theorem dX0_bestDrawn_23 : decode cX0_bestDrawn 23 = .ok (.ireturn, 1) := dk_172 (dk_at dksX0_bestDrawn_0 23 rfl rfl)
theorem dX0_bestDrawn_24 : decode cX0_bestDrawn 24 = .ok (.iconst 0, 1) := dk_3 (dk_at dksX0_bestDrawn_1 0 rfl rfl)
theorem dX0_bestDrawn_25 : decode cX0_bestDrawn 25 = .ok (.istore 6, 2) := dk_54 6 (dk_at dksX0_bestDrawn_1 1 rfl rfl)
theorem dX0_bestDrawn_27 : decode cX0_bestDrawn 27 = .ok (.aload_n 0, 1) := dk_42 (dk_at dksX0_bestDrawn_1 3 rfl rfl)
theorem dX0_bestDrawn_28 : decode cX0_bestDrawn 28 = .ok (.iload_n 1, 1) := dk_27 (dk_at dksX0_bestDrawn_1 4 rfl rfl)
theorem dX0_bestDrawn_29 : decode cX0_bestDrawn 29 = .ok (.iload_n 2, 1) := dk_28 (dk_at dksX0_bestDrawn_1 5 rfl rfl)
theorem dX0_bestDrawn_30 : decode cX0_bestDrawn 30 = .ok (.iconst 0, 1) := dk_3 (dk_at dksX0_bestDrawn_1 6 rfl rfl)
theorem dX0_bestDrawn_31 : decode cX0_bestDrawn 31 = .ok (.iload_n 3, 1) := dk_29 (dk_at dksX0_bestDrawn_1 7 rfl rfl)
theorem dX0_bestDrawn_32 : decode cX0_bestDrawn 32 = .ok (.iload 4, 2) := dk_21 4 (dk_at dksX0_bestDrawn_1 8 rfl rfl)
theorem dX0_bestDrawn_34 : decode cX0_bestDrawn 34 = .ok (.invokevirtual 436, 3) := dk_182 1 180 (dk_at dksX0_bestDrawn_1 10 rfl rfl)
theorem dX0_bestDrawn_37 : decode cX0_bestDrawn 37 = .ok (.lstore 7, 2) := dk_55 7 (dk_at dksX0_bestDrawn_1 13 rfl rfl)
theorem dX0_bestDrawn_39 : decode cX0_bestDrawn 39 = .ok (.iconst 1, 1) := dk_4 (dk_at dksX0_bestDrawn_1 15 rfl rfl)
theorem dX0_bestDrawn_40 : decode cX0_bestDrawn 40 = .ok (.istore 9, 2) := dk_54 9 (dk_at dksX0_bestDrawn_1 16 rfl rfl)
theorem dX0_bestDrawn_42 : decode cX0_bestDrawn 42 = .ok (.iload 9, 2) := dk_21 9 (dk_at dksX0_bestDrawn_1 18 rfl rfl)
theorem dX0_bestDrawn_44 : decode cX0_bestDrawn 44 = .ok (.bipush 16, 2) := dk_16 16 (dk_at dksX0_bestDrawn_1 20 rfl rfl)
theorem dX0_bestDrawn_46 : decode cX0_bestDrawn 46 = .ok (.if_icmp .gt 41, 3) := dk_163 0 41 (dk_at dksX0_bestDrawn_2 0 rfl rfl)
theorem dX0_bestDrawn_49 : decode cX0_bestDrawn 49 = .ok (.aload_n 0, 1) := dk_42 (dk_at dksX0_bestDrawn_2 3 rfl rfl)
theorem dX0_bestDrawn_50 : decode cX0_bestDrawn 50 = .ok (.iload_n 1, 1) := dk_27 (dk_at dksX0_bestDrawn_2 4 rfl rfl)
theorem dX0_bestDrawn_51 : decode cX0_bestDrawn 51 = .ok (.iload_n 2, 1) := dk_28 (dk_at dksX0_bestDrawn_2 5 rfl rfl)
theorem dX0_bestDrawn_52 : decode cX0_bestDrawn 52 = .ok (.iload 9, 2) := dk_21 9 (dk_at dksX0_bestDrawn_2 6 rfl rfl)
theorem dX0_bestDrawn_54 : decode cX0_bestDrawn 54 = .ok (.iload_n 3, 1) := dk_29 (dk_at dksX0_bestDrawn_2 8 rfl rfl)
theorem dX0_bestDrawn_55 : decode cX0_bestDrawn 55 = .ok (.iload 4, 2) := dk_21 4 (dk_at dksX0_bestDrawn_2 9 rfl rfl)
theorem dX0_bestDrawn_57 : decode cX0_bestDrawn 57 = .ok (.invokevirtual 436, 3) := dk_182 1 180 (dk_at dksX0_bestDrawn_2 11 rfl rfl)
theorem dX0_bestDrawn_60 : decode cX0_bestDrawn 60 = .ok (.lstore 10, 2) := dk_55 10 (dk_at dksX0_bestDrawn_2 14 rfl rfl)
theorem dX0_bestDrawn_62 : decode cX0_bestDrawn 62 = .ok (.lload 10, 2) := dk_22 10 (dk_at dksX0_bestDrawn_2 16 rfl rfl)
theorem dX0_bestDrawn_64 : decode cX0_bestDrawn 64 = .ok (.lload 7, 2) := dk_22 7 (dk_at dksX0_bestDrawn_2 18 rfl rfl)
theorem dX0_bestDrawn_66 : decode cX0_bestDrawn 66 = .ok (.lcmp, 1) := dk_148 (dk_at dksX0_bestDrawn_2 20 rfl rfl)
theorem dX0_bestDrawn_67 : decode cX0_bestDrawn 67 = .ok (.ifCond .lt 6, 3) := dk_155 0 6 (dk_at dksX0_bestDrawn_2 21 rfl rfl)
theorem dX0_bestDrawn_70 : decode cX0_bestDrawn 70 = .ok (.goto 11, 3) := dk_167 0 11 (dk_at dksX0_bestDrawn_3 0 rfl rfl)
theorem dX0_bestDrawn_73 : decode cX0_bestDrawn 73 = .ok (.lload 10, 2) := dk_22 10 (dk_at dksX0_bestDrawn_3 3 rfl rfl)
theorem dX0_bestDrawn_75 : decode cX0_bestDrawn 75 = .ok (.lstore 7, 2) := dk_55 7 (dk_at dksX0_bestDrawn_3 5 rfl rfl)
theorem dX0_bestDrawn_77 : decode cX0_bestDrawn 77 = .ok (.iload 9, 2) := dk_21 9 (dk_at dksX0_bestDrawn_3 7 rfl rfl)
theorem dX0_bestDrawn_79 : decode cX0_bestDrawn 79 = .ok (.istore 6, 2) := dk_54 6 (dk_at dksX0_bestDrawn_3 9 rfl rfl)
theorem dX0_bestDrawn_81 : decode cX0_bestDrawn 81 = .ok (.iinc 9 1, 3) := dk_132 9 1 (dk_at dksX0_bestDrawn_3 11 rfl rfl)
theorem dX0_bestDrawn_84 : decode cX0_bestDrawn 84 = .ok (.goto (-42), 3) := dk_167 255 214 (dk_at dksX0_bestDrawn_3 14 rfl rfl)
theorem dX0_bestDrawn_87 : decode cX0_bestDrawn 87 = .ok (.aload_n 0, 1) := dk_42 (dk_at dksX0_bestDrawn_3 17 rfl rfl)
theorem dX0_bestDrawn_88 : decode cX0_bestDrawn 88 = .ok (.lload 7, 2) := dk_22 7 (dk_at dksX0_bestDrawn_3 18 rfl rfl)
theorem dX0_bestDrawn_90 : decode cX0_bestDrawn 90 = .ok (.iload 4, 2) := dk_21 4 (dk_at dksX0_bestDrawn_3 20 rfl rfl)
theorem dX0_bestDrawn_92 : decode cX0_bestDrawn 92 = .ok (.invokevirtual 440, 3) := dk_182 1 184 (dk_at dksX0_bestDrawn_4 0 rfl rfl)
theorem dX0_bestDrawn_95 : decode cX0_bestDrawn 95 = .ok (.pop, 1) := dk_87 (dk_at dksX0_bestDrawn_4 3 rfl rfl)
theorem dX0_bestDrawn_96 : decode cX0_bestDrawn 96 = .ok (.aload_n 0, 1) := dk_42 (dk_at dksX0_bestDrawn_4 4 rfl rfl)
theorem dX0_bestDrawn_97 : decode cX0_bestDrawn 97 = .ok (.iload 6, 2) := dk_21 6 (dk_at dksX0_bestDrawn_4 5 rfl rfl)
theorem dX0_bestDrawn_99 : decode cX0_bestDrawn 99 = .ok (.invokevirtual 234, 3) := dk_182 0 234 (dk_at dksX0_bestDrawn_4 7 rfl rfl)
theorem dX0_bestDrawn_102 : decode cX0_bestDrawn 102 = .ok (.ireturn, 1) := dk_172 (dk_at dksX0_bestDrawn_4 10 rfl rfl)
abbrev cX0_three : ByteArray := prog_1_method_63_code
def yX0_three : MethodName := ⟨RX0, "three", "(IIII)I"⟩
def dkwX0_three_11 : List UInt8 := [167, 255, 166, 42, 16, 8, 182, 0, 176, 172]
abbrev dktX0_three_11 : List UInt8 := dkwX0_three_11 ++ []
def dkwX0_three_10 : List UInt8 := [180, 0, 125, 21, 9, 46, 50, 180, 1, 55, 181, 1, 55, 132, 9, 1, 167, 255, 197, 132, 8, 1]
abbrev dktX0_three_10 : List UInt8 := dkwX0_three_10 ++ dktX0_three_11
def dkwX0_three_9 : List UInt8 := [21, 9, 160, 0, 16, 42, 180, 0, 121, 21, 9, 50, 182, 1, 86, 167, 0, 18, 42, 180, 0, 121, 42]
abbrev dktX0_three_9 : List UInt8 := dkwX0_three_9 ++ dktX0_three_10
def dkwX0_three_8 : List UInt8 := [3, 54, 9, 21, 9, 6, 162, 0, 59, 42, 180, 0, 121, 21, 9, 50, 42, 180, 0, 125, 21, 9, 46]
abbrev dktX0_three_8 : List UInt8 := dkwX0_three_8 ++ dktX0_three_9
def dkwX0_three_7 : List UInt8 := [54, 8, 21, 8, 17, 0, 200, 163, 0, 88, 42, 182, 1, 188, 153, 0, 10, 42, 21, 8, 182, 0, 234, 172]
abbrev dktX0_three_7 : List UInt8 := dkwX0_three_7 ++ dktX0_three_8
def dkwX0_three_6 : List UInt8 := [180, 0, 47, 42, 180, 0, 33, 29, 50, 42, 180, 0, 57, 180, 0, 240, 21, 7, 50, 182, 1, 65, 3]
abbrev dktX0_three_6 : List UInt8 := dkwX0_three_6 ++ dktX0_three_7
def dkwX0_three_5 : List UInt8 := [180, 0, 44, 42, 180, 0, 33, 28, 50, 42, 180, 0, 57, 180, 0, 240, 21, 6, 50, 182, 1, 65, 42]
abbrev dktX0_three_5 : List UInt8 := dkwX0_three_5 ++ dktX0_three_6
def dkwX0_three_4 : List UInt8 := [180, 0, 40, 42, 180, 0, 33, 27, 50, 42, 180, 0, 57, 180, 0, 240, 21, 5, 50, 182, 1, 65, 42]
abbrev dktX0_three_4 : List UInt8 := dkwX0_three_4 ++ dktX0_three_5
def dkwX0_three_3 : List UInt8 := [21, 6, 182, 0, 237, 153, 0, 12, 42, 21, 7, 182, 0, 237, 154, 0, 9, 42, 5, 182, 0, 176, 172, 42]
abbrev dktX0_three_3 : List UInt8 := dkwX0_three_3 ++ dktX0_three_4
def dkwX0_three_2 : List UInt8 := [54, 6, 21, 4, 16, 10, 112, 54, 7, 21, 4, 155, 0, 30, 42, 21, 5, 182, 0, 237, 153, 0, 21, 42]
abbrev dktX0_three_2 : List UInt8 := dkwX0_three_2 ++ dktX0_three_3
def dkwX0_three_1 : List UInt8 := [154, 0, 9, 42, 5, 182, 0, 176, 172, 21, 4, 16, 100, 108, 54, 5, 21, 4, 16, 10, 108, 16, 10, 112]
abbrev dktX0_three_1 : List UInt8 := dkwX0_three_1 ++ dktX0_three_2
def dkwX0_three_0 : List UInt8 := [42, 27, 133, 182, 1, 93, 153, 0, 21, 42, 28, 133, 182, 1, 93, 153, 0, 12, 42, 29, 133, 182, 1, 93]
abbrev dktX0_three_0 : List UInt8 := dkwX0_three_0 ++ dktX0_three_1
theorem dksX0_three_0 : cX0_three.data.toList.drop 0 = dktX0_three_0 := by decide +kernel
theorem dksX0_three_1 : cX0_three.data.toList.drop 24 = dktX0_three_1 := dk_seg dksX0_three_0 24 rfl rfl
theorem dksX0_three_2 : cX0_three.data.toList.drop 48 = dktX0_three_2 := dk_seg dksX0_three_1 24 rfl rfl
theorem dksX0_three_3 : cX0_three.data.toList.drop 72 = dktX0_three_3 := dk_seg dksX0_three_2 24 rfl rfl
theorem dksX0_three_4 : cX0_three.data.toList.drop 96 = dktX0_three_4 := dk_seg dksX0_three_3 24 rfl rfl
theorem dksX0_three_5 : cX0_three.data.toList.drop 119 = dktX0_three_5 := dk_seg dksX0_three_4 23 rfl rfl
theorem dksX0_three_6 : cX0_three.data.toList.drop 142 = dktX0_three_6 := dk_seg dksX0_three_5 23 rfl rfl
theorem dksX0_three_7 : cX0_three.data.toList.drop 165 = dktX0_three_7 := dk_seg dksX0_three_6 23 rfl rfl
theorem dksX0_three_8 : cX0_three.data.toList.drop 189 = dktX0_three_8 := dk_seg dksX0_three_7 24 rfl rfl
theorem dksX0_three_9 : cX0_three.data.toList.drop 212 = dktX0_three_9 := dk_seg dksX0_three_8 23 rfl rfl
theorem dksX0_three_10 : cX0_three.data.toList.drop 235 = dktX0_three_10 := dk_seg dksX0_three_9 23 rfl rfl
theorem dksX0_three_11 : cX0_three.data.toList.drop 257 = dktX0_three_11 := dk_seg dksX0_three_10 22 rfl rfl
theorem dX0_three_0 : decode cX0_three 0 = .ok (.aload_n 0, 1) := dk_42 (dk_at dksX0_three_0 0 rfl rfl)
theorem dX0_three_1 : decode cX0_three 1 = .ok (.iload_n 1, 1) := dk_27 (dk_at dksX0_three_0 1 rfl rfl)
theorem dX0_three_2 : decode cX0_three 2 = .ok (.i2l, 1) := dk_133 (dk_at dksX0_three_0 2 rfl rfl)
theorem dX0_three_3 : decode cX0_three 3 = .ok (.invokevirtual 349, 3) := dk_182 1 93 (dk_at dksX0_three_0 3 rfl rfl)
theorem dX0_three_6 : decode cX0_three 6 = .ok (.ifCond .eq 21, 3) := dk_153 0 21 (dk_at dksX0_three_0 6 rfl rfl)
theorem dX0_three_9 : decode cX0_three 9 = .ok (.aload_n 0, 1) := dk_42 (dk_at dksX0_three_0 9 rfl rfl)
theorem dX0_three_10 : decode cX0_three 10 = .ok (.iload_n 2, 1) := dk_28 (dk_at dksX0_three_0 10 rfl rfl)
theorem dX0_three_11 : decode cX0_three 11 = .ok (.i2l, 1) := dk_133 (dk_at dksX0_three_0 11 rfl rfl)
theorem dX0_three_12 : decode cX0_three 12 = .ok (.invokevirtual 349, 3) := dk_182 1 93 (dk_at dksX0_three_0 12 rfl rfl)
theorem dX0_three_15 : decode cX0_three 15 = .ok (.ifCond .eq 12, 3) := dk_153 0 12 (dk_at dksX0_three_0 15 rfl rfl)
theorem dX0_three_18 : decode cX0_three 18 = .ok (.aload_n 0, 1) := dk_42 (dk_at dksX0_three_0 18 rfl rfl)
theorem dX0_three_19 : decode cX0_three 19 = .ok (.iload_n 3, 1) := dk_29 (dk_at dksX0_three_0 19 rfl rfl)
theorem dX0_three_20 : decode cX0_three 20 = .ok (.i2l, 1) := dk_133 (dk_at dksX0_three_0 20 rfl rfl)
theorem dX0_three_21 : decode cX0_three 21 = .ok (.invokevirtual 349, 3) := dk_182 1 93 (dk_at dksX0_three_0 21 rfl rfl)
theorem dX0_three_24 : decode cX0_three 24 = .ok (.ifCond .ne 9, 3) := dk_154 0 9 (dk_at dksX0_three_1 0 rfl rfl)
theorem dX0_three_27 : decode cX0_three 27 = .ok (.aload_n 0, 1) := dk_42 (dk_at dksX0_three_1 3 rfl rfl)
theorem dX0_three_28 : decode cX0_three 28 = .ok (.iconst 2, 1) := dk_5 (dk_at dksX0_three_1 4 rfl rfl)
theorem dX0_three_29 : decode cX0_three 29 = .ok (.invokevirtual 176, 3) := dk_182 0 176 (dk_at dksX0_three_1 5 rfl rfl)
theorem dX0_three_32 : decode cX0_three 32 = .ok (.ireturn, 1) := dk_172 (dk_at dksX0_three_1 8 rfl rfl)
theorem dX0_three_33 : decode cX0_three 33 = .ok (.iload 4, 2) := dk_21 4 (dk_at dksX0_three_1 9 rfl rfl)
theorem dX0_three_35 : decode cX0_three 35 = .ok (.bipush 100, 2) := dk_16 100 (dk_at dksX0_three_1 11 rfl rfl)
theorem dX0_three_37 : decode cX0_three 37 = .ok (.idiv, 1) := dk_108 (dk_at dksX0_three_1 13 rfl rfl)
theorem dX0_three_38 : decode cX0_three 38 = .ok (.istore 5, 2) := dk_54 5 (dk_at dksX0_three_1 14 rfl rfl)
theorem dX0_three_40 : decode cX0_three 40 = .ok (.iload 4, 2) := dk_21 4 (dk_at dksX0_three_1 16 rfl rfl)
theorem dX0_three_42 : decode cX0_three 42 = .ok (.bipush 10, 2) := dk_16 10 (dk_at dksX0_three_1 18 rfl rfl)
theorem dX0_three_44 : decode cX0_three 44 = .ok (.idiv, 1) := dk_108 (dk_at dksX0_three_1 20 rfl rfl)
theorem dX0_three_45 : decode cX0_three 45 = .ok (.bipush 10, 2) := dk_16 10 (dk_at dksX0_three_1 21 rfl rfl)
theorem dX0_three_47 : decode cX0_three 47 = .ok (.irem, 1) := dk_112 (dk_at dksX0_three_1 23 rfl rfl)
theorem dX0_three_48 : decode cX0_three 48 = .ok (.istore 6, 2) := dk_54 6 (dk_at dksX0_three_2 0 rfl rfl)
theorem dX0_three_50 : decode cX0_three 50 = .ok (.iload 4, 2) := dk_21 4 (dk_at dksX0_three_2 2 rfl rfl)
theorem dX0_three_52 : decode cX0_three 52 = .ok (.bipush 10, 2) := dk_16 10 (dk_at dksX0_three_2 4 rfl rfl)
theorem dX0_three_54 : decode cX0_three 54 = .ok (.irem, 1) := dk_112 (dk_at dksX0_three_2 6 rfl rfl)
theorem dX0_three_55 : decode cX0_three 55 = .ok (.istore 7, 2) := dk_54 7 (dk_at dksX0_three_2 7 rfl rfl)
theorem dX0_three_57 : decode cX0_three 57 = .ok (.iload 4, 2) := dk_21 4 (dk_at dksX0_three_2 9 rfl rfl)
theorem dX0_three_59 : decode cX0_three 59 = .ok (.ifCond .lt 30, 3) := dk_155 0 30 (dk_at dksX0_three_2 11 rfl rfl)
theorem dX0_three_62 : decode cX0_three 62 = .ok (.aload_n 0, 1) := dk_42 (dk_at dksX0_three_2 14 rfl rfl)
theorem dX0_three_63 : decode cX0_three 63 = .ok (.iload 5, 2) := dk_21 5 (dk_at dksX0_three_2 15 rfl rfl)
theorem dX0_three_65 : decode cX0_three 65 = .ok (.invokevirtual 237, 3) := dk_182 0 237 (dk_at dksX0_three_2 17 rfl rfl)
theorem dX0_three_68 : decode cX0_three 68 = .ok (.ifCond .eq 21, 3) := dk_153 0 21 (dk_at dksX0_three_2 20 rfl rfl)
theorem dX0_three_71 : decode cX0_three 71 = .ok (.aload_n 0, 1) := dk_42 (dk_at dksX0_three_2 23 rfl rfl)
theorem dX0_three_72 : decode cX0_three 72 = .ok (.iload 6, 2) := dk_21 6 (dk_at dksX0_three_3 0 rfl rfl)
theorem dX0_three_74 : decode cX0_three 74 = .ok (.invokevirtual 237, 3) := dk_182 0 237 (dk_at dksX0_three_3 2 rfl rfl)
theorem dX0_three_77 : decode cX0_three 77 = .ok (.ifCond .eq 12, 3) := dk_153 0 12 (dk_at dksX0_three_3 5 rfl rfl)
theorem dX0_three_80 : decode cX0_three 80 = .ok (.aload_n 0, 1) := dk_42 (dk_at dksX0_three_3 8 rfl rfl)
theorem dX0_three_81 : decode cX0_three 81 = .ok (.iload 7, 2) := dk_21 7 (dk_at dksX0_three_3 9 rfl rfl)
theorem dX0_three_83 : decode cX0_three 83 = .ok (.invokevirtual 237, 3) := dk_182 0 237 (dk_at dksX0_three_3 11 rfl rfl)
theorem dX0_three_86 : decode cX0_three 86 = .ok (.ifCond .ne 9, 3) := dk_154 0 9 (dk_at dksX0_three_3 14 rfl rfl)
theorem dX0_three_89 : decode cX0_three 89 = .ok (.aload_n 0, 1) := dk_42 (dk_at dksX0_three_3 17 rfl rfl)
theorem dX0_three_90 : decode cX0_three 90 = .ok (.iconst 2, 1) := dk_5 (dk_at dksX0_three_3 18 rfl rfl)
theorem dX0_three_91 : decode cX0_three 91 = .ok (.invokevirtual 176, 3) := dk_182 0 176 (dk_at dksX0_three_3 19 rfl rfl)
theorem dX0_three_94 : decode cX0_three 94 = .ok (.ireturn, 1) := dk_172 (dk_at dksX0_three_3 22 rfl rfl)
theorem dX0_three_95 : decode cX0_three 95 = .ok (.aload_n 0, 1) := dk_42 (dk_at dksX0_three_3 23 rfl rfl)
theorem dX0_three_96 : decode cX0_three 96 = .ok (.getfield 40, 3) := dk_180 0 40 (dk_at dksX0_three_4 0 rfl rfl)
theorem dX0_three_99 : decode cX0_three 99 = .ok (.aload_n 0, 1) := dk_42 (dk_at dksX0_three_4 3 rfl rfl)
theorem dX0_three_100 : decode cX0_three 100 = .ok (.getfield 33, 3) := dk_180 0 33 (dk_at dksX0_three_4 4 rfl rfl)
theorem dX0_three_103 : decode cX0_three 103 = .ok (.iload_n 1, 1) := dk_27 (dk_at dksX0_three_4 7 rfl rfl)
theorem dX0_three_104 : decode cX0_three 104 = .ok (.aaload, 1) := dk_50 (dk_at dksX0_three_4 8 rfl rfl)
theorem dX0_three_105 : decode cX0_three 105 = .ok (.aload_n 0, 1) := dk_42 (dk_at dksX0_three_4 9 rfl rfl)
theorem dX0_three_106 : decode cX0_three 106 = .ok (.getfield 57, 3) := dk_180 0 57 (dk_at dksX0_three_4 10 rfl rfl)
theorem dX0_three_109 : decode cX0_three 109 = .ok (.getfield 240, 3) := dk_180 0 240 (dk_at dksX0_three_4 13 rfl rfl)
theorem dX0_three_112 : decode cX0_three 112 = .ok (.iload 5, 2) := dk_21 5 (dk_at dksX0_three_4 16 rfl rfl)
theorem dX0_three_114 : decode cX0_three 114 = .ok (.aaload, 1) := dk_50 (dk_at dksX0_three_4 18 rfl rfl)
theorem dX0_three_115 : decode cX0_three 115 = .ok (.invokevirtual 321, 3) := dk_182 1 65 (dk_at dksX0_three_4 19 rfl rfl)
theorem dX0_three_118 : decode cX0_three 118 = .ok (.aload_n 0, 1) := dk_42 (dk_at dksX0_three_4 22 rfl rfl)
theorem dX0_three_119 : decode cX0_three 119 = .ok (.getfield 44, 3) := dk_180 0 44 (dk_at dksX0_three_5 0 rfl rfl)
theorem dX0_three_122 : decode cX0_three 122 = .ok (.aload_n 0, 1) := dk_42 (dk_at dksX0_three_5 3 rfl rfl)
theorem dX0_three_123 : decode cX0_three 123 = .ok (.getfield 33, 3) := dk_180 0 33 (dk_at dksX0_three_5 4 rfl rfl)
theorem dX0_three_126 : decode cX0_three 126 = .ok (.iload_n 2, 1) := dk_28 (dk_at dksX0_three_5 7 rfl rfl)
theorem dX0_three_127 : decode cX0_three 127 = .ok (.aaload, 1) := dk_50 (dk_at dksX0_three_5 8 rfl rfl)
theorem dX0_three_128 : decode cX0_three 128 = .ok (.aload_n 0, 1) := dk_42 (dk_at dksX0_three_5 9 rfl rfl)
theorem dX0_three_129 : decode cX0_three 129 = .ok (.getfield 57, 3) := dk_180 0 57 (dk_at dksX0_three_5 10 rfl rfl)
theorem dX0_three_132 : decode cX0_three 132 = .ok (.getfield 240, 3) := dk_180 0 240 (dk_at dksX0_three_5 13 rfl rfl)
theorem dX0_three_135 : decode cX0_three 135 = .ok (.iload 6, 2) := dk_21 6 (dk_at dksX0_three_5 16 rfl rfl)
theorem dX0_three_137 : decode cX0_three 137 = .ok (.aaload, 1) := dk_50 (dk_at dksX0_three_5 18 rfl rfl)
theorem dX0_three_138 : decode cX0_three 138 = .ok (.invokevirtual 321, 3) := dk_182 1 65 (dk_at dksX0_three_5 19 rfl rfl)
theorem dX0_three_141 : decode cX0_three 141 = .ok (.aload_n 0, 1) := dk_42 (dk_at dksX0_three_5 22 rfl rfl)
theorem dX0_three_142 : decode cX0_three 142 = .ok (.getfield 47, 3) := dk_180 0 47 (dk_at dksX0_three_6 0 rfl rfl)
theorem dX0_three_145 : decode cX0_three 145 = .ok (.aload_n 0, 1) := dk_42 (dk_at dksX0_three_6 3 rfl rfl)
theorem dX0_three_146 : decode cX0_three 146 = .ok (.getfield 33, 3) := dk_180 0 33 (dk_at dksX0_three_6 4 rfl rfl)
theorem dX0_three_149 : decode cX0_three 149 = .ok (.iload_n 3, 1) := dk_29 (dk_at dksX0_three_6 7 rfl rfl)
theorem dX0_three_150 : decode cX0_three 150 = .ok (.aaload, 1) := dk_50 (dk_at dksX0_three_6 8 rfl rfl)
theorem dX0_three_151 : decode cX0_three 151 = .ok (.aload_n 0, 1) := dk_42 (dk_at dksX0_three_6 9 rfl rfl)
theorem dX0_three_152 : decode cX0_three 152 = .ok (.getfield 57, 3) := dk_180 0 57 (dk_at dksX0_three_6 10 rfl rfl)
theorem dX0_three_155 : decode cX0_three 155 = .ok (.getfield 240, 3) := dk_180 0 240 (dk_at dksX0_three_6 13 rfl rfl)
theorem dX0_three_158 : decode cX0_three 158 = .ok (.iload 7, 2) := dk_21 7 (dk_at dksX0_three_6 16 rfl rfl)
theorem dX0_three_160 : decode cX0_three 160 = .ok (.aaload, 1) := dk_50 (dk_at dksX0_three_6 18 rfl rfl)
theorem dX0_three_161 : decode cX0_three 161 = .ok (.invokevirtual 321, 3) := dk_182 1 65 (dk_at dksX0_three_6 19 rfl rfl)
theorem dX0_three_164 : decode cX0_three 164 = .ok (.iconst 0, 1) := dk_3 (dk_at dksX0_three_6 22 rfl rfl)
theorem dX0_three_165 : decode cX0_three 165 = .ok (.istore 8, 2) := dk_54 8 (dk_at dksX0_three_7 0 rfl rfl)
theorem dX0_three_167 : decode cX0_three 167 = .ok (.iload 8, 2) := dk_21 8 (dk_at dksX0_three_7 2 rfl rfl)
theorem dX0_three_169 : decode cX0_three 169 = .ok (.sipush 200, 3) := dk_17 0 200 (dk_at dksX0_three_7 4 rfl rfl)
theorem dX0_three_172 : decode cX0_three 172 = .ok (.if_icmp .gt 88, 3) := dk_163 0 88 (dk_at dksX0_three_7 7 rfl rfl)
theorem dX0_three_175 : decode cX0_three 175 = .ok (.aload_n 0, 1) := dk_42 (dk_at dksX0_three_7 10 rfl rfl)
theorem dX0_three_176 : decode cX0_three 176 = .ok (.invokevirtual 444, 3) := dk_182 1 188 (dk_at dksX0_three_7 11 rfl rfl)
theorem dX0_three_179 : decode cX0_three 179 = .ok (.ifCond .eq 10, 3) := dk_153 0 10 (dk_at dksX0_three_7 14 rfl rfl)
theorem dX0_three_182 : decode cX0_three 182 = .ok (.aload_n 0, 1) := dk_42 (dk_at dksX0_three_7 17 rfl rfl)
theorem dX0_three_183 : decode cX0_three 183 = .ok (.iload 8, 2) := dk_21 8 (dk_at dksX0_three_7 18 rfl rfl)
theorem dX0_three_185 : decode cX0_three 185 = .ok (.invokevirtual 234, 3) := dk_182 0 234 (dk_at dksX0_three_7 20 rfl rfl)
theorem dX0_three_188 : decode cX0_three 188 = .ok (.ireturn, 1) := dk_172 (dk_at dksX0_three_7 23 rfl rfl)
theorem dX0_three_189 : decode cX0_three 189 = .ok (.iconst 0, 1) := dk_3 (dk_at dksX0_three_8 0 rfl rfl)
theorem dX0_three_190 : decode cX0_three 190 = .ok (.istore 9, 2) := dk_54 9 (dk_at dksX0_three_8 1 rfl rfl)
theorem dX0_three_192 : decode cX0_three 192 = .ok (.iload 9, 2) := dk_21 9 (dk_at dksX0_three_8 3 rfl rfl)
theorem dX0_three_194 : decode cX0_three 194 = .ok (.iconst 3, 1) := dk_6 (dk_at dksX0_three_8 5 rfl rfl)
theorem dX0_three_195 : decode cX0_three 195 = .ok (.if_icmp .ge 59, 3) := dk_162 0 59 (dk_at dksX0_three_8 6 rfl rfl)
theorem dX0_three_198 : decode cX0_three 198 = .ok (.aload_n 0, 1) := dk_42 (dk_at dksX0_three_8 9 rfl rfl)
theorem dX0_three_199 : decode cX0_three 199 = .ok (.getfield 121, 3) := dk_180 0 121 (dk_at dksX0_three_8 10 rfl rfl)
theorem dX0_three_202 : decode cX0_three 202 = .ok (.iload 9, 2) := dk_21 9 (dk_at dksX0_three_8 13 rfl rfl)
theorem dX0_three_204 : decode cX0_three 204 = .ok (.aaload, 1) := dk_50 (dk_at dksX0_three_8 15 rfl rfl)
theorem dX0_three_205 : decode cX0_three 205 = .ok (.aload_n 0, 1) := dk_42 (dk_at dksX0_three_8 16 rfl rfl)
theorem dX0_three_206 : decode cX0_three 206 = .ok (.getfield 125, 3) := dk_180 0 125 (dk_at dksX0_three_8 17 rfl rfl)
theorem dX0_three_209 : decode cX0_three 209 = .ok (.iload 9, 2) := dk_21 9 (dk_at dksX0_three_8 20 rfl rfl)
theorem dX0_three_211 : decode cX0_three 211 = .ok (.iaload, 1) := dk_46 (dk_at dksX0_three_8 22 rfl rfl)
theorem dX0_three_212 : decode cX0_three 212 = .ok (.iload 9, 2) := dk_21 9 (dk_at dksX0_three_9 0 rfl rfl)
theorem dX0_three_214 : decode cX0_three 214 = .ok (.if_icmp .ne 16, 3) := dk_160 0 16 (dk_at dksX0_three_9 2 rfl rfl)
theorem dX0_three_217 : decode cX0_three 217 = .ok (.aload_n 0, 1) := dk_42 (dk_at dksX0_three_9 5 rfl rfl)
theorem dX0_three_218 : decode cX0_three 218 = .ok (.getfield 121, 3) := dk_180 0 121 (dk_at dksX0_three_9 6 rfl rfl)
theorem dX0_three_221 : decode cX0_three 221 = .ok (.iload 9, 2) := dk_21 9 (dk_at dksX0_three_9 9 rfl rfl)
theorem dX0_three_223 : decode cX0_three 223 = .ok (.aaload, 1) := dk_50 (dk_at dksX0_three_9 11 rfl rfl)
theorem dX0_three_224 : decode cX0_three 224 = .ok (.invokevirtual 342, 3) := dk_182 1 86 (dk_at dksX0_three_9 12 rfl rfl)
theorem dX0_three_227 : decode cX0_three 227 = .ok (.goto 18, 3) := dk_167 0 18 (dk_at dksX0_three_9 15 rfl rfl)
theorem dX0_three_230 : decode cX0_three 230 = .ok (.aload_n 0, 1) := dk_42 (dk_at dksX0_three_9 18 rfl rfl)
theorem dX0_three_231 : decode cX0_three 231 = .ok (.getfield 121, 3) := dk_180 0 121 (dk_at dksX0_three_9 19 rfl rfl)
theorem dX0_three_234 : decode cX0_three 234 = .ok (.aload_n 0, 1) := dk_42 (dk_at dksX0_three_9 22 rfl rfl)
theorem dX0_three_235 : decode cX0_three 235 = .ok (.getfield 125, 3) := dk_180 0 125 (dk_at dksX0_three_10 0 rfl rfl)
theorem dX0_three_238 : decode cX0_three 238 = .ok (.iload 9, 2) := dk_21 9 (dk_at dksX0_three_10 3 rfl rfl)
theorem dX0_three_240 : decode cX0_three 240 = .ok (.iaload, 1) := dk_46 (dk_at dksX0_three_10 5 rfl rfl)
theorem dX0_three_241 : decode cX0_three 241 = .ok (.aaload, 1) := dk_50 (dk_at dksX0_three_10 6 rfl rfl)
theorem dX0_three_242 : decode cX0_three 242 = .ok (.getfield 311, 3) := dk_180 1 55 (dk_at dksX0_three_10 7 rfl rfl)
theorem dX0_three_245 : decode cX0_three 245 = .ok (.putfield 311, 3) := dk_181 1 55 (dk_at dksX0_three_10 10 rfl rfl)
theorem dX0_three_248 : decode cX0_three 248 = .ok (.iinc 9 1, 3) := dk_132 9 1 (dk_at dksX0_three_10 13 rfl rfl)
theorem dX0_three_251 : decode cX0_three 251 = .ok (.goto (-59), 3) := dk_167 255 197 (dk_at dksX0_three_10 16 rfl rfl)
theorem dX0_three_254 : decode cX0_three 254 = .ok (.iinc 8 1, 3) := dk_132 8 1 (dk_at dksX0_three_10 19 rfl rfl)
theorem dX0_three_257 : decode cX0_three 257 = .ok (.goto (-90), 3) := dk_167 255 166 (dk_at dksX0_three_11 0 rfl rfl)
theorem dX0_three_260 : decode cX0_three 260 = .ok (.aload_n 0, 1) := dk_42 (dk_at dksX0_three_11 3 rfl rfl)
theorem dX0_three_261 : decode cX0_three 261 = .ok (.bipush 8, 2) := dk_16 8 (dk_at dksX0_three_11 4 rfl rfl)
theorem dX0_three_263 : decode cX0_three 263 = .ok (.invokevirtual 176, 3) := dk_182 0 176 (dk_at dksX0_three_11 6 rfl rfl)
theorem dX0_three_266 : decode cX0_three 266 = .ok (.ireturn, 1) := dk_172 (dk_at dksX0_three_11 9 rfl rfl)
abbrev cX0_holds : ByteArray := prog_1_method_62_code
def yX0_holds : MethodName := ⟨RX0, "holds", "()Z"⟩
def dkwX0_holds_3 : List UInt8 := [42, 180, 0, 125, 5, 46, 154, 0, 7, 4, 167, 0, 4, 3, 172]
abbrev dktX0_holds_3 : List UInt8 := dkwX0_holds_3 ++ []
def dkwX0_holds_2 : List UInt8 := [27, 28, 79, 132, 2, 255, 167, 255, 221, 132, 1, 1, 167, 255, 199, 42, 180, 0, 125, 4, 46, 154, 0, 16]
abbrev dktX0_holds_2 : List UInt8 := dkwX0_holds_2 ++ dktX0_holds_3
def dkwX0_holds_1 : List UInt8 := [180, 0, 121, 28, 50, 180, 1, 55, 42, 180, 0, 121, 27, 50, 180, 1, 55, 166, 0, 10, 42, 180, 0, 125]
abbrev dktX0_holds_1 : List UInt8 := dkwX0_holds_1 ++ dktX0_holds_2
def dkwX0_holds_0 : List UInt8 := [3, 60, 27, 6, 162, 0, 58, 42, 180, 0, 125, 27, 27, 79, 27, 4, 100, 61, 28, 155, 0, 37, 42]
abbrev dktX0_holds_0 : List UInt8 := dkwX0_holds_0 ++ dktX0_holds_1
theorem dksX0_holds_0 : cX0_holds.data.toList.drop 0 = dktX0_holds_0 := by decide +kernel
theorem dksX0_holds_1 : cX0_holds.data.toList.drop 23 = dktX0_holds_1 := dk_seg dksX0_holds_0 23 rfl rfl
theorem dksX0_holds_2 : cX0_holds.data.toList.drop 47 = dktX0_holds_2 := dk_seg dksX0_holds_1 24 rfl rfl
theorem dksX0_holds_3 : cX0_holds.data.toList.drop 71 = dktX0_holds_3 := dk_seg dksX0_holds_2 24 rfl rfl
theorem dX0_holds_0 : decode cX0_holds 0 = .ok (.iconst 0, 1) := dk_3 (dk_at dksX0_holds_0 0 rfl rfl)
theorem dX0_holds_1 : decode cX0_holds 1 = .ok (.istore_n 1, 1) := dk_60 (dk_at dksX0_holds_0 1 rfl rfl)
theorem dX0_holds_2 : decode cX0_holds 2 = .ok (.iload_n 1, 1) := dk_27 (dk_at dksX0_holds_0 2 rfl rfl)
theorem dX0_holds_3 : decode cX0_holds 3 = .ok (.iconst 3, 1) := dk_6 (dk_at dksX0_holds_0 3 rfl rfl)
theorem dX0_holds_4 : decode cX0_holds 4 = .ok (.if_icmp .ge 58, 3) := dk_162 0 58 (dk_at dksX0_holds_0 4 rfl rfl)
theorem dX0_holds_7 : decode cX0_holds 7 = .ok (.aload_n 0, 1) := dk_42 (dk_at dksX0_holds_0 7 rfl rfl)
theorem dX0_holds_8 : decode cX0_holds 8 = .ok (.getfield 125, 3) := dk_180 0 125 (dk_at dksX0_holds_0 8 rfl rfl)
theorem dX0_holds_11 : decode cX0_holds 11 = .ok (.iload_n 1, 1) := dk_27 (dk_at dksX0_holds_0 11 rfl rfl)
theorem dX0_holds_12 : decode cX0_holds 12 = .ok (.iload_n 1, 1) := dk_27 (dk_at dksX0_holds_0 12 rfl rfl)
theorem dX0_holds_13 : decode cX0_holds 13 = .ok (.iastore, 1) := dk_79 (dk_at dksX0_holds_0 13 rfl rfl)
theorem dX0_holds_14 : decode cX0_holds 14 = .ok (.iload_n 1, 1) := dk_27 (dk_at dksX0_holds_0 14 rfl rfl)
theorem dX0_holds_15 : decode cX0_holds 15 = .ok (.iconst 1, 1) := dk_4 (dk_at dksX0_holds_0 15 rfl rfl)
theorem dX0_holds_16 : decode cX0_holds 16 = .ok (.isub, 1) := dk_100 (dk_at dksX0_holds_0 16 rfl rfl)
theorem dX0_holds_17 : decode cX0_holds 17 = .ok (.istore_n 2, 1) := dk_61 (dk_at dksX0_holds_0 17 rfl rfl)
theorem dX0_holds_18 : decode cX0_holds 18 = .ok (.iload_n 2, 1) := dk_28 (dk_at dksX0_holds_0 18 rfl rfl)
theorem dX0_holds_19 : decode cX0_holds 19 = .ok (.ifCond .lt 37, 3) := dk_155 0 37 (dk_at dksX0_holds_0 19 rfl rfl)
theorem dX0_holds_22 : decode cX0_holds 22 = .ok (.aload_n 0, 1) := dk_42 (dk_at dksX0_holds_0 22 rfl rfl)
theorem dX0_holds_23 : decode cX0_holds 23 = .ok (.getfield 121, 3) := dk_180 0 121 (dk_at dksX0_holds_1 0 rfl rfl)
theorem dX0_holds_26 : decode cX0_holds 26 = .ok (.iload_n 2, 1) := dk_28 (dk_at dksX0_holds_1 3 rfl rfl)
theorem dX0_holds_27 : decode cX0_holds 27 = .ok (.aaload, 1) := dk_50 (dk_at dksX0_holds_1 4 rfl rfl)
theorem dX0_holds_28 : decode cX0_holds 28 = .ok (.getfield 311, 3) := dk_180 1 55 (dk_at dksX0_holds_1 5 rfl rfl)
theorem dX0_holds_31 : decode cX0_holds 31 = .ok (.aload_n 0, 1) := dk_42 (dk_at dksX0_holds_1 8 rfl rfl)
theorem dX0_holds_32 : decode cX0_holds 32 = .ok (.getfield 121, 3) := dk_180 0 121 (dk_at dksX0_holds_1 9 rfl rfl)
theorem dX0_holds_35 : decode cX0_holds 35 = .ok (.iload_n 1, 1) := dk_27 (dk_at dksX0_holds_1 12 rfl rfl)
theorem dX0_holds_36 : decode cX0_holds 36 = .ok (.aaload, 1) := dk_50 (dk_at dksX0_holds_1 13 rfl rfl)
theorem dX0_holds_37 : decode cX0_holds 37 = .ok (.getfield 311, 3) := dk_180 1 55 (dk_at dksX0_holds_1 14 rfl rfl)
theorem dX0_holds_40 : decode cX0_holds 40 = .ok (.if_acmp .ne 10, 3) := dk_166 0 10 (dk_at dksX0_holds_1 17 rfl rfl)
theorem dX0_holds_43 : decode cX0_holds 43 = .ok (.aload_n 0, 1) := dk_42 (dk_at dksX0_holds_1 20 rfl rfl)
theorem dX0_holds_44 : decode cX0_holds 44 = .ok (.getfield 125, 3) := dk_180 0 125 (dk_at dksX0_holds_1 21 rfl rfl)
theorem dX0_holds_47 : decode cX0_holds 47 = .ok (.iload_n 1, 1) := dk_27 (dk_at dksX0_holds_2 0 rfl rfl)
theorem dX0_holds_48 : decode cX0_holds 48 = .ok (.iload_n 2, 1) := dk_28 (dk_at dksX0_holds_2 1 rfl rfl)
theorem dX0_holds_49 : decode cX0_holds 49 = .ok (.iastore, 1) := dk_79 (dk_at dksX0_holds_2 2 rfl rfl)
theorem dX0_holds_50 : decode cX0_holds 50 = .ok (.iinc 2 (-1), 3) := dk_132 2 255 (dk_at dksX0_holds_2 3 rfl rfl)
theorem dX0_holds_53 : decode cX0_holds 53 = .ok (.goto (-35), 3) := dk_167 255 221 (dk_at dksX0_holds_2 6 rfl rfl)
theorem dX0_holds_56 : decode cX0_holds 56 = .ok (.iinc 1 1, 3) := dk_132 1 1 (dk_at dksX0_holds_2 9 rfl rfl)
theorem dX0_holds_59 : decode cX0_holds 59 = .ok (.goto (-57), 3) := dk_167 255 199 (dk_at dksX0_holds_2 12 rfl rfl)
theorem dX0_holds_62 : decode cX0_holds 62 = .ok (.aload_n 0, 1) := dk_42 (dk_at dksX0_holds_2 15 rfl rfl)
theorem dX0_holds_63 : decode cX0_holds 63 = .ok (.getfield 125, 3) := dk_180 0 125 (dk_at dksX0_holds_2 16 rfl rfl)
theorem dX0_holds_66 : decode cX0_holds 66 = .ok (.iconst 1, 1) := dk_4 (dk_at dksX0_holds_2 19 rfl rfl)
theorem dX0_holds_67 : decode cX0_holds 67 = .ok (.iaload, 1) := dk_46 (dk_at dksX0_holds_2 20 rfl rfl)
theorem dX0_holds_68 : decode cX0_holds 68 = .ok (.ifCond .ne 16, 3) := dk_154 0 16 (dk_at dksX0_holds_2 21 rfl rfl)
theorem dX0_holds_71 : decode cX0_holds 71 = .ok (.aload_n 0, 1) := dk_42 (dk_at dksX0_holds_3 0 rfl rfl)
theorem dX0_holds_72 : decode cX0_holds 72 = .ok (.getfield 125, 3) := dk_180 0 125 (dk_at dksX0_holds_3 1 rfl rfl)
theorem dX0_holds_75 : decode cX0_holds 75 = .ok (.iconst 2, 1) := dk_5 (dk_at dksX0_holds_3 4 rfl rfl)
theorem dX0_holds_76 : decode cX0_holds 76 = .ok (.iaload, 1) := dk_46 (dk_at dksX0_holds_3 5 rfl rfl)
theorem dX0_holds_77 : decode cX0_holds 77 = .ok (.ifCond .ne 7, 3) := dk_154 0 7 (dk_at dksX0_holds_3 6 rfl rfl)
theorem dX0_holds_80 : decode cX0_holds 80 = .ok (.iconst 1, 1) := dk_4 (dk_at dksX0_holds_3 9 rfl rfl)
theorem dX0_holds_81 : decode cX0_holds 81 = .ok (.goto 4, 3) := dk_167 0 4 (dk_at dksX0_holds_3 10 rfl rfl)
theorem dX0_holds_84 : decode cX0_holds 84 = .ok (.iconst 0, 1) := dk_3 (dk_at dksX0_holds_3 13 rfl rfl)
theorem dX0_holds_85 : decode cX0_holds 85 = .ok (.ireturn, 1) := dk_172 (dk_at dksX0_holds_3 14 rfl rfl)
abbrev cX0_value : ByteArray := prog_1_method_68_code
def yX0_value : MethodName := ⟨RX0, "value", "(IIIIIII)Z"⟩
def dkwX0_value_15 : List UInt8 := [3, 6, 184, 0, 192, 42, 28, 181, 1, 222, 42, 42, 180, 1, 202, 42, 180, 1, 199, 182, 1, 125, 172]
abbrev dktX0_value_15 : List UInt8 := dkwX0_value_15 ++ []
def dkwX0_value_14 : List UInt8 := [182, 1, 219, 132, 11, 1, 167, 255, 219, 132, 10, 1, 167, 255, 203, 42, 180, 0, 142, 3, 42, 180, 0, 145]
abbrev dktX0_value_14 : List UInt8 := dkwX0_value_14 ++ dktX0_value_15
def dkwX0_value_13 : List UInt8 := [21, 10, 42, 180, 0, 133, 182, 1, 215, 42, 21, 11, 42, 180, 0, 136, 182, 1, 215, 42, 28, 21, 4]
abbrev dktX0_value_13 : List UInt8 := dkwX0_value_13 ++ dktX0_value_14
def dkwX0_value_12 : List UInt8 := [181, 1, 199, 3, 54, 10, 21, 10, 16, 6, 162, 0, 52, 3, 54, 11, 21, 11, 21, 10, 162, 0, 36, 42]
abbrev dktX0_value_12 : List UInt8 := dkwX0_value_12 ++ dktX0_value_13
def dkwX0_value_11 : List UInt8 := [21, 7, 21, 12, 184, 1, 212, 133, 80, 132, 11, 1, 167, 255, 174, 132, 10, 1, 167, 255, 159, 42, 9]
abbrev dktX0_value_11 : List UInt8 := dkwX0_value_11 ++ dktX0_value_12
def dkwX0_value_10 : List UInt8 := [3, 54, 12, 42, 180, 0, 130, 21, 10, 50, 21, 11, 21, 12, 2, 160, 0, 9, 21, 7, 133, 167, 0, 11]
abbrev dktX0_value_10 : List UInt8 := dkwX0_value_10 ++ dktX0_value_11
def dkwX0_value_9 : List UInt8 := [21, 10, 182, 0, 180, 136, 25, 9, 21, 11, 182, 0, 180, 136, 21, 5, 21, 6, 182, 1, 97, 167, 0, 4]
abbrev dktX0_value_9 : List UInt8 := dkwX0_value_9 ++ dktX0_value_10
def dkwX0_value_8 : List UInt8 := [54, 11, 21, 11, 6, 162, 0, 82, 21, 10, 28, 162, 0, 37, 21, 11, 21, 4, 162, 0, 30, 42, 25, 8]
abbrev dktX0_value_8 : List UInt8 := dkwX0_value_8 ++ dktX0_value_9
def dkwX0_value_7 : List UInt8 := [21, 4, 182, 1, 208, 154, 0, 9, 42, 5, 182, 0, 155, 172, 3, 54, 10, 21, 10, 6, 162, 0, 97, 3]
abbrev dktX0_value_7 : List UInt8 := dkwX0_value_7 ++ dktX0_value_8
def dkwX0_value_6 : List UInt8 := [21, 4, 162, 0, 9, 42, 7, 182, 0, 155, 172, 42, 25, 8, 28, 182, 1, 208, 153, 0, 14, 42, 25, 9]
abbrev dktX0_value_6 : List UInt8 := dkwX0_value_6 ++ dktX0_value_7
def dkwX0_value_5 : List UInt8 := [164, 0, 9, 42, 8, 182, 0, 155, 172, 25, 8, 182, 1, 25, 28, 161, 0, 13, 25, 9, 182, 1, 25]
abbrev dktX0_value_5 : List UInt8 := dkwX0_value_5 ++ dktX0_value_6
def dkwX0_value_4 : List UInt8 := [21, 4, 4, 161, 0, 22, 21, 4, 6, 163, 0, 16, 21, 7, 4, 161, 0, 10, 21, 7, 16, 100]
abbrev dktX0_value_4 : List UInt8 := dkwX0_value_4 ++ dktX0_value_5
def dkwX0_value_3 : List UInt8 := [25, 9, 180, 0, 186, 199, 0, 9, 42, 6, 182, 0, 155, 172, 28, 4, 161, 0, 33, 28, 6, 163, 0, 28]
abbrev dktX0_value_3 : List UInt8 := dkwX0_value_3 ++ dktX0_value_4
def dkwX0_value_2 : List UInt8 := [180, 0, 11, 27, 50, 58, 8, 42, 180, 0, 11, 29, 50, 58, 9, 25, 8, 180, 0, 186, 198, 0, 11]
abbrev dktX0_value_2 : List UInt8 := dkwX0_value_2 ++ dktX0_value_3
def dkwX0_value_1 : List UInt8 := [182, 0, 237, 153, 0, 12, 42, 21, 6, 182, 0, 237, 154, 0, 9, 42, 5, 182, 0, 155, 172, 42]
abbrev dktX0_value_1 : List UInt8 := dkwX0_value_1 ++ dktX0_value_2
def dkwX0_value_0 : List UInt8 := [27, 184, 0, 159, 153, 0, 10, 29, 184, 0, 159, 154, 0, 9, 42, 4, 182, 0, 155, 172, 42, 21, 5]
abbrev dktX0_value_0 : List UInt8 := dkwX0_value_0 ++ dktX0_value_1
theorem dksX0_value_0 : cX0_value.data.toList.drop 0 = dktX0_value_0 := by decide +kernel
theorem dksX0_value_1 : cX0_value.data.toList.drop 23 = dktX0_value_1 := dk_seg dksX0_value_0 23 rfl rfl
theorem dksX0_value_2 : cX0_value.data.toList.drop 45 = dktX0_value_2 := dk_seg dksX0_value_1 22 rfl rfl
theorem dksX0_value_3 : cX0_value.data.toList.drop 68 = dktX0_value_3 := dk_seg dksX0_value_2 23 rfl rfl
theorem dksX0_value_4 : cX0_value.data.toList.drop 92 = dktX0_value_4 := dk_seg dksX0_value_3 24 rfl rfl
theorem dksX0_value_5 : cX0_value.data.toList.drop 114 = dktX0_value_5 := dk_seg dksX0_value_4 22 rfl rfl
theorem dksX0_value_6 : cX0_value.data.toList.drop 137 = dktX0_value_6 := dk_seg dksX0_value_5 23 rfl rfl
theorem dksX0_value_7 : cX0_value.data.toList.drop 161 = dktX0_value_7 := dk_seg dksX0_value_6 24 rfl rfl
theorem dksX0_value_8 : cX0_value.data.toList.drop 185 = dktX0_value_8 := dk_seg dksX0_value_7 24 rfl rfl
theorem dksX0_value_9 : cX0_value.data.toList.drop 209 = dktX0_value_9 := dk_seg dksX0_value_8 24 rfl rfl
theorem dksX0_value_10 : cX0_value.data.toList.drop 233 = dktX0_value_10 := dk_seg dksX0_value_9 24 rfl rfl
theorem dksX0_value_11 : cX0_value.data.toList.drop 257 = dktX0_value_11 := dk_seg dksX0_value_10 24 rfl rfl
theorem dksX0_value_12 : cX0_value.data.toList.drop 280 = dktX0_value_12 := dk_seg dksX0_value_11 23 rfl rfl
theorem dksX0_value_13 : cX0_value.data.toList.drop 304 = dktX0_value_13 := dk_seg dksX0_value_12 24 rfl rfl
theorem dksX0_value_14 : cX0_value.data.toList.drop 327 = dktX0_value_14 := dk_seg dksX0_value_13 23 rfl rfl
theorem dksX0_value_15 : cX0_value.data.toList.drop 351 = dktX0_value_15 := dk_seg dksX0_value_14 24 rfl rfl
theorem dX0_value_0 : decode cX0_value 0 = .ok (.iload_n 1, 1) := dk_27 (dk_at dksX0_value_0 0 rfl rfl)
theorem dX0_value_1 : decode cX0_value 1 = .ok (.invokestatic 159, 3) := dk_184 0 159 (dk_at dksX0_value_0 1 rfl rfl)
theorem dX0_value_4 : decode cX0_value 4 = .ok (.ifCond .eq 10, 3) := dk_153 0 10 (dk_at dksX0_value_0 4 rfl rfl)
theorem dX0_value_7 : decode cX0_value 7 = .ok (.iload_n 3, 1) := dk_29 (dk_at dksX0_value_0 7 rfl rfl)
theorem dX0_value_8 : decode cX0_value 8 = .ok (.invokestatic 159, 3) := dk_184 0 159 (dk_at dksX0_value_0 8 rfl rfl)
theorem dX0_value_11 : decode cX0_value 11 = .ok (.ifCond .ne 9, 3) := dk_154 0 9 (dk_at dksX0_value_0 11 rfl rfl)
theorem dX0_value_14 : decode cX0_value 14 = .ok (.aload_n 0, 1) := dk_42 (dk_at dksX0_value_0 14 rfl rfl)
theorem dX0_value_15 : decode cX0_value 15 = .ok (.iconst 1, 1) := dk_4 (dk_at dksX0_value_0 15 rfl rfl)
theorem dX0_value_16 : decode cX0_value 16 = .ok (.invokevirtual 155, 3) := dk_182 0 155 (dk_at dksX0_value_0 16 rfl rfl)
theorem dX0_value_19 : decode cX0_value 19 = .ok (.ireturn, 1) := dk_172 (dk_at dksX0_value_0 19 rfl rfl)
theorem dX0_value_20 : decode cX0_value 20 = .ok (.aload_n 0, 1) := dk_42 (dk_at dksX0_value_0 20 rfl rfl)
theorem dX0_value_21 : decode cX0_value 21 = .ok (.iload 5, 2) := dk_21 5 (dk_at dksX0_value_0 21 rfl rfl)
theorem dX0_value_23 : decode cX0_value 23 = .ok (.invokevirtual 237, 3) := dk_182 0 237 (dk_at dksX0_value_1 0 rfl rfl)
theorem dX0_value_26 : decode cX0_value 26 = .ok (.ifCond .eq 12, 3) := dk_153 0 12 (dk_at dksX0_value_1 3 rfl rfl)
theorem dX0_value_29 : decode cX0_value 29 = .ok (.aload_n 0, 1) := dk_42 (dk_at dksX0_value_1 6 rfl rfl)
theorem dX0_value_30 : decode cX0_value 30 = .ok (.iload 6, 2) := dk_21 6 (dk_at dksX0_value_1 7 rfl rfl)
theorem dX0_value_32 : decode cX0_value 32 = .ok (.invokevirtual 237, 3) := dk_182 0 237 (dk_at dksX0_value_1 9 rfl rfl)
theorem dX0_value_35 : decode cX0_value 35 = .ok (.ifCond .ne 9, 3) := dk_154 0 9 (dk_at dksX0_value_1 12 rfl rfl)
theorem dX0_value_38 : decode cX0_value 38 = .ok (.aload_n 0, 1) := dk_42 (dk_at dksX0_value_1 15 rfl rfl)
theorem dX0_value_39 : decode cX0_value 39 = .ok (.iconst 2, 1) := dk_5 (dk_at dksX0_value_1 16 rfl rfl)
theorem dX0_value_40 : decode cX0_value 40 = .ok (.invokevirtual 155, 3) := dk_182 0 155 (dk_at dksX0_value_1 17 rfl rfl)
theorem dX0_value_43 : decode cX0_value 43 = .ok (.ireturn, 1) := dk_172 (dk_at dksX0_value_1 20 rfl rfl)
theorem dX0_value_44 : decode cX0_value 44 = .ok (.aload_n 0, 1) := dk_42 (dk_at dksX0_value_1 21 rfl rfl)
theorem dX0_value_45 : decode cX0_value 45 = .ok (.getfield 11, 3) := dk_180 0 11 (dk_at dksX0_value_2 0 rfl rfl)
theorem dX0_value_48 : decode cX0_value 48 = .ok (.iload_n 1, 1) := dk_27 (dk_at dksX0_value_2 3 rfl rfl)
theorem dX0_value_49 : decode cX0_value 49 = .ok (.aaload, 1) := dk_50 (dk_at dksX0_value_2 4 rfl rfl)
theorem dX0_value_50 : decode cX0_value 50 = .ok (.astore 8, 2) := dk_58 8 (dk_at dksX0_value_2 5 rfl rfl)
theorem dX0_value_52 : decode cX0_value 52 = .ok (.aload_n 0, 1) := dk_42 (dk_at dksX0_value_2 7 rfl rfl)
theorem dX0_value_53 : decode cX0_value 53 = .ok (.getfield 11, 3) := dk_180 0 11 (dk_at dksX0_value_2 8 rfl rfl)
theorem dX0_value_56 : decode cX0_value 56 = .ok (.iload_n 3, 1) := dk_29 (dk_at dksX0_value_2 11 rfl rfl)
theorem dX0_value_57 : decode cX0_value 57 = .ok (.aaload, 1) := dk_50 (dk_at dksX0_value_2 12 rfl rfl)
theorem dX0_value_58 : decode cX0_value 58 = .ok (.astore 9, 2) := dk_58 9 (dk_at dksX0_value_2 13 rfl rfl)
theorem dX0_value_60 : decode cX0_value 60 = .ok (.aload 8, 2) := dk_25 8 (dk_at dksX0_value_2 15 rfl rfl)
theorem dX0_value_62 : decode cX0_value 62 = .ok (.getfield 186, 3) := dk_180 0 186 (dk_at dksX0_value_2 17 rfl rfl)
theorem dX0_value_65 : decode cX0_value 65 = .ok (.ifnull 11, 3) := dk_198 0 11 (dk_at dksX0_value_2 20 rfl rfl)
theorem dX0_value_68 : decode cX0_value 68 = .ok (.aload 9, 2) := dk_25 9 (dk_at dksX0_value_3 0 rfl rfl)
theorem dX0_value_70 : decode cX0_value 70 = .ok (.getfield 186, 3) := dk_180 0 186 (dk_at dksX0_value_3 2 rfl rfl)
theorem dX0_value_73 : decode cX0_value 73 = .ok (.ifnonnull 9, 3) := dk_199 0 9 (dk_at dksX0_value_3 5 rfl rfl)
theorem dX0_value_76 : decode cX0_value 76 = .ok (.aload_n 0, 1) := dk_42 (dk_at dksX0_value_3 8 rfl rfl)
theorem dX0_value_77 : decode cX0_value 77 = .ok (.iconst 3, 1) := dk_6 (dk_at dksX0_value_3 9 rfl rfl)
theorem dX0_value_78 : decode cX0_value 78 = .ok (.invokevirtual 155, 3) := dk_182 0 155 (dk_at dksX0_value_3 10 rfl rfl)
theorem dX0_value_81 : decode cX0_value 81 = .ok (.ireturn, 1) := dk_172 (dk_at dksX0_value_3 13 rfl rfl)
theorem dX0_value_82 : decode cX0_value 82 = .ok (.iload_n 2, 1) := dk_28 (dk_at dksX0_value_3 14 rfl rfl)
theorem dX0_value_83 : decode cX0_value 83 = .ok (.iconst 1, 1) := dk_4 (dk_at dksX0_value_3 15 rfl rfl)
theorem dX0_value_84 : decode cX0_value 84 = .ok (.if_icmp .lt 33, 3) := dk_161 0 33 (dk_at dksX0_value_3 16 rfl rfl)
theorem dX0_value_87 : decode cX0_value 87 = .ok (.iload_n 2, 1) := dk_28 (dk_at dksX0_value_3 19 rfl rfl)
theorem dX0_value_88 : decode cX0_value 88 = .ok (.iconst 3, 1) := dk_6 (dk_at dksX0_value_3 20 rfl rfl)
theorem dX0_value_89 : decode cX0_value 89 = .ok (.if_icmp .gt 28, 3) := dk_163 0 28 (dk_at dksX0_value_3 21 rfl rfl)
theorem dX0_value_92 : decode cX0_value 92 = .ok (.iload 4, 2) := dk_21 4 (dk_at dksX0_value_4 0 rfl rfl)
theorem dX0_value_94 : decode cX0_value 94 = .ok (.iconst 1, 1) := dk_4 (dk_at dksX0_value_4 2 rfl rfl)
theorem dX0_value_95 : decode cX0_value 95 = .ok (.if_icmp .lt 22, 3) := dk_161 0 22 (dk_at dksX0_value_4 3 rfl rfl)
theorem dX0_value_98 : decode cX0_value 98 = .ok (.iload 4, 2) := dk_21 4 (dk_at dksX0_value_4 6 rfl rfl)
theorem dX0_value_100 : decode cX0_value 100 = .ok (.iconst 3, 1) := dk_6 (dk_at dksX0_value_4 8 rfl rfl)
theorem dX0_value_101 : decode cX0_value 101 = .ok (.if_icmp .gt 16, 3) := dk_163 0 16 (dk_at dksX0_value_4 9 rfl rfl)
theorem dX0_value_104 : decode cX0_value 104 = .ok (.iload 7, 2) := dk_21 7 (dk_at dksX0_value_4 12 rfl rfl)
theorem dX0_value_106 : decode cX0_value 106 = .ok (.iconst 1, 1) := dk_4 (dk_at dksX0_value_4 14 rfl rfl)
theorem dX0_value_107 : decode cX0_value 107 = .ok (.if_icmp .lt 10, 3) := dk_161 0 10 (dk_at dksX0_value_4 15 rfl rfl)
theorem dX0_value_110 : decode cX0_value 110 = .ok (.iload 7, 2) := dk_21 7 (dk_at dksX0_value_4 18 rfl rfl)
theorem dX0_value_112 : decode cX0_value 112 = .ok (.bipush 100, 2) := dk_16 100 (dk_at dksX0_value_4 20 rfl rfl)
theorem dX0_value_114 : decode cX0_value 114 = .ok (.if_icmp .le 9, 3) := dk_164 0 9 (dk_at dksX0_value_5 0 rfl rfl)
theorem dX0_value_117 : decode cX0_value 117 = .ok (.aload_n 0, 1) := dk_42 (dk_at dksX0_value_5 3 rfl rfl)
theorem dX0_value_118 : decode cX0_value 118 = .ok (.iconst 5, 1) := dk_8 (dk_at dksX0_value_5 4 rfl rfl)
theorem dX0_value_119 : decode cX0_value 119 = .ok (.invokevirtual 155, 3) := dk_182 0 155 (dk_at dksX0_value_5 5 rfl rfl)
theorem dX0_value_122 : decode cX0_value 122 = .ok (.ireturn, 1) := dk_172 (dk_at dksX0_value_5 8 rfl rfl)
theorem dX0_value_123 : decode cX0_value 123 = .ok (.aload 8, 2) := dk_25 8 (dk_at dksX0_value_5 9 rfl rfl)
theorem dX0_value_125 : decode cX0_value 125 = .ok (.invokevirtual 281, 3) := dk_182 1 25 (dk_at dksX0_value_5 11 rfl rfl)
theorem dX0_value_128 : decode cX0_value 128 = .ok (.iload_n 2, 1) := dk_28 (dk_at dksX0_value_5 14 rfl rfl)
theorem dX0_value_129 : decode cX0_value 129 = .ok (.if_icmp .lt 13, 3) := dk_161 0 13 (dk_at dksX0_value_5 15 rfl rfl)
theorem dX0_value_132 : decode cX0_value 132 = .ok (.aload 9, 2) := dk_25 9 (dk_at dksX0_value_5 18 rfl rfl)
theorem dX0_value_134 : decode cX0_value 134 = .ok (.invokevirtual 281, 3) := dk_182 1 25 (dk_at dksX0_value_5 20 rfl rfl)
theorem dX0_value_137 : decode cX0_value 137 = .ok (.iload 4, 2) := dk_21 4 (dk_at dksX0_value_6 0 rfl rfl)
theorem dX0_value_139 : decode cX0_value 139 = .ok (.if_icmp .ge 9, 3) := dk_162 0 9 (dk_at dksX0_value_6 2 rfl rfl)
theorem dX0_value_142 : decode cX0_value 142 = .ok (.aload_n 0, 1) := dk_42 (dk_at dksX0_value_6 5 rfl rfl)
theorem dX0_value_143 : decode cX0_value 143 = .ok (.iconst 4, 1) := dk_7 (dk_at dksX0_value_6 6 rfl rfl)
theorem dX0_value_144 : decode cX0_value 144 = .ok (.invokevirtual 155, 3) := dk_182 0 155 (dk_at dksX0_value_6 7 rfl rfl)
theorem dX0_value_147 : decode cX0_value 147 = .ok (.ireturn, 1) := dk_172 (dk_at dksX0_value_6 10 rfl rfl)
theorem dX0_value_148 : decode cX0_value 148 = .ok (.aload_n 0, 1) := dk_42 (dk_at dksX0_value_6 11 rfl rfl)
theorem dX0_value_149 : decode cX0_value 149 = .ok (.aload 8, 2) := dk_25 8 (dk_at dksX0_value_6 12 rfl rfl)
theorem dX0_value_151 : decode cX0_value 151 = .ok (.iload_n 2, 1) := dk_28 (dk_at dksX0_value_6 14 rfl rfl)
theorem dX0_value_152 : decode cX0_value 152 = .ok (.invokevirtual 464, 3) := dk_182 1 208 (dk_at dksX0_value_6 15 rfl rfl)
theorem dX0_value_155 : decode cX0_value 155 = .ok (.ifCond .eq 14, 3) := dk_153 0 14 (dk_at dksX0_value_6 18 rfl rfl)
theorem dX0_value_158 : decode cX0_value 158 = .ok (.aload_n 0, 1) := dk_42 (dk_at dksX0_value_6 21 rfl rfl)
theorem dX0_value_159 : decode cX0_value 159 = .ok (.aload 9, 2) := dk_25 9 (dk_at dksX0_value_6 22 rfl rfl)
theorem dX0_value_161 : decode cX0_value 161 = .ok (.iload 4, 2) := dk_21 4 (dk_at dksX0_value_7 0 rfl rfl)
theorem dX0_value_163 : decode cX0_value 163 = .ok (.invokevirtual 464, 3) := dk_182 1 208 (dk_at dksX0_value_7 2 rfl rfl)
theorem dX0_value_166 : decode cX0_value 166 = .ok (.ifCond .ne 9, 3) := dk_154 0 9 (dk_at dksX0_value_7 5 rfl rfl)
theorem dX0_value_169 : decode cX0_value 169 = .ok (.aload_n 0, 1) := dk_42 (dk_at dksX0_value_7 8 rfl rfl)
theorem dX0_value_170 : decode cX0_value 170 = .ok (.iconst 2, 1) := dk_5 (dk_at dksX0_value_7 9 rfl rfl)
theorem dX0_value_171 : decode cX0_value 171 = .ok (.invokevirtual 155, 3) := dk_182 0 155 (dk_at dksX0_value_7 10 rfl rfl)
theorem dX0_value_174 : decode cX0_value 174 = .ok (.ireturn, 1) := dk_172 (dk_at dksX0_value_7 13 rfl rfl)
theorem dX0_value_175 : decode cX0_value 175 = .ok (.iconst 0, 1) := dk_3 (dk_at dksX0_value_7 14 rfl rfl)
theorem dX0_value_176 : decode cX0_value 176 = .ok (.istore 10, 2) := dk_54 10 (dk_at dksX0_value_7 15 rfl rfl)
theorem dX0_value_178 : decode cX0_value 178 = .ok (.iload 10, 2) := dk_21 10 (dk_at dksX0_value_7 17 rfl rfl)
theorem dX0_value_180 : decode cX0_value 180 = .ok (.iconst 3, 1) := dk_6 (dk_at dksX0_value_7 19 rfl rfl)
theorem dX0_value_181 : decode cX0_value 181 = .ok (.if_icmp .ge 97, 3) := dk_162 0 97 (dk_at dksX0_value_7 20 rfl rfl)
theorem dX0_value_184 : decode cX0_value 184 = .ok (.iconst 0, 1) := dk_3 (dk_at dksX0_value_7 23 rfl rfl)
theorem dX0_value_185 : decode cX0_value 185 = .ok (.istore 11, 2) := dk_54 11 (dk_at dksX0_value_8 0 rfl rfl)
theorem dX0_value_187 : decode cX0_value 187 = .ok (.iload 11, 2) := dk_21 11 (dk_at dksX0_value_8 2 rfl rfl)
theorem dX0_value_189 : decode cX0_value 189 = .ok (.iconst 3, 1) := dk_6 (dk_at dksX0_value_8 4 rfl rfl)
theorem dX0_value_190 : decode cX0_value 190 = .ok (.if_icmp .ge 82, 3) := dk_162 0 82 (dk_at dksX0_value_8 5 rfl rfl)
theorem dX0_value_193 : decode cX0_value 193 = .ok (.iload 10, 2) := dk_21 10 (dk_at dksX0_value_8 8 rfl rfl)
theorem dX0_value_195 : decode cX0_value 195 = .ok (.iload_n 2, 1) := dk_28 (dk_at dksX0_value_8 10 rfl rfl)
theorem dX0_value_196 : decode cX0_value 196 = .ok (.if_icmp .ge 37, 3) := dk_162 0 37 (dk_at dksX0_value_8 11 rfl rfl)
theorem dX0_value_199 : decode cX0_value 199 = .ok (.iload 11, 2) := dk_21 11 (dk_at dksX0_value_8 14 rfl rfl)
theorem dX0_value_201 : decode cX0_value 201 = .ok (.iload 4, 2) := dk_21 4 (dk_at dksX0_value_8 16 rfl rfl)
theorem dX0_value_203 : decode cX0_value 203 = .ok (.if_icmp .ge 30, 3) := dk_162 0 30 (dk_at dksX0_value_8 18 rfl rfl)
theorem dX0_value_206 : decode cX0_value 206 = .ok (.aload_n 0, 1) := dk_42 (dk_at dksX0_value_8 21 rfl rfl)
theorem dX0_value_207 : decode cX0_value 207 = .ok (.aload 8, 2) := dk_25 8 (dk_at dksX0_value_8 22 rfl rfl)
theorem dX0_value_209 : decode cX0_value 209 = .ok (.iload 10, 2) := dk_21 10 (dk_at dksX0_value_9 0 rfl rfl)
theorem dX0_value_211 : decode cX0_value 211 = .ok (.invokevirtual 180, 3) := dk_182 0 180 (dk_at dksX0_value_9 2 rfl rfl)
theorem dX0_value_214 : decode cX0_value 214 = .ok (.l2i, 1) := dk_136 (dk_at dksX0_value_9 5 rfl rfl)
theorem dX0_value_215 : decode cX0_value 215 = .ok (.aload 9, 2) := dk_25 9 (dk_at dksX0_value_9 6 rfl rfl)
theorem dX0_value_217 : decode cX0_value 217 = .ok (.iload 11, 2) := dk_21 11 (dk_at dksX0_value_9 8 rfl rfl)
theorem dX0_value_219 : decode cX0_value 219 = .ok (.invokevirtual 180, 3) := dk_182 0 180 (dk_at dksX0_value_9 10 rfl rfl)
theorem dX0_value_222 : decode cX0_value 222 = .ok (.l2i, 1) := dk_136 (dk_at dksX0_value_9 13 rfl rfl)
theorem dX0_value_223 : decode cX0_value 223 = .ok (.iload 5, 2) := dk_21 5 (dk_at dksX0_value_9 14 rfl rfl)
theorem dX0_value_225 : decode cX0_value 225 = .ok (.iload 6, 2) := dk_21 6 (dk_at dksX0_value_9 16 rfl rfl)
theorem dX0_value_227 : decode cX0_value 227 = .ok (.invokevirtual 353, 3) := dk_182 1 97 (dk_at dksX0_value_9 18 rfl rfl)
theorem dX0_value_230 : decode cX0_value 230 = .ok (.goto 4, 3) := dk_167 0 4 (dk_at dksX0_value_9 21 rfl rfl)
theorem dX0_value_233 : decode cX0_value 233 = .ok (.iconst 0, 1) := dk_3 (dk_at dksX0_value_10 0 rfl rfl)
theorem dX0_value_234 : decode cX0_value 234 = .ok (.istore 12, 2) := dk_54 12 (dk_at dksX0_value_10 1 rfl rfl)
theorem dX0_value_236 : decode cX0_value 236 = .ok (.aload_n 0, 1) := dk_42 (dk_at dksX0_value_10 3 rfl rfl)
theorem dX0_value_237 : decode cX0_value 237 = .ok (.getfield 130, 3) := dk_180 0 130 (dk_at dksX0_value_10 4 rfl rfl)
theorem dX0_value_240 : decode cX0_value 240 = .ok (.iload 10, 2) := dk_21 10 (dk_at dksX0_value_10 7 rfl rfl)
theorem dX0_value_242 : decode cX0_value 242 = .ok (.aaload, 1) := dk_50 (dk_at dksX0_value_10 9 rfl rfl)
theorem dX0_value_243 : decode cX0_value 243 = .ok (.iload 11, 2) := dk_21 11 (dk_at dksX0_value_10 10 rfl rfl)
theorem dX0_value_245 : decode cX0_value 245 = .ok (.iload 12, 2) := dk_21 12 (dk_at dksX0_value_10 12 rfl rfl)
theorem dX0_value_247 : decode cX0_value 247 = .ok (.iconst (-1), 1) := dk_2 (dk_at dksX0_value_10 14 rfl rfl)
theorem dX0_value_248 : decode cX0_value 248 = .ok (.if_icmp .ne 9, 3) := dk_160 0 9 (dk_at dksX0_value_10 15 rfl rfl)
theorem dX0_value_251 : decode cX0_value 251 = .ok (.iload 7, 2) := dk_21 7 (dk_at dksX0_value_10 18 rfl rfl)
theorem dX0_value_253 : decode cX0_value 253 = .ok (.i2l, 1) := dk_133 (dk_at dksX0_value_10 20 rfl rfl)
theorem dX0_value_254 : decode cX0_value 254 = .ok (.goto 11, 3) := dk_167 0 11 (dk_at dksX0_value_10 21 rfl rfl)
theorem dX0_value_257 : decode cX0_value 257 = .ok (.iload 7, 2) := dk_21 7 (dk_at dksX0_value_11 0 rfl rfl)
theorem dX0_value_259 : decode cX0_value 259 = .ok (.iload 12, 2) := dk_21 12 (dk_at dksX0_value_11 2 rfl rfl)
theorem dX0_value_261 : decode cX0_value 261 = .ok (.invokestatic 468, 3) := dk_184 1 212 (dk_at dksX0_value_11 4 rfl rfl)
theorem dX0_value_264 : decode cX0_value 264 = .ok (.i2l, 1) := dk_133 (dk_at dksX0_value_11 7 rfl rfl)
theorem dX0_value_265 : decode cX0_value 265 = .ok (.lastore, 1) := dk_80 (dk_at dksX0_value_11 8 rfl rfl)
theorem dX0_value_266 : decode cX0_value 266 = .ok (.iinc 11 1, 3) := dk_132 11 1 (dk_at dksX0_value_11 9 rfl rfl)
theorem dX0_value_269 : decode cX0_value 269 = .ok (.goto (-82), 3) := dk_167 255 174 (dk_at dksX0_value_11 12 rfl rfl)
theorem dX0_value_272 : decode cX0_value 272 = .ok (.iinc 10 1, 3) := dk_132 10 1 (dk_at dksX0_value_11 15 rfl rfl)
theorem dX0_value_275 : decode cX0_value 275 = .ok (.goto (-97), 3) := dk_167 255 159 (dk_at dksX0_value_11 18 rfl rfl)
theorem dX0_value_278 : decode cX0_value 278 = .ok (.aload_n 0, 1) := dk_42 (dk_at dksX0_value_11 21 rfl rfl)
theorem dX0_value_279 : decode cX0_value 279 = .ok (.lconst 0, 1) := dk_9 (dk_at dksX0_value_11 22 rfl rfl)
theorem dX0_value_280 : decode cX0_value 280 = .ok (.putfield 455, 3) := dk_181 1 199 (dk_at dksX0_value_12 0 rfl rfl)
theorem dX0_value_283 : decode cX0_value 283 = .ok (.iconst 0, 1) := dk_3 (dk_at dksX0_value_12 3 rfl rfl)
theorem dX0_value_284 : decode cX0_value 284 = .ok (.istore 10, 2) := dk_54 10 (dk_at dksX0_value_12 4 rfl rfl)
theorem dX0_value_286 : decode cX0_value 286 = .ok (.iload 10, 2) := dk_21 10 (dk_at dksX0_value_12 6 rfl rfl)
theorem dX0_value_288 : decode cX0_value 288 = .ok (.bipush 6, 2) := dk_16 6 (dk_at dksX0_value_12 8 rfl rfl)
theorem dX0_value_290 : decode cX0_value 290 = .ok (.if_icmp .ge 52, 3) := dk_162 0 52 (dk_at dksX0_value_12 10 rfl rfl)
theorem dX0_value_293 : decode cX0_value 293 = .ok (.iconst 0, 1) := dk_3 (dk_at dksX0_value_12 13 rfl rfl)
theorem dX0_value_294 : decode cX0_value 294 = .ok (.istore 11, 2) := dk_54 11 (dk_at dksX0_value_12 14 rfl rfl)
theorem dX0_value_296 : decode cX0_value 296 = .ok (.iload 11, 2) := dk_21 11 (dk_at dksX0_value_12 16 rfl rfl)
theorem dX0_value_298 : decode cX0_value 298 = .ok (.iload 10, 2) := dk_21 10 (dk_at dksX0_value_12 18 rfl rfl)
theorem dX0_value_300 : decode cX0_value 300 = .ok (.if_icmp .ge 36, 3) := dk_162 0 36 (dk_at dksX0_value_12 20 rfl rfl)
theorem dX0_value_303 : decode cX0_value 303 = .ok (.aload_n 0, 1) := dk_42 (dk_at dksX0_value_12 23 rfl rfl)
theorem dX0_value_304 : decode cX0_value 304 = .ok (.iload 10, 2) := dk_21 10 (dk_at dksX0_value_13 0 rfl rfl)
theorem dX0_value_306 : decode cX0_value 306 = .ok (.aload_n 0, 1) := dk_42 (dk_at dksX0_value_13 2 rfl rfl)
theorem dX0_value_307 : decode cX0_value 307 = .ok (.getfield 133, 3) := dk_180 0 133 (dk_at dksX0_value_13 3 rfl rfl)
theorem dX0_value_310 : decode cX0_value 310 = .ok (.invokevirtual 471, 3) := dk_182 1 215 (dk_at dksX0_value_13 6 rfl rfl)
theorem dX0_value_313 : decode cX0_value 313 = .ok (.aload_n 0, 1) := dk_42 (dk_at dksX0_value_13 9 rfl rfl)
theorem dX0_value_314 : decode cX0_value 314 = .ok (.iload 11, 2) := dk_21 11 (dk_at dksX0_value_13 10 rfl rfl)
theorem dX0_value_316 : decode cX0_value 316 = .ok (.aload_n 0, 1) := dk_42 (dk_at dksX0_value_13 12 rfl rfl)
theorem dX0_value_317 : decode cX0_value 317 = .ok (.getfield 136, 3) := dk_180 0 136 (dk_at dksX0_value_13 13 rfl rfl)
theorem dX0_value_320 : decode cX0_value 320 = .ok (.invokevirtual 471, 3) := dk_182 1 215 (dk_at dksX0_value_13 16 rfl rfl)
theorem dX0_value_323 : decode cX0_value 323 = .ok (.aload_n 0, 1) := dk_42 (dk_at dksX0_value_13 19 rfl rfl)
theorem dX0_value_324 : decode cX0_value 324 = .ok (.iload_n 2, 1) := dk_28 (dk_at dksX0_value_13 20 rfl rfl)
theorem dX0_value_325 : decode cX0_value 325 = .ok (.iload 4, 2) := dk_21 4 (dk_at dksX0_value_13 21 rfl rfl)
theorem dX0_value_327 : decode cX0_value 327 = .ok (.invokevirtual 475, 3) := dk_182 1 219 (dk_at dksX0_value_14 0 rfl rfl)
theorem dX0_value_330 : decode cX0_value 330 = .ok (.iinc 11 1, 3) := dk_132 11 1 (dk_at dksX0_value_14 3 rfl rfl)
theorem dX0_value_333 : decode cX0_value 333 = .ok (.goto (-37), 3) := dk_167 255 219 (dk_at dksX0_value_14 6 rfl rfl)
theorem dX0_value_336 : decode cX0_value 336 = .ok (.iinc 10 1, 3) := dk_132 10 1 (dk_at dksX0_value_14 9 rfl rfl)
theorem dX0_value_339 : decode cX0_value 339 = .ok (.goto (-53), 3) := dk_167 255 203 (dk_at dksX0_value_14 12 rfl rfl)
theorem dX0_value_342 : decode cX0_value 342 = .ok (.aload_n 0, 1) := dk_42 (dk_at dksX0_value_14 15 rfl rfl)
theorem dX0_value_343 : decode cX0_value 343 = .ok (.getfield 142, 3) := dk_180 0 142 (dk_at dksX0_value_14 16 rfl rfl)
theorem dX0_value_346 : decode cX0_value 346 = .ok (.iconst 0, 1) := dk_3 (dk_at dksX0_value_14 19 rfl rfl)
theorem dX0_value_347 : decode cX0_value 347 = .ok (.aload_n 0, 1) := dk_42 (dk_at dksX0_value_14 20 rfl rfl)
theorem dX0_value_348 : decode cX0_value 348 = .ok (.getfield 145, 3) := dk_180 0 145 (dk_at dksX0_value_14 21 rfl rfl)
theorem dX0_value_351 : decode cX0_value 351 = .ok (.iconst 0, 1) := dk_3 (dk_at dksX0_value_15 0 rfl rfl)
theorem dX0_value_352 : decode cX0_value 352 = .ok (.iconst 3, 1) := dk_6 (dk_at dksX0_value_15 1 rfl rfl)
theorem dX0_value_353 : decode cX0_value 353 = .ok (.invokestatic 192, 3) := dk_184 0 192 (dk_at dksX0_value_15 2 rfl rfl)
theorem dX0_value_356 : decode cX0_value 356 = .ok (.aload_n 0, 1) := dk_42 (dk_at dksX0_value_15 5 rfl rfl)
theorem dX0_value_357 : decode cX0_value 357 = .ok (.iload_n 2, 1) := dk_28 (dk_at dksX0_value_15 6 rfl rfl)
theorem dX0_value_358 : decode cX0_value 358 = .ok (.putfield 478, 3) := dk_181 1 222 (dk_at dksX0_value_15 7 rfl rfl)
theorem dX0_value_361 : decode cX0_value 361 = .ok (.aload_n 0, 1) := dk_42 (dk_at dksX0_value_15 10 rfl rfl)
theorem dX0_value_362 : decode cX0_value 362 = .ok (.aload_n 0, 1) := dk_42 (dk_at dksX0_value_15 11 rfl rfl)
theorem dX0_value_363 : decode cX0_value 363 = .ok (.getfield 458, 3) := dk_180 1 202 (dk_at dksX0_value_15 12 rfl rfl)
theorem dX0_value_366 : decode cX0_value 366 = .ok (.aload_n 0, 1) := dk_42 (dk_at dksX0_value_15 15 rfl rfl)
theorem dX0_value_367 : decode cX0_value 367 = .ok (.getfield 455, 3) := dk_180 1 199 (dk_at dksX0_value_15 16 rfl rfl)
theorem dX0_value_370 : decode cX0_value 370 = .ok (.invokevirtual 381, 3) := dk_182 1 125 (dk_at dksX0_value_15 19 rfl rfl)
theorem dX0_value_373 : decode cX0_value 373 = .ok (.ireturn, 1) := dk_172 (dk_at dksX0_value_15 22 rfl rfl)
abbrev cX0_areWays : ByteArray := prog_1_method_67_code
def yX0_areWays : MethodName := ⟨RX0, "areWays", "(LTwoSeek$Tray;I)Z"⟩
def dkwX0_areWays_1 : List UInt8 := [167, 255, 234, 4, 172]
abbrev dktX0_areWays_1 : List UInt8 := dkwX0_areWays_1 ++ []
def dkwX0_areWays_0 : List UInt8 := [3, 62, 29, 28, 162, 0, 23, 42, 43, 29, 182, 0, 180, 182, 1, 93, 154, 0, 5, 3, 172, 132, 3, 1]
abbrev dktX0_areWays_0 : List UInt8 := dkwX0_areWays_0 ++ dktX0_areWays_1
theorem dksX0_areWays_0 : cX0_areWays.data.toList.drop 0 = dktX0_areWays_0 := by decide +kernel
theorem dksX0_areWays_1 : cX0_areWays.data.toList.drop 24 = dktX0_areWays_1 := dk_seg dksX0_areWays_0 24 rfl rfl
theorem dX0_areWays_0 : decode cX0_areWays 0 = .ok (.iconst 0, 1) := dk_3 (dk_at dksX0_areWays_0 0 rfl rfl)
theorem dX0_areWays_1 : decode cX0_areWays 1 = .ok (.istore_n 3, 1) := dk_62 (dk_at dksX0_areWays_0 1 rfl rfl)
theorem dX0_areWays_2 : decode cX0_areWays 2 = .ok (.iload_n 3, 1) := dk_29 (dk_at dksX0_areWays_0 2 rfl rfl)
theorem dX0_areWays_3 : decode cX0_areWays 3 = .ok (.iload_n 2, 1) := dk_28 (dk_at dksX0_areWays_0 3 rfl rfl)
theorem dX0_areWays_4 : decode cX0_areWays 4 = .ok (.if_icmp .ge 23, 3) := dk_162 0 23 (dk_at dksX0_areWays_0 4 rfl rfl)
theorem dX0_areWays_7 : decode cX0_areWays 7 = .ok (.aload_n 0, 1) := dk_42 (dk_at dksX0_areWays_0 7 rfl rfl)
theorem dX0_areWays_8 : decode cX0_areWays 8 = .ok (.aload_n 1, 1) := dk_43 (dk_at dksX0_areWays_0 8 rfl rfl)
theorem dX0_areWays_9 : decode cX0_areWays 9 = .ok (.iload_n 3, 1) := dk_29 (dk_at dksX0_areWays_0 9 rfl rfl)
theorem dX0_areWays_10 : decode cX0_areWays 10 = .ok (.invokevirtual 180, 3) := dk_182 0 180 (dk_at dksX0_areWays_0 10 rfl rfl)
theorem dX0_areWays_13 : decode cX0_areWays 13 = .ok (.invokevirtual 349, 3) := dk_182 1 93 (dk_at dksX0_areWays_0 13 rfl rfl)
theorem dX0_areWays_16 : decode cX0_areWays 16 = .ok (.ifCond .ne 5, 3) := dk_154 0 5 (dk_at dksX0_areWays_0 16 rfl rfl)
theorem dX0_areWays_19 : decode cX0_areWays 19 = .ok (.iconst 0, 1) := dk_3 (dk_at dksX0_areWays_0 19 rfl rfl)
theorem dX0_areWays_20 : decode cX0_areWays 20 = .ok (.ireturn, 1) := dk_172 (dk_at dksX0_areWays_0 20 rfl rfl)
theorem dX0_areWays_21 : decode cX0_areWays 21 = .ok (.iinc 3 1, 3) := dk_132 3 1 (dk_at dksX0_areWays_0 21 rfl rfl)
theorem dX0_areWays_24 : decode cX0_areWays 24 = .ok (.goto (-22), 3) := dk_167 255 234 (dk_at dksX0_areWays_1 0 rfl rfl)
theorem dX0_areWays_27 : decode cX0_areWays 27 = .ok (.iconst 1, 1) := dk_4 (dk_at dksX0_areWays_1 3 rfl rfl)
theorem dX0_areWays_28 : decode cX0_areWays 28 = .ok (.ireturn, 1) := dk_172 (dk_at dksX0_areWays_1 4 rfl rfl)
abbrev cX0_line : ByteArray := prog_1_method_64_code
def yX0_line : MethodName := ⟨RX0, "line", "(I[J)V"⟩
def dkwX0_line_3 : List UInt8 := [167, 0, 4, 9, 80, 132, 5, 1, 167, 255, 204, 177]
abbrev dktX0_line_3 : List UInt8 := dkwX0_line_3 ++ []
def dkwX0_line_2 : List UInt8 := [47, 42, 180, 0, 130, 21, 5, 50, 21, 4, 47, 101, 167, 0, 14, 21, 5, 27, 160, 0, 7, 10]
abbrev dktX0_line_2 : List UInt8 := dkwX0_line_2 ++ dktX0_line_3
def dkwX0_line_1 : List UInt8 := [54, 5, 21, 5, 6, 162, 0, 52, 44, 21, 5, 27, 6, 161, 0, 26, 42, 180, 0, 130, 21, 5, 50, 29]
abbrev dktX0_line_1 : List UInt8 := dkwX0_line_1 ++ dktX0_line_2
def dkwX0_line_0 : List UInt8 := [27, 6, 160, 0, 7, 4, 167, 0, 4, 5, 62, 27, 8, 160, 0, 7, 4, 167, 0, 4, 3, 54, 4, 3]
abbrev dktX0_line_0 : List UInt8 := dkwX0_line_0 ++ dktX0_line_1
theorem dksX0_line_0 : cX0_line.data.toList.drop 0 = dktX0_line_0 := by decide +kernel
theorem dksX0_line_1 : cX0_line.data.toList.drop 24 = dktX0_line_1 := dk_seg dksX0_line_0 24 rfl rfl
theorem dksX0_line_2 : cX0_line.data.toList.drop 48 = dktX0_line_2 := dk_seg dksX0_line_1 24 rfl rfl
theorem dksX0_line_3 : cX0_line.data.toList.drop 70 = dktX0_line_3 := dk_seg dksX0_line_2 22 rfl rfl
theorem dX0_line_0 : decode cX0_line 0 = .ok (.iload_n 1, 1) := dk_27 (dk_at dksX0_line_0 0 rfl rfl)
theorem dX0_line_1 : decode cX0_line 1 = .ok (.iconst 3, 1) := dk_6 (dk_at dksX0_line_0 1 rfl rfl)
theorem dX0_line_2 : decode cX0_line 2 = .ok (.if_icmp .ne 7, 3) := dk_160 0 7 (dk_at dksX0_line_0 2 rfl rfl)
theorem dX0_line_5 : decode cX0_line 5 = .ok (.iconst 1, 1) := dk_4 (dk_at dksX0_line_0 5 rfl rfl)
theorem dX0_line_6 : decode cX0_line 6 = .ok (.goto 4, 3) := dk_167 0 4 (dk_at dksX0_line_0 6 rfl rfl)
theorem dX0_line_9 : decode cX0_line 9 = .ok (.iconst 2, 1) := dk_5 (dk_at dksX0_line_0 9 rfl rfl)
theorem dX0_line_10 : decode cX0_line 10 = .ok (.istore_n 3, 1) := dk_62 (dk_at dksX0_line_0 10 rfl rfl)
theorem dX0_line_11 : decode cX0_line 11 = .ok (.iload_n 1, 1) := dk_27 (dk_at dksX0_line_0 11 rfl rfl)
theorem dX0_line_12 : decode cX0_line 12 = .ok (.iconst 5, 1) := dk_8 (dk_at dksX0_line_0 12 rfl rfl)
theorem dX0_line_13 : decode cX0_line 13 = .ok (.if_icmp .ne 7, 3) := dk_160 0 7 (dk_at dksX0_line_0 13 rfl rfl)
theorem dX0_line_16 : decode cX0_line 16 = .ok (.iconst 1, 1) := dk_4 (dk_at dksX0_line_0 16 rfl rfl)
theorem dX0_line_17 : decode cX0_line 17 = .ok (.goto 4, 3) := dk_167 0 4 (dk_at dksX0_line_0 17 rfl rfl)
theorem dX0_line_20 : decode cX0_line 20 = .ok (.iconst 0, 1) := dk_3 (dk_at dksX0_line_0 20 rfl rfl)
theorem dX0_line_21 : decode cX0_line 21 = .ok (.istore 4, 2) := dk_54 4 (dk_at dksX0_line_0 21 rfl rfl)
theorem dX0_line_23 : decode cX0_line 23 = .ok (.iconst 0, 1) := dk_3 (dk_at dksX0_line_0 23 rfl rfl)
theorem dX0_line_24 : decode cX0_line 24 = .ok (.istore 5, 2) := dk_54 5 (dk_at dksX0_line_1 0 rfl rfl)
theorem dX0_line_26 : decode cX0_line 26 = .ok (.iload 5, 2) := dk_21 5 (dk_at dksX0_line_1 2 rfl rfl)
theorem dX0_line_28 : decode cX0_line 28 = .ok (.iconst 3, 1) := dk_6 (dk_at dksX0_line_1 4 rfl rfl)
theorem dX0_line_29 : decode cX0_line 29 = .ok (.if_icmp .ge 52, 3) := dk_162 0 52 (dk_at dksX0_line_1 5 rfl rfl)
theorem dX0_line_32 : decode cX0_line 32 = .ok (.aload_n 2, 1) := dk_44 (dk_at dksX0_line_1 8 rfl rfl)
theorem dX0_line_33 : decode cX0_line 33 = .ok (.iload 5, 2) := dk_21 5 (dk_at dksX0_line_1 9 rfl rfl)
theorem dX0_line_35 : decode cX0_line 35 = .ok (.iload_n 1, 1) := dk_27 (dk_at dksX0_line_1 11 rfl rfl)
theorem dX0_line_36 : decode cX0_line 36 = .ok (.iconst 3, 1) := dk_6 (dk_at dksX0_line_1 12 rfl rfl)
theorem dX0_line_37 : decode cX0_line 37 = .ok (.if_icmp .lt 26, 3) := dk_161 0 26 (dk_at dksX0_line_1 13 rfl rfl)
theorem dX0_line_40 : decode cX0_line 40 = .ok (.aload_n 0, 1) := dk_42 (dk_at dksX0_line_1 16 rfl rfl)
theorem dX0_line_41 : decode cX0_line 41 = .ok (.getfield 130, 3) := dk_180 0 130 (dk_at dksX0_line_1 17 rfl rfl)
theorem dX0_line_44 : decode cX0_line 44 = .ok (.iload 5, 2) := dk_21 5 (dk_at dksX0_line_1 20 rfl rfl)
theorem dX0_line_46 : decode cX0_line 46 = .ok (.aaload, 1) := dk_50 (dk_at dksX0_line_1 22 rfl rfl)
theorem dX0_line_47 : decode cX0_line 47 = .ok (.iload_n 3, 1) := dk_29 (dk_at dksX0_line_1 23 rfl rfl)
theorem dX0_line_48 : decode cX0_line 48 = .ok (.laload, 1) := dk_47 (dk_at dksX0_line_2 0 rfl rfl)
theorem dX0_line_49 : decode cX0_line 49 = .ok (.aload_n 0, 1) := dk_42 (dk_at dksX0_line_2 1 rfl rfl)
theorem dX0_line_50 : decode cX0_line 50 = .ok (.getfield 130, 3) := dk_180 0 130 (dk_at dksX0_line_2 2 rfl rfl)
theorem dX0_line_53 : decode cX0_line 53 = .ok (.iload 5, 2) := dk_21 5 (dk_at dksX0_line_2 5 rfl rfl)
theorem dX0_line_55 : decode cX0_line 55 = .ok (.aaload, 1) := dk_50 (dk_at dksX0_line_2 7 rfl rfl)
theorem dX0_line_56 : decode cX0_line 56 = .ok (.iload 4, 2) := dk_21 4 (dk_at dksX0_line_2 8 rfl rfl)
theorem dX0_line_58 : decode cX0_line 58 = .ok (.laload, 1) := dk_47 (dk_at dksX0_line_2 10 rfl rfl)
theorem dX0_line_59 : decode cX0_line 59 = .ok (.lsub, 1) := dk_101 (dk_at dksX0_line_2 11 rfl rfl)
theorem dX0_line_60 : decode cX0_line 60 = .ok (.goto 14, 3) := dk_167 0 14 (dk_at dksX0_line_2 12 rfl rfl)
theorem dX0_line_63 : decode cX0_line 63 = .ok (.iload 5, 2) := dk_21 5 (dk_at dksX0_line_2 15 rfl rfl)
theorem dX0_line_65 : decode cX0_line 65 = .ok (.iload_n 1, 1) := dk_27 (dk_at dksX0_line_2 17 rfl rfl)
theorem dX0_line_66 : decode cX0_line 66 = .ok (.if_icmp .ne 7, 3) := dk_160 0 7 (dk_at dksX0_line_2 18 rfl rfl)
theorem dX0_line_69 : decode cX0_line 69 = .ok (.lconst 1, 1) := dk_10 (dk_at dksX0_line_2 21 rfl rfl)
theorem dX0_line_70 : decode cX0_line 70 = .ok (.goto 4, 3) := dk_167 0 4 (dk_at dksX0_line_3 0 rfl rfl)
theorem dX0_line_73 : decode cX0_line 73 = .ok (.lconst 0, 1) := dk_9 (dk_at dksX0_line_3 3 rfl rfl)
theorem dX0_line_74 : decode cX0_line 74 = .ok (.lastore, 1) := dk_80 (dk_at dksX0_line_3 4 rfl rfl)
theorem dX0_line_75 : decode cX0_line 75 = .ok (.iinc 5 1, 3) := dk_132 5 1 (dk_at dksX0_line_3 5 rfl rfl)
theorem dX0_line_78 : decode cX0_line 78 = .ok (.goto (-52), 3) := dk_167 255 204 (dk_at dksX0_line_3 8 rfl rfl)
theorem dX0_line_81 : decode cX0_line 81 = .ok (.return_, 1) := dk_177 (dk_at dksX0_line_3 11 rfl rfl)
abbrev cX0_cross : ByteArray := prog_1_method_65_code
def yX0_cross : MethodName := ⟨RX0, "cross", "(II)V"⟩
def dkwX0_cross_13 : List UInt8 := [181, 1, 199, 42, 180, 0, 139, 3, 42, 180, 0, 142, 3, 6, 184, 0, 192, 177]
abbrev dktX0_cross_13 : List UInt8 := dkwX0_cross_13 ++ []
def dkwX0_cross_12 : List UInt8 := [148, 154, 0, 13, 42, 22, 5, 182, 1, 205, 154, 0, 4, 177, 42, 22, 7, 181, 1, 202, 42, 22, 5]
abbrev dktX0_cross_12 : List UInt8 := dkwX0_cross_12 ++ dktX0_cross_13
def dkwX0_cross_11 : List UInt8 := [180, 1, 202, 22, 5, 105, 148, 157, 0, 30, 22, 7, 42, 180, 1, 199, 105, 42, 180, 1, 202, 22, 5, 105]
abbrev dktX0_cross_11 : List UInt8 := dkwX0_cross_11 ++ dktX0_cross_12
def dkwX0_cross_10 : List UInt8 := [132, 9, 1, 167, 255, 197, 42, 180, 1, 199, 9, 148, 158, 0, 49, 22, 7, 42, 180, 1, 199, 105, 42]
abbrev dktX0_cross_10 : List UInt8 := dkwX0_cross_10 ++ dktX0_cross_11
def dkwX0_cross_9 : List UInt8 := [50, 21, 9, 47, 105, 97, 55, 10, 132, 12, 1, 167, 255, 224, 22, 7, 22, 10, 184, 1, 196, 55, 7]
abbrev dktX0_cross_9 : List UInt8 := dkwX0_cross_9 ++ dktX0_cross_10
def dkwX0_cross_8 : List UInt8 := [3, 54, 12, 21, 12, 27, 162, 0, 32, 22, 10, 42, 180, 0, 139, 21, 12, 47, 42, 180, 0, 130, 21, 12]
abbrev dktX0_cross_8 : List UInt8 := dkwX0_cross_8 ++ dktX0_cross_9
def dkwX0_cross_7 : List UInt8 := [167, 255, 185, 33, 184, 1, 192, 55, 5, 9, 55, 7, 3, 54, 9, 21, 9, 28, 162, 0, 59, 9, 55, 10]
abbrev dktX0_cross_7 : List UInt8 := dkwX0_cross_7 ++ dktX0_cross_8
def dkwX0_cross_6 : List UInt8 := [21, 5, 27, 161, 0, 16, 42, 180, 0, 139, 21, 5, 47, 9, 148, 153, 0, 4, 177, 132, 5, 1]
abbrev dktX0_cross_6 : List UInt8 := dkwX0_cross_6 ++ dktX0_cross_7
def dkwX0_cross_5 : List UInt8 := [167, 0, 10, 42, 180, 0, 139, 21, 5, 47, 80, 42, 180, 0, 139, 21, 5, 47, 9, 148, 155, 0, 21]
abbrev dktX0_cross_5 : List UInt8 := dkwX0_cross_5 ++ dktX0_cross_6
def dkwX0_cross_4 : List UInt8 := [162, 0, 71, 42, 180, 0, 139, 21, 5, 33, 9, 148, 156, 0, 14, 42, 180, 0, 139, 21, 5, 47, 117]
abbrev dktX0_cross_4 : List UInt8 := dkwX0_cross_4 ++ dktX0_cross_5
def dkwX0_cross_3 : List UInt8 := [47, 97, 66, 132, 5, 1, 167, 255, 183, 33, 9, 148, 154, 0, 4, 177, 3, 54, 5, 21, 5, 6]
abbrev dktX0_cross_3 : List UInt8 := dkwX0_cross_3 ++ dktX0_cross_4
def dkwX0_cross_2 : List UInt8 := [42, 180, 0, 133, 21, 7, 47, 42, 180, 0, 136, 21, 6, 47, 105, 101, 80, 33, 42, 180, 0, 139, 21, 5]
abbrev dktX0_cross_2 : List UInt8 := dkwX0_cross_2 ++ dktX0_cross_3
def dkwX0_cross_1 : List UInt8 := [112, 54, 7, 42, 180, 0, 139, 21, 5, 42, 180, 0, 133, 21, 6, 47, 42, 180, 0, 136, 21, 7, 47, 105]
abbrev dktX0_cross_1 : List UInt8 := dkwX0_cross_1 ++ dktX0_cross_2
def dkwX0_cross_0 : List UInt8 := [9, 66, 3, 54, 5, 21, 5, 6, 162, 0, 73, 21, 5, 4, 96, 6, 112, 54, 6, 21, 5, 5, 96, 6]
abbrev dktX0_cross_0 : List UInt8 := dkwX0_cross_0 ++ dktX0_cross_1
theorem dksX0_cross_0 : cX0_cross.data.toList.drop 0 = dktX0_cross_0 := by decide +kernel
theorem dksX0_cross_1 : cX0_cross.data.toList.drop 24 = dktX0_cross_1 := dk_seg dksX0_cross_0 24 rfl rfl
theorem dksX0_cross_2 : cX0_cross.data.toList.drop 48 = dktX0_cross_2 := dk_seg dksX0_cross_1 24 rfl rfl
theorem dksX0_cross_3 : cX0_cross.data.toList.drop 72 = dktX0_cross_3 := dk_seg dksX0_cross_2 24 rfl rfl
theorem dksX0_cross_4 : cX0_cross.data.toList.drop 94 = dktX0_cross_4 := dk_seg dksX0_cross_3 22 rfl rfl
theorem dksX0_cross_5 : cX0_cross.data.toList.drop 117 = dktX0_cross_5 := dk_seg dksX0_cross_4 23 rfl rfl
theorem dksX0_cross_6 : cX0_cross.data.toList.drop 140 = dktX0_cross_6 := dk_seg dksX0_cross_5 23 rfl rfl
theorem dksX0_cross_7 : cX0_cross.data.toList.drop 162 = dktX0_cross_7 := dk_seg dksX0_cross_6 22 rfl rfl
theorem dksX0_cross_8 : cX0_cross.data.toList.drop 186 = dktX0_cross_8 := dk_seg dksX0_cross_7 24 rfl rfl
theorem dksX0_cross_9 : cX0_cross.data.toList.drop 210 = dktX0_cross_9 := dk_seg dksX0_cross_8 24 rfl rfl
theorem dksX0_cross_10 : cX0_cross.data.toList.drop 233 = dktX0_cross_10 := dk_seg dksX0_cross_9 23 rfl rfl
theorem dksX0_cross_11 : cX0_cross.data.toList.drop 256 = dktX0_cross_11 := dk_seg dksX0_cross_10 23 rfl rfl
theorem dksX0_cross_12 : cX0_cross.data.toList.drop 280 = dktX0_cross_12 := dk_seg dksX0_cross_11 24 rfl rfl
theorem dksX0_cross_13 : cX0_cross.data.toList.drop 303 = dktX0_cross_13 := dk_seg dksX0_cross_12 23 rfl rfl
theorem dX0_cross_0 : decode cX0_cross 0 = .ok (.lconst 0, 1) := dk_9 (dk_at dksX0_cross_0 0 rfl rfl)
theorem dX0_cross_1 : decode cX0_cross 1 = .ok (.lstore_n 3, 1) := dk_66 (dk_at dksX0_cross_0 1 rfl rfl)
theorem dX0_cross_2 : decode cX0_cross 2 = .ok (.iconst 0, 1) := dk_3 (dk_at dksX0_cross_0 2 rfl rfl)
theorem dX0_cross_3 : decode cX0_cross 3 = .ok (.istore 5, 2) := dk_54 5 (dk_at dksX0_cross_0 3 rfl rfl)
theorem dX0_cross_5 : decode cX0_cross 5 = .ok (.iload 5, 2) := dk_21 5 (dk_at dksX0_cross_0 5 rfl rfl)
theorem dX0_cross_7 : decode cX0_cross 7 = .ok (.iconst 3, 1) := dk_6 (dk_at dksX0_cross_0 7 rfl rfl)
theorem dX0_cross_8 : decode cX0_cross 8 = .ok (.if_icmp .ge 73, 3) := dk_162 0 73 (dk_at dksX0_cross_0 8 rfl rfl)
theorem dX0_cross_11 : decode cX0_cross 11 = .ok (.iload 5, 2) := dk_21 5 (dk_at dksX0_cross_0 11 rfl rfl)
theorem dX0_cross_13 : decode cX0_cross 13 = .ok (.iconst 1, 1) := dk_4 (dk_at dksX0_cross_0 13 rfl rfl)
theorem dX0_cross_14 : decode cX0_cross 14 = .ok (.iadd, 1) := dk_96 (dk_at dksX0_cross_0 14 rfl rfl)
theorem dX0_cross_15 : decode cX0_cross 15 = .ok (.iconst 3, 1) := dk_6 (dk_at dksX0_cross_0 15 rfl rfl)
theorem dX0_cross_16 : decode cX0_cross 16 = .ok (.irem, 1) := dk_112 (dk_at dksX0_cross_0 16 rfl rfl)
theorem dX0_cross_17 : decode cX0_cross 17 = .ok (.istore 6, 2) := dk_54 6 (dk_at dksX0_cross_0 17 rfl rfl)
theorem dX0_cross_19 : decode cX0_cross 19 = .ok (.iload 5, 2) := dk_21 5 (dk_at dksX0_cross_0 19 rfl rfl)
theorem dX0_cross_21 : decode cX0_cross 21 = .ok (.iconst 2, 1) := dk_5 (dk_at dksX0_cross_0 21 rfl rfl)
theorem dX0_cross_22 : decode cX0_cross 22 = .ok (.iadd, 1) := dk_96 (dk_at dksX0_cross_0 22 rfl rfl)
theorem dX0_cross_23 : decode cX0_cross 23 = .ok (.iconst 3, 1) := dk_6 (dk_at dksX0_cross_0 23 rfl rfl)
theorem dX0_cross_24 : decode cX0_cross 24 = .ok (.irem, 1) := dk_112 (dk_at dksX0_cross_1 0 rfl rfl)
theorem dX0_cross_25 : decode cX0_cross 25 = .ok (.istore 7, 2) := dk_54 7 (dk_at dksX0_cross_1 1 rfl rfl)
theorem dX0_cross_27 : decode cX0_cross 27 = .ok (.aload_n 0, 1) := dk_42 (dk_at dksX0_cross_1 3 rfl rfl)
theorem dX0_cross_28 : decode cX0_cross 28 = .ok (.getfield 139, 3) := dk_180 0 139 (dk_at dksX0_cross_1 4 rfl rfl)
theorem dX0_cross_31 : decode cX0_cross 31 = .ok (.iload 5, 2) := dk_21 5 (dk_at dksX0_cross_1 7 rfl rfl)
theorem dX0_cross_33 : decode cX0_cross 33 = .ok (.aload_n 0, 1) := dk_42 (dk_at dksX0_cross_1 9 rfl rfl)
theorem dX0_cross_34 : decode cX0_cross 34 = .ok (.getfield 133, 3) := dk_180 0 133 (dk_at dksX0_cross_1 10 rfl rfl)
theorem dX0_cross_37 : decode cX0_cross 37 = .ok (.iload 6, 2) := dk_21 6 (dk_at dksX0_cross_1 13 rfl rfl)
theorem dX0_cross_39 : decode cX0_cross 39 = .ok (.laload, 1) := dk_47 (dk_at dksX0_cross_1 15 rfl rfl)
theorem dX0_cross_40 : decode cX0_cross 40 = .ok (.aload_n 0, 1) := dk_42 (dk_at dksX0_cross_1 16 rfl rfl)
theorem dX0_cross_41 : decode cX0_cross 41 = .ok (.getfield 136, 3) := dk_180 0 136 (dk_at dksX0_cross_1 17 rfl rfl)
theorem dX0_cross_44 : decode cX0_cross 44 = .ok (.iload 7, 2) := dk_21 7 (dk_at dksX0_cross_1 20 rfl rfl)
theorem dX0_cross_46 : decode cX0_cross 46 = .ok (.laload, 1) := dk_47 (dk_at dksX0_cross_1 22 rfl rfl)
theorem dX0_cross_47 : decode cX0_cross 47 = .ok (.lmul, 1) := dk_105 (dk_at dksX0_cross_1 23 rfl rfl)
theorem dX0_cross_48 : decode cX0_cross 48 = .ok (.aload_n 0, 1) := dk_42 (dk_at dksX0_cross_2 0 rfl rfl)
theorem dX0_cross_49 : decode cX0_cross 49 = .ok (.getfield 133, 3) := dk_180 0 133 (dk_at dksX0_cross_2 1 rfl rfl)
theorem dX0_cross_52 : decode cX0_cross 52 = .ok (.iload 7, 2) := dk_21 7 (dk_at dksX0_cross_2 4 rfl rfl)
theorem dX0_cross_54 : decode cX0_cross 54 = .ok (.laload, 1) := dk_47 (dk_at dksX0_cross_2 6 rfl rfl)
theorem dX0_cross_55 : decode cX0_cross 55 = .ok (.aload_n 0, 1) := dk_42 (dk_at dksX0_cross_2 7 rfl rfl)
theorem dX0_cross_56 : decode cX0_cross 56 = .ok (.getfield 136, 3) := dk_180 0 136 (dk_at dksX0_cross_2 8 rfl rfl)
theorem dX0_cross_59 : decode cX0_cross 59 = .ok (.iload 6, 2) := dk_21 6 (dk_at dksX0_cross_2 11 rfl rfl)
theorem dX0_cross_61 : decode cX0_cross 61 = .ok (.laload, 1) := dk_47 (dk_at dksX0_cross_2 13 rfl rfl)
theorem dX0_cross_62 : decode cX0_cross 62 = .ok (.lmul, 1) := dk_105 (dk_at dksX0_cross_2 14 rfl rfl)
theorem dX0_cross_63 : decode cX0_cross 63 = .ok (.lsub, 1) := dk_101 (dk_at dksX0_cross_2 15 rfl rfl)
theorem dX0_cross_64 : decode cX0_cross 64 = .ok (.lastore, 1) := dk_80 (dk_at dksX0_cross_2 16 rfl rfl)
theorem dX0_cross_65 : decode cX0_cross 65 = .ok (.lload_n 3, 1) := dk_33 (dk_at dksX0_cross_2 17 rfl rfl)
theorem dX0_cross_66 : decode cX0_cross 66 = .ok (.aload_n 0, 1) := dk_42 (dk_at dksX0_cross_2 18 rfl rfl)
theorem dX0_cross_67 : decode cX0_cross 67 = .ok (.getfield 139, 3) := dk_180 0 139 (dk_at dksX0_cross_2 19 rfl rfl)
theorem dX0_cross_70 : decode cX0_cross 70 = .ok (.iload 5, 2) := dk_21 5 (dk_at dksX0_cross_2 22 rfl rfl)
theorem dX0_cross_72 : decode cX0_cross 72 = .ok (.laload, 1) := dk_47 (dk_at dksX0_cross_3 0 rfl rfl)
theorem dX0_cross_73 : decode cX0_cross 73 = .ok (.ladd, 1) := dk_97 (dk_at dksX0_cross_3 1 rfl rfl)
theorem dX0_cross_74 : decode cX0_cross 74 = .ok (.lstore_n 3, 1) := dk_66 (dk_at dksX0_cross_3 2 rfl rfl)
theorem dX0_cross_75 : decode cX0_cross 75 = .ok (.iinc 5 1, 3) := dk_132 5 1 (dk_at dksX0_cross_3 3 rfl rfl)
theorem dX0_cross_78 : decode cX0_cross 78 = .ok (.goto (-73), 3) := dk_167 255 183 (dk_at dksX0_cross_3 6 rfl rfl)
theorem dX0_cross_81 : decode cX0_cross 81 = .ok (.lload_n 3, 1) := dk_33 (dk_at dksX0_cross_3 9 rfl rfl)
theorem dX0_cross_82 : decode cX0_cross 82 = .ok (.lconst 0, 1) := dk_9 (dk_at dksX0_cross_3 10 rfl rfl)
theorem dX0_cross_83 : decode cX0_cross 83 = .ok (.lcmp, 1) := dk_148 (dk_at dksX0_cross_3 11 rfl rfl)
theorem dX0_cross_84 : decode cX0_cross 84 = .ok (.ifCond .ne 4, 3) := dk_154 0 4 (dk_at dksX0_cross_3 12 rfl rfl)
theorem dX0_cross_87 : decode cX0_cross 87 = .ok (.return_, 1) := dk_177 (dk_at dksX0_cross_3 15 rfl rfl)
theorem dX0_cross_88 : decode cX0_cross 88 = .ok (.iconst 0, 1) := dk_3 (dk_at dksX0_cross_3 16 rfl rfl)
theorem dX0_cross_89 : decode cX0_cross 89 = .ok (.istore 5, 2) := dk_54 5 (dk_at dksX0_cross_3 17 rfl rfl)
theorem dX0_cross_91 : decode cX0_cross 91 = .ok (.iload 5, 2) := dk_21 5 (dk_at dksX0_cross_3 19 rfl rfl)
theorem dX0_cross_93 : decode cX0_cross 93 = .ok (.iconst 3, 1) := dk_6 (dk_at dksX0_cross_3 21 rfl rfl)
theorem dX0_cross_94 : decode cX0_cross 94 = .ok (.if_icmp .ge 71, 3) := dk_162 0 71 (dk_at dksX0_cross_4 0 rfl rfl)
theorem dX0_cross_97 : decode cX0_cross 97 = .ok (.aload_n 0, 1) := dk_42 (dk_at dksX0_cross_4 3 rfl rfl)
theorem dX0_cross_98 : decode cX0_cross 98 = .ok (.getfield 139, 3) := dk_180 0 139 (dk_at dksX0_cross_4 4 rfl rfl)
theorem dX0_cross_101 : decode cX0_cross 101 = .ok (.iload 5, 2) := dk_21 5 (dk_at dksX0_cross_4 7 rfl rfl)
theorem dX0_cross_103 : decode cX0_cross 103 = .ok (.lload_n 3, 1) := dk_33 (dk_at dksX0_cross_4 9 rfl rfl)
theorem dX0_cross_104 : decode cX0_cross 104 = .ok (.lconst 0, 1) := dk_9 (dk_at dksX0_cross_4 10 rfl rfl)
theorem dX0_cross_105 : decode cX0_cross 105 = .ok (.lcmp, 1) := dk_148 (dk_at dksX0_cross_4 11 rfl rfl)
theorem dX0_cross_106 : decode cX0_cross 106 = .ok (.ifCond .ge 14, 3) := dk_156 0 14 (dk_at dksX0_cross_4 12 rfl rfl)
theorem dX0_cross_109 : decode cX0_cross 109 = .ok (.aload_n 0, 1) := dk_42 (dk_at dksX0_cross_4 15 rfl rfl)
theorem dX0_cross_110 : decode cX0_cross 110 = .ok (.getfield 139, 3) := dk_180 0 139 (dk_at dksX0_cross_4 16 rfl rfl)
theorem dX0_cross_113 : decode cX0_cross 113 = .ok (.iload 5, 2) := dk_21 5 (dk_at dksX0_cross_4 19 rfl rfl)
theorem dX0_cross_115 : decode cX0_cross 115 = .ok (.laload, 1) := dk_47 (dk_at dksX0_cross_4 21 rfl rfl)
theorem dX0_cross_116 : decode cX0_cross 116 = .ok (.lneg, 1) := dk_117 (dk_at dksX0_cross_4 22 rfl rfl)
theorem dX0_cross_117 : decode cX0_cross 117 = .ok (.goto 10, 3) := dk_167 0 10 (dk_at dksX0_cross_5 0 rfl rfl)
theorem dX0_cross_120 : decode cX0_cross 120 = .ok (.aload_n 0, 1) := dk_42 (dk_at dksX0_cross_5 3 rfl rfl)
theorem dX0_cross_121 : decode cX0_cross 121 = .ok (.getfield 139, 3) := dk_180 0 139 (dk_at dksX0_cross_5 4 rfl rfl)
theorem dX0_cross_124 : decode cX0_cross 124 = .ok (.iload 5, 2) := dk_21 5 (dk_at dksX0_cross_5 7 rfl rfl)
theorem dX0_cross_126 : decode cX0_cross 126 = .ok (.laload, 1) := dk_47 (dk_at dksX0_cross_5 9 rfl rfl)
theorem dX0_cross_127 : decode cX0_cross 127 = .ok (.lastore, 1) := dk_80 (dk_at dksX0_cross_5 10 rfl rfl)
theorem dX0_cross_128 : decode cX0_cross 128 = .ok (.aload_n 0, 1) := dk_42 (dk_at dksX0_cross_5 11 rfl rfl)
theorem dX0_cross_129 : decode cX0_cross 129 = .ok (.getfield 139, 3) := dk_180 0 139 (dk_at dksX0_cross_5 12 rfl rfl)
theorem dX0_cross_132 : decode cX0_cross 132 = .ok (.iload 5, 2) := dk_21 5 (dk_at dksX0_cross_5 15 rfl rfl)
theorem dX0_cross_134 : decode cX0_cross 134 = .ok (.laload, 1) := dk_47 (dk_at dksX0_cross_5 17 rfl rfl)
theorem dX0_cross_135 : decode cX0_cross 135 = .ok (.lconst 0, 1) := dk_9 (dk_at dksX0_cross_5 18 rfl rfl)
theorem dX0_cross_136 : decode cX0_cross 136 = .ok (.lcmp, 1) := dk_148 (dk_at dksX0_cross_5 19 rfl rfl)
theorem dX0_cross_137 : decode cX0_cross 137 = .ok (.ifCond .lt 21, 3) := dk_155 0 21 (dk_at dksX0_cross_5 20 rfl rfl)
theorem dX0_cross_140 : decode cX0_cross 140 = .ok (.iload 5, 2) := dk_21 5 (dk_at dksX0_cross_6 0 rfl rfl)
theorem dX0_cross_142 : decode cX0_cross 142 = .ok (.iload_n 1, 1) := dk_27 (dk_at dksX0_cross_6 2 rfl rfl)
theorem dX0_cross_143 : decode cX0_cross 143 = .ok (.if_icmp .lt 16, 3) := dk_161 0 16 (dk_at dksX0_cross_6 3 rfl rfl)
theorem dX0_cross_146 : decode cX0_cross 146 = .ok (.aload_n 0, 1) := dk_42 (dk_at dksX0_cross_6 6 rfl rfl)
theorem dX0_cross_147 : decode cX0_cross 147 = .ok (.getfield 139, 3) := dk_180 0 139 (dk_at dksX0_cross_6 7 rfl rfl)
theorem dX0_cross_150 : decode cX0_cross 150 = .ok (.iload 5, 2) := dk_21 5 (dk_at dksX0_cross_6 10 rfl rfl)
theorem dX0_cross_152 : decode cX0_cross 152 = .ok (.laload, 1) := dk_47 (dk_at dksX0_cross_6 12 rfl rfl)
theorem dX0_cross_153 : decode cX0_cross 153 = .ok (.lconst 0, 1) := dk_9 (dk_at dksX0_cross_6 13 rfl rfl)
theorem dX0_cross_154 : decode cX0_cross 154 = .ok (.lcmp, 1) := dk_148 (dk_at dksX0_cross_6 14 rfl rfl)
theorem dX0_cross_155 : decode cX0_cross 155 = .ok (.ifCond .eq 4, 3) := dk_153 0 4 (dk_at dksX0_cross_6 15 rfl rfl)
theorem dX0_cross_158 : decode cX0_cross 158 = .ok (.return_, 1) := dk_177 (dk_at dksX0_cross_6 18 rfl rfl)
theorem dX0_cross_159 : decode cX0_cross 159 = .ok (.iinc 5 1, 3) := dk_132 5 1 (dk_at dksX0_cross_6 19 rfl rfl)
theorem dX0_cross_162 : decode cX0_cross 162 = .ok (.goto (-71), 3) := dk_167 255 185 (dk_at dksX0_cross_7 0 rfl rfl)
theorem dX0_cross_165 : decode cX0_cross 165 = .ok (.lload_n 3, 1) := dk_33 (dk_at dksX0_cross_7 3 rfl rfl)
theorem dX0_cross_166 : decode cX0_cross 166 = .ok (.invokestatic 448, 3) := dk_184 1 192 (dk_at dksX0_cross_7 4 rfl rfl)
theorem dX0_cross_169 : decode cX0_cross 169 = .ok (.lstore 5, 2) := dk_55 5 (dk_at dksX0_cross_7 7 rfl rfl)
theorem dX0_cross_171 : decode cX0_cross 171 = .ok (.lconst 0, 1) := dk_9 (dk_at dksX0_cross_7 9 rfl rfl)
theorem dX0_cross_172 : decode cX0_cross 172 = .ok (.lstore 7, 2) := dk_55 7 (dk_at dksX0_cross_7 10 rfl rfl)
theorem dX0_cross_174 : decode cX0_cross 174 = .ok (.iconst 0, 1) := dk_3 (dk_at dksX0_cross_7 12 rfl rfl)
theorem dX0_cross_175 : decode cX0_cross 175 = .ok (.istore 9, 2) := dk_54 9 (dk_at dksX0_cross_7 13 rfl rfl)
theorem dX0_cross_177 : decode cX0_cross 177 = .ok (.iload 9, 2) := dk_21 9 (dk_at dksX0_cross_7 15 rfl rfl)
theorem dX0_cross_179 : decode cX0_cross 179 = .ok (.iload_n 2, 1) := dk_28 (dk_at dksX0_cross_7 17 rfl rfl)
theorem dX0_cross_180 : decode cX0_cross 180 = .ok (.if_icmp .ge 59, 3) := dk_162 0 59 (dk_at dksX0_cross_7 18 rfl rfl)
theorem dX0_cross_183 : decode cX0_cross 183 = .ok (.lconst 0, 1) := dk_9 (dk_at dksX0_cross_7 21 rfl rfl)
theorem dX0_cross_184 : decode cX0_cross 184 = .ok (.lstore 10, 2) := dk_55 10 (dk_at dksX0_cross_7 22 rfl rfl)
theorem dX0_cross_186 : decode cX0_cross 186 = .ok (.iconst 0, 1) := dk_3 (dk_at dksX0_cross_8 0 rfl rfl)
theorem dX0_cross_187 : decode cX0_cross 187 = .ok (.istore 12, 2) := dk_54 12 (dk_at dksX0_cross_8 1 rfl rfl)
theorem dX0_cross_189 : decode cX0_cross 189 = .ok (.iload 12, 2) := dk_21 12 (dk_at dksX0_cross_8 3 rfl rfl)
theorem dX0_cross_191 : decode cX0_cross 191 = .ok (.iload_n 1, 1) := dk_27 (dk_at dksX0_cross_8 5 rfl rfl)
theorem dX0_cross_192 : decode cX0_cross 192 = .ok (.if_icmp .ge 32, 3) := dk_162 0 32 (dk_at dksX0_cross_8 6 rfl rfl)
theorem dX0_cross_195 : decode cX0_cross 195 = .ok (.lload 10, 2) := dk_22 10 (dk_at dksX0_cross_8 9 rfl rfl)
theorem dX0_cross_197 : decode cX0_cross 197 = .ok (.aload_n 0, 1) := dk_42 (dk_at dksX0_cross_8 11 rfl rfl)
theorem dX0_cross_198 : decode cX0_cross 198 = .ok (.getfield 139, 3) := dk_180 0 139 (dk_at dksX0_cross_8 12 rfl rfl)
theorem dX0_cross_201 : decode cX0_cross 201 = .ok (.iload 12, 2) := dk_21 12 (dk_at dksX0_cross_8 15 rfl rfl)
theorem dX0_cross_203 : decode cX0_cross 203 = .ok (.laload, 1) := dk_47 (dk_at dksX0_cross_8 17 rfl rfl)
theorem dX0_cross_204 : decode cX0_cross 204 = .ok (.aload_n 0, 1) := dk_42 (dk_at dksX0_cross_8 18 rfl rfl)
theorem dX0_cross_205 : decode cX0_cross 205 = .ok (.getfield 130, 3) := dk_180 0 130 (dk_at dksX0_cross_8 19 rfl rfl)
theorem dX0_cross_208 : decode cX0_cross 208 = .ok (.iload 12, 2) := dk_21 12 (dk_at dksX0_cross_8 22 rfl rfl)
theorem dX0_cross_210 : decode cX0_cross 210 = .ok (.aaload, 1) := dk_50 (dk_at dksX0_cross_9 0 rfl rfl)
theorem dX0_cross_211 : decode cX0_cross 211 = .ok (.iload 9, 2) := dk_21 9 (dk_at dksX0_cross_9 1 rfl rfl)
theorem dX0_cross_213 : decode cX0_cross 213 = .ok (.laload, 1) := dk_47 (dk_at dksX0_cross_9 3 rfl rfl)
theorem dX0_cross_214 : decode cX0_cross 214 = .ok (.lmul, 1) := dk_105 (dk_at dksX0_cross_9 4 rfl rfl)
theorem dX0_cross_215 : decode cX0_cross 215 = .ok (.ladd, 1) := dk_97 (dk_at dksX0_cross_9 5 rfl rfl)
theorem dX0_cross_216 : decode cX0_cross 216 = .ok (.lstore 10, 2) := dk_55 10 (dk_at dksX0_cross_9 6 rfl rfl)
theorem dX0_cross_218 : decode cX0_cross 218 = .ok (.iinc 12 1, 3) := dk_132 12 1 (dk_at dksX0_cross_9 8 rfl rfl)
theorem dX0_cross_221 : decode cX0_cross 221 = .ok (.goto (-32), 3) := dk_167 255 224 (dk_at dksX0_cross_9 11 rfl rfl)
theorem dX0_cross_224 : decode cX0_cross 224 = .ok (.lload 7, 2) := dk_22 7 (dk_at dksX0_cross_9 14 rfl rfl)
theorem dX0_cross_226 : decode cX0_cross 226 = .ok (.lload 10, 2) := dk_22 10 (dk_at dksX0_cross_9 16 rfl rfl)
theorem dX0_cross_228 : decode cX0_cross 228 = .ok (.invokestatic 452, 3) := dk_184 1 196 (dk_at dksX0_cross_9 18 rfl rfl)
theorem dX0_cross_231 : decode cX0_cross 231 = .ok (.lstore 7, 2) := dk_55 7 (dk_at dksX0_cross_9 21 rfl rfl)
theorem dX0_cross_233 : decode cX0_cross 233 = .ok (.iinc 9 1, 3) := dk_132 9 1 (dk_at dksX0_cross_10 0 rfl rfl)
theorem dX0_cross_236 : decode cX0_cross 236 = .ok (.goto (-59), 3) := dk_167 255 197 (dk_at dksX0_cross_10 3 rfl rfl)
theorem dX0_cross_239 : decode cX0_cross 239 = .ok (.aload_n 0, 1) := dk_42 (dk_at dksX0_cross_10 6 rfl rfl)
theorem dX0_cross_240 : decode cX0_cross 240 = .ok (.getfield 455, 3) := dk_180 1 199 (dk_at dksX0_cross_10 7 rfl rfl)
theorem dX0_cross_243 : decode cX0_cross 243 = .ok (.lconst 0, 1) := dk_9 (dk_at dksX0_cross_10 10 rfl rfl)
theorem dX0_cross_244 : decode cX0_cross 244 = .ok (.lcmp, 1) := dk_148 (dk_at dksX0_cross_10 11 rfl rfl)
theorem dX0_cross_245 : decode cX0_cross 245 = .ok (.ifCond .le 49, 3) := dk_158 0 49 (dk_at dksX0_cross_10 12 rfl rfl)
theorem dX0_cross_248 : decode cX0_cross 248 = .ok (.lload 7, 2) := dk_22 7 (dk_at dksX0_cross_10 15 rfl rfl)
theorem dX0_cross_250 : decode cX0_cross 250 = .ok (.aload_n 0, 1) := dk_42 (dk_at dksX0_cross_10 17 rfl rfl)
theorem dX0_cross_251 : decode cX0_cross 251 = .ok (.getfield 455, 3) := dk_180 1 199 (dk_at dksX0_cross_10 18 rfl rfl)
theorem dX0_cross_254 : decode cX0_cross 254 = .ok (.lmul, 1) := dk_105 (dk_at dksX0_cross_10 21 rfl rfl)
theorem dX0_cross_255 : decode cX0_cross 255 = .ok (.aload_n 0, 1) := dk_42 (dk_at dksX0_cross_10 22 rfl rfl)
theorem dX0_cross_256 : decode cX0_cross 256 = .ok (.getfield 458, 3) := dk_180 1 202 (dk_at dksX0_cross_11 0 rfl rfl)
theorem dX0_cross_259 : decode cX0_cross 259 = .ok (.lload 5, 2) := dk_22 5 (dk_at dksX0_cross_11 3 rfl rfl)
theorem dX0_cross_261 : decode cX0_cross 261 = .ok (.lmul, 1) := dk_105 (dk_at dksX0_cross_11 5 rfl rfl)
theorem dX0_cross_262 : decode cX0_cross 262 = .ok (.lcmp, 1) := dk_148 (dk_at dksX0_cross_11 6 rfl rfl)
theorem dX0_cross_263 : decode cX0_cross 263 = .ok (.ifCond .gt 30, 3) := dk_157 0 30 (dk_at dksX0_cross_11 7 rfl rfl)
theorem dX0_cross_266 : decode cX0_cross 266 = .ok (.lload 7, 2) := dk_22 7 (dk_at dksX0_cross_11 10 rfl rfl)
theorem dX0_cross_268 : decode cX0_cross 268 = .ok (.aload_n 0, 1) := dk_42 (dk_at dksX0_cross_11 12 rfl rfl)
theorem dX0_cross_269 : decode cX0_cross 269 = .ok (.getfield 455, 3) := dk_180 1 199 (dk_at dksX0_cross_11 13 rfl rfl)
theorem dX0_cross_272 : decode cX0_cross 272 = .ok (.lmul, 1) := dk_105 (dk_at dksX0_cross_11 16 rfl rfl)
theorem dX0_cross_273 : decode cX0_cross 273 = .ok (.aload_n 0, 1) := dk_42 (dk_at dksX0_cross_11 17 rfl rfl)
theorem dX0_cross_274 : decode cX0_cross 274 = .ok (.getfield 458, 3) := dk_180 1 202 (dk_at dksX0_cross_11 18 rfl rfl)
theorem dX0_cross_277 : decode cX0_cross 277 = .ok (.lload 5, 2) := dk_22 5 (dk_at dksX0_cross_11 21 rfl rfl)
theorem dX0_cross_279 : decode cX0_cross 279 = .ok (.lmul, 1) := dk_105 (dk_at dksX0_cross_11 23 rfl rfl)
theorem dX0_cross_280 : decode cX0_cross 280 = .ok (.lcmp, 1) := dk_148 (dk_at dksX0_cross_12 0 rfl rfl)
theorem dX0_cross_281 : decode cX0_cross 281 = .ok (.ifCond .ne 13, 3) := dk_154 0 13 (dk_at dksX0_cross_12 1 rfl rfl)
theorem dX0_cross_284 : decode cX0_cross 284 = .ok (.aload_n 0, 1) := dk_42 (dk_at dksX0_cross_12 4 rfl rfl)
theorem dX0_cross_285 : decode cX0_cross 285 = .ok (.lload 5, 2) := dk_22 5 (dk_at dksX0_cross_12 5 rfl rfl)
theorem dX0_cross_287 : decode cX0_cross 287 = .ok (.invokevirtual 461, 3) := dk_182 1 205 (dk_at dksX0_cross_12 7 rfl rfl)
theorem dX0_cross_290 : decode cX0_cross 290 = .ok (.ifCond .ne 4, 3) := dk_154 0 4 (dk_at dksX0_cross_12 10 rfl rfl)
theorem dX0_cross_293 : decode cX0_cross 293 = .ok (.return_, 1) := dk_177 (dk_at dksX0_cross_12 13 rfl rfl)
theorem dX0_cross_294 : decode cX0_cross 294 = .ok (.aload_n 0, 1) := dk_42 (dk_at dksX0_cross_12 14 rfl rfl)
theorem dX0_cross_295 : decode cX0_cross 295 = .ok (.lload 7, 2) := dk_22 7 (dk_at dksX0_cross_12 15 rfl rfl)
theorem dX0_cross_297 : decode cX0_cross 297 = .ok (.putfield 458, 3) := dk_181 1 202 (dk_at dksX0_cross_12 17 rfl rfl)
theorem dX0_cross_300 : decode cX0_cross 300 = .ok (.aload_n 0, 1) := dk_42 (dk_at dksX0_cross_12 20 rfl rfl)
theorem dX0_cross_301 : decode cX0_cross 301 = .ok (.lload 5, 2) := dk_22 5 (dk_at dksX0_cross_12 21 rfl rfl)
theorem dX0_cross_303 : decode cX0_cross 303 = .ok (.putfield 455, 3) := dk_181 1 199 (dk_at dksX0_cross_13 0 rfl rfl)
theorem dX0_cross_306 : decode cX0_cross 306 = .ok (.aload_n 0, 1) := dk_42 (dk_at dksX0_cross_13 3 rfl rfl)
theorem dX0_cross_307 : decode cX0_cross 307 = .ok (.getfield 139, 3) := dk_180 0 139 (dk_at dksX0_cross_13 4 rfl rfl)
theorem dX0_cross_310 : decode cX0_cross 310 = .ok (.iconst 0, 1) := dk_3 (dk_at dksX0_cross_13 7 rfl rfl)
theorem dX0_cross_311 : decode cX0_cross 311 = .ok (.aload_n 0, 1) := dk_42 (dk_at dksX0_cross_13 8 rfl rfl)
theorem dX0_cross_312 : decode cX0_cross 312 = .ok (.getfield 142, 3) := dk_180 0 142 (dk_at dksX0_cross_13 9 rfl rfl)
theorem dX0_cross_315 : decode cX0_cross 315 = .ok (.iconst 0, 1) := dk_3 (dk_at dksX0_cross_13 12 rfl rfl)
theorem dX0_cross_316 : decode cX0_cross 316 = .ok (.iconst 3, 1) := dk_6 (dk_at dksX0_cross_13 13 rfl rfl)
theorem dX0_cross_317 : decode cX0_cross 317 = .ok (.invokestatic 192, 3) := dk_184 0 192 (dk_at dksX0_cross_13 14 rfl rfl)
theorem dX0_cross_320 : decode cX0_cross 320 = .ok (.return_, 1) := dk_177 (dk_at dksX0_cross_13 17 rfl rfl)
abbrev cX0_isGreater : ByteArray := prog_1_method_66_code
def yX0_isGreater : MethodName := ⟨RX0, "isGreater", "(J)Z"⟩
def dkwX0_isGreater_2 : List UInt8 := [105, 148, 158, 0, 7, 4, 167, 0, 4, 3, 172, 132, 3, 1, 167, 255, 196, 3, 172]
abbrev dktX0_isGreater_2 : List UInt8 := dkwX0_isGreater_2 ++ []
def dkwX0_isGreater_1 : List UInt8 := [31, 105, 148, 153, 0, 32, 42, 180, 0, 139, 29, 47, 42, 180, 1, 199, 105, 42, 180, 0, 142, 29, 47, 31]
abbrev dktX0_isGreater_1 : List UInt8 := dkwX0_isGreater_1 ++ dktX0_isGreater_2
def dkwX0_isGreater_0 : List UInt8 := [3, 62, 29, 6, 162, 0, 61, 42, 180, 0, 139, 29, 47, 42, 180, 1, 199, 105, 42, 180, 0, 142, 29, 47]
abbrev dktX0_isGreater_0 : List UInt8 := dkwX0_isGreater_0 ++ dktX0_isGreater_1
theorem dksX0_isGreater_0 : cX0_isGreater.data.toList.drop 0 = dktX0_isGreater_0 := by decide +kernel
theorem dksX0_isGreater_1 : cX0_isGreater.data.toList.drop 24 = dktX0_isGreater_1 := dk_seg dksX0_isGreater_0 24 rfl rfl
theorem dksX0_isGreater_2 : cX0_isGreater.data.toList.drop 48 = dktX0_isGreater_2 := dk_seg dksX0_isGreater_1 24 rfl rfl
theorem dX0_isGreater_0 : decode cX0_isGreater 0 = .ok (.iconst 0, 1) := dk_3 (dk_at dksX0_isGreater_0 0 rfl rfl)
theorem dX0_isGreater_1 : decode cX0_isGreater 1 = .ok (.istore_n 3, 1) := dk_62 (dk_at dksX0_isGreater_0 1 rfl rfl)
theorem dX0_isGreater_2 : decode cX0_isGreater 2 = .ok (.iload_n 3, 1) := dk_29 (dk_at dksX0_isGreater_0 2 rfl rfl)
theorem dX0_isGreater_3 : decode cX0_isGreater 3 = .ok (.iconst 3, 1) := dk_6 (dk_at dksX0_isGreater_0 3 rfl rfl)
theorem dX0_isGreater_4 : decode cX0_isGreater 4 = .ok (.if_icmp .ge 61, 3) := dk_162 0 61 (dk_at dksX0_isGreater_0 4 rfl rfl)
theorem dX0_isGreater_7 : decode cX0_isGreater 7 = .ok (.aload_n 0, 1) := dk_42 (dk_at dksX0_isGreater_0 7 rfl rfl)
theorem dX0_isGreater_8 : decode cX0_isGreater 8 = .ok (.getfield 139, 3) := dk_180 0 139 (dk_at dksX0_isGreater_0 8 rfl rfl)
theorem dX0_isGreater_11 : decode cX0_isGreater 11 = .ok (.iload_n 3, 1) := dk_29 (dk_at dksX0_isGreater_0 11 rfl rfl)
theorem dX0_isGreater_12 : decode cX0_isGreater 12 = .ok (.laload, 1) := dk_47 (dk_at dksX0_isGreater_0 12 rfl rfl)
theorem dX0_isGreater_13 : decode cX0_isGreater 13 = .ok (.aload_n 0, 1) := dk_42 (dk_at dksX0_isGreater_0 13 rfl rfl)
theorem dX0_isGreater_14 : decode cX0_isGreater 14 = .ok (.getfield 455, 3) := dk_180 1 199 (dk_at dksX0_isGreater_0 14 rfl rfl)
theorem dX0_isGreater_17 : decode cX0_isGreater 17 = .ok (.lmul, 1) := dk_105 (dk_at dksX0_isGreater_0 17 rfl rfl)
theorem dX0_isGreater_18 : decode cX0_isGreater 18 = .ok (.aload_n 0, 1) := dk_42 (dk_at dksX0_isGreater_0 18 rfl rfl)
theorem dX0_isGreater_19 : decode cX0_isGreater 19 = .ok (.getfield 142, 3) := dk_180 0 142 (dk_at dksX0_isGreater_0 19 rfl rfl)
theorem dX0_isGreater_22 : decode cX0_isGreater 22 = .ok (.iload_n 3, 1) := dk_29 (dk_at dksX0_isGreater_0 22 rfl rfl)
theorem dX0_isGreater_23 : decode cX0_isGreater 23 = .ok (.laload, 1) := dk_47 (dk_at dksX0_isGreater_0 23 rfl rfl)
theorem dX0_isGreater_24 : decode cX0_isGreater 24 = .ok (.lload_n 1, 1) := dk_31 (dk_at dksX0_isGreater_1 0 rfl rfl)
theorem dX0_isGreater_25 : decode cX0_isGreater 25 = .ok (.lmul, 1) := dk_105 (dk_at dksX0_isGreater_1 1 rfl rfl)
theorem dX0_isGreater_26 : decode cX0_isGreater 26 = .ok (.lcmp, 1) := dk_148 (dk_at dksX0_isGreater_1 2 rfl rfl)
theorem dX0_isGreater_27 : decode cX0_isGreater 27 = .ok (.ifCond .eq 32, 3) := dk_153 0 32 (dk_at dksX0_isGreater_1 3 rfl rfl)
theorem dX0_isGreater_30 : decode cX0_isGreater 30 = .ok (.aload_n 0, 1) := dk_42 (dk_at dksX0_isGreater_1 6 rfl rfl)
theorem dX0_isGreater_31 : decode cX0_isGreater 31 = .ok (.getfield 139, 3) := dk_180 0 139 (dk_at dksX0_isGreater_1 7 rfl rfl)
theorem dX0_isGreater_34 : decode cX0_isGreater 34 = .ok (.iload_n 3, 1) := dk_29 (dk_at dksX0_isGreater_1 10 rfl rfl)
theorem dX0_isGreater_35 : decode cX0_isGreater 35 = .ok (.laload, 1) := dk_47 (dk_at dksX0_isGreater_1 11 rfl rfl)
theorem dX0_isGreater_36 : decode cX0_isGreater 36 = .ok (.aload_n 0, 1) := dk_42 (dk_at dksX0_isGreater_1 12 rfl rfl)
theorem dX0_isGreater_37 : decode cX0_isGreater 37 = .ok (.getfield 455, 3) := dk_180 1 199 (dk_at dksX0_isGreater_1 13 rfl rfl)
theorem dX0_isGreater_40 : decode cX0_isGreater 40 = .ok (.lmul, 1) := dk_105 (dk_at dksX0_isGreater_1 16 rfl rfl)
theorem dX0_isGreater_41 : decode cX0_isGreater 41 = .ok (.aload_n 0, 1) := dk_42 (dk_at dksX0_isGreater_1 17 rfl rfl)
theorem dX0_isGreater_42 : decode cX0_isGreater 42 = .ok (.getfield 142, 3) := dk_180 0 142 (dk_at dksX0_isGreater_1 18 rfl rfl)
theorem dX0_isGreater_45 : decode cX0_isGreater 45 = .ok (.iload_n 3, 1) := dk_29 (dk_at dksX0_isGreater_1 21 rfl rfl)
theorem dX0_isGreater_46 : decode cX0_isGreater 46 = .ok (.laload, 1) := dk_47 (dk_at dksX0_isGreater_1 22 rfl rfl)
theorem dX0_isGreater_47 : decode cX0_isGreater 47 = .ok (.lload_n 1, 1) := dk_31 (dk_at dksX0_isGreater_1 23 rfl rfl)
theorem dX0_isGreater_48 : decode cX0_isGreater 48 = .ok (.lmul, 1) := dk_105 (dk_at dksX0_isGreater_2 0 rfl rfl)
theorem dX0_isGreater_49 : decode cX0_isGreater 49 = .ok (.lcmp, 1) := dk_148 (dk_at dksX0_isGreater_2 1 rfl rfl)
theorem dX0_isGreater_50 : decode cX0_isGreater 50 = .ok (.ifCond .le 7, 3) := dk_158 0 7 (dk_at dksX0_isGreater_2 2 rfl rfl)
theorem dX0_isGreater_53 : decode cX0_isGreater 53 = .ok (.iconst 1, 1) := dk_4 (dk_at dksX0_isGreater_2 5 rfl rfl)
theorem dX0_isGreater_54 : decode cX0_isGreater 54 = .ok (.goto 4, 3) := dk_167 0 4 (dk_at dksX0_isGreater_2 6 rfl rfl)
theorem dX0_isGreater_57 : decode cX0_isGreater 57 = .ok (.iconst 0, 1) := dk_3 (dk_at dksX0_isGreater_2 9 rfl rfl)
theorem dX0_isGreater_58 : decode cX0_isGreater 58 = .ok (.ireturn, 1) := dk_172 (dk_at dksX0_isGreater_2 10 rfl rfl)
theorem dX0_isGreater_59 : decode cX0_isGreater 59 = .ok (.iinc 3 1, 3) := dk_132 3 1 (dk_at dksX0_isGreater_2 11 rfl rfl)
theorem dX0_isGreater_62 : decode cX0_isGreater 62 = .ok (.goto (-60), 3) := dk_167 255 196 (dk_at dksX0_isGreater_2 14 rfl rfl)
theorem dX0_isGreater_65 : decode cX0_isGreater 65 = .ok (.iconst 0, 1) := dk_3 (dk_at dksX0_isGreater_2 17 rfl rfl)
theorem dX0_isGreater_66 : decode cX0_isGreater 66 = .ok (.ireturn, 1) := dk_172 (dk_at dksX0_isGreater_2 18 rfl rfl)
abbrev cX0_chance : ByteArray := prog_1_method_69_code
def yX0_chance : MethodName := ⟨RX0, "chance", "(I)Z"⟩
def dkwX0_chance_2 : List UInt8 := [182, 1, 125, 172]
abbrev dktX0_chance_2 : List UInt8 := dkwX0_chance_2 ++ []
def dkwX0_chance_1 : List UInt8 := [27, 47, 42, 180, 0, 145, 3, 47, 42, 180, 0, 145, 4, 47, 97, 42, 180, 0, 145, 5, 47, 97]
abbrev dktX0_chance_1 : List UInt8 := dkwX0_chance_1 ++ dktX0_chance_2
def dkwX0_chance_0 : List UInt8 := [27, 155, 0, 11, 27, 42, 180, 1, 222, 161, 0, 10, 42, 16, 8, 182, 0, 155, 172, 42, 42, 180, 0, 145]
abbrev dktX0_chance_0 : List UInt8 := dkwX0_chance_0 ++ dktX0_chance_1
theorem dksX0_chance_0 : cX0_chance.data.toList.drop 0 = dktX0_chance_0 := by decide +kernel
theorem dksX0_chance_1 : cX0_chance.data.toList.drop 24 = dktX0_chance_1 := dk_seg dksX0_chance_0 24 rfl rfl
theorem dksX0_chance_2 : cX0_chance.data.toList.drop 46 = dktX0_chance_2 := dk_seg dksX0_chance_1 22 rfl rfl
theorem dX0_chance_0 : decode cX0_chance 0 = .ok (.iload_n 1, 1) := dk_27 (dk_at dksX0_chance_0 0 rfl rfl)
theorem dX0_chance_1 : decode cX0_chance 1 = .ok (.ifCond .lt 11, 3) := dk_155 0 11 (dk_at dksX0_chance_0 1 rfl rfl)
theorem dX0_chance_4 : decode cX0_chance 4 = .ok (.iload_n 1, 1) := dk_27 (dk_at dksX0_chance_0 4 rfl rfl)
theorem dX0_chance_5 : decode cX0_chance 5 = .ok (.aload_n 0, 1) := dk_42 (dk_at dksX0_chance_0 5 rfl rfl)
theorem dX0_chance_6 : decode cX0_chance 6 = .ok (.getfield 478, 3) := dk_180 1 222 (dk_at dksX0_chance_0 6 rfl rfl)
theorem dX0_chance_9 : decode cX0_chance 9 = .ok (.if_icmp .lt 10, 3) := dk_161 0 10 (dk_at dksX0_chance_0 9 rfl rfl)
theorem dX0_chance_12 : decode cX0_chance 12 = .ok (.aload_n 0, 1) := dk_42 (dk_at dksX0_chance_0 12 rfl rfl)
theorem dX0_chance_13 : decode cX0_chance 13 = .ok (.bipush 8, 2) := dk_16 8 (dk_at dksX0_chance_0 13 rfl rfl)
theorem dX0_chance_15 : decode cX0_chance 15 = .ok (.invokevirtual 155, 3) := dk_182 0 155 (dk_at dksX0_chance_0 15 rfl rfl)
theorem dX0_chance_18 : decode cX0_chance 18 = .ok (.ireturn, 1) := dk_172 (dk_at dksX0_chance_0 18 rfl rfl)
theorem dX0_chance_19 : decode cX0_chance 19 = .ok (.aload_n 0, 1) := dk_42 (dk_at dksX0_chance_0 19 rfl rfl)
theorem dX0_chance_20 : decode cX0_chance 20 = .ok (.aload_n 0, 1) := dk_42 (dk_at dksX0_chance_0 20 rfl rfl)
theorem dX0_chance_21 : decode cX0_chance 21 = .ok (.getfield 145, 3) := dk_180 0 145 (dk_at dksX0_chance_0 21 rfl rfl)
theorem dX0_chance_24 : decode cX0_chance 24 = .ok (.iload_n 1, 1) := dk_27 (dk_at dksX0_chance_1 0 rfl rfl)
theorem dX0_chance_25 : decode cX0_chance 25 = .ok (.laload, 1) := dk_47 (dk_at dksX0_chance_1 1 rfl rfl)
theorem dX0_chance_26 : decode cX0_chance 26 = .ok (.aload_n 0, 1) := dk_42 (dk_at dksX0_chance_1 2 rfl rfl)
theorem dX0_chance_27 : decode cX0_chance 27 = .ok (.getfield 145, 3) := dk_180 0 145 (dk_at dksX0_chance_1 3 rfl rfl)
theorem dX0_chance_30 : decode cX0_chance 30 = .ok (.iconst 0, 1) := dk_3 (dk_at dksX0_chance_1 6 rfl rfl)
theorem dX0_chance_31 : decode cX0_chance 31 = .ok (.laload, 1) := dk_47 (dk_at dksX0_chance_1 7 rfl rfl)
theorem dX0_chance_32 : decode cX0_chance 32 = .ok (.aload_n 0, 1) := dk_42 (dk_at dksX0_chance_1 8 rfl rfl)
theorem dX0_chance_33 : decode cX0_chance 33 = .ok (.getfield 145, 3) := dk_180 0 145 (dk_at dksX0_chance_1 9 rfl rfl)
theorem dX0_chance_36 : decode cX0_chance 36 = .ok (.iconst 1, 1) := dk_4 (dk_at dksX0_chance_1 12 rfl rfl)
theorem dX0_chance_37 : decode cX0_chance 37 = .ok (.laload, 1) := dk_47 (dk_at dksX0_chance_1 13 rfl rfl)
theorem dX0_chance_38 : decode cX0_chance 38 = .ok (.ladd, 1) := dk_97 (dk_at dksX0_chance_1 14 rfl rfl)
theorem dX0_chance_39 : decode cX0_chance 39 = .ok (.aload_n 0, 1) := dk_42 (dk_at dksX0_chance_1 15 rfl rfl)
theorem dX0_chance_40 : decode cX0_chance 40 = .ok (.getfield 145, 3) := dk_180 0 145 (dk_at dksX0_chance_1 16 rfl rfl)
theorem dX0_chance_43 : decode cX0_chance 43 = .ok (.iconst 2, 1) := dk_5 (dk_at dksX0_chance_1 19 rfl rfl)
theorem dX0_chance_44 : decode cX0_chance 44 = .ok (.laload, 1) := dk_47 (dk_at dksX0_chance_1 20 rfl rfl)
theorem dX0_chance_45 : decode cX0_chance 45 = .ok (.ladd, 1) := dk_97 (dk_at dksX0_chance_1 21 rfl rfl)
theorem dX0_chance_46 : decode cX0_chance 46 = .ok (.invokevirtual 381, 3) := dk_182 1 125 (dk_at dksX0_chance_2 0 rfl rfl)
theorem dX0_chance_49 : decode cX0_chance 49 = .ok (.ireturn, 1) := dk_172 (dk_at dksX0_chance_2 3 rfl rfl)
abbrev cX0_door : ByteArray := prog_1_method_70_code
def yX0_door : MethodName := ⟨RX0, "door", "(II)I"⟩
def dkwX0_door_7 : List UInt8 := [22, 4, 42, 182, 1, 121, 182, 1, 125, 87, 42, 29, 182, 0, 234, 172]
abbrev dktX0_door_7 : List UInt8 := dkwX0_door_7 ++ []
def dkwX0_door_6 : List UInt8 := [62, 132, 6, 1, 167, 255, 150, 22, 4, 20, 0, 184, 148, 154, 0, 10, 42, 16, 9, 182, 0, 176, 172, 42]
abbrev dktX0_door_6 : List UInt8 := dkwX0_door_6 ++ dktX0_door_7
def dkwX0_door_5 : List UInt8 := [20, 0, 184, 148, 153, 0, 14, 22, 7, 22, 4, 148, 155, 0, 6, 167, 0, 10, 22, 7, 55, 4, 21, 6]
abbrev dktX0_door_5 : List UInt8 := dkwX0_door_5 ++ dktX0_door_6
def dkwX0_door_4 : List UInt8 := [180, 0, 57, 180, 1, 10, 21, 6, 50, 3, 181, 1, 11, 22, 7, 20, 0, 184, 148, 153, 0, 30, 22, 4]
abbrev dktX0_door_4 : List UInt8 := dkwX0_door_4 ++ dktX0_door_5
def dkwX0_door_3 : List UInt8 := [180, 0, 57, 180, 1, 10, 21, 6, 50, 4, 181, 1, 11, 42, 27, 28, 182, 1, 118, 55, 7, 42]
abbrev dktX0_door_3 : List UInt8 := dkwX0_door_3 ++ dktX0_door_4
def dkwX0_door_2 : List UInt8 := [162, 0, 100, 42, 180, 0, 57, 180, 1, 10, 21, 6, 50, 180, 1, 11, 153, 0, 6, 167, 0, 75, 42]
abbrev dktX0_door_2 : List UInt8 := dkwX0_door_2 ++ dktX0_door_3
def dkwX0_door_1 : List UInt8 := [2, 62, 42, 27, 28, 182, 1, 118, 55, 4, 3, 54, 6, 21, 6, 42, 180, 0, 57, 180, 0, 203]
abbrev dktX0_door_1 : List UInt8 := dkwX0_door_1 ++ dktX0_door_2
def dkwX0_door_0 : List UInt8 := [42, 27, 133, 182, 1, 93, 153, 0, 12, 42, 28, 133, 182, 1, 93, 154, 0, 9, 42, 5, 182, 0, 176, 172]
abbrev dktX0_door_0 : List UInt8 := dkwX0_door_0 ++ dktX0_door_1
theorem dksX0_door_0 : cX0_door.data.toList.drop 0 = dktX0_door_0 := by decide +kernel
theorem dksX0_door_1 : cX0_door.data.toList.drop 24 = dktX0_door_1 := dk_seg dksX0_door_0 24 rfl rfl
theorem dksX0_door_2 : cX0_door.data.toList.drop 46 = dktX0_door_2 := dk_seg dksX0_door_1 22 rfl rfl
theorem dksX0_door_3 : cX0_door.data.toList.drop 69 = dktX0_door_3 := dk_seg dksX0_door_2 23 rfl rfl
theorem dksX0_door_4 : cX0_door.data.toList.drop 91 = dktX0_door_4 := dk_seg dksX0_door_3 22 rfl rfl
theorem dksX0_door_5 : cX0_door.data.toList.drop 115 = dktX0_door_5 := dk_seg dksX0_door_4 24 rfl rfl
theorem dksX0_door_6 : cX0_door.data.toList.drop 139 = dktX0_door_6 := dk_seg dksX0_door_5 24 rfl rfl
theorem dksX0_door_7 : cX0_door.data.toList.drop 163 = dktX0_door_7 := dk_seg dksX0_door_6 24 rfl rfl
theorem dX0_door_0 : decode cX0_door 0 = .ok (.aload_n 0, 1) := dk_42 (dk_at dksX0_door_0 0 rfl rfl)
theorem dX0_door_1 : decode cX0_door 1 = .ok (.iload_n 1, 1) := dk_27 (dk_at dksX0_door_0 1 rfl rfl)
theorem dX0_door_2 : decode cX0_door 2 = .ok (.i2l, 1) := dk_133 (dk_at dksX0_door_0 2 rfl rfl)
theorem dX0_door_3 : decode cX0_door 3 = .ok (.invokevirtual 349, 3) := dk_182 1 93 (dk_at dksX0_door_0 3 rfl rfl)
theorem dX0_door_6 : decode cX0_door 6 = .ok (.ifCond .eq 12, 3) := dk_153 0 12 (dk_at dksX0_door_0 6 rfl rfl)
theorem dX0_door_9 : decode cX0_door 9 = .ok (.aload_n 0, 1) := dk_42 (dk_at dksX0_door_0 9 rfl rfl)
theorem dX0_door_10 : decode cX0_door 10 = .ok (.iload_n 2, 1) := dk_28 (dk_at dksX0_door_0 10 rfl rfl)
theorem dX0_door_11 : decode cX0_door 11 = .ok (.i2l, 1) := dk_133 (dk_at dksX0_door_0 11 rfl rfl)
theorem dX0_door_12 : decode cX0_door 12 = .ok (.invokevirtual 349, 3) := dk_182 1 93 (dk_at dksX0_door_0 12 rfl rfl)
theorem dX0_door_15 : decode cX0_door 15 = .ok (.ifCond .ne 9, 3) := dk_154 0 9 (dk_at dksX0_door_0 15 rfl rfl)
theorem dX0_door_18 : decode cX0_door 18 = .ok (.aload_n 0, 1) := dk_42 (dk_at dksX0_door_0 18 rfl rfl)
theorem dX0_door_19 : decode cX0_door 19 = .ok (.iconst 2, 1) := dk_5 (dk_at dksX0_door_0 19 rfl rfl)
theorem dX0_door_20 : decode cX0_door 20 = .ok (.invokevirtual 176, 3) := dk_182 0 176 (dk_at dksX0_door_0 20 rfl rfl)
theorem dX0_door_23 : decode cX0_door 23 = .ok (.ireturn, 1) := dk_172 (dk_at dksX0_door_0 23 rfl rfl)
theorem dX0_door_24 : decode cX0_door 24 = .ok (.iconst (-1), 1) := dk_2 (dk_at dksX0_door_1 0 rfl rfl)
theorem dX0_door_25 : decode cX0_door 25 = .ok (.istore_n 3, 1) := dk_62 (dk_at dksX0_door_1 1 rfl rfl)
theorem dX0_door_26 : decode cX0_door 26 = .ok (.aload_n 0, 1) := dk_42 (dk_at dksX0_door_1 2 rfl rfl)
theorem dX0_door_27 : decode cX0_door 27 = .ok (.iload_n 1, 1) := dk_27 (dk_at dksX0_door_1 3 rfl rfl)
theorem dX0_door_28 : decode cX0_door 28 = .ok (.iload_n 2, 1) := dk_28 (dk_at dksX0_door_1 4 rfl rfl)
theorem dX0_door_29 : decode cX0_door 29 = .ok (.invokevirtual 374, 3) := dk_182 1 118 (dk_at dksX0_door_1 5 rfl rfl)
theorem dX0_door_32 : decode cX0_door 32 = .ok (.lstore 4, 2) := dk_55 4 (dk_at dksX0_door_1 8 rfl rfl)
theorem dX0_door_34 : decode cX0_door 34 = .ok (.iconst 0, 1) := dk_3 (dk_at dksX0_door_1 10 rfl rfl)
theorem dX0_door_35 : decode cX0_door 35 = .ok (.istore 6, 2) := dk_54 6 (dk_at dksX0_door_1 11 rfl rfl)
theorem dX0_door_37 : decode cX0_door 37 = .ok (.iload 6, 2) := dk_21 6 (dk_at dksX0_door_1 13 rfl rfl)
theorem dX0_door_39 : decode cX0_door 39 = .ok (.aload_n 0, 1) := dk_42 (dk_at dksX0_door_1 15 rfl rfl)
theorem dX0_door_40 : decode cX0_door 40 = .ok (.getfield 57, 3) := dk_180 0 57 (dk_at dksX0_door_1 16 rfl rfl)
theorem dX0_door_43 : decode cX0_door 43 = .ok (.getfield 203, 3) := dk_180 0 203 (dk_at dksX0_door_1 19 rfl rfl)
theorem dX0_door_46 : decode cX0_door 46 = .ok (.if_icmp .ge 100, 3) := dk_162 0 100 (dk_at dksX0_door_2 0 rfl rfl)
theorem dX0_door_49 : decode cX0_door 49 = .ok (.aload_n 0, 1) := dk_42 (dk_at dksX0_door_2 3 rfl rfl)
theorem dX0_door_50 : decode cX0_door 50 = .ok (.getfield 57, 3) := dk_180 0 57 (dk_at dksX0_door_2 4 rfl rfl)
theorem dX0_door_53 : decode cX0_door 53 = .ok (.getfield 266, 3) := dk_180 1 10 (dk_at dksX0_door_2 7 rfl rfl)
theorem dX0_door_56 : decode cX0_door 56 = .ok (.iload 6, 2) := dk_21 6 (dk_at dksX0_door_2 10 rfl rfl)
theorem dX0_door_58 : decode cX0_door 58 = .ok (.aaload, 1) := dk_50 (dk_at dksX0_door_2 12 rfl rfl)
theorem dX0_door_59 : decode cX0_door 59 = .ok (.getfield 267, 3) := dk_180 1 11 (dk_at dksX0_door_2 13 rfl rfl)
theorem dX0_door_62 : decode cX0_door 62 = .ok (.ifCond .eq 6, 3) := dk_153 0 6 (dk_at dksX0_door_2 16 rfl rfl)
theorem dX0_door_65 : decode cX0_door 65 = .ok (.goto 75, 3) := dk_167 0 75 (dk_at dksX0_door_2 19 rfl rfl)
theorem dX0_door_68 : decode cX0_door 68 = .ok (.aload_n 0, 1) := dk_42 (dk_at dksX0_door_2 22 rfl rfl)
theorem dX0_door_69 : decode cX0_door 69 = .ok (.getfield 57, 3) := dk_180 0 57 (dk_at dksX0_door_3 0 rfl rfl)
theorem dX0_door_72 : decode cX0_door 72 = .ok (.getfield 266, 3) := dk_180 1 10 (dk_at dksX0_door_3 3 rfl rfl)
theorem dX0_door_75 : decode cX0_door 75 = .ok (.iload 6, 2) := dk_21 6 (dk_at dksX0_door_3 6 rfl rfl)
theorem dX0_door_77 : decode cX0_door 77 = .ok (.aaload, 1) := dk_50 (dk_at dksX0_door_3 8 rfl rfl)
theorem dX0_door_78 : decode cX0_door 78 = .ok (.iconst 1, 1) := dk_4 (dk_at dksX0_door_3 9 rfl rfl)
theorem dX0_door_79 : decode cX0_door 79 = .ok (.putfield 267, 3) := dk_181 1 11 (dk_at dksX0_door_3 10 rfl rfl)
theorem dX0_door_82 : decode cX0_door 82 = .ok (.aload_n 0, 1) := dk_42 (dk_at dksX0_door_3 13 rfl rfl)
theorem dX0_door_83 : decode cX0_door 83 = .ok (.iload_n 1, 1) := dk_27 (dk_at dksX0_door_3 14 rfl rfl)
theorem dX0_door_84 : decode cX0_door 84 = .ok (.iload_n 2, 1) := dk_28 (dk_at dksX0_door_3 15 rfl rfl)
theorem dX0_door_85 : decode cX0_door 85 = .ok (.invokevirtual 374, 3) := dk_182 1 118 (dk_at dksX0_door_3 16 rfl rfl)
theorem dX0_door_88 : decode cX0_door 88 = .ok (.lstore 7, 2) := dk_55 7 (dk_at dksX0_door_3 19 rfl rfl)
theorem dX0_door_90 : decode cX0_door 90 = .ok (.aload_n 0, 1) := dk_42 (dk_at dksX0_door_3 21 rfl rfl)
theorem dX0_door_91 : decode cX0_door 91 = .ok (.getfield 57, 3) := dk_180 0 57 (dk_at dksX0_door_4 0 rfl rfl)
theorem dX0_door_94 : decode cX0_door 94 = .ok (.getfield 266, 3) := dk_180 1 10 (dk_at dksX0_door_4 3 rfl rfl)
theorem dX0_door_97 : decode cX0_door 97 = .ok (.iload 6, 2) := dk_21 6 (dk_at dksX0_door_4 6 rfl rfl)
theorem dX0_door_99 : decode cX0_door 99 = .ok (.aaload, 1) := dk_50 (dk_at dksX0_door_4 8 rfl rfl)
theorem dX0_door_100 : decode cX0_door 100 = .ok (.iconst 0, 1) := dk_3 (dk_at dksX0_door_4 9 rfl rfl)
theorem dX0_door_101 : decode cX0_door 101 = .ok (.putfield 267, 3) := dk_181 1 11 (dk_at dksX0_door_4 10 rfl rfl)
theorem dX0_door_104 : decode cX0_door 104 = .ok (.lload 7, 2) := dk_22 7 (dk_at dksX0_door_4 13 rfl rfl)
theorem dX0_door_106 : decode cX0_door 106 = .ok (.ldc2_w 184, 3) := dk_20 0 184 (dk_at dksX0_door_4 15 rfl rfl)
theorem dX0_door_109 : decode cX0_door 109 = .ok (.lcmp, 1) := dk_148 (dk_at dksX0_door_4 18 rfl rfl)
theorem dX0_door_110 : decode cX0_door 110 = .ok (.ifCond .eq 30, 3) := dk_153 0 30 (dk_at dksX0_door_4 19 rfl rfl)
theorem dX0_door_113 : decode cX0_door 113 = .ok (.lload 4, 2) := dk_22 4 (dk_at dksX0_door_4 22 rfl rfl)
theorem dX0_door_115 : decode cX0_door 115 = .ok (.ldc2_w 184, 3) := dk_20 0 184 (dk_at dksX0_door_5 0 rfl rfl)
theorem dX0_door_118 : decode cX0_door 118 = .ok (.lcmp, 1) := dk_148 (dk_at dksX0_door_5 3 rfl rfl)
theorem dX0_door_119 : decode cX0_door 119 = .ok (.ifCond .eq 14, 3) := dk_153 0 14 (dk_at dksX0_door_5 4 rfl rfl)
theorem dX0_door_122 : decode cX0_door 122 = .ok (.lload 7, 2) := dk_22 7 (dk_at dksX0_door_5 7 rfl rfl)
theorem dX0_door_124 : decode cX0_door 124 = .ok (.lload 4, 2) := dk_22 4 (dk_at dksX0_door_5 9 rfl rfl)
theorem dX0_door_126 : decode cX0_door 126 = .ok (.lcmp, 1) := dk_148 (dk_at dksX0_door_5 11 rfl rfl)
theorem dX0_door_127 : decode cX0_door 127 = .ok (.ifCond .lt 6, 3) := dk_155 0 6 (dk_at dksX0_door_5 12 rfl rfl)
theorem dX0_door_130 : decode cX0_door 130 = .ok (.goto 10, 3) := dk_167 0 10 (dk_at dksX0_door_5 15 rfl rfl)
theorem dX0_door_133 : decode cX0_door 133 = .ok (.lload 7, 2) := dk_22 7 (dk_at dksX0_door_5 18 rfl rfl)
theorem dX0_door_135 : decode cX0_door 135 = .ok (.lstore 4, 2) := dk_55 4 (dk_at dksX0_door_5 20 rfl rfl)
theorem dX0_door_137 : decode cX0_door 137 = .ok (.iload 6, 2) := dk_21 6 (dk_at dksX0_door_5 22 rfl rfl)
theorem dX0_door_139 : decode cX0_door 139 = .ok (.istore_n 3, 1) := dk_62 (dk_at dksX0_door_6 0 rfl rfl)
theorem dX0_door_140 : decode cX0_door 140 = .ok (.iinc 6 1, 3) := dk_132 6 1 (dk_at dksX0_door_6 1 rfl rfl)
theorem dX0_door_143 : decode cX0_door 143 = .ok (.goto (-106), 3) := dk_167 255 150 (dk_at dksX0_door_6 4 rfl rfl)
theorem dX0_door_146 : decode cX0_door 146 = .ok (.lload 4, 2) := dk_22 4 (dk_at dksX0_door_6 7 rfl rfl)
theorem dX0_door_148 : decode cX0_door 148 = .ok (.ldc2_w 184, 3) := dk_20 0 184 (dk_at dksX0_door_6 9 rfl rfl)
theorem dX0_door_151 : decode cX0_door 151 = .ok (.lcmp, 1) := dk_148 (dk_at dksX0_door_6 12 rfl rfl)
theorem dX0_door_152 : decode cX0_door 152 = .ok (.ifCond .ne 10, 3) := dk_154 0 10 (dk_at dksX0_door_6 13 rfl rfl)
theorem dX0_door_155 : decode cX0_door 155 = .ok (.aload_n 0, 1) := dk_42 (dk_at dksX0_door_6 16 rfl rfl)
theorem dX0_door_156 : decode cX0_door 156 = .ok (.bipush 9, 2) := dk_16 9 (dk_at dksX0_door_6 17 rfl rfl)
theorem dX0_door_158 : decode cX0_door 158 = .ok (.invokevirtual 176, 3) := dk_182 0 176 (dk_at dksX0_door_6 19 rfl rfl)
theorem dX0_door_161 : decode cX0_door 161 = .ok (.ireturn, 1) := dk_172 (dk_at dksX0_door_6 22 rfl rfl)
theorem dX0_door_162 : decode cX0_door 162 = .ok (.aload_n 0, 1) := dk_42 (dk_at dksX0_door_6 23 rfl rfl)
theorem dX0_door_163 : decode cX0_door 163 = .ok (.lload 4, 2) := dk_22 4 (dk_at dksX0_door_7 0 rfl rfl)
theorem dX0_door_165 : decode cX0_door 165 = .ok (.aload_n 0, 1) := dk_42 (dk_at dksX0_door_7 2 rfl rfl)
theorem dX0_door_166 : decode cX0_door 166 = .ok (.invokevirtual 377, 3) := dk_182 1 121 (dk_at dksX0_door_7 3 rfl rfl)
theorem dX0_door_169 : decode cX0_door 169 = .ok (.invokevirtual 381, 3) := dk_182 1 125 (dk_at dksX0_door_7 6 rfl rfl)
theorem dX0_door_172 : decode cX0_door 172 = .ok (.pop, 1) := dk_87 (dk_at dksX0_door_7 9 rfl rfl)
theorem dX0_door_173 : decode cX0_door 173 = .ok (.aload_n 0, 1) := dk_42 (dk_at dksX0_door_7 10 rfl rfl)
theorem dX0_door_174 : decode cX0_door 174 = .ok (.iload_n 3, 1) := dk_29 (dk_at dksX0_door_7 11 rfl rfl)
theorem dX0_door_175 : decode cX0_door 175 = .ok (.invokevirtual 234, 3) := dk_182 0 234 (dk_at dksX0_door_7 12 rfl rfl)
theorem dX0_door_178 : decode cX0_door 178 = .ok (.ireturn, 1) := dk_172 (dk_at dksX0_door_7 15 rfl rfl)
abbrev cX0_wander : ByteArray := prog_1_method_71_code
def yX0_wander : MethodName := ⟨RX0, "wander", "(III)I"⟩
def dkwX0_wander_10 : List UInt8 := [182, 0, 176, 172]
abbrev dktX0_wander_10 : List UInt8 := dkwX0_wander_10 ++ []
def dkwX0_wander_9 : List UInt8 := [182, 1, 89, 153, 0, 12, 42, 21, 5, 4, 96, 182, 0, 234, 172, 132, 5, 1, 167, 255, 100, 42, 16, 8]
abbrev dktX0_wander_9 : List UInt8 := dkwX0_wander_9 ++ dktX0_wander_10
def dkwX0_wander_8 : List UInt8 := [180, 0, 44, 25, 7, 21, 4, 19, 1, 229, 108, 8, 112, 182, 1, 61, 181, 1, 55, 42, 25, 6, 25, 7]
abbrev dktX0_wander_8 : List UInt8 := dkwX0_wander_8 ++ dktX0_wander_9
def dkwX0_wander_7 : List UInt8 := [182, 1, 61, 181, 1, 55, 21, 4, 19, 1, 225, 104, 17, 48, 57, 96, 19, 1, 228, 126, 54, 4, 42]
abbrev dktX0_wander_7 : List UInt8 := dkwX0_wander_7 ++ dktX0_wander_8
def dkwX0_wander_6 : List UInt8 := [17, 48, 57, 96, 19, 1, 228, 126, 54, 4, 42, 180, 0, 40, 25, 6, 21, 4, 19, 1, 229, 108, 8, 112]
abbrev dktX0_wander_6 : List UInt8 := dkwX0_wander_6 ++ dktX0_wander_7
def dkwX0_wander_5 : List UInt8 := [180, 0, 40, 180, 1, 55, 58, 6, 42, 180, 0, 44, 180, 1, 55, 58, 7, 21, 4, 19, 1, 225, 104]
abbrev dktX0_wander_5 : List UInt8 := dkwX0_wander_5 ++ dktX0_wander_6
def dkwX0_wander_4 : List UInt8 := [166, 0, 10, 42, 21, 5, 182, 0, 234, 172, 21, 5, 17, 3, 232, 160, 0, 6, 167, 0, 119, 42]
abbrev dktX0_wander_4 : List UInt8 := dkwX0_wander_4 ++ dktX0_wander_5
def dkwX0_wander_3 : List UInt8 := [54, 5, 21, 5, 17, 3, 232, 163, 0, 154, 42, 180, 0, 40, 180, 1, 55, 42, 180, 0, 44, 180, 1, 55]
abbrev dktX0_wander_3 : List UInt8 := dkwX0_wander_3 ++ dktX0_wander_4
def dkwX0_wander_2 : List UInt8 := [181, 1, 55, 42, 180, 0, 44, 42, 180, 0, 57, 180, 0, 240, 29, 50, 181, 1, 55, 27, 54, 4, 3]
abbrev dktX0_wander_2 : List UInt8 := dkwX0_wander_2 ++ dktX0_wander_3
def dkwX0_wander_1 : List UInt8 := [156, 0, 9, 42, 8, 182, 0, 176, 172, 42, 180, 0, 40, 42, 180, 0, 57, 180, 0, 240, 28, 50]
abbrev dktX0_wander_1 : List UInt8 := dkwX0_wander_1 ++ dktX0_wander_2
def dkwX0_wander_0 : List UInt8 := [42, 28, 182, 0, 237, 153, 0, 11, 42, 29, 182, 0, 237, 154, 0, 9, 42, 5, 182, 0, 176, 172, 27]
abbrev dktX0_wander_0 : List UInt8 := dkwX0_wander_0 ++ dktX0_wander_1
theorem dksX0_wander_0 : cX0_wander.data.toList.drop 0 = dktX0_wander_0 := by decide +kernel
theorem dksX0_wander_1 : cX0_wander.data.toList.drop 23 = dktX0_wander_1 := dk_seg dksX0_wander_0 23 rfl rfl
theorem dksX0_wander_2 : cX0_wander.data.toList.drop 45 = dktX0_wander_2 := dk_seg dksX0_wander_1 22 rfl rfl
theorem dksX0_wander_3 : cX0_wander.data.toList.drop 68 = dktX0_wander_3 := dk_seg dksX0_wander_2 23 rfl rfl
theorem dksX0_wander_4 : cX0_wander.data.toList.drop 92 = dktX0_wander_4 := dk_seg dksX0_wander_3 24 rfl rfl
theorem dksX0_wander_5 : cX0_wander.data.toList.drop 114 = dktX0_wander_5 := dk_seg dksX0_wander_4 22 rfl rfl
theorem dksX0_wander_6 : cX0_wander.data.toList.drop 137 = dktX0_wander_6 := dk_seg dksX0_wander_5 23 rfl rfl
theorem dksX0_wander_7 : cX0_wander.data.toList.drop 161 = dktX0_wander_7 := dk_seg dksX0_wander_6 24 rfl rfl
theorem dksX0_wander_8 : cX0_wander.data.toList.drop 184 = dktX0_wander_8 := dk_seg dksX0_wander_7 23 rfl rfl
theorem dksX0_wander_9 : cX0_wander.data.toList.drop 208 = dktX0_wander_9 := dk_seg dksX0_wander_8 24 rfl rfl
theorem dksX0_wander_10 : cX0_wander.data.toList.drop 232 = dktX0_wander_10 := dk_seg dksX0_wander_9 24 rfl rfl
theorem dX0_wander_0 : decode cX0_wander 0 = .ok (.aload_n 0, 1) := dk_42 (dk_at dksX0_wander_0 0 rfl rfl)
theorem dX0_wander_1 : decode cX0_wander 1 = .ok (.iload_n 2, 1) := dk_28 (dk_at dksX0_wander_0 1 rfl rfl)
theorem dX0_wander_2 : decode cX0_wander 2 = .ok (.invokevirtual 237, 3) := dk_182 0 237 (dk_at dksX0_wander_0 2 rfl rfl)
theorem dX0_wander_5 : decode cX0_wander 5 = .ok (.ifCond .eq 11, 3) := dk_153 0 11 (dk_at dksX0_wander_0 5 rfl rfl)
theorem dX0_wander_8 : decode cX0_wander 8 = .ok (.aload_n 0, 1) := dk_42 (dk_at dksX0_wander_0 8 rfl rfl)
theorem dX0_wander_9 : decode cX0_wander 9 = .ok (.iload_n 3, 1) := dk_29 (dk_at dksX0_wander_0 9 rfl rfl)
theorem dX0_wander_10 : decode cX0_wander 10 = .ok (.invokevirtual 237, 3) := dk_182 0 237 (dk_at dksX0_wander_0 10 rfl rfl)
theorem dX0_wander_13 : decode cX0_wander 13 = .ok (.ifCond .ne 9, 3) := dk_154 0 9 (dk_at dksX0_wander_0 13 rfl rfl)
theorem dX0_wander_16 : decode cX0_wander 16 = .ok (.aload_n 0, 1) := dk_42 (dk_at dksX0_wander_0 16 rfl rfl)
theorem dX0_wander_17 : decode cX0_wander 17 = .ok (.iconst 2, 1) := dk_5 (dk_at dksX0_wander_0 17 rfl rfl)
theorem dX0_wander_18 : decode cX0_wander 18 = .ok (.invokevirtual 176, 3) := dk_182 0 176 (dk_at dksX0_wander_0 18 rfl rfl)
theorem dX0_wander_21 : decode cX0_wander 21 = .ok (.ireturn, 1) := dk_172 (dk_at dksX0_wander_0 21 rfl rfl)
theorem dX0_wander_22 : decode cX0_wander 22 = .ok (.iload_n 1, 1) := dk_27 (dk_at dksX0_wander_0 22 rfl rfl)
theorem dX0_wander_23 : decode cX0_wander 23 = .ok (.ifCond .ge 9, 3) := dk_156 0 9 (dk_at dksX0_wander_1 0 rfl rfl)
theorem dX0_wander_26 : decode cX0_wander 26 = .ok (.aload_n 0, 1) := dk_42 (dk_at dksX0_wander_1 3 rfl rfl)
theorem dX0_wander_27 : decode cX0_wander 27 = .ok (.iconst 5, 1) := dk_8 (dk_at dksX0_wander_1 4 rfl rfl)
theorem dX0_wander_28 : decode cX0_wander 28 = .ok (.invokevirtual 176, 3) := dk_182 0 176 (dk_at dksX0_wander_1 5 rfl rfl)
theorem dX0_wander_31 : decode cX0_wander 31 = .ok (.ireturn, 1) := dk_172 (dk_at dksX0_wander_1 8 rfl rfl)
theorem dX0_wander_32 : decode cX0_wander 32 = .ok (.aload_n 0, 1) := dk_42 (dk_at dksX0_wander_1 9 rfl rfl)
theorem dX0_wander_33 : decode cX0_wander 33 = .ok (.getfield 40, 3) := dk_180 0 40 (dk_at dksX0_wander_1 10 rfl rfl)
theorem dX0_wander_36 : decode cX0_wander 36 = .ok (.aload_n 0, 1) := dk_42 (dk_at dksX0_wander_1 13 rfl rfl)
theorem dX0_wander_37 : decode cX0_wander 37 = .ok (.getfield 57, 3) := dk_180 0 57 (dk_at dksX0_wander_1 14 rfl rfl)
theorem dX0_wander_40 : decode cX0_wander 40 = .ok (.getfield 240, 3) := dk_180 0 240 (dk_at dksX0_wander_1 17 rfl rfl)
theorem dX0_wander_43 : decode cX0_wander 43 = .ok (.iload_n 2, 1) := dk_28 (dk_at dksX0_wander_1 20 rfl rfl)
theorem dX0_wander_44 : decode cX0_wander 44 = .ok (.aaload, 1) := dk_50 (dk_at dksX0_wander_1 21 rfl rfl)
theorem dX0_wander_45 : decode cX0_wander 45 = .ok (.putfield 311, 3) := dk_181 1 55 (dk_at dksX0_wander_2 0 rfl rfl)
theorem dX0_wander_48 : decode cX0_wander 48 = .ok (.aload_n 0, 1) := dk_42 (dk_at dksX0_wander_2 3 rfl rfl)
theorem dX0_wander_49 : decode cX0_wander 49 = .ok (.getfield 44, 3) := dk_180 0 44 (dk_at dksX0_wander_2 4 rfl rfl)
theorem dX0_wander_52 : decode cX0_wander 52 = .ok (.aload_n 0, 1) := dk_42 (dk_at dksX0_wander_2 7 rfl rfl)
theorem dX0_wander_53 : decode cX0_wander 53 = .ok (.getfield 57, 3) := dk_180 0 57 (dk_at dksX0_wander_2 8 rfl rfl)
theorem dX0_wander_56 : decode cX0_wander 56 = .ok (.getfield 240, 3) := dk_180 0 240 (dk_at dksX0_wander_2 11 rfl rfl)
theorem dX0_wander_59 : decode cX0_wander 59 = .ok (.iload_n 3, 1) := dk_29 (dk_at dksX0_wander_2 14 rfl rfl)
theorem dX0_wander_60 : decode cX0_wander 60 = .ok (.aaload, 1) := dk_50 (dk_at dksX0_wander_2 15 rfl rfl)
theorem dX0_wander_61 : decode cX0_wander 61 = .ok (.putfield 311, 3) := dk_181 1 55 (dk_at dksX0_wander_2 16 rfl rfl)
theorem dX0_wander_64 : decode cX0_wander 64 = .ok (.iload_n 1, 1) := dk_27 (dk_at dksX0_wander_2 19 rfl rfl)
theorem dX0_wander_65 : decode cX0_wander 65 = .ok (.istore 4, 2) := dk_54 4 (dk_at dksX0_wander_2 20 rfl rfl)
theorem dX0_wander_67 : decode cX0_wander 67 = .ok (.iconst 0, 1) := dk_3 (dk_at dksX0_wander_2 22 rfl rfl)
theorem dX0_wander_68 : decode cX0_wander 68 = .ok (.istore 5, 2) := dk_54 5 (dk_at dksX0_wander_3 0 rfl rfl)
theorem dX0_wander_70 : decode cX0_wander 70 = .ok (.iload 5, 2) := dk_21 5 (dk_at dksX0_wander_3 2 rfl rfl)
theorem dX0_wander_72 : decode cX0_wander 72 = .ok (.sipush 1000, 3) := dk_17 3 232 (dk_at dksX0_wander_3 4 rfl rfl)
theorem dX0_wander_75 : decode cX0_wander 75 = .ok (.if_icmp .gt 154, 3) := dk_163 0 154 (dk_at dksX0_wander_3 7 rfl rfl)
theorem dX0_wander_78 : decode cX0_wander 78 = .ok (.aload_n 0, 1) := dk_42 (dk_at dksX0_wander_3 10 rfl rfl)
theorem dX0_wander_79 : decode cX0_wander 79 = .ok (.getfield 40, 3) := dk_180 0 40 (dk_at dksX0_wander_3 11 rfl rfl)
theorem dX0_wander_82 : decode cX0_wander 82 = .ok (.getfield 311, 3) := dk_180 1 55 (dk_at dksX0_wander_3 14 rfl rfl)
theorem dX0_wander_85 : decode cX0_wander 85 = .ok (.aload_n 0, 1) := dk_42 (dk_at dksX0_wander_3 17 rfl rfl)
theorem dX0_wander_86 : decode cX0_wander 86 = .ok (.getfield 44, 3) := dk_180 0 44 (dk_at dksX0_wander_3 18 rfl rfl)
theorem dX0_wander_89 : decode cX0_wander 89 = .ok (.getfield 311, 3) := dk_180 1 55 (dk_at dksX0_wander_3 21 rfl rfl)
theorem dX0_wander_92 : decode cX0_wander 92 = .ok (.if_acmp .ne 10, 3) := dk_166 0 10 (dk_at dksX0_wander_4 0 rfl rfl)
theorem dX0_wander_95 : decode cX0_wander 95 = .ok (.aload_n 0, 1) := dk_42 (dk_at dksX0_wander_4 3 rfl rfl)
theorem dX0_wander_96 : decode cX0_wander 96 = .ok (.iload 5, 2) := dk_21 5 (dk_at dksX0_wander_4 4 rfl rfl)
theorem dX0_wander_98 : decode cX0_wander 98 = .ok (.invokevirtual 234, 3) := dk_182 0 234 (dk_at dksX0_wander_4 6 rfl rfl)
theorem dX0_wander_101 : decode cX0_wander 101 = .ok (.ireturn, 1) := dk_172 (dk_at dksX0_wander_4 9 rfl rfl)
theorem dX0_wander_102 : decode cX0_wander 102 = .ok (.iload 5, 2) := dk_21 5 (dk_at dksX0_wander_4 10 rfl rfl)
theorem dX0_wander_104 : decode cX0_wander 104 = .ok (.sipush 1000, 3) := dk_17 3 232 (dk_at dksX0_wander_4 12 rfl rfl)
theorem dX0_wander_107 : decode cX0_wander 107 = .ok (.if_icmp .ne 6, 3) := dk_160 0 6 (dk_at dksX0_wander_4 15 rfl rfl)
theorem dX0_wander_110 : decode cX0_wander 110 = .ok (.goto 119, 3) := dk_167 0 119 (dk_at dksX0_wander_4 18 rfl rfl)
theorem dX0_wander_113 : decode cX0_wander 113 = .ok (.aload_n 0, 1) := dk_42 (dk_at dksX0_wander_4 21 rfl rfl)
theorem dX0_wander_114 : decode cX0_wander 114 = .ok (.getfield 40, 3) := dk_180 0 40 (dk_at dksX0_wander_5 0 rfl rfl)
theorem dX0_wander_117 : decode cX0_wander 117 = .ok (.getfield 311, 3) := dk_180 1 55 (dk_at dksX0_wander_5 3 rfl rfl)
theorem dX0_wander_120 : decode cX0_wander 120 = .ok (.astore 6, 2) := dk_58 6 (dk_at dksX0_wander_5 6 rfl rfl)
theorem dX0_wander_122 : decode cX0_wander 122 = .ok (.aload_n 0, 1) := dk_42 (dk_at dksX0_wander_5 8 rfl rfl)
theorem dX0_wander_123 : decode cX0_wander 123 = .ok (.getfield 44, 3) := dk_180 0 44 (dk_at dksX0_wander_5 9 rfl rfl)
theorem dX0_wander_126 : decode cX0_wander 126 = .ok (.getfield 311, 3) := dk_180 1 55 (dk_at dksX0_wander_5 12 rfl rfl)
theorem dX0_wander_129 : decode cX0_wander 129 = .ok (.astore 7, 2) := dk_58 7 (dk_at dksX0_wander_5 15 rfl rfl)
theorem dX0_wander_131 : decode cX0_wander 131 = .ok (.iload 4, 2) := dk_21 4 (dk_at dksX0_wander_5 17 rfl rfl)
theorem dX0_wander_133 : decode cX0_wander 133 = .ok (.ldc_w 481, 3) := dk_19 1 225 (dk_at dksX0_wander_5 19 rfl rfl)
theorem dX0_wander_136 : decode cX0_wander 136 = .ok (.imul, 1) := dk_104 (dk_at dksX0_wander_5 22 rfl rfl)
theorem dX0_wander_137 : decode cX0_wander 137 = .ok (.sipush 12345, 3) := dk_17 48 57 (dk_at dksX0_wander_6 0 rfl rfl)
theorem dX0_wander_140 : decode cX0_wander 140 = .ok (.iadd, 1) := dk_96 (dk_at dksX0_wander_6 3 rfl rfl)
theorem dX0_wander_141 : decode cX0_wander 141 = .ok (.ldc_w 484, 3) := dk_19 1 228 (dk_at dksX0_wander_6 4 rfl rfl)
theorem dX0_wander_144 : decode cX0_wander 144 = .ok (.iand, 1) := dk_126 (dk_at dksX0_wander_6 7 rfl rfl)
theorem dX0_wander_145 : decode cX0_wander 145 = .ok (.istore 4, 2) := dk_54 4 (dk_at dksX0_wander_6 8 rfl rfl)
theorem dX0_wander_147 : decode cX0_wander 147 = .ok (.aload_n 0, 1) := dk_42 (dk_at dksX0_wander_6 10 rfl rfl)
theorem dX0_wander_148 : decode cX0_wander 148 = .ok (.getfield 40, 3) := dk_180 0 40 (dk_at dksX0_wander_6 11 rfl rfl)
theorem dX0_wander_151 : decode cX0_wander 151 = .ok (.aload 6, 2) := dk_25 6 (dk_at dksX0_wander_6 14 rfl rfl)
theorem dX0_wander_153 : decode cX0_wander 153 = .ok (.iload 4, 2) := dk_21 4 (dk_at dksX0_wander_6 16 rfl rfl)
theorem dX0_wander_155 : decode cX0_wander 155 = .ok (.ldc_w 485, 3) := dk_19 1 229 (dk_at dksX0_wander_6 18 rfl rfl)
theorem dX0_wander_158 : decode cX0_wander 158 = .ok (.idiv, 1) := dk_108 (dk_at dksX0_wander_6 21 rfl rfl)
theorem dX0_wander_159 : decode cX0_wander 159 = .ok (.iconst 5, 1) := dk_8 (dk_at dksX0_wander_6 22 rfl rfl)
theorem dX0_wander_160 : decode cX0_wander 160 = .ok (.irem, 1) := dk_112 (dk_at dksX0_wander_6 23 rfl rfl)
theorem dX0_wander_161 : decode cX0_wander 161 = .ok (.invokevirtual 317, 3) := dk_182 1 61 (dk_at dksX0_wander_7 0 rfl rfl)
theorem dX0_wander_164 : decode cX0_wander 164 = .ok (.putfield 311, 3) := dk_181 1 55 (dk_at dksX0_wander_7 3 rfl rfl)
theorem dX0_wander_167 : decode cX0_wander 167 = .ok (.iload 4, 2) := dk_21 4 (dk_at dksX0_wander_7 6 rfl rfl)
theorem dX0_wander_169 : decode cX0_wander 169 = .ok (.ldc_w 481, 3) := dk_19 1 225 (dk_at dksX0_wander_7 8 rfl rfl)
theorem dX0_wander_172 : decode cX0_wander 172 = .ok (.imul, 1) := dk_104 (dk_at dksX0_wander_7 11 rfl rfl)
theorem dX0_wander_173 : decode cX0_wander 173 = .ok (.sipush 12345, 3) := dk_17 48 57 (dk_at dksX0_wander_7 12 rfl rfl)
theorem dX0_wander_176 : decode cX0_wander 176 = .ok (.iadd, 1) := dk_96 (dk_at dksX0_wander_7 15 rfl rfl)
theorem dX0_wander_177 : decode cX0_wander 177 = .ok (.ldc_w 484, 3) := dk_19 1 228 (dk_at dksX0_wander_7 16 rfl rfl)
theorem dX0_wander_180 : decode cX0_wander 180 = .ok (.iand, 1) := dk_126 (dk_at dksX0_wander_7 19 rfl rfl)
theorem dX0_wander_181 : decode cX0_wander 181 = .ok (.istore 4, 2) := dk_54 4 (dk_at dksX0_wander_7 20 rfl rfl)
theorem dX0_wander_183 : decode cX0_wander 183 = .ok (.aload_n 0, 1) := dk_42 (dk_at dksX0_wander_7 22 rfl rfl)
theorem dX0_wander_184 : decode cX0_wander 184 = .ok (.getfield 44, 3) := dk_180 0 44 (dk_at dksX0_wander_8 0 rfl rfl)
theorem dX0_wander_187 : decode cX0_wander 187 = .ok (.aload 7, 2) := dk_25 7 (dk_at dksX0_wander_8 3 rfl rfl)
theorem dX0_wander_189 : decode cX0_wander 189 = .ok (.iload 4, 2) := dk_21 4 (dk_at dksX0_wander_8 5 rfl rfl)
theorem dX0_wander_191 : decode cX0_wander 191 = .ok (.ldc_w 485, 3) := dk_19 1 229 (dk_at dksX0_wander_8 7 rfl rfl)
theorem dX0_wander_194 : decode cX0_wander 194 = .ok (.idiv, 1) := dk_108 (dk_at dksX0_wander_8 10 rfl rfl)
theorem dX0_wander_195 : decode cX0_wander 195 = .ok (.iconst 5, 1) := dk_8 (dk_at dksX0_wander_8 11 rfl rfl)
theorem dX0_wander_196 : decode cX0_wander 196 = .ok (.irem, 1) := dk_112 (dk_at dksX0_wander_8 12 rfl rfl)
theorem dX0_wander_197 : decode cX0_wander 197 = .ok (.invokevirtual 317, 3) := dk_182 1 61 (dk_at dksX0_wander_8 13 rfl rfl)
theorem dX0_wander_200 : decode cX0_wander 200 = .ok (.putfield 311, 3) := dk_181 1 55 (dk_at dksX0_wander_8 16 rfl rfl)
theorem dX0_wander_203 : decode cX0_wander 203 = .ok (.aload_n 0, 1) := dk_42 (dk_at dksX0_wander_8 19 rfl rfl)
theorem dX0_wander_204 : decode cX0_wander 204 = .ok (.aload 6, 2) := dk_25 6 (dk_at dksX0_wander_8 20 rfl rfl)
theorem dX0_wander_206 : decode cX0_wander 206 = .ok (.aload 7, 2) := dk_25 7 (dk_at dksX0_wander_8 22 rfl rfl)
theorem dX0_wander_208 : decode cX0_wander 208 = .ok (.invokevirtual 345, 3) := dk_182 1 89 (dk_at dksX0_wander_9 0 rfl rfl)
theorem dX0_wander_211 : decode cX0_wander 211 = .ok (.ifCond .eq 12, 3) := dk_153 0 12 (dk_at dksX0_wander_9 3 rfl rfl)
theorem dX0_wander_214 : decode cX0_wander 214 = .ok (.aload_n 0, 1) := dk_42 (dk_at dksX0_wander_9 6 rfl rfl)
theorem dX0_wander_215 : decode cX0_wander 215 = .ok (.iload 5, 2) := dk_21 5 (dk_at dksX0_wander_9 7 rfl rfl)
theorem dX0_wander_217 : decode cX0_wander 217 = .ok (.iconst 1, 1) := dk_4 (dk_at dksX0_wander_9 9 rfl rfl)
theorem dX0_wander_218 : decode cX0_wander 218 = .ok (.iadd, 1) := dk_96 (dk_at dksX0_wander_9 10 rfl rfl)
theorem dX0_wander_219 : decode cX0_wander 219 = .ok (.invokevirtual 234, 3) := dk_182 0 234 (dk_at dksX0_wander_9 11 rfl rfl)
theorem dX0_wander_222 : decode cX0_wander 222 = .ok (.ireturn, 1) := dk_172 (dk_at dksX0_wander_9 14 rfl rfl)
theorem dX0_wander_223 : decode cX0_wander 223 = .ok (.iinc 5 1, 3) := dk_132 5 1 (dk_at dksX0_wander_9 15 rfl rfl)
theorem dX0_wander_226 : decode cX0_wander 226 = .ok (.goto (-156), 3) := dk_167 255 100 (dk_at dksX0_wander_9 18 rfl rfl)
theorem dX0_wander_229 : decode cX0_wander 229 = .ok (.aload_n 0, 1) := dk_42 (dk_at dksX0_wander_9 21 rfl rfl)
theorem dX0_wander_230 : decode cX0_wander 230 = .ok (.bipush 8, 2) := dk_16 8 (dk_at dksX0_wander_9 22 rfl rfl)
theorem dX0_wander_232 : decode cX0_wander 232 = .ok (.invokevirtual 176, 3) := dk_182 0 176 (dk_at dksX0_wander_10 0 rfl rfl)
theorem dX0_wander_235 : decode cX0_wander 235 = .ok (.ireturn, 1) := dk_172 (dk_at dksX0_wander_10 3 rfl rfl)
theorem q116 : (Jvm.Cond.initialized "TwoSeek") ∈ lw_all := lw_g (lw_at lw_m1 1 rfl) rfl
theorem q143 : (Jvm.Cond.instantiable "TwoSeek" (48 : Nat)) ∈ lw_all := lw_g (lw_at lw_m1 28 rfl) rfl
theorem q145 : (Jvm.Cond.instanceMethod ({ cls := "TwoSeek", name := "<init>", desc := "()V" } : Jvm.MethodName)) ∈ lw_all := lw_g (lw_at lw_m1 30 rfl) rfl
theorem q146 : (Jvm.Cond.code ({ cls := "TwoSeek", name := "<init>", desc := "()V" } : Jvm.MethodName) prog_1_method_1_code (2 : Nat) (Option.none : Option Jvm.ClassFile.FieldType)) ∈ lw_all := lw_g (lw_at lw_m1 31 rfl) rfl
theorem q147 : (Jvm.Cond.methodLink "TwoSeek" (1 : Nat) ({ cls := "java/lang/Object", name := "<init>", desc := "()V" } : Jvm.MethodName)) ∈ lw_all := lw_g (lw_at lw_m1 32 rfl) rfl
theorem q150 : (Jvm.Cond.classLink "TwoSeek" (9 : Nat) "TwoSeek$Tray") ∈ lw_all := lw_g (lw_at lw_m1 35 rfl) rfl
theorem q152 : (Jvm.Cond.classLink "TwoSeek" (15 : Nat) "TwoSeek$Wrong") ∈ lw_all := lw_g (lw_at lw_m1 37 rfl) rfl
theorem q207 : (Jvm.Cond.methodLink "TwoSeek" (17 : Nat) ({ cls := "TwoSeek$Wrong", name := "<init>", desc := "()V" } : Jvm.MethodName)) ∈ lw_all := lw_g (lw_at lw_m1 92 rfl) rfl
theorem q220 : (Jvm.Cond.fieldLinkNest "TwoSeek" (224 : Nat) "TwoSeek$Wrong" "kind" "I" "TwoSeek") ∈ lw_tbl := lw_at lw_m1 105 rfl
theorem q222 : (Jvm.Cond.fieldLinkNest "TwoSeek" (227 : Nat) "TwoSeek$Wrong" "place" "I" "TwoSeek") ∈ lw_tbl := lw_at lw_m1 107 rfl
theorem q240 : (Jvm.Cond.classLink "TwoSeek" (22 : Nat) "TwoSeek$Reader") ∈ lw_all := lw_g (lw_at lw_m1 125 rfl) rfl
theorem q242 : (Jvm.Cond.methodLink "TwoSeek" (24 : Nat) ({ cls := "TwoSeek$Reader", name := "<init>", desc := "(LTwoSeek$Wrong;)V" } : Jvm.MethodName)) ∈ lw_all := lw_g (lw_at lw_m1 127 rfl) rfl
theorem q247 : (Jvm.Cond.fieldLinkNest "TwoSeek" (216 : Nat) "TwoSeek$Reader" "tape" "[B" "TwoSeek") ∈ lw_tbl := lw_at lw_m1 132 rfl
theorem q248 : (Jvm.Cond.fieldLinkNest "TwoSeek" (209 : Nat) "TwoSeek$Reader" "taped" "I" "TwoSeek") ∈ lw_tbl := lw_at lw_m1 133 rfl
theorem q279 : (Jvm.Cond.classLink "TwoSeek" (31 : Nat) "TwoSeek$Way") ∈ lw_all := lw_g (lw_at lw_m1 164 rfl) rfl
theorem q281 : (Jvm.Cond.classLink "TwoSeek" (37 : Nat) "TwoSeek$Walker") ∈ lw_all := lw_g (lw_at lw_m1 166 rfl) rfl
theorem q283 : (Jvm.Cond.methodLinkNest "TwoSeek" (39 : Nat) ({ cls := "TwoSeek$Walker", name := "<init>", desc := "()V" } : Jvm.MethodName) "TwoSeek") ∈ lw_tbl := lw_at lw_m1 168 rfl
theorem q288 : (Jvm.Cond.fieldLinkNest "TwoSeek" (334 : Nat) "TwoSeek$Walker" "way" "LTwoSeek$Way;" "TwoSeek") ∈ lw_tbl := lw_at lw_m1 173 rfl
theorem q291 : (Jvm.Cond.fieldLinkNest "TwoSeek" (311 : Nat) "TwoSeek$Walker" "place" "LTwoSeek$Place;" "TwoSeek") ∈ lw_tbl := lw_at lw_m1 176 rfl
theorem q307 : (Jvm.Cond.classLink "TwoSeek" (54 : Nat) "TwoSeek$Town") ∈ lw_all := lw_g (lw_at lw_m1 192 rfl) rfl
theorem q309 : (Jvm.Cond.methodLinkNest "TwoSeek" (56 : Nat) ({ cls := "TwoSeek$Town", name := "<init>", desc := "()V" } : Jvm.MethodName) "TwoSeek") ∈ lw_tbl := lw_at lw_m1 194 rfl
theorem q319 : (Jvm.Cond.fieldLinkNest "TwoSeek" (240 : Nat) "TwoSeek$Town" "places" "[LTwoSeek$Place;" "TwoSeek") ∈ lw_tbl := lw_at lw_m1 204 rfl
theorem q322 : (Jvm.Cond.fieldLinkNest "TwoSeek" (266 : Nat) "TwoSeek$Town" "lanes" "[LTwoSeek$Lane;" "TwoSeek") ∈ lw_tbl := lw_at lw_m1 207 rfl
theorem q325 : (Jvm.Cond.fieldLinkNest "TwoSeek" (200 : Nat) "TwoSeek$Town" "many" "I" "TwoSeek") ∈ lw_tbl := lw_at lw_m1 210 rfl
theorem q327 : (Jvm.Cond.fieldLinkNest "TwoSeek" (203 : Nat) "TwoSeek$Town" "laneMany" "I" "TwoSeek") ∈ lw_tbl := lw_at lw_m1 212 rfl
theorem q330 : (Jvm.Cond.fieldLinkNest "TwoSeek" (325 : Nat) "TwoSeek$Town" "slow" "I" "TwoSeek") ∈ lw_tbl := lw_at lw_m1 215 rfl
theorem q332 : (Jvm.Cond.fieldLinkNest "TwoSeek" (328 : Nat) "TwoSeek$Town" "hears" "I" "TwoSeek") ∈ lw_tbl := lw_at lw_m1 217 rfl
theorem q334 : (Jvm.Cond.fieldLinkNest "TwoSeek" (314 : Nat) "TwoSeek$Town" "crosses" "Z" "TwoSeek") ∈ lw_tbl := lw_at lw_m1 219 rfl
theorem q336 : (Jvm.Cond.fieldLinkNest "TwoSeek" (274 : Nat) "TwoSeek$Town" "far" "[I" "TwoSeek") ∈ lw_tbl := lw_at lw_m1 221 rfl
theorem q355 : (Jvm.Cond.classLink "TwoSeek" (78 : Nat) "[[I") ∈ lw_all := lw_g (lw_at lw_m2 0 rfl) rfl
theorem q358 : (Jvm.Cond.classLink "TwoSeek" (128 : Nat) "[[J") ∈ lw_all := lw_g (lw_at lw_m2 3 rfl) rfl
theorem q361 : (Jvm.Cond.methodLinkNest "TwoSeek" (148 : Nat) ({ cls := "TwoSeek$Tray", name := "<init>", desc := "()V" } : Jvm.MethodName) "TwoSeek") ∈ lw_tbl := lw_at lw_m2 6 rfl
theorem q366 : (Jvm.Cond.fieldLinkNest "TwoSeek" (186 : Nat) "TwoSeek$Tray" "row" "Ljava/lang/Object;" "TwoSeek") ∈ lw_tbl := lw_at lw_m2 11 rfl
theorem q368 : (Jvm.Cond.fieldLinkNest "TwoSeek" (190 : Nat) "TwoSeek$Tray" "sort" "I" "TwoSeek") ∈ lw_tbl := lw_at lw_m2 13 rfl
theorem q376 : (Jvm.Cond.fieldLink "TwoSeek" (11 : Nat) "TwoSeek" "trays" "[LTwoSeek$Tray;") ∈ lw_all := lw_g (lw_at lw_m2 21 rfl) rfl
theorem q377 : (Jvm.Cond.fieldLink "TwoSeek" (18 : Nat) "TwoSeek" "wrong" "LTwoSeek$Wrong;") ∈ lw_all := lw_g (lw_at lw_m2 22 rfl) rfl
theorem q378 : (Jvm.Cond.fieldLink "TwoSeek" (27 : Nat) "TwoSeek" "reader" "LTwoSeek$Reader;") ∈ lw_all := lw_g (lw_at lw_m2 23 rfl) rfl
theorem q379 : (Jvm.Cond.fieldLink "TwoSeek" (33 : Nat) "TwoSeek" "ways" "[LTwoSeek$Way;") ∈ lw_all := lw_g (lw_at lw_m2 24 rfl) rfl
theorem q380 : (Jvm.Cond.fieldLink "TwoSeek" (40 : Nat) "TwoSeek" "first" "LTwoSeek$Walker;") ∈ lw_all := lw_g (lw_at lw_m2 25 rfl) rfl
theorem q381 : (Jvm.Cond.fieldLink "TwoSeek" (44 : Nat) "TwoSeek" "second" "LTwoSeek$Walker;") ∈ lw_all := lw_g (lw_at lw_m2 26 rfl) rfl
theorem q382 : (Jvm.Cond.fieldLink "TwoSeek" (47 : Nat) "TwoSeek" "third" "LTwoSeek$Walker;") ∈ lw_all := lw_g (lw_at lw_m2 27 rfl) rfl
theorem q383 : (Jvm.Cond.fieldLink "TwoSeek" (50 : Nat) "TwoSeek" "left" "[I") ∈ lw_all := lw_g (lw_at lw_m2 28 rfl) rfl
theorem q384 : (Jvm.Cond.fieldLink "TwoSeek" (57 : Nat) "TwoSeek" "town" "LTwoSeek$Town;") ∈ lw_all := lw_g (lw_at lw_m2 29 rfl) rfl
theorem q385 : (Jvm.Cond.fieldLink "TwoSeek" (206 : Nat) "TwoSeek" "wayMany" "I") ∈ lw_all := lw_g (lw_at lw_m2 30 rfl) rfl
theorem q386 : (Jvm.Cond.fieldLink "TwoSeek" (149 : Nat) "TwoSeek" "status" "I") ∈ lw_all := lw_g (lw_at lw_m2 31 rfl) rfl
theorem q387 : (Jvm.Cond.fieldLink "TwoSeek" (61 : Nat) "TwoSeek" "faultKind" "I") ∈ lw_all := lw_g (lw_at lw_m2 32 rfl) rfl
theorem q388 : (Jvm.Cond.fieldLink "TwoSeek" (65 : Nat) "TwoSeek" "faultPlace" "I") ∈ lw_all := lw_g (lw_at lw_m2 33 rfl) rfl
theorem q389 : (Jvm.Cond.fieldLink "TwoSeek" (230 : Nat) "TwoSeek" "marks" "Z") ∈ lw_all := lw_g (lw_at lw_m2 34 rfl) rfl
theorem q390 : (Jvm.Cond.fieldLink "TwoSeek" (152 : Nat) "TwoSeek" "top" "J") ∈ lw_all := lw_g (lw_at lw_m2 35 rfl) rfl
theorem q391 : (Jvm.Cond.fieldLink "TwoSeek" (68 : Nat) "TwoSeek" "bottom" "J") ∈ lw_all := lw_g (lw_at lw_m2 36 rfl) rfl
theorem q392 : (Jvm.Cond.fieldLink "TwoSeek" (365 : Nat) "TwoSeek" "worst" "I") ∈ lw_all := lw_g (lw_at lw_m2 37 rfl) rfl
theorem q393 : (Jvm.Cond.fieldLink "TwoSeek" (72 : Nat) "TwoSeek" "sort" "[I") ∈ lw_all := lw_g (lw_at lw_m2 38 rfl) rfl
theorem q394 : (Jvm.Cond.fieldLink "TwoSeek" (75 : Nat) "TwoSeek" "newSort" "[I") ∈ lw_all := lw_g (lw_at lw_m2 39 rfl) rfl
theorem q395 : (Jvm.Cond.fieldLink "TwoSeek" (80 : Nat) "TwoSeek" "ones" "[[I") ∈ lw_all := lw_g (lw_at lw_m2 40 rfl) rfl
theorem q396 : (Jvm.Cond.fieldLink "TwoSeek" (83 : Nat) "TwoSeek" "others" "[[I") ∈ lw_all := lw_g (lw_at lw_m2 41 rfl) rfl
theorem q397 : (Jvm.Cond.fieldLink "TwoSeek" (86 : Nat) "TwoSeek" "firstRow" "[I") ∈ lw_all := lw_g (lw_at lw_m2 42 rfl) rfl
theorem q398 : (Jvm.Cond.fieldLink "TwoSeek" (89 : Nat) "TwoSeek" "secondRow" "[I") ∈ lw_all := lw_g (lw_at lw_m2 43 rfl) rfl
theorem q399 : (Jvm.Cond.fieldLink "TwoSeek" (92 : Nat) "TwoSeek" "bestFirst" "[I") ∈ lw_all := lw_g (lw_at lw_m2 44 rfl) rfl
theorem q400 : (Jvm.Cond.fieldLink "TwoSeek" (95 : Nat) "TwoSeek" "bestSecond" "[I") ∈ lw_all := lw_g (lw_at lw_m2 45 rfl) rfl
theorem q401 : (Jvm.Cond.fieldLink "TwoSeek" (98 : Nat) "TwoSeek" "toldRows" "[[I") ∈ lw_all := lw_g (lw_at lw_m2 46 rfl) rfl
theorem q402 : (Jvm.Cond.fieldLink "TwoSeek" (101 : Nat) "TwoSeek" "toldAlike" "[I") ∈ lw_all := lw_g (lw_at lw_m2 47 rfl) rfl
theorem q403 : (Jvm.Cond.fieldLink "TwoSeek" (389 : Nat) "TwoSeek" "rowLong" "I") ∈ lw_all := lw_g (lw_at lw_m2 48 rfl) rfl
theorem q404 : (Jvm.Cond.fieldLink "TwoSeek" (413 : Nat) "TwoSeek" "agreedMany" "I") ∈ lw_all := lw_g (lw_at lw_m2 49 rfl) rfl
theorem q405 : (Jvm.Cond.fieldLink "TwoSeek" (416 : Nat) "TwoSeek" "alikeMany" "I") ∈ lw_all := lw_g (lw_at lw_m2 50 rfl) rfl
theorem q406 : (Jvm.Cond.fieldLink "TwoSeek" (392 : Nat) "TwoSeek" "bestMissed" "J") ∈ lw_all := lw_g (lw_at lw_m2 51 rfl) rfl
theorem q407 : (Jvm.Cond.fieldLink "TwoSeek" (395 : Nat) "TwoSeek" "bestLate" "J") ∈ lw_all := lw_g (lw_at lw_m2 52 rfl) rfl
theorem q408 : (Jvm.Cond.fieldLink "TwoSeek" (104 : Nat) "TwoSeek" "isReached" "[Z") ∈ lw_all := lw_g (lw_at lw_m2 53 rfl) rfl
theorem q409 : (Jvm.Cond.fieldLink "TwoSeek" (108 : Nat) "TwoSeek" "queue" "[I") ∈ lw_all := lw_g (lw_at lw_m2 54 rfl) rfl
theorem q410 : (Jvm.Cond.fieldLink "TwoSeek" (111 : Nat) "TwoSeek" "turnedTo" "[I") ∈ lw_all := lw_g (lw_at lw_m2 55 rfl) rfl
theorem q411 : (Jvm.Cond.fieldLink "TwoSeek" (114 : Nat) "TwoSeek" "now" "[J") ∈ lw_all := lw_g (lw_at lw_m2 56 rfl) rfl
theorem q412 : (Jvm.Cond.fieldLink "TwoSeek" (118 : Nat) "TwoSeek" "next" "[J") ∈ lw_all := lw_g (lw_at lw_m2 57 rfl) rfl
theorem q413 : (Jvm.Cond.fieldLink "TwoSeek" (121 : Nat) "TwoSeek" "trio" "[LTwoSeek$Walker;") ∈ lw_all := lw_g (lw_at lw_m2 58 rfl) rfl
theorem q414 : (Jvm.Cond.fieldLink "TwoSeek" (125 : Nat) "TwoSeek" "led" "[I") ∈ lw_all := lw_g (lw_at lw_m2 59 rfl) rfl
theorem q415 : (Jvm.Cond.fieldLink "TwoSeek" (130 : Nat) "TwoSeek" "worth" "[[J") ∈ lw_all := lw_g (lw_at lw_m2 60 rfl) rfl
theorem q416 : (Jvm.Cond.fieldLink "TwoSeek" (133 : Nat) "TwoSeek" "lineA" "[J") ∈ lw_all := lw_g (lw_at lw_m2 61 rfl) rfl
theorem q417 : (Jvm.Cond.fieldLink "TwoSeek" (136 : Nat) "TwoSeek" "lineB" "[J") ∈ lw_all := lw_g (lw_at lw_m2 62 rfl) rfl
theorem q418 : (Jvm.Cond.fieldLink "TwoSeek" (139 : Nat) "TwoSeek" "point" "[J") ∈ lw_all := lw_g (lw_at lw_m2 63 rfl) rfl
theorem q419 : (Jvm.Cond.fieldLink "TwoSeek" (142 : Nat) "TwoSeek" "bestPoint" "[J") ∈ lw_all := lw_g (lw_at lw_m2 64 rfl) rfl
theorem q420 : (Jvm.Cond.fieldLink "TwoSeek" (145 : Nat) "TwoSeek" "toldPoint" "[J") ∈ lw_all := lw_g (lw_at lw_m2 65 rfl) rfl
theorem q421 : (Jvm.Cond.fieldLink "TwoSeek" (458 : Nat) "TwoSeek" "bestUp" "J") ∈ lw_all := lw_g (lw_at lw_m2 66 rfl) rfl
theorem q422 : (Jvm.Cond.fieldLink "TwoSeek" (455 : Nat) "TwoSeek" "bestLow" "J") ∈ lw_all := lw_g (lw_at lw_m2 67 rfl) rfl
theorem q423 : (Jvm.Cond.fieldLink "TwoSeek" (478 : Nat) "TwoSeek" "pickMany" "I") ∈ lw_all := lw_g (lw_at lw_m2 68 rfl) rfl
theorem q424 : (Jvm.Cond.laysFinal "TwoSeek" "TwoSeek" "trays" "[LTwoSeek$Tray;") ∈ lw_all := lw_g (lw_at lw_m2 69 rfl) rfl
theorem q425 : (Jvm.Cond.soleField "TwoSeek" "trays") ∈ lw_all := lw_g (lw_at lw_m2 70 rfl) rfl
theorem q426 : (Jvm.Cond.laysFinal "TwoSeek" "TwoSeek" "wrong" "LTwoSeek$Wrong;") ∈ lw_all := lw_g (lw_at lw_m2 71 rfl) rfl
theorem q427 : (Jvm.Cond.soleField "TwoSeek" "wrong") ∈ lw_all := lw_g (lw_at lw_m2 72 rfl) rfl
theorem q428 : (Jvm.Cond.laysFinal "TwoSeek" "TwoSeek" "reader" "LTwoSeek$Reader;") ∈ lw_all := lw_g (lw_at lw_m2 73 rfl) rfl
theorem q429 : (Jvm.Cond.soleField "TwoSeek" "reader") ∈ lw_all := lw_g (lw_at lw_m2 74 rfl) rfl
theorem q430 : (Jvm.Cond.laysFinal "TwoSeek" "TwoSeek" "ways" "[LTwoSeek$Way;") ∈ lw_all := lw_g (lw_at lw_m2 75 rfl) rfl
theorem q431 : (Jvm.Cond.soleField "TwoSeek" "ways") ∈ lw_all := lw_g (lw_at lw_m2 76 rfl) rfl
theorem q432 : (Jvm.Cond.laysFinal "TwoSeek" "TwoSeek" "first" "LTwoSeek$Walker;") ∈ lw_all := lw_g (lw_at lw_m2 77 rfl) rfl
theorem q433 : (Jvm.Cond.soleField "TwoSeek" "first") ∈ lw_all := lw_g (lw_at lw_m2 78 rfl) rfl
theorem q434 : (Jvm.Cond.laysFinal "TwoSeek" "TwoSeek" "second" "LTwoSeek$Walker;") ∈ lw_all := lw_g (lw_at lw_m2 79 rfl) rfl
theorem q435 : (Jvm.Cond.soleField "TwoSeek" "second") ∈ lw_all := lw_g (lw_at lw_m2 80 rfl) rfl
theorem q436 : (Jvm.Cond.laysFinal "TwoSeek" "TwoSeek" "third" "LTwoSeek$Walker;") ∈ lw_all := lw_g (lw_at lw_m2 81 rfl) rfl
theorem q437 : (Jvm.Cond.soleField "TwoSeek" "third") ∈ lw_all := lw_g (lw_at lw_m2 82 rfl) rfl
theorem q438 : (Jvm.Cond.laysFinal "TwoSeek" "TwoSeek" "left" "[I") ∈ lw_all := lw_g (lw_at lw_m2 83 rfl) rfl
theorem q439 : (Jvm.Cond.soleField "TwoSeek" "left") ∈ lw_all := lw_g (lw_at lw_m2 84 rfl) rfl
theorem q440 : (Jvm.Cond.lays "TwoSeek" "TwoSeek" "town" "LTwoSeek$Town;") ∈ lw_all := lw_g (lw_at lw_m2 85 rfl) rfl
theorem q441 : (Jvm.Cond.soleField "TwoSeek" "town") ∈ lw_all := lw_g (lw_at lw_m2 86 rfl) rfl
theorem q442 : (Jvm.Cond.lays "TwoSeek" "TwoSeek" "wayMany" "I") ∈ lw_all := lw_g (lw_at lw_m2 87 rfl) rfl
theorem q443 : (Jvm.Cond.soleField "TwoSeek" "wayMany") ∈ lw_all := lw_g (lw_at lw_m2 88 rfl) rfl
theorem q444 : (Jvm.Cond.lays "TwoSeek" "TwoSeek" "status" "I") ∈ lw_all := lw_g (lw_at lw_m2 89 rfl) rfl
theorem q445 : (Jvm.Cond.soleField "TwoSeek" "status") ∈ lw_all := lw_g (lw_at lw_m2 90 rfl) rfl
theorem q446 : (Jvm.Cond.lays "TwoSeek" "TwoSeek" "faultKind" "I") ∈ lw_all := lw_g (lw_at lw_m2 91 rfl) rfl
theorem q447 : (Jvm.Cond.soleField "TwoSeek" "faultKind") ∈ lw_all := lw_g (lw_at lw_m2 92 rfl) rfl
theorem q448 : (Jvm.Cond.lays "TwoSeek" "TwoSeek" "faultPlace" "I") ∈ lw_all := lw_g (lw_at lw_m2 93 rfl) rfl
theorem q449 : (Jvm.Cond.soleField "TwoSeek" "faultPlace") ∈ lw_all := lw_g (lw_at lw_m2 94 rfl) rfl
theorem q450 : (Jvm.Cond.lays "TwoSeek" "TwoSeek" "marks" "Z") ∈ lw_all := lw_g (lw_at lw_m2 95 rfl) rfl
theorem q451 : (Jvm.Cond.soleField "TwoSeek" "marks") ∈ lw_all := lw_g (lw_at lw_m2 96 rfl) rfl
theorem q452 : (Jvm.Cond.lays "TwoSeek" "TwoSeek" "top" "J") ∈ lw_all := lw_g (lw_at lw_m2 97 rfl) rfl
theorem q453 : (Jvm.Cond.soleField "TwoSeek" "top") ∈ lw_all := lw_g (lw_at lw_m2 98 rfl) rfl
theorem q454 : (Jvm.Cond.lays "TwoSeek" "TwoSeek" "bottom" "J") ∈ lw_all := lw_g (lw_at lw_m2 99 rfl) rfl
theorem q455 : (Jvm.Cond.soleField "TwoSeek" "bottom") ∈ lw_all := lw_g (lw_at lw_m2 100 rfl) rfl
theorem q456 : (Jvm.Cond.lays "TwoSeek" "TwoSeek" "worst" "I") ∈ lw_all := lw_g (lw_at lw_m2 101 rfl) rfl
theorem q457 : (Jvm.Cond.soleField "TwoSeek" "worst") ∈ lw_all := lw_g (lw_at lw_m2 102 rfl) rfl
theorem q458 : (Jvm.Cond.laysFinal "TwoSeek" "TwoSeek" "sort" "[I") ∈ lw_all := lw_g (lw_at lw_m2 103 rfl) rfl
theorem q459 : (Jvm.Cond.soleField "TwoSeek" "sort") ∈ lw_all := lw_g (lw_at lw_m2 104 rfl) rfl
theorem q460 : (Jvm.Cond.laysFinal "TwoSeek" "TwoSeek" "newSort" "[I") ∈ lw_all := lw_g (lw_at lw_m2 105 rfl) rfl
theorem q461 : (Jvm.Cond.soleField "TwoSeek" "newSort") ∈ lw_all := lw_g (lw_at lw_m2 106 rfl) rfl
theorem q462 : (Jvm.Cond.laysFinal "TwoSeek" "TwoSeek" "ones" "[[I") ∈ lw_all := lw_g (lw_at lw_m2 107 rfl) rfl
theorem q463 : (Jvm.Cond.soleField "TwoSeek" "ones") ∈ lw_all := lw_g (lw_at lw_m2 108 rfl) rfl
theorem q464 : (Jvm.Cond.laysFinal "TwoSeek" "TwoSeek" "others" "[[I") ∈ lw_all := lw_g (lw_at lw_m2 109 rfl) rfl
theorem q465 : (Jvm.Cond.soleField "TwoSeek" "others") ∈ lw_all := lw_g (lw_at lw_m2 110 rfl) rfl
theorem q466 : (Jvm.Cond.laysFinal "TwoSeek" "TwoSeek" "firstRow" "[I") ∈ lw_all := lw_g (lw_at lw_m2 111 rfl) rfl
theorem q467 : (Jvm.Cond.soleField "TwoSeek" "firstRow") ∈ lw_all := lw_g (lw_at lw_m2 112 rfl) rfl
theorem q468 : (Jvm.Cond.laysFinal "TwoSeek" "TwoSeek" "secondRow" "[I") ∈ lw_all := lw_g (lw_at lw_m2 113 rfl) rfl
theorem q469 : (Jvm.Cond.soleField "TwoSeek" "secondRow") ∈ lw_all := lw_g (lw_at lw_m2 114 rfl) rfl
theorem q470 : (Jvm.Cond.laysFinal "TwoSeek" "TwoSeek" "bestFirst" "[I") ∈ lw_all := lw_g (lw_at lw_m2 115 rfl) rfl
theorem q471 : (Jvm.Cond.soleField "TwoSeek" "bestFirst") ∈ lw_all := lw_g (lw_at lw_m2 116 rfl) rfl
theorem q472 : (Jvm.Cond.laysFinal "TwoSeek" "TwoSeek" "bestSecond" "[I") ∈ lw_all := lw_g (lw_at lw_m2 117 rfl) rfl
theorem q473 : (Jvm.Cond.soleField "TwoSeek" "bestSecond") ∈ lw_all := lw_g (lw_at lw_m2 118 rfl) rfl
theorem q474 : (Jvm.Cond.laysFinal "TwoSeek" "TwoSeek" "toldRows" "[[I") ∈ lw_all := lw_g (lw_at lw_m2 119 rfl) rfl
theorem q475 : (Jvm.Cond.soleField "TwoSeek" "toldRows") ∈ lw_all := lw_g (lw_at lw_m2 120 rfl) rfl
theorem q476 : (Jvm.Cond.laysFinal "TwoSeek" "TwoSeek" "toldAlike" "[I") ∈ lw_all := lw_g (lw_at lw_m2 121 rfl) rfl
theorem q477 : (Jvm.Cond.soleField "TwoSeek" "toldAlike") ∈ lw_all := lw_g (lw_at lw_m2 122 rfl) rfl
theorem q478 : (Jvm.Cond.lays "TwoSeek" "TwoSeek" "rowLong" "I") ∈ lw_all := lw_g (lw_at lw_m2 123 rfl) rfl
theorem q479 : (Jvm.Cond.soleField "TwoSeek" "rowLong") ∈ lw_all := lw_g (lw_at lw_m2 124 rfl) rfl
theorem q480 : (Jvm.Cond.lays "TwoSeek" "TwoSeek" "agreedMany" "I") ∈ lw_all := lw_g (lw_at lw_m2 125 rfl) rfl
theorem q481 : (Jvm.Cond.soleField "TwoSeek" "agreedMany") ∈ lw_all := lw_g (lw_at lw_m2 126 rfl) rfl
theorem q482 : (Jvm.Cond.lays "TwoSeek" "TwoSeek" "alikeMany" "I") ∈ lw_all := lw_g (lw_at lw_m2 127 rfl) rfl
theorem q483 : (Jvm.Cond.soleField "TwoSeek" "alikeMany") ∈ lw_all := lw_g (lw_at lw_m2 128 rfl) rfl
theorem q484 : (Jvm.Cond.lays "TwoSeek" "TwoSeek" "bestMissed" "J") ∈ lw_all := lw_g (lw_at lw_m2 129 rfl) rfl
theorem q485 : (Jvm.Cond.soleField "TwoSeek" "bestMissed") ∈ lw_all := lw_g (lw_at lw_m2 130 rfl) rfl
theorem q486 : (Jvm.Cond.lays "TwoSeek" "TwoSeek" "bestLate" "J") ∈ lw_all := lw_g (lw_at lw_m2 131 rfl) rfl
theorem q487 : (Jvm.Cond.soleField "TwoSeek" "bestLate") ∈ lw_all := lw_g (lw_at lw_m2 132 rfl) rfl
theorem q488 : (Jvm.Cond.laysFinal "TwoSeek" "TwoSeek" "isReached" "[Z") ∈ lw_all := lw_g (lw_at lw_m2 133 rfl) rfl
theorem q489 : (Jvm.Cond.soleField "TwoSeek" "isReached") ∈ lw_all := lw_g (lw_at lw_m2 134 rfl) rfl
theorem q490 : (Jvm.Cond.laysFinal "TwoSeek" "TwoSeek" "queue" "[I") ∈ lw_all := lw_g (lw_at lw_m2 135 rfl) rfl
theorem q491 : (Jvm.Cond.soleField "TwoSeek" "queue") ∈ lw_all := lw_g (lw_at lw_m2 136 rfl) rfl
theorem q492 : (Jvm.Cond.laysFinal "TwoSeek" "TwoSeek" "turnedTo" "[I") ∈ lw_all := lw_g (lw_at lw_m2 137 rfl) rfl
theorem q493 : (Jvm.Cond.soleField "TwoSeek" "turnedTo") ∈ lw_all := lw_g (lw_at lw_m2 138 rfl) rfl
theorem q494 : (Jvm.Cond.laysFinal "TwoSeek" "TwoSeek" "now" "[J") ∈ lw_all := lw_g (lw_at lw_m2 139 rfl) rfl
theorem q495 : (Jvm.Cond.soleField "TwoSeek" "now") ∈ lw_all := lw_g (lw_at lw_m2 140 rfl) rfl
theorem q496 : (Jvm.Cond.laysFinal "TwoSeek" "TwoSeek" "next" "[J") ∈ lw_all := lw_g (lw_at lw_m2 141 rfl) rfl
theorem q497 : (Jvm.Cond.soleField "TwoSeek" "next") ∈ lw_all := lw_g (lw_at lw_m2 142 rfl) rfl
theorem q498 : (Jvm.Cond.laysFinal "TwoSeek" "TwoSeek" "trio" "[LTwoSeek$Walker;") ∈ lw_all := lw_g (lw_at lw_m2 143 rfl) rfl
theorem q499 : (Jvm.Cond.soleField "TwoSeek" "trio") ∈ lw_all := lw_g (lw_at lw_m2 144 rfl) rfl
theorem q500 : (Jvm.Cond.laysFinal "TwoSeek" "TwoSeek" "led" "[I") ∈ lw_all := lw_g (lw_at lw_m2 145 rfl) rfl
theorem q501 : (Jvm.Cond.soleField "TwoSeek" "led") ∈ lw_all := lw_g (lw_at lw_m2 146 rfl) rfl
theorem q502 : (Jvm.Cond.laysFinal "TwoSeek" "TwoSeek" "worth" "[[J") ∈ lw_all := lw_g (lw_at lw_m2 147 rfl) rfl
theorem q503 : (Jvm.Cond.soleField "TwoSeek" "worth") ∈ lw_all := lw_g (lw_at lw_m2 148 rfl) rfl
theorem q504 : (Jvm.Cond.laysFinal "TwoSeek" "TwoSeek" "lineA" "[J") ∈ lw_all := lw_g (lw_at lw_m2 149 rfl) rfl
theorem q505 : (Jvm.Cond.soleField "TwoSeek" "lineA") ∈ lw_all := lw_g (lw_at lw_m2 150 rfl) rfl
theorem q506 : (Jvm.Cond.laysFinal "TwoSeek" "TwoSeek" "lineB" "[J") ∈ lw_all := lw_g (lw_at lw_m2 151 rfl) rfl
theorem q507 : (Jvm.Cond.soleField "TwoSeek" "lineB") ∈ lw_all := lw_g (lw_at lw_m2 152 rfl) rfl
theorem q508 : (Jvm.Cond.laysFinal "TwoSeek" "TwoSeek" "point" "[J") ∈ lw_all := lw_g (lw_at lw_m2 153 rfl) rfl
theorem q509 : (Jvm.Cond.soleField "TwoSeek" "point") ∈ lw_all := lw_g (lw_at lw_m2 154 rfl) rfl
theorem q510 : (Jvm.Cond.laysFinal "TwoSeek" "TwoSeek" "bestPoint" "[J") ∈ lw_all := lw_g (lw_at lw_m2 155 rfl) rfl
theorem q511 : (Jvm.Cond.soleField "TwoSeek" "bestPoint") ∈ lw_all := lw_g (lw_at lw_m2 156 rfl) rfl
theorem q512 : (Jvm.Cond.laysFinal "TwoSeek" "TwoSeek" "toldPoint" "[J") ∈ lw_all := lw_g (lw_at lw_m2 157 rfl) rfl
theorem q513 : (Jvm.Cond.soleField "TwoSeek" "toldPoint") ∈ lw_all := lw_g (lw_at lw_m2 158 rfl) rfl
theorem q514 : (Jvm.Cond.lays "TwoSeek" "TwoSeek" "bestUp" "J") ∈ lw_all := lw_g (lw_at lw_m2 159 rfl) rfl
theorem q515 : (Jvm.Cond.soleField "TwoSeek" "bestUp") ∈ lw_all := lw_g (lw_at lw_m2 160 rfl) rfl
theorem q516 : (Jvm.Cond.lays "TwoSeek" "TwoSeek" "bestLow" "J") ∈ lw_all := lw_g (lw_at lw_m2 161 rfl) rfl
theorem q517 : (Jvm.Cond.soleField "TwoSeek" "bestLow") ∈ lw_all := lw_g (lw_at lw_m2 162 rfl) rfl
theorem q518 : (Jvm.Cond.lays "TwoSeek" "TwoSeek" "pickMany" "I") ∈ lw_all := lw_g (lw_at lw_m2 163 rfl) rfl
theorem q519 : (Jvm.Cond.soleField "TwoSeek" "pickMany") ∈ lw_all := lw_g (lw_at lw_m2 164 rfl) rfl
theorem q520 : (Jvm.Cond.superclass "TwoSeek" "java/lang/Object") ∈ lw_all := lw_g (lw_at lw_m2 165 rfl) rfl
theorem q522 : (Jvm.Cond.instanceMethod ({ cls := "TwoSeek", name := "status", desc := "()I" } : Jvm.MethodName)) ∈ lw_all := lw_g (lw_at lw_m2 167 rfl) rfl
theorem q523 : (Jvm.Cond.selects "TwoSeek" ({ cls := "TwoSeek", name := "status", desc := "()I" } : Jvm.MethodName) ({ cls := "TwoSeek", name := "status", desc := "()I" } : Jvm.MethodName)) ∈ lw_all := lw_g (lw_at lw_m2 168 rfl) rfl
theorem q524 : (Jvm.Cond.code ({ cls := "TwoSeek", name := "status", desc := "()I" } : Jvm.MethodName) prog_1_method_2_code (1 : Nat) (Option.some Jvm.ClassFile.FieldType.int)) ∈ lw_all := lw_g (lw_at lw_m2 169 rfl) rfl
theorem q526 : (Jvm.Cond.instanceMethod ({ cls := "TwoSeek", name := "top", desc := "()J" } : Jvm.MethodName)) ∈ lw_all := lw_g (lw_at lw_m2 171 rfl) rfl
theorem q527 : (Jvm.Cond.selects "TwoSeek" ({ cls := "TwoSeek", name := "top", desc := "()J" } : Jvm.MethodName) ({ cls := "TwoSeek", name := "top", desc := "()J" } : Jvm.MethodName)) ∈ lw_all := lw_g (lw_at lw_m2 172 rfl) rfl
theorem q528 : (Jvm.Cond.code ({ cls := "TwoSeek", name := "top", desc := "()J" } : Jvm.MethodName) prog_1_method_3_code (1 : Nat) (Option.some Jvm.ClassFile.FieldType.long)) ∈ lw_all := lw_g (lw_at lw_m2 173 rfl) rfl
theorem q530 : (Jvm.Cond.instanceMethod ({ cls := "TwoSeek", name := "bottom", desc := "()J" } : Jvm.MethodName)) ∈ lw_all := lw_g (lw_at lw_m2 175 rfl) rfl
theorem q531 : (Jvm.Cond.selects "TwoSeek" ({ cls := "TwoSeek", name := "bottom", desc := "()J" } : Jvm.MethodName) ({ cls := "TwoSeek", name := "bottom", desc := "()J" } : Jvm.MethodName)) ∈ lw_all := lw_g (lw_at lw_m2 176 rfl) rfl
theorem q532 : (Jvm.Cond.code ({ cls := "TwoSeek", name := "bottom", desc := "()J" } : Jvm.MethodName) prog_1_method_4_code (1 : Nat) (Option.some Jvm.ClassFile.FieldType.long)) ∈ lw_all := lw_g (lw_at lw_m2 177 rfl) rfl
theorem q534 : (Jvm.Cond.instanceMethod ({ cls := "TwoSeek", name := "tray", desc := "(III)Z" } : Jvm.MethodName)) ∈ lw_all := lw_g (lw_at lw_m2 179 rfl) rfl
theorem q535 : (Jvm.Cond.selects "TwoSeek" ({ cls := "TwoSeek", name := "tray", desc := "(III)Z" } : Jvm.MethodName) ({ cls := "TwoSeek", name := "tray", desc := "(III)Z" } : Jvm.MethodName)) ∈ lw_all := lw_g (lw_at lw_m2 180 rfl) rfl
theorem q536 : (Jvm.Cond.codeWith ({ cls := "TwoSeek", name := "tray", desc := "(III)Z" } : Jvm.MethodName) prog_1_method_10_code (5 : Nat) (Option.some Jvm.ClassFile.FieldType.boolean) [((34 : Nat), (45 : Nat), (48 : Nat), (166 : Nat))]) ∈ lw_all := lw_g (lw_at lw_m2 181 rfl) rfl
theorem q537 : (Jvm.Cond.classLink "TwoSeek" (166 : Nat) "java/lang/NegativeArraySizeException") ∈ lw_all := lw_g (lw_at lw_m2 182 rfl) rfl
theorem q564 : (Jvm.Cond.methodLink "TwoSeek" (159 : Nat) ({ cls := "TwoSeek", name := "isTray", desc := "(I)Z" } : Jvm.MethodName)) ∈ lw_all := lw_g (lw_at lw_m2 209 rfl) rfl
theorem q565 : (Jvm.Cond.static ({ cls := "TwoSeek", name := "isTray", desc := "(I)Z" } : Jvm.MethodName)) ∈ lw_all := lw_g (lw_at lw_m2 210 rfl) rfl
theorem q566 : (Jvm.Cond.code ({ cls := "TwoSeek", name := "isTray", desc := "(I)Z" } : Jvm.MethodName) prog_1_method_9_code (1 : Nat) (Option.some Jvm.ClassFile.FieldType.boolean)) ∈ lw_all := lw_g (lw_at lw_m2 211 rfl) rfl
theorem q567 : (Jvm.Cond.methodLink "TwoSeek" (155 : Nat) ({ cls := "TwoSeek", name := "is", desc := "(I)Z" } : Jvm.MethodName)) ∈ lw_all := lw_g (lw_at lw_m2 212 rfl) rfl
theorem q568 : (Jvm.Cond.privateMethod ({ cls := "TwoSeek", name := "is", desc := "(I)Z" } : Jvm.MethodName)) ∈ lw_tbl := lw_at lw_m2 213 rfl
theorem q569 : (Jvm.Cond.instanceMethod ({ cls := "TwoSeek", name := "is", desc := "(I)Z" } : Jvm.MethodName)) ∈ lw_all := lw_g (lw_at lw_m2 214 rfl) rfl
theorem q570 : (Jvm.Cond.code ({ cls := "TwoSeek", name := "is", desc := "(I)Z" } : Jvm.MethodName) prog_1_method_5_code (2 : Nat) (Option.some Jvm.ClassFile.FieldType.boolean)) ∈ lw_all := lw_g (lw_at lw_m2 215 rfl) rfl
theorem q571 : (Jvm.Cond.methodLink "TwoSeek" (162 : Nat) ({ cls := "TwoSeek$Tray", name := "make", desc := "(II)V" } : Jvm.MethodName)) ∈ lw_all := lw_g (lw_at lw_m2 216 rfl) rfl
theorem q577 : (Jvm.Cond.instanceMethod ({ cls := "TwoSeek", name := "write", desc := "(IIJ)Z" } : Jvm.MethodName)) ∈ lw_all := lw_g (lw_at lw_m2 222 rfl) rfl
theorem q578 : (Jvm.Cond.selects "TwoSeek" ({ cls := "TwoSeek", name := "write", desc := "(IIJ)Z" } : Jvm.MethodName) ({ cls := "TwoSeek", name := "write", desc := "(IIJ)Z" } : Jvm.MethodName)) ∈ lw_all := lw_g (lw_at lw_m2 223 rfl) rfl
theorem q579 : (Jvm.Cond.codeWith ({ cls := "TwoSeek", name := "write", desc := "(IIJ)Z" } : Jvm.MethodName) prog_1_method_11_code (6 : Nat) (Option.some Jvm.ClassFile.FieldType.boolean) [((13 : Nat), (24 : Nat), (27 : Nat), (172 : Nat)), ((13 : Nat), (24 : Nat), (35 : Nat), (174 : Nat))]) ∈ lw_all := lw_g (lw_at lw_m2 224 rfl) rfl
theorem q580 : (Jvm.Cond.classLink "TwoSeek" (172 : Nat) "java/lang/NullPointerException") ∈ lw_all := lw_g (lw_at lw_m2 225 rfl) rfl
theorem q605 : (Jvm.Cond.classLink "TwoSeek" (174 : Nat) "java/lang/ArrayIndexOutOfBoundsException") ∈ lw_all := lw_g (lw_at lw_m3 10 rfl) rfl
theorem q624 : (Jvm.Cond.methodLink "TwoSeek" (168 : Nat) ({ cls := "TwoSeek$Tray", name := "set", desc := "(IJ)V" } : Jvm.MethodName)) ∈ lw_all := lw_g (lw_at lw_m3 29 rfl) rfl
theorem q633 : (Jvm.Cond.instanceMethod ({ cls := "TwoSeek", name := "read", desc := "(II)J" } : Jvm.MethodName)) ∈ lw_all := lw_g (lw_at lw_m3 38 rfl) rfl
theorem q634 : (Jvm.Cond.selects "TwoSeek" ({ cls := "TwoSeek", name := "read", desc := "(II)J" } : Jvm.MethodName) ({ cls := "TwoSeek", name := "read", desc := "(II)J" } : Jvm.MethodName)) ∈ lw_all := lw_g (lw_at lw_m3 39 rfl) rfl
theorem q635 : (Jvm.Cond.codeWith ({ cls := "TwoSeek", name := "read", desc := "(II)J" } : Jvm.MethodName) prog_1_method_12_code (4 : Nat) (Option.some Jvm.ClassFile.FieldType.long) [((19 : Nat), (29 : Nat), (30 : Nat), (172 : Nat)), ((19 : Nat), (29 : Nat), (39 : Nat), (174 : Nat))]) ∈ lw_all := lw_g (lw_at lw_m3 40 rfl) rfl
theorem q636 : (Jvm.Cond.methodLink "TwoSeek" (176 : Nat) ({ cls := "TwoSeek", name := "none", desc := "(I)I" } : Jvm.MethodName)) ∈ lw_all := lw_g (lw_at lw_m3 41 rfl) rfl
theorem q637 : (Jvm.Cond.privateMethod ({ cls := "TwoSeek", name := "none", desc := "(I)I" } : Jvm.MethodName)) ∈ lw_tbl := lw_at lw_m3 42 rfl
theorem q638 : (Jvm.Cond.instanceMethod ({ cls := "TwoSeek", name := "none", desc := "(I)I" } : Jvm.MethodName)) ∈ lw_all := lw_g (lw_at lw_m3 43 rfl) rfl
theorem q639 : (Jvm.Cond.code ({ cls := "TwoSeek", name := "none", desc := "(I)I" } : Jvm.MethodName) prog_1_method_6_code (2 : Nat) (Option.some Jvm.ClassFile.FieldType.int)) ∈ lw_all := lw_g (lw_at lw_m3 44 rfl) rfl
theorem q640 : (Jvm.Cond.methodLink "TwoSeek" (180 : Nat) ({ cls := "TwoSeek$Tray", name := "get", desc := "(I)J" } : Jvm.MethodName)) ∈ lw_all := lw_g (lw_at lw_m3 45 rfl) rfl
theorem q644 : (Jvm.Cond.constantLong "TwoSeek" (184 : Nat) (-1 : Int64)) ∈ lw_all := lw_g (lw_at lw_m3 49 rfl) rfl
theorem q646 : (Jvm.Cond.instanceMethod ({ cls := "TwoSeek", name := "pour", desc := "(IIIII)Z" } : Jvm.MethodName)) ∈ lw_all := lw_g (lw_at lw_m3 51 rfl) rfl
theorem q647 : (Jvm.Cond.selects "TwoSeek" ({ cls := "TwoSeek", name := "pour", desc := "(IIIII)Z" } : Jvm.MethodName) ({ cls := "TwoSeek", name := "pour", desc := "(IIIII)Z" } : Jvm.MethodName)) ∈ lw_all := lw_g (lw_at lw_m3 52 rfl) rfl
theorem q648 : (Jvm.Cond.codeWith ({ cls := "TwoSeek", name := "pour", desc := "(IIIII)Z" } : Jvm.MethodName) prog_1_method_13_code (9 : Nat) (Option.some Jvm.ClassFile.FieldType.boolean) [((80 : Nat), (92 : Nat), (95 : Nat), (172 : Nat)), ((80 : Nat), (92 : Nat), (103 : Nat), (198 : Nat))]) ∈ lw_all := lw_g (lw_at lw_m3 53 rfl) rfl
theorem q649 : (Jvm.Cond.classLink "TwoSeek" (198 : Nat) "java/lang/IndexOutOfBoundsException") ∈ lw_all := lw_g (lw_at lw_m3 54 rfl) rfl
theorem q650 : (Jvm.Cond.methodLink "TwoSeek" (192 : Nat) ({ cls := "java/lang/System", name := "arraycopy", desc := "(Ljava/lang/Object;ILjava/lang/Object;II)V" } : Jvm.MethodName)) ∈ lw_all := lw_g (lw_at lw_m3 55 rfl) rfl
theorem q654 : (Jvm.Cond.instanceMethod ({ cls := "TwoSeek", name := "feed", desc := "(IIIII)I" } : Jvm.MethodName)) ∈ lw_all := lw_g (lw_at lw_m3 59 rfl) rfl
theorem q655 : (Jvm.Cond.selects "TwoSeek" ({ cls := "TwoSeek", name := "feed", desc := "(IIIII)I" } : Jvm.MethodName) ({ cls := "TwoSeek", name := "feed", desc := "(IIIII)I" } : Jvm.MethodName)) ∈ lw_all := lw_g (lw_at lw_m3 60 rfl) rfl
theorem q656 : (Jvm.Cond.code ({ cls := "TwoSeek", name := "feed", desc := "(IIIII)I" } : Jvm.MethodName) prog_1_method_18_code (6 : Nat) (Option.some Jvm.ClassFile.FieldType.int)) ∈ lw_all := lw_g (lw_at lw_m3 61 rfl) rfl
theorem q657 : (Jvm.Cond.methodLink "TwoSeek" (212 : Nat) ({ cls := "TwoSeek", name := "four", desc := "(I)V" } : Jvm.MethodName)) ∈ lw_all := lw_g (lw_at lw_m3 62 rfl) rfl
theorem q658 : (Jvm.Cond.privateMethod ({ cls := "TwoSeek", name := "four", desc := "(I)V" } : Jvm.MethodName)) ∈ lw_tbl := lw_at lw_m3 63 rfl
theorem q659 : (Jvm.Cond.instanceMethod ({ cls := "TwoSeek", name := "four", desc := "(I)V" } : Jvm.MethodName)) ∈ lw_all := lw_g (lw_at lw_m3 64 rfl) rfl
theorem q660 : (Jvm.Cond.code ({ cls := "TwoSeek", name := "four", desc := "(I)V" } : Jvm.MethodName) prog_1_method_19_code (3 : Nat) (Option.none : Option Jvm.ClassFile.FieldType)) ∈ lw_all := lw_g (lw_at lw_m3 65 rfl) rfl
theorem q662 : (Jvm.Cond.instanceMethod ({ cls := "TwoSeek", name := "town", desc := "(I)I" } : Jvm.MethodName)) ∈ lw_all := lw_g (lw_at lw_m3 67 rfl) rfl
theorem q663 : (Jvm.Cond.selects "TwoSeek" ({ cls := "TwoSeek", name := "town", desc := "(I)I" } : Jvm.MethodName) ({ cls := "TwoSeek", name := "town", desc := "(I)I" } : Jvm.MethodName)) ∈ lw_all := lw_g (lw_at lw_m3 68 rfl) rfl
theorem q664 : (Jvm.Cond.codeWith ({ cls := "TwoSeek", name := "town", desc := "(I)I" } : Jvm.MethodName) prog_1_method_20_code (4 : Nat) (Option.some Jvm.ClassFile.FieldType.int) [((39 : Nat), (48 : Nat), (51 : Nat), (15 : Nat))]) ∈ lw_all := lw_g (lw_at lw_m3 69 rfl) rfl
theorem q665 : (Jvm.Cond.methodLink "TwoSeek" (220 : Nat) ({ cls := "TwoSeek$Reader", name := "read", desc := "(I)LTwoSeek$Town;" } : Jvm.MethodName)) ∈ lw_all := lw_g (lw_at lw_m3 70 rfl) rfl
theorem q784 : (Jvm.Cond.fieldLink "TwoSeek" (260 : Nat) "TwoSeek$Place" "number" "I") ∈ lw_all := lw_g (lw_at lw_m3 189 rfl) rfl
theorem q787 : (Jvm.Cond.fieldLinkNest "TwoSeek" (244 : Nat) "TwoSeek$Place" "sight" "I" "TwoSeek") ∈ lw_tbl := lw_at lw_m3 192 rfl
theorem q790 : (Jvm.Cond.fieldLinkNest "TwoSeek" (357 : Nat) "TwoSeek$Place" "first" "I" "TwoSeek") ∈ lw_tbl := lw_at lw_m3 195 rfl
theorem q793 : (Jvm.Cond.fieldLinkNest "TwoSeek" (359 : Nat) "TwoSeek$Place" "second" "I" "TwoSeek") ∈ lw_tbl := lw_at lw_m3 198 rfl
theorem q797 : (Jvm.Cond.fieldLinkNest "TwoSeek" (249 : Nat) "TwoSeek$Place" "many" "I" "TwoSeek") ∈ lw_tbl := lw_at lw_m3 202 rfl
theorem q799 : (Jvm.Cond.fieldLinkNest "TwoSeek" (250 : Nat) "TwoSeek$Place" "lanes" "[LTwoSeek$Lane;" "TwoSeek") ∈ lw_tbl := lw_at lw_m3 204 rfl
theorem q844 : (Jvm.Cond.fieldLinkNest "TwoSeek" (267 : Nat) "TwoSeek$Lane" "isShut" "Z" "TwoSeek") ∈ lw_tbl := lw_at lw_m4 9 rfl
theorem q856 : (Jvm.Cond.methodLink "TwoSeek" (234 : Nat) ({ cls := "TwoSeek", name := "gives", desc := "(I)I" } : Jvm.MethodName)) ∈ lw_all := lw_g (lw_at lw_m4 21 rfl) rfl
theorem q857 : (Jvm.Cond.privateMethod ({ cls := "TwoSeek", name := "gives", desc := "(I)I" } : Jvm.MethodName)) ∈ lw_tbl := lw_at lw_m4 22 rfl
theorem q858 : (Jvm.Cond.instanceMethod ({ cls := "TwoSeek", name := "gives", desc := "(I)I" } : Jvm.MethodName)) ∈ lw_all := lw_g (lw_at lw_m4 23 rfl) rfl
theorem q859 : (Jvm.Cond.code ({ cls := "TwoSeek", name := "gives", desc := "(I)I" } : Jvm.MethodName) prog_1_method_7_code (2 : Nat) (Option.some Jvm.ClassFile.FieldType.int)) ∈ lw_all := lw_g (lw_at lw_m4 24 rfl) rfl
theorem q861 : (Jvm.Cond.instanceMethod ({ cls := "TwoSeek", name := "fault", desc := "(I)I" } : Jvm.MethodName)) ∈ lw_all := lw_g (lw_at lw_m4 26 rfl) rfl
theorem q862 : (Jvm.Cond.selects "TwoSeek" ({ cls := "TwoSeek", name := "fault", desc := "(I)I" } : Jvm.MethodName) ({ cls := "TwoSeek", name := "fault", desc := "(I)I" } : Jvm.MethodName)) ∈ lw_all := lw_g (lw_at lw_m4 27 rfl) rfl
theorem q863 : (Jvm.Cond.code ({ cls := "TwoSeek", name := "fault", desc := "(I)I" } : Jvm.MethodName) prog_1_method_21_code (2 : Nat) (Option.some Jvm.ClassFile.FieldType.int)) ∈ lw_all := lw_g (lw_at lw_m4 28 rfl) rfl
theorem q865 : (Jvm.Cond.instanceMethod ({ cls := "TwoSeek", name := "many", desc := "(I)I" } : Jvm.MethodName)) ∈ lw_all := lw_g (lw_at lw_m4 30 rfl) rfl
theorem q866 : (Jvm.Cond.selects "TwoSeek" ({ cls := "TwoSeek", name := "many", desc := "(I)I" } : Jvm.MethodName) ({ cls := "TwoSeek", name := "many", desc := "(I)I" } : Jvm.MethodName)) ∈ lw_all := lw_g (lw_at lw_m4 31 rfl) rfl
theorem q867 : (Jvm.Cond.code ({ cls := "TwoSeek", name := "many", desc := "(I)I" } : Jvm.MethodName) prog_1_method_22_code (2 : Nat) (Option.some Jvm.ClassFile.FieldType.int)) ∈ lw_all := lw_g (lw_at lw_m4 32 rfl) rfl
theorem q869 : (Jvm.Cond.instanceMethod ({ cls := "TwoSeek", name := "place", desc := "(II)I" } : Jvm.MethodName)) ∈ lw_all := lw_g (lw_at lw_m4 34 rfl) rfl
theorem q870 : (Jvm.Cond.selects "TwoSeek" ({ cls := "TwoSeek", name := "place", desc := "(II)I" } : Jvm.MethodName) ({ cls := "TwoSeek", name := "place", desc := "(II)I" } : Jvm.MethodName)) ∈ lw_all := lw_g (lw_at lw_m4 35 rfl) rfl
theorem q871 : (Jvm.Cond.code ({ cls := "TwoSeek", name := "place", desc := "(II)I" } : Jvm.MethodName) prog_1_method_23_code (4 : Nat) (Option.some Jvm.ClassFile.FieldType.int)) ∈ lw_all := lw_g (lw_at lw_m4 36 rfl) rfl
theorem q872 : (Jvm.Cond.methodLink "TwoSeek" (237 : Nat) ({ cls := "TwoSeek", name := "isPlace", desc := "(I)Z" } : Jvm.MethodName)) ∈ lw_all := lw_g (lw_at lw_m4 37 rfl) rfl
theorem q873 : (Jvm.Cond.privateMethod ({ cls := "TwoSeek", name := "isPlace", desc := "(I)Z" } : Jvm.MethodName)) ∈ lw_tbl := lw_at lw_m4 38 rfl
theorem q874 : (Jvm.Cond.instanceMethod ({ cls := "TwoSeek", name := "isPlace", desc := "(I)Z" } : Jvm.MethodName)) ∈ lw_all := lw_g (lw_at lw_m4 39 rfl) rfl
theorem q875 : (Jvm.Cond.code ({ cls := "TwoSeek", name := "isPlace", desc := "(I)Z" } : Jvm.MethodName) prog_1_method_15_code (2 : Nat) (Option.some Jvm.ClassFile.FieldType.boolean)) ∈ lw_all := lw_g (lw_at lw_m4 40 rfl) rfl
theorem q876 : (Jvm.Cond.methodLink "TwoSeek" (254 : Nat) ({ cls := "TwoSeek$Lane", name := "other", desc := "(LTwoSeek$Place;)LTwoSeek$Place;" } : Jvm.MethodName)) ∈ lw_all := lw_g (lw_at lw_m4 41 rfl) rfl
theorem q878 : (Jvm.Cond.instanceMethod ({ cls := "TwoSeek", name := "shut", desc := "(IZ)Z" } : Jvm.MethodName)) ∈ lw_all := lw_g (lw_at lw_m4 43 rfl) rfl
theorem q879 : (Jvm.Cond.selects "TwoSeek" ({ cls := "TwoSeek", name := "shut", desc := "(IZ)Z" } : Jvm.MethodName) ({ cls := "TwoSeek", name := "shut", desc := "(IZ)Z" } : Jvm.MethodName)) ∈ lw_all := lw_g (lw_at lw_m4 44 rfl) rfl
theorem q880 : (Jvm.Cond.code ({ cls := "TwoSeek", name := "shut", desc := "(IZ)Z" } : Jvm.MethodName) prog_1_method_24_code (3 : Nat) (Option.some Jvm.ClassFile.FieldType.boolean)) ∈ lw_all := lw_g (lw_at lw_m4 45 rfl) rfl
theorem q881 : (Jvm.Cond.methodLink "TwoSeek" (263 : Nat) ({ cls := "TwoSeek", name := "isLane", desc := "(I)Z" } : Jvm.MethodName)) ∈ lw_all := lw_g (lw_at lw_m4 46 rfl) rfl
theorem q882 : (Jvm.Cond.privateMethod ({ cls := "TwoSeek", name := "isLane", desc := "(I)Z" } : Jvm.MethodName)) ∈ lw_tbl := lw_at lw_m4 47 rfl
theorem q883 : (Jvm.Cond.instanceMethod ({ cls := "TwoSeek", name := "isLane", desc := "(I)Z" } : Jvm.MethodName)) ∈ lw_all := lw_g (lw_at lw_m4 48 rfl) rfl
theorem q884 : (Jvm.Cond.code ({ cls := "TwoSeek", name := "isLane", desc := "(I)Z" } : Jvm.MethodName) prog_1_method_16_code (2 : Nat) (Option.some Jvm.ClassFile.FieldType.boolean)) ∈ lw_all := lw_g (lw_at lw_m4 49 rfl) rfl
theorem q886 : (Jvm.Cond.instanceMethod ({ cls := "TwoSeek", name := "marks", desc := "(Z)Z" } : Jvm.MethodName)) ∈ lw_all := lw_g (lw_at lw_m4 51 rfl) rfl
theorem q887 : (Jvm.Cond.selects "TwoSeek" ({ cls := "TwoSeek", name := "marks", desc := "(Z)Z" } : Jvm.MethodName) ({ cls := "TwoSeek", name := "marks", desc := "(Z)Z" } : Jvm.MethodName)) ∈ lw_all := lw_g (lw_at lw_m4 52 rfl) rfl
theorem q888 : (Jvm.Cond.code ({ cls := "TwoSeek", name := "marks", desc := "(Z)Z" } : Jvm.MethodName) prog_1_method_25_code (2 : Nat) (Option.some Jvm.ClassFile.FieldType.boolean)) ∈ lw_all := lw_g (lw_at lw_m4 53 rfl) rfl
theorem q890 : (Jvm.Cond.instanceMethod ({ cls := "TwoSeek", name := "distance", desc := "(II)I" } : Jvm.MethodName)) ∈ lw_all := lw_g (lw_at lw_m4 55 rfl) rfl
theorem q891 : (Jvm.Cond.selects "TwoSeek" ({ cls := "TwoSeek", name := "distance", desc := "(II)I" } : Jvm.MethodName) ({ cls := "TwoSeek", name := "distance", desc := "(II)I" } : Jvm.MethodName)) ∈ lw_all := lw_g (lw_at lw_m4 56 rfl) rfl
theorem q892 : (Jvm.Cond.code ({ cls := "TwoSeek", name := "distance", desc := "(II)I" } : Jvm.MethodName) prog_1_method_26_code (3 : Nat) (Option.some Jvm.ClassFile.FieldType.int)) ∈ lw_all := lw_g (lw_at lw_m4 57 rfl) rfl
theorem q893 : (Jvm.Cond.methodLink "TwoSeek" (270 : Nat) ({ cls := "TwoSeek$Town", name := "spread", desc := "(LTwoSeek$Place;)V" } : Jvm.MethodName)) ∈ lw_all := lw_g (lw_at lw_m4 58 rfl) rfl
theorem q902 : (Jvm.Cond.instanceMethod ({ cls := "TwoSeek", name := "clock", desc := "(IIZ)I" } : Jvm.MethodName)) ∈ lw_all := lw_g (lw_at lw_m4 67 rfl) rfl
theorem q903 : (Jvm.Cond.selects "TwoSeek" ({ cls := "TwoSeek", name := "clock", desc := "(IIZ)I" } : Jvm.MethodName) ({ cls := "TwoSeek", name := "clock", desc := "(IIZ)I" } : Jvm.MethodName)) ∈ lw_all := lw_g (lw_at lw_m4 68 rfl) rfl
theorem q904 : (Jvm.Cond.code ({ cls := "TwoSeek", name := "clock", desc := "(IIZ)I" } : Jvm.MethodName) prog_1_method_30_code (5 : Nat) (Option.some Jvm.ClassFile.FieldType.int)) ∈ lw_all := lw_g (lw_at lw_m4 69 rfl) rfl
theorem q905 : (Jvm.Cond.methodLink "TwoSeek" (281 : Nat) ({ cls := "TwoSeek$Tray", name := "many", desc := "()I" } : Jvm.MethodName)) ∈ lw_all := lw_g (lw_at lw_m4 70 rfl) rfl
theorem q909 : (Jvm.Cond.constantLong "TwoSeek" (284 : Nat) (4 : Int64)) ∈ lw_all := lw_g (lw_at lw_m4 74 rfl) rfl
theorem q910 : (Jvm.Cond.methodLink "TwoSeek" (286 : Nat) ({ cls := "TwoSeek", name := "areFrom", desc := "(IIJJ)Z" } : Jvm.MethodName)) ∈ lw_all := lw_g (lw_at lw_m4 75 rfl) rfl
theorem q911 : (Jvm.Cond.privateMethod ({ cls := "TwoSeek", name := "areFrom", desc := "(IIJJ)Z" } : Jvm.MethodName)) ∈ lw_tbl := lw_at lw_m4 76 rfl
theorem q912 : (Jvm.Cond.instanceMethod ({ cls := "TwoSeek", name := "areFrom", desc := "(IIJJ)Z" } : Jvm.MethodName)) ∈ lw_all := lw_g (lw_at lw_m4 77 rfl) rfl
theorem q913 : (Jvm.Cond.code ({ cls := "TwoSeek", name := "areFrom", desc := "(IIJJ)Z" } : Jvm.MethodName) prog_1_method_27_code (8 : Nat) (Option.some Jvm.ClassFile.FieldType.boolean)) ∈ lw_all := lw_g (lw_at lw_m4 78 rfl) rfl
theorem q914 : (Jvm.Cond.methodLink "TwoSeek" (277 : Nat) ({ cls := "TwoSeek", name := "isFrom", desc := "(JJJ)Z" } : Jvm.MethodName)) ∈ lw_all := lw_g (lw_at lw_m4 79 rfl) rfl
theorem q915 : (Jvm.Cond.static ({ cls := "TwoSeek", name := "isFrom", desc := "(JJJ)Z" } : Jvm.MethodName)) ∈ lw_all := lw_g (lw_at lw_m4 80 rfl) rfl
theorem q916 : (Jvm.Cond.code ({ cls := "TwoSeek", name := "isFrom", desc := "(JJJ)Z" } : Jvm.MethodName) prog_1_method_14_code (6 : Nat) (Option.some Jvm.ClassFile.FieldType.boolean)) ∈ lw_all := lw_g (lw_at lw_m4 81 rfl) rfl
theorem q917 : (Jvm.Cond.methodLink "TwoSeek" (290 : Nat) ({ cls := "TwoSeek", name := "rowOf", desc := "(II)[I" } : Jvm.MethodName)) ∈ lw_all := lw_g (lw_at lw_m4 82 rfl) rfl
theorem q918 : (Jvm.Cond.privateMethod ({ cls := "TwoSeek", name := "rowOf", desc := "(II)[I" } : Jvm.MethodName)) ∈ lw_tbl := lw_at lw_m4 83 rfl
theorem q919 : (Jvm.Cond.instanceMethod ({ cls := "TwoSeek", name := "rowOf", desc := "(II)[I" } : Jvm.MethodName)) ∈ lw_all := lw_g (lw_at lw_m4 84 rfl) rfl
theorem q920 : (Jvm.Cond.code ({ cls := "TwoSeek", name := "rowOf", desc := "(II)[I" } : Jvm.MethodName) prog_1_method_28_code (5 : Nat) (Option.some (Jvm.ClassFile.FieldType.array Jvm.ClassFile.FieldType.int))) ∈ lw_all := lw_g (lw_at lw_m4 85 rfl) rfl
theorem q921 : (Jvm.Cond.classLink "TwoSeek" (294 : Nat) "TwoSeek$Again") ∈ lw_all := lw_g (lw_at lw_m4 86 rfl) rfl
theorem q923 : (Jvm.Cond.methodLink "TwoSeek" (296 : Nat) ({ cls := "TwoSeek$Again", name := "<init>", desc := "([I)V" } : Jvm.MethodName)) ∈ lw_all := lw_g (lw_at lw_m4 88 rfl) rfl
theorem q943 : (Jvm.Cond.classLink "TwoSeek" (299 : Nat) "TwoSeek$Hourly") ∈ lw_all := lw_g (lw_at lw_m4 108 rfl) rfl
theorem q945 : (Jvm.Cond.methodLink "TwoSeek" (301 : Nat) ({ cls := "TwoSeek$Hourly", name := "<init>", desc := "([I)V" } : Jvm.MethodName)) ∈ lw_all := lw_g (lw_at lw_m4 110 rfl) rfl
theorem q948 : (Jvm.Cond.methodLink "TwoSeek" (302 : Nat) ({ cls := "TwoSeek", name := "adds", desc := "(LTwoSeek$Way;)I" } : Jvm.MethodName)) ∈ lw_all := lw_g (lw_at lw_m4 113 rfl) rfl
theorem q949 : (Jvm.Cond.privateMethod ({ cls := "TwoSeek", name := "adds", desc := "(LTwoSeek$Way;)I" } : Jvm.MethodName)) ∈ lw_tbl := lw_at lw_m4 114 rfl
theorem q950 : (Jvm.Cond.instanceMethod ({ cls := "TwoSeek", name := "adds", desc := "(LTwoSeek$Way;)I" } : Jvm.MethodName)) ∈ lw_all := lw_g (lw_at lw_m4 115 rfl) rfl
theorem q951 : (Jvm.Cond.code ({ cls := "TwoSeek", name := "adds", desc := "(LTwoSeek$Way;)I" } : Jvm.MethodName) prog_1_method_29_code (2 : Nat) (Option.some Jvm.ClassFile.FieldType.int)) ∈ lw_all := lw_g (lw_at lw_m4 116 rfl) rfl
theorem q953 : (Jvm.Cond.instanceMethod ({ cls := "TwoSeek", name := "sight", desc := "(I)I" } : Jvm.MethodName)) ∈ lw_all := lw_g (lw_at lw_m4 118 rfl) rfl
theorem q954 : (Jvm.Cond.selects "TwoSeek" ({ cls := "TwoSeek", name := "sight", desc := "(I)I" } : Jvm.MethodName) ({ cls := "TwoSeek", name := "sight", desc := "(I)I" } : Jvm.MethodName)) ∈ lw_all := lw_g (lw_at lw_m4 119 rfl) rfl
theorem q955 : (Jvm.Cond.code ({ cls := "TwoSeek", name := "sight", desc := "(I)I" } : Jvm.MethodName) prog_1_method_31_code (2 : Nat) (Option.some Jvm.ClassFile.FieldType.int)) ∈ lw_all := lw_g (lw_at lw_m4 120 rfl) rfl
theorem q956 : (Jvm.Cond.constantLong "TwoSeek" (306 : Nat) (14 : Int64)) ∈ lw_all := lw_g (lw_at lw_m4 121 rfl) rfl
theorem q957 : (Jvm.Cond.classLink "TwoSeek" (308 : Nat) "TwoSeek$Sight") ∈ lw_all := lw_g (lw_at lw_m4 122 rfl) rfl
theorem q959 : (Jvm.Cond.methodLink "TwoSeek" (310 : Nat) ({ cls := "TwoSeek$Sight", name := "<init>", desc := "([I)V" } : Jvm.MethodName)) ∈ lw_all := lw_g (lw_at lw_m4 124 rfl) rfl
theorem q966 : (Jvm.Cond.instanceMethod ({ cls := "TwoSeek", name := "when", desc := "(IIII)I" } : Jvm.MethodName)) ∈ lw_all := lw_g (lw_at lw_m4 131 rfl) rfl
theorem q967 : (Jvm.Cond.selects "TwoSeek" ({ cls := "TwoSeek", name := "when", desc := "(IIII)I" } : Jvm.MethodName) ({ cls := "TwoSeek", name := "when", desc := "(IIII)I" } : Jvm.MethodName)) ∈ lw_all := lw_g (lw_at lw_m4 132 rfl) rfl
theorem q968 : (Jvm.Cond.code ({ cls := "TwoSeek", name := "when", desc := "(IIII)I" } : Jvm.MethodName) prog_1_method_35_code (6 : Nat) (Option.some Jvm.ClassFile.FieldType.int)) ∈ lw_all := lw_g (lw_at lw_m4 133 rfl) rfl
theorem q969 : (Jvm.Cond.methodLink "TwoSeek" (349 : Nat) ({ cls := "TwoSeek", name := "isWay", desc := "(J)Z" } : Jvm.MethodName)) ∈ lw_all := lw_g (lw_at lw_m4 134 rfl) rfl
theorem q970 : (Jvm.Cond.privateMethod ({ cls := "TwoSeek", name := "isWay", desc := "(J)Z" } : Jvm.MethodName)) ∈ lw_tbl := lw_at lw_m4 135 rfl
theorem q971 : (Jvm.Cond.instanceMethod ({ cls := "TwoSeek", name := "isWay", desc := "(J)Z" } : Jvm.MethodName)) ∈ lw_all := lw_g (lw_at lw_m4 136 rfl) rfl
theorem q972 : (Jvm.Cond.code ({ cls := "TwoSeek", name := "isWay", desc := "(J)Z" } : Jvm.MethodName) prog_1_method_17_code (3 : Nat) (Option.some Jvm.ClassFile.FieldType.boolean)) ∈ lw_all := lw_g (lw_at lw_m4 137 rfl) rfl
theorem q973 : (Jvm.Cond.methodLink "TwoSeek" (353 : Nat) ({ cls := "TwoSeek", name := "meet", desc := "(IIII)I" } : Jvm.MethodName)) ∈ lw_all := lw_g (lw_at lw_m4 138 rfl) rfl
theorem q974 : (Jvm.Cond.privateMethod ({ cls := "TwoSeek", name := "meet", desc := "(IIII)I" } : Jvm.MethodName)) ∈ lw_tbl := lw_at lw_m4 139 rfl
theorem q975 : (Jvm.Cond.instanceMethod ({ cls := "TwoSeek", name := "meet", desc := "(IIII)I" } : Jvm.MethodName)) ∈ lw_all := lw_g (lw_at lw_m4 140 rfl) rfl
theorem q976 : (Jvm.Cond.code ({ cls := "TwoSeek", name := "meet", desc := "(IIII)I" } : Jvm.MethodName) prog_1_method_34_code (11 : Nat) (Option.some Jvm.ClassFile.FieldType.int)) ∈ lw_all := lw_g (lw_at lw_m4 141 rfl) rfl
theorem q977 : (Jvm.Cond.methodLink "TwoSeek" (321 : Nat) ({ cls := "TwoSeek$Walker", name := "begin", desc := "(LTwoSeek$Way;LTwoSeek$Place;)V" } : Jvm.MethodName)) ∈ lw_all := lw_g (lw_at lw_m4 142 rfl) rfl
theorem q981 : (Jvm.Cond.methodLink "TwoSeek" (331 : Nat) ({ cls := "TwoSeek", name := "nearer", desc := "(LTwoSeek$Place;)LTwoSeek$Place;" } : Jvm.MethodName)) ∈ lw_all := lw_g (lw_at lw_m4 146 rfl) rfl
theorem q982 : (Jvm.Cond.privateMethod ({ cls := "TwoSeek", name := "nearer", desc := "(LTwoSeek$Place;)LTwoSeek$Place;" } : Jvm.MethodName)) ∈ lw_tbl := lw_at lw_m4 147 rfl
theorem q983 : (Jvm.Cond.instanceMethod ({ cls := "TwoSeek", name := "nearer", desc := "(LTwoSeek$Place;)LTwoSeek$Place;" } : Jvm.MethodName)) ∈ lw_all := lw_g (lw_at lw_m4 148 rfl) rfl
theorem q984 : (Jvm.Cond.code ({ cls := "TwoSeek", name := "nearer", desc := "(LTwoSeek$Place;)LTwoSeek$Place;" } : Jvm.MethodName) prog_1_method_33_code (4 : Nat) (Option.some (Jvm.ClassFile.FieldType.object "TwoSeek$Place"))) ∈ lw_all := lw_g (lw_at lw_m4 149 rfl) rfl
theorem q985 : (Jvm.Cond.methodLink "TwoSeek" (317 : Nat) ({ cls := "TwoSeek$Place", name := "by", desc := "(I)LTwoSeek$Place;" } : Jvm.MethodName)) ∈ lw_all := lw_g (lw_at lw_m4 150 rfl) rfl
theorem q999 : (Jvm.Cond.methodLink "TwoSeek" (342 : Nat) ({ cls := "TwoSeek$Walker", name := "next", desc := "()LTwoSeek$Place;" } : Jvm.MethodName)) ∈ lw_all := lw_g (lw_at lw_m4 164 rfl) rfl
theorem q1019 : (Jvm.Cond.methodLink "TwoSeek" (345 : Nat) ({ cls := "TwoSeek", name := "meets", desc := "(LTwoSeek$Place;LTwoSeek$Place;)Z" } : Jvm.MethodName)) ∈ lw_all := lw_g (lw_at lw_m4 184 rfl) rfl
theorem q1020 : (Jvm.Cond.privateMethod ({ cls := "TwoSeek", name := "meets", desc := "(LTwoSeek$Place;LTwoSeek$Place;)Z" } : Jvm.MethodName)) ∈ lw_tbl := lw_at lw_m4 185 rfl
theorem q1021 : (Jvm.Cond.instanceMethod ({ cls := "TwoSeek", name := "meets", desc := "(LTwoSeek$Place;LTwoSeek$Place;)Z" } : Jvm.MethodName)) ∈ lw_all := lw_g (lw_at lw_m4 186 rfl) rfl
theorem q1022 : (Jvm.Cond.code ({ cls := "TwoSeek", name := "meets", desc := "(LTwoSeek$Place;LTwoSeek$Place;)Z" } : Jvm.MethodName) prog_1_method_32_code (3 : Nat) (Option.some Jvm.ClassFile.FieldType.boolean)) ∈ lw_all := lw_g (lw_at lw_m4 187 rfl) rfl
theorem q1024 : (Jvm.Cond.instanceMethod ({ cls := "TwoSeek", name := "judge", desc := "(III)I" } : Jvm.MethodName)) ∈ lw_all := lw_g (lw_at lw_m4 189 rfl) rfl
theorem q1025 : (Jvm.Cond.selects "TwoSeek" ({ cls := "TwoSeek", name := "judge", desc := "(III)I" } : Jvm.MethodName) ({ cls := "TwoSeek", name := "judge", desc := "(III)I" } : Jvm.MethodName)) ∈ lw_all := lw_g (lw_at lw_m4 190 rfl) rfl
theorem q1026 : (Jvm.Cond.code ({ cls := "TwoSeek", name := "judge", desc := "(III)I" } : Jvm.MethodName) prog_1_method_36_code (8 : Nat) (Option.some Jvm.ClassFile.FieldType.int)) ∈ lw_all := lw_g (lw_at lw_m4 191 rfl) rfl
theorem q1028 : (Jvm.Cond.instanceMethod ({ cls := "TwoSeek", name := "mean", desc := "(II)Z" } : Jvm.MethodName)) ∈ lw_all := lw_g (lw_at lw_m4 193 rfl) rfl
theorem q1029 : (Jvm.Cond.selects "TwoSeek" ({ cls := "TwoSeek", name := "mean", desc := "(II)Z" } : Jvm.MethodName) ({ cls := "TwoSeek", name := "mean", desc := "(II)Z" } : Jvm.MethodName)) ∈ lw_all := lw_g (lw_at lw_m4 194 rfl) rfl
theorem q1030 : (Jvm.Cond.code ({ cls := "TwoSeek", name := "mean", desc := "(II)Z" } : Jvm.MethodName) prog_1_method_40_code (5 : Nat) (Option.some Jvm.ClassFile.FieldType.boolean)) ∈ lw_all := lw_g (lw_at lw_m4 195 rfl) rfl
theorem q1031 : (Jvm.Cond.methodLink "TwoSeek" (374 : Nat) ({ cls := "TwoSeek", name := "times", desc := "(II)J" } : Jvm.MethodName)) ∈ lw_all := lw_g (lw_at lw_m4 196 rfl) rfl
theorem q1032 : (Jvm.Cond.privateMethod ({ cls := "TwoSeek", name := "times", desc := "(II)J" } : Jvm.MethodName)) ∈ lw_tbl := lw_at lw_m4 197 rfl
theorem q1033 : (Jvm.Cond.instanceMethod ({ cls := "TwoSeek", name := "times", desc := "(II)J" } : Jvm.MethodName)) ∈ lw_all := lw_g (lw_at lw_m4 198 rfl) rfl
theorem q1034 : (Jvm.Cond.code ({ cls := "TwoSeek", name := "times", desc := "(II)J" } : Jvm.MethodName) prog_1_method_39_code (9 : Nat) (Option.some Jvm.ClassFile.FieldType.long)) ∈ lw_all := lw_g (lw_at lw_m4 199 rfl) rfl
theorem q1035 : (Jvm.Cond.methodLink "TwoSeek" (361 : Nat) ({ cls := "TwoSeek", name := "likely", desc := "(II)J" } : Jvm.MethodName)) ∈ lw_all := lw_g (lw_at lw_m4 200 rfl) rfl
theorem q1036 : (Jvm.Cond.privateMethod ({ cls := "TwoSeek", name := "likely", desc := "(II)J" } : Jvm.MethodName)) ∈ lw_tbl := lw_at lw_m4 201 rfl
theorem q1037 : (Jvm.Cond.instanceMethod ({ cls := "TwoSeek", name := "likely", desc := "(II)J" } : Jvm.MethodName)) ∈ lw_all := lw_g (lw_at lw_m4 202 rfl) rfl
theorem q1038 : (Jvm.Cond.code ({ cls := "TwoSeek", name := "likely", desc := "(II)J" } : Jvm.MethodName) prog_1_method_37_code (3 : Nat) (Option.some Jvm.ClassFile.FieldType.long)) ∈ lw_all := lw_g (lw_at lw_m4 203 rfl) rfl
theorem q1039 : (Jvm.Cond.methodLink "TwoSeek" (368 : Nat) ({ cls := "java/lang/Math", name := "max", desc := "(II)I" } : Jvm.MethodName)) ∈ lw_all := lw_g (lw_at lw_m4 204 rfl) rfl
theorem q1042 : (Jvm.Cond.methodLink "TwoSeek" (377 : Nat) ({ cls := "TwoSeek", name := "allLikely", desc := "()J" } : Jvm.MethodName)) ∈ lw_all := lw_g (lw_at lw_m4 207 rfl) rfl
theorem q1043 : (Jvm.Cond.privateMethod ({ cls := "TwoSeek", name := "allLikely", desc := "()J" } : Jvm.MethodName)) ∈ lw_tbl := lw_at lw_m4 208 rfl
theorem q1044 : (Jvm.Cond.instanceMethod ({ cls := "TwoSeek", name := "allLikely", desc := "()J" } : Jvm.MethodName)) ∈ lw_all := lw_g (lw_at lw_m4 209 rfl) rfl
theorem q1045 : (Jvm.Cond.code ({ cls := "TwoSeek", name := "allLikely", desc := "()J" } : Jvm.MethodName) prog_1_method_38_code (5 : Nat) (Option.some Jvm.ClassFile.FieldType.long)) ∈ lw_all := lw_g (lw_at lw_m4 210 rfl) rfl
theorem q1046 : (Jvm.Cond.methodLink "TwoSeek" (381 : Nat) ({ cls := "TwoSeek", name := "tell", desc := "(JJ)Z" } : Jvm.MethodName)) ∈ lw_all := lw_g (lw_at lw_m4 211 rfl) rfl
theorem q1047 : (Jvm.Cond.privateMethod ({ cls := "TwoSeek", name := "tell", desc := "(JJ)Z" } : Jvm.MethodName)) ∈ lw_tbl := lw_at lw_m4 212 rfl
theorem q1048 : (Jvm.Cond.instanceMethod ({ cls := "TwoSeek", name := "tell", desc := "(JJ)Z" } : Jvm.MethodName)) ∈ lw_all := lw_g (lw_at lw_m4 213 rfl) rfl
theorem q1049 : (Jvm.Cond.code ({ cls := "TwoSeek", name := "tell", desc := "(JJ)Z" } : Jvm.MethodName) prog_1_method_8_code (11 : Nat) (Option.some Jvm.ClassFile.FieldType.boolean)) ∈ lw_all := lw_g (lw_at lw_m4 214 rfl) rfl
theorem q1051 : (Jvm.Cond.instanceMethod ({ cls := "TwoSeek", name := "worst", desc := "(II)I" } : Jvm.MethodName)) ∈ lw_all := lw_g (lw_at lw_m4 216 rfl) rfl
theorem q1052 : (Jvm.Cond.selects "TwoSeek" ({ cls := "TwoSeek", name := "worst", desc := "(II)I" } : Jvm.MethodName) ({ cls := "TwoSeek", name := "worst", desc := "(II)I" } : Jvm.MethodName)) ∈ lw_all := lw_g (lw_at lw_m4 217 rfl) rfl
theorem q1053 : (Jvm.Cond.code ({ cls := "TwoSeek", name := "worst", desc := "(II)I" } : Jvm.MethodName) prog_1_method_41_code (3 : Nat) (Option.some Jvm.ClassFile.FieldType.int)) ∈ lw_all := lw_g (lw_at lw_m4 218 rfl) rfl
theorem q1055 : (Jvm.Cond.instanceMethod ({ cls := "TwoSeek", name := "same", desc := "(II)I" } : Jvm.MethodName)) ∈ lw_all := lw_g (lw_at lw_m4 220 rfl) rfl
theorem q1056 : (Jvm.Cond.selects "TwoSeek" ({ cls := "TwoSeek", name := "same", desc := "(II)I" } : Jvm.MethodName) ({ cls := "TwoSeek", name := "same", desc := "(II)I" } : Jvm.MethodName)) ∈ lw_all := lw_g (lw_at lw_m4 221 rfl) rfl
theorem q1057 : (Jvm.Cond.code ({ cls := "TwoSeek", name := "same", desc := "(II)I" } : Jvm.MethodName) prog_1_method_43_code (6 : Nat) (Option.some Jvm.ClassFile.FieldType.int)) ∈ lw_all := lw_g (lw_at lw_m4 222 rfl) rfl
theorem q1058 : (Jvm.Cond.methodLink "TwoSeek" (385 : Nat) ({ cls := "TwoSeek", name := "areLike", desc := "(II)Z" } : Jvm.MethodName)) ∈ lw_all := lw_g (lw_at lw_m4 223 rfl) rfl
theorem q1059 : (Jvm.Cond.privateMethod ({ cls := "TwoSeek", name := "areLike", desc := "(II)Z" } : Jvm.MethodName)) ∈ lw_tbl := lw_at lw_m4 224 rfl
theorem q1060 : (Jvm.Cond.instanceMethod ({ cls := "TwoSeek", name := "areLike", desc := "(II)Z" } : Jvm.MethodName)) ∈ lw_all := lw_g (lw_at lw_m4 225 rfl) rfl
theorem q1061 : (Jvm.Cond.code ({ cls := "TwoSeek", name := "areLike", desc := "(II)Z" } : Jvm.MethodName) prog_1_method_42_code (6 : Nat) (Option.some Jvm.ClassFile.FieldType.boolean)) ∈ lw_all := lw_g (lw_at lw_m4 226 rfl) rfl
theorem q1063 : (Jvm.Cond.instanceMethod ({ cls := "TwoSeek", name := "agreed", desc := "(I)I" } : Jvm.MethodName)) ∈ lw_all := lw_g (lw_at lw_m4 228 rfl) rfl
theorem q1064 : (Jvm.Cond.selects "TwoSeek" ({ cls := "TwoSeek", name := "agreed", desc := "(I)I" } : Jvm.MethodName) ({ cls := "TwoSeek", name := "agreed", desc := "(I)I" } : Jvm.MethodName)) ∈ lw_all := lw_g (lw_at lw_m4 229 rfl) rfl
theorem q1065 : (Jvm.Cond.code ({ cls := "TwoSeek", name := "agreed", desc := "(I)I" } : Jvm.MethodName) prog_1_method_48_code (2 : Nat) (Option.some Jvm.ClassFile.FieldType.int)) ∈ lw_all := lw_g (lw_at lw_m4 230 rfl) rfl
theorem q1066 : (Jvm.Cond.methodLink "TwoSeek" (410 : Nat) ({ cls := "TwoSeek", name := "beginRows", desc := "(I)V" } : Jvm.MethodName)) ∈ lw_all := lw_g (lw_at lw_m4 231 rfl) rfl
theorem q1067 : (Jvm.Cond.privateMethod ({ cls := "TwoSeek", name := "beginRows", desc := "(I)V" } : Jvm.MethodName)) ∈ lw_tbl := lw_at lw_m4 232 rfl
theorem q1068 : (Jvm.Cond.instanceMethod ({ cls := "TwoSeek", name := "beginRows", desc := "(I)V" } : Jvm.MethodName)) ∈ lw_all := lw_g (lw_at lw_m4 233 rfl) rfl
theorem q1069 : (Jvm.Cond.code ({ cls := "TwoSeek", name := "beginRows", desc := "(I)V" } : Jvm.MethodName) prog_1_method_44_code (6 : Nat) (Option.none : Option Jvm.ClassFile.FieldType)) ∈ lw_all := lw_g (lw_at lw_m4 234 rfl) rfl
theorem q1070 : (Jvm.Cond.methodLink "TwoSeek" (406 : Nat) ({ cls := "TwoSeek", name := "goRows", desc := "(IJZ)V" } : Jvm.MethodName)) ∈ lw_all := lw_g (lw_at lw_m4 235 rfl) rfl
theorem q1071 : (Jvm.Cond.privateMethod ({ cls := "TwoSeek", name := "goRows", desc := "(IJZ)V" } : Jvm.MethodName)) ∈ lw_tbl := lw_at lw_m4 236 rfl
theorem q1072 : (Jvm.Cond.instanceMethod ({ cls := "TwoSeek", name := "goRows", desc := "(IJZ)V" } : Jvm.MethodName)) ∈ lw_all := lw_g (lw_at lw_m4 237 rfl) rfl
theorem q1073 : (Jvm.Cond.code ({ cls := "TwoSeek", name := "goRows", desc := "(IJZ)V" } : Jvm.MethodName) prog_1_method_47_code (7 : Nat) (Option.none : Option Jvm.ClassFile.FieldType)) ∈ lw_all := lw_g (lw_at lw_m4 238 rfl) rfl
theorem q1074 : (Jvm.Cond.methodLink "TwoSeek" (398 : Nat) ({ cls := "TwoSeek", name := "endRows", desc := "(J)V" } : Jvm.MethodName)) ∈ lw_all := lw_g (lw_at lw_m4 239 rfl) rfl
theorem q1075 : (Jvm.Cond.privateMethod ({ cls := "TwoSeek", name := "endRows", desc := "(J)V" } : Jvm.MethodName)) ∈ lw_tbl := lw_at lw_m5 0 rfl
theorem q1076 : (Jvm.Cond.instanceMethod ({ cls := "TwoSeek", name := "endRows", desc := "(J)V" } : Jvm.MethodName)) ∈ lw_all := lw_g (lw_at lw_m5 1 rfl) rfl
theorem q1077 : (Jvm.Cond.code ({ cls := "TwoSeek", name := "endRows", desc := "(J)V" } : Jvm.MethodName) prog_1_method_46_code (7 : Nat) (Option.none : Option Jvm.ClassFile.FieldType)) ∈ lw_all := lw_g (lw_at lw_m5 2 rfl) rfl
theorem q1078 : (Jvm.Cond.methodLink "TwoSeek" (402 : Nat) ({ cls := "TwoSeek", name := "doesStep", desc := "(III)J" } : Jvm.MethodName)) ∈ lw_all := lw_g (lw_at lw_m5 3 rfl) rfl
theorem q1079 : (Jvm.Cond.privateMethod ({ cls := "TwoSeek", name := "doesStep", desc := "(III)J" } : Jvm.MethodName)) ∈ lw_tbl := lw_at lw_m5 4 rfl
theorem q1080 : (Jvm.Cond.instanceMethod ({ cls := "TwoSeek", name := "doesStep", desc := "(III)J" } : Jvm.MethodName)) ∈ lw_all := lw_g (lw_at lw_m5 5 rfl) rfl
theorem q1081 : (Jvm.Cond.code ({ cls := "TwoSeek", name := "doesStep", desc := "(III)J" } : Jvm.MethodName) prog_1_method_45_code (13 : Nat) (Option.some Jvm.ClassFile.FieldType.long)) ∈ lw_all := lw_g (lw_at lw_m5 6 rfl) rfl
theorem q1083 : (Jvm.Cond.instanceMethod ({ cls := "TwoSeek", name := "step", desc := "(II)I" } : Jvm.MethodName)) ∈ lw_all := lw_g (lw_at lw_m5 8 rfl) rfl
theorem q1084 : (Jvm.Cond.selects "TwoSeek" ({ cls := "TwoSeek", name := "step", desc := "(II)I" } : Jvm.MethodName) ({ cls := "TwoSeek", name := "step", desc := "(II)I" } : Jvm.MethodName)) ∈ lw_all := lw_g (lw_at lw_m5 9 rfl) rfl
theorem q1085 : (Jvm.Cond.code ({ cls := "TwoSeek", name := "step", desc := "(II)I" } : Jvm.MethodName) prog_1_method_49_code (3 : Nat) (Option.some Jvm.ClassFile.FieldType.int)) ∈ lw_all := lw_g (lw_at lw_m5 10 rfl) rfl
theorem q1087 : (Jvm.Cond.instanceMethod ({ cls := "TwoSeek", name := "alike", desc := "(I)I" } : Jvm.MethodName)) ∈ lw_all := lw_g (lw_at lw_m5 12 rfl) rfl
theorem q1088 : (Jvm.Cond.selects "TwoSeek" ({ cls := "TwoSeek", name := "alike", desc := "(I)I" } : Jvm.MethodName) ({ cls := "TwoSeek", name := "alike", desc := "(I)I" } : Jvm.MethodName)) ∈ lw_all := lw_g (lw_at lw_m5 13 rfl) rfl
theorem q1089 : (Jvm.Cond.code ({ cls := "TwoSeek", name := "alike", desc := "(I)I" } : Jvm.MethodName) prog_1_method_50_code (2 : Nat) (Option.some Jvm.ClassFile.FieldType.int)) ∈ lw_all := lw_g (lw_at lw_m5 14 rfl) rfl
theorem q1091 : (Jvm.Cond.instanceMethod ({ cls := "TwoSeek", name := "alikeStep", desc := "(I)I" } : Jvm.MethodName)) ∈ lw_all := lw_g (lw_at lw_m5 16 rfl) rfl
theorem q1092 : (Jvm.Cond.selects "TwoSeek" ({ cls := "TwoSeek", name := "alikeStep", desc := "(I)I" } : Jvm.MethodName) ({ cls := "TwoSeek", name := "alikeStep", desc := "(I)I" } : Jvm.MethodName)) ∈ lw_all := lw_g (lw_at lw_m5 17 rfl) rfl
theorem q1093 : (Jvm.Cond.code ({ cls := "TwoSeek", name := "alikeStep", desc := "(I)I" } : Jvm.MethodName) prog_1_method_51_code (2 : Nat) (Option.some Jvm.ClassFile.FieldType.int)) ∈ lw_all := lw_g (lw_at lw_m5 18 rfl) rfl
theorem q1095 : (Jvm.Cond.instanceMethod ({ cls := "TwoSeek", name := "parted", desc := "(III)I" } : Jvm.MethodName)) ∈ lw_all := lw_g (lw_at lw_m5 20 rfl) rfl
theorem q1096 : (Jvm.Cond.selects "TwoSeek" ({ cls := "TwoSeek", name := "parted", desc := "(III)I" } : Jvm.MethodName) ({ cls := "TwoSeek", name := "parted", desc := "(III)I" } : Jvm.MethodName)) ∈ lw_all := lw_g (lw_at lw_m5 21 rfl) rfl
theorem q1097 : (Jvm.Cond.code ({ cls := "TwoSeek", name := "parted", desc := "(III)I" } : Jvm.MethodName) prog_1_method_55_code (4 : Nat) (Option.some Jvm.ClassFile.FieldType.int)) ∈ lw_all := lw_g (lw_at lw_m5 22 rfl) rfl
theorem q1098 : (Jvm.Cond.methodLink "TwoSeek" (423 : Nat) ({ cls := "TwoSeek", name := "isParted", desc := "(II)Z" } : Jvm.MethodName)) ∈ lw_all := lw_g (lw_at lw_m5 23 rfl) rfl
theorem q1099 : (Jvm.Cond.privateMethod ({ cls := "TwoSeek", name := "isParted", desc := "(II)Z" } : Jvm.MethodName)) ∈ lw_tbl := lw_at lw_m5 24 rfl
theorem q1100 : (Jvm.Cond.instanceMethod ({ cls := "TwoSeek", name := "isParted", desc := "(II)Z" } : Jvm.MethodName)) ∈ lw_all := lw_g (lw_at lw_m5 25 rfl) rfl
theorem q1101 : (Jvm.Cond.code ({ cls := "TwoSeek", name := "isParted", desc := "(II)Z" } : Jvm.MethodName) prog_1_method_52_code (11 : Nat) (Option.some Jvm.ClassFile.FieldType.boolean)) ∈ lw_all := lw_g (lw_at lw_m5 26 rfl) rfl
theorem q1102 : (Jvm.Cond.methodLink "TwoSeek" (426 : Nat) ({ cls := "TwoSeek", name := "isTurned", desc := "(II)Z" } : Jvm.MethodName)) ∈ lw_all := lw_g (lw_at lw_m5 27 rfl) rfl
theorem q1103 : (Jvm.Cond.privateMethod ({ cls := "TwoSeek", name := "isTurned", desc := "(II)Z" } : Jvm.MethodName)) ∈ lw_tbl := lw_at lw_m5 28 rfl
theorem q1104 : (Jvm.Cond.instanceMethod ({ cls := "TwoSeek", name := "isTurned", desc := "(II)Z" } : Jvm.MethodName)) ∈ lw_all := lw_g (lw_at lw_m5 29 rfl) rfl
theorem q1105 : (Jvm.Cond.code ({ cls := "TwoSeek", name := "isTurned", desc := "(II)Z" } : Jvm.MethodName) prog_1_method_54_code (11 : Nat) (Option.some Jvm.ClassFile.FieldType.boolean)) ∈ lw_all := lw_g (lw_at lw_m5 30 rfl) rfl
theorem q1106 : (Jvm.Cond.methodLink "TwoSeek" (419 : Nat) ({ cls := "TwoSeek", name := "puts", desc := "(LTwoSeek$Place;LTwoSeek$Place;I)Z" } : Jvm.MethodName)) ∈ lw_all := lw_g (lw_at lw_m5 31 rfl) rfl
theorem q1107 : (Jvm.Cond.privateMethod ({ cls := "TwoSeek", name := "puts", desc := "(LTwoSeek$Place;LTwoSeek$Place;I)Z" } : Jvm.MethodName)) ∈ lw_tbl := lw_at lw_m5 32 rfl
theorem q1108 : (Jvm.Cond.instanceMethod ({ cls := "TwoSeek", name := "puts", desc := "(LTwoSeek$Place;LTwoSeek$Place;I)Z" } : Jvm.MethodName)) ∈ lw_all := lw_g (lw_at lw_m5 33 rfl) rfl
theorem q1109 : (Jvm.Cond.code ({ cls := "TwoSeek", name := "puts", desc := "(LTwoSeek$Place;LTwoSeek$Place;I)Z" } : Jvm.MethodName) prog_1_method_53_code (4 : Nat) (Option.some Jvm.ClassFile.FieldType.boolean)) ∈ lw_all := lw_g (lw_at lw_m5 34 rfl) rfl
theorem q1111 : (Jvm.Cond.instanceMethod ({ cls := "TwoSeek", name := "drawn", desc := "(IIIII)Z" } : Jvm.MethodName)) ∈ lw_all := lw_g (lw_at lw_m5 36 rfl) rfl
theorem q1112 : (Jvm.Cond.selects "TwoSeek" ({ cls := "TwoSeek", name := "drawn", desc := "(IIIII)Z" } : Jvm.MethodName) ({ cls := "TwoSeek", name := "drawn", desc := "(IIIII)Z" } : Jvm.MethodName)) ∈ lw_all := lw_g (lw_at lw_m5 37 rfl) rfl
theorem q1113 : (Jvm.Cond.code ({ cls := "TwoSeek", name := "drawn", desc := "(IIIII)Z" } : Jvm.MethodName) prog_1_method_60_code (7 : Nat) (Option.some Jvm.ClassFile.FieldType.boolean)) ∈ lw_all := lw_g (lw_at lw_m5 38 rfl) rfl
theorem q1114 : (Jvm.Cond.methodLink "TwoSeek" (432 : Nat) ({ cls := "TwoSeek", name := "wrongDraws", desc := "(IIIIZ)I" } : Jvm.MethodName)) ∈ lw_all := lw_g (lw_at lw_m5 39 rfl) rfl
theorem q1115 : (Jvm.Cond.privateMethod ({ cls := "TwoSeek", name := "wrongDraws", desc := "(IIIIZ)I" } : Jvm.MethodName)) ∈ lw_tbl := lw_at lw_m5 40 rfl
theorem q1116 : (Jvm.Cond.instanceMethod ({ cls := "TwoSeek", name := "wrongDraws", desc := "(IIIIZ)I" } : Jvm.MethodName)) ∈ lw_all := lw_g (lw_at lw_m5 41 rfl) rfl
theorem q1117 : (Jvm.Cond.code ({ cls := "TwoSeek", name := "wrongDraws", desc := "(IIIIZ)I" } : Jvm.MethodName) prog_1_method_58_code (6 : Nat) (Option.some Jvm.ClassFile.FieldType.int)) ∈ lw_all := lw_g (lw_at lw_m5 42 rfl) rfl
theorem q1118 : (Jvm.Cond.methodLink "TwoSeek" (436 : Nat) ({ cls := "TwoSeek", name := "apart", desc := "(IIIII)J" } : Jvm.MethodName)) ∈ lw_all := lw_g (lw_at lw_m5 43 rfl) rfl
theorem q1119 : (Jvm.Cond.privateMethod ({ cls := "TwoSeek", name := "apart", desc := "(IIIII)J" } : Jvm.MethodName)) ∈ lw_tbl := lw_at lw_m5 44 rfl
theorem q1120 : (Jvm.Cond.instanceMethod ({ cls := "TwoSeek", name := "apart", desc := "(IIIII)J" } : Jvm.MethodName)) ∈ lw_all := lw_g (lw_at lw_m5 45 rfl) rfl
theorem q1121 : (Jvm.Cond.code ({ cls := "TwoSeek", name := "apart", desc := "(IIIII)J" } : Jvm.MethodName) prog_1_method_57_code (12 : Nat) (Option.some Jvm.ClassFile.FieldType.long)) ∈ lw_all := lw_g (lw_at lw_m5 46 rfl) rfl
theorem q1122 : (Jvm.Cond.methodLink "TwoSeek" (429 : Nat) ({ cls := "TwoSeek", name := "walks", desc := "(IIII)I" } : Jvm.MethodName)) ∈ lw_all := lw_g (lw_at lw_m5 47 rfl) rfl
theorem q1123 : (Jvm.Cond.privateMethod ({ cls := "TwoSeek", name := "walks", desc := "(IIII)I" } : Jvm.MethodName)) ∈ lw_tbl := lw_at lw_m5 48 rfl
theorem q1124 : (Jvm.Cond.instanceMethod ({ cls := "TwoSeek", name := "walks", desc := "(IIII)I" } : Jvm.MethodName)) ∈ lw_all := lw_g (lw_at lw_m5 49 rfl) rfl
theorem q1125 : (Jvm.Cond.code ({ cls := "TwoSeek", name := "walks", desc := "(IIII)I" } : Jvm.MethodName) prog_1_method_56_code (8 : Nat) (Option.some Jvm.ClassFile.FieldType.int)) ∈ lw_all := lw_g (lw_at lw_m5 50 rfl) rfl
theorem q1126 : (Jvm.Cond.methodLink "TwoSeek" (440 : Nat) ({ cls := "TwoSeek", name := "tellMet", desc := "(JI)Z" } : Jvm.MethodName)) ∈ lw_all := lw_g (lw_at lw_m5 51 rfl) rfl
theorem q1127 : (Jvm.Cond.privateMethod ({ cls := "TwoSeek", name := "tellMet", desc := "(JI)Z" } : Jvm.MethodName)) ∈ lw_tbl := lw_at lw_m5 52 rfl
theorem q1128 : (Jvm.Cond.instanceMethod ({ cls := "TwoSeek", name := "tellMet", desc := "(JI)Z" } : Jvm.MethodName)) ∈ lw_all := lw_g (lw_at lw_m5 53 rfl) rfl
theorem q1129 : (Jvm.Cond.code ({ cls := "TwoSeek", name := "tellMet", desc := "(JI)Z" } : Jvm.MethodName) prog_1_method_59_code (6 : Nat) (Option.some Jvm.ClassFile.FieldType.boolean)) ∈ lw_all := lw_g (lw_at lw_m5 54 rfl) rfl
theorem q1131 : (Jvm.Cond.instanceMethod ({ cls := "TwoSeek", name := "bestDrawn", desc := "(IIII)I" } : Jvm.MethodName)) ∈ lw_all := lw_g (lw_at lw_m5 56 rfl) rfl
theorem q1132 : (Jvm.Cond.selects "TwoSeek" ({ cls := "TwoSeek", name := "bestDrawn", desc := "(IIII)I" } : Jvm.MethodName) ({ cls := "TwoSeek", name := "bestDrawn", desc := "(IIII)I" } : Jvm.MethodName)) ∈ lw_all := lw_g (lw_at lw_m5 57 rfl) rfl
theorem q1133 : (Jvm.Cond.code ({ cls := "TwoSeek", name := "bestDrawn", desc := "(IIII)I" } : Jvm.MethodName) prog_1_method_61_code (12 : Nat) (Option.some Jvm.ClassFile.FieldType.int)) ∈ lw_all := lw_g (lw_at lw_m5 58 rfl) rfl
theorem q1135 : (Jvm.Cond.instanceMethod ({ cls := "TwoSeek", name := "three", desc := "(IIII)I" } : Jvm.MethodName)) ∈ lw_all := lw_g (lw_at lw_m5 60 rfl) rfl
theorem q1136 : (Jvm.Cond.selects "TwoSeek" ({ cls := "TwoSeek", name := "three", desc := "(IIII)I" } : Jvm.MethodName) ({ cls := "TwoSeek", name := "three", desc := "(IIII)I" } : Jvm.MethodName)) ∈ lw_all := lw_g (lw_at lw_m5 61 rfl) rfl
theorem q1137 : (Jvm.Cond.code ({ cls := "TwoSeek", name := "three", desc := "(IIII)I" } : Jvm.MethodName) prog_1_method_63_code (10 : Nat) (Option.some Jvm.ClassFile.FieldType.int)) ∈ lw_all := lw_g (lw_at lw_m5 62 rfl) rfl
theorem q1138 : (Jvm.Cond.methodLink "TwoSeek" (444 : Nat) ({ cls := "TwoSeek", name := "holds", desc := "()Z" } : Jvm.MethodName)) ∈ lw_all := lw_g (lw_at lw_m5 63 rfl) rfl
theorem q1139 : (Jvm.Cond.privateMethod ({ cls := "TwoSeek", name := "holds", desc := "()Z" } : Jvm.MethodName)) ∈ lw_tbl := lw_at lw_m5 64 rfl
theorem q1140 : (Jvm.Cond.instanceMethod ({ cls := "TwoSeek", name := "holds", desc := "()Z" } : Jvm.MethodName)) ∈ lw_all := lw_g (lw_at lw_m5 65 rfl) rfl
theorem q1141 : (Jvm.Cond.code ({ cls := "TwoSeek", name := "holds", desc := "()Z" } : Jvm.MethodName) prog_1_method_62_code (3 : Nat) (Option.some Jvm.ClassFile.FieldType.boolean)) ∈ lw_all := lw_g (lw_at lw_m5 66 rfl) rfl
theorem q1143 : (Jvm.Cond.instanceMethod ({ cls := "TwoSeek", name := "value", desc := "(IIIIIII)Z" } : Jvm.MethodName)) ∈ lw_all := lw_g (lw_at lw_m5 68 rfl) rfl
theorem q1144 : (Jvm.Cond.selects "TwoSeek" ({ cls := "TwoSeek", name := "value", desc := "(IIIIIII)Z" } : Jvm.MethodName) ({ cls := "TwoSeek", name := "value", desc := "(IIIIIII)Z" } : Jvm.MethodName)) ∈ lw_all := lw_g (lw_at lw_m5 69 rfl) rfl
theorem q1145 : (Jvm.Cond.code ({ cls := "TwoSeek", name := "value", desc := "(IIIIIII)Z" } : Jvm.MethodName) prog_1_method_68_code (13 : Nat) (Option.some Jvm.ClassFile.FieldType.boolean)) ∈ lw_all := lw_g (lw_at lw_m5 70 rfl) rfl
theorem q1146 : (Jvm.Cond.methodLink "TwoSeek" (464 : Nat) ({ cls := "TwoSeek", name := "areWays", desc := "(LTwoSeek$Tray;I)Z" } : Jvm.MethodName)) ∈ lw_all := lw_g (lw_at lw_m5 71 rfl) rfl
theorem q1147 : (Jvm.Cond.privateMethod ({ cls := "TwoSeek", name := "areWays", desc := "(LTwoSeek$Tray;I)Z" } : Jvm.MethodName)) ∈ lw_tbl := lw_at lw_m5 72 rfl
theorem q1148 : (Jvm.Cond.instanceMethod ({ cls := "TwoSeek", name := "areWays", desc := "(LTwoSeek$Tray;I)Z" } : Jvm.MethodName)) ∈ lw_all := lw_g (lw_at lw_m5 73 rfl) rfl
theorem q1149 : (Jvm.Cond.code ({ cls := "TwoSeek", name := "areWays", desc := "(LTwoSeek$Tray;I)Z" } : Jvm.MethodName) prog_1_method_67_code (4 : Nat) (Option.some Jvm.ClassFile.FieldType.boolean)) ∈ lw_all := lw_g (lw_at lw_m5 74 rfl) rfl
theorem q1150 : (Jvm.Cond.methodLink "TwoSeek" (468 : Nat) ({ cls := "java/lang/Math", name := "min", desc := "(II)I" } : Jvm.MethodName)) ∈ lw_all := lw_g (lw_at lw_m5 75 rfl) rfl
theorem q1151 : (Jvm.Cond.methodLink "TwoSeek" (471 : Nat) ({ cls := "TwoSeek", name := "line", desc := "(I[J)V" } : Jvm.MethodName)) ∈ lw_all := lw_g (lw_at lw_m5 76 rfl) rfl
theorem q1152 : (Jvm.Cond.privateMethod ({ cls := "TwoSeek", name := "line", desc := "(I[J)V" } : Jvm.MethodName)) ∈ lw_tbl := lw_at lw_m5 77 rfl
theorem q1153 : (Jvm.Cond.instanceMethod ({ cls := "TwoSeek", name := "line", desc := "(I[J)V" } : Jvm.MethodName)) ∈ lw_all := lw_g (lw_at lw_m5 78 rfl) rfl
theorem q1154 : (Jvm.Cond.code ({ cls := "TwoSeek", name := "line", desc := "(I[J)V" } : Jvm.MethodName) prog_1_method_64_code (6 : Nat) (Option.none : Option Jvm.ClassFile.FieldType)) ∈ lw_all := lw_g (lw_at lw_m5 79 rfl) rfl
theorem q1155 : (Jvm.Cond.methodLink "TwoSeek" (475 : Nat) ({ cls := "TwoSeek", name := "cross", desc := "(II)V" } : Jvm.MethodName)) ∈ lw_all := lw_g (lw_at lw_m5 80 rfl) rfl
theorem q1156 : (Jvm.Cond.privateMethod ({ cls := "TwoSeek", name := "cross", desc := "(II)V" } : Jvm.MethodName)) ∈ lw_tbl := lw_at lw_m5 81 rfl
theorem q1157 : (Jvm.Cond.instanceMethod ({ cls := "TwoSeek", name := "cross", desc := "(II)V" } : Jvm.MethodName)) ∈ lw_all := lw_g (lw_at lw_m5 82 rfl) rfl
theorem q1158 : (Jvm.Cond.code ({ cls := "TwoSeek", name := "cross", desc := "(II)V" } : Jvm.MethodName) prog_1_method_65_code (13 : Nat) (Option.none : Option Jvm.ClassFile.FieldType)) ∈ lw_all := lw_g (lw_at lw_m5 83 rfl) rfl
theorem q1159 : (Jvm.Cond.methodLink "TwoSeek" (448 : Nat) ({ cls := "java/lang/Math", name := "abs", desc := "(J)J" } : Jvm.MethodName)) ∈ lw_all := lw_g (lw_at lw_m5 84 rfl) rfl
theorem q1162 : (Jvm.Cond.methodLink "TwoSeek" (452 : Nat) ({ cls := "java/lang/Math", name := "max", desc := "(JJ)J" } : Jvm.MethodName)) ∈ lw_all := lw_g (lw_at lw_m5 87 rfl) rfl
theorem q1165 : (Jvm.Cond.methodLink "TwoSeek" (461 : Nat) ({ cls := "TwoSeek", name := "isGreater", desc := "(J)Z" } : Jvm.MethodName)) ∈ lw_all := lw_g (lw_at lw_m5 90 rfl) rfl
theorem q1166 : (Jvm.Cond.privateMethod ({ cls := "TwoSeek", name := "isGreater", desc := "(J)Z" } : Jvm.MethodName)) ∈ lw_tbl := lw_at lw_m5 91 rfl
theorem q1167 : (Jvm.Cond.instanceMethod ({ cls := "TwoSeek", name := "isGreater", desc := "(J)Z" } : Jvm.MethodName)) ∈ lw_all := lw_g (lw_at lw_m5 92 rfl) rfl
theorem q1168 : (Jvm.Cond.code ({ cls := "TwoSeek", name := "isGreater", desc := "(J)Z" } : Jvm.MethodName) prog_1_method_66_code (4 : Nat) (Option.some Jvm.ClassFile.FieldType.boolean)) ∈ lw_all := lw_g (lw_at lw_m5 93 rfl) rfl
theorem q1170 : (Jvm.Cond.instanceMethod ({ cls := "TwoSeek", name := "chance", desc := "(I)Z" } : Jvm.MethodName)) ∈ lw_all := lw_g (lw_at lw_m5 95 rfl) rfl
theorem q1171 : (Jvm.Cond.selects "TwoSeek" ({ cls := "TwoSeek", name := "chance", desc := "(I)Z" } : Jvm.MethodName) ({ cls := "TwoSeek", name := "chance", desc := "(I)Z" } : Jvm.MethodName)) ∈ lw_all := lw_g (lw_at lw_m5 96 rfl) rfl
theorem q1172 : (Jvm.Cond.code ({ cls := "TwoSeek", name := "chance", desc := "(I)Z" } : Jvm.MethodName) prog_1_method_69_code (2 : Nat) (Option.some Jvm.ClassFile.FieldType.boolean)) ∈ lw_all := lw_g (lw_at lw_m5 97 rfl) rfl
theorem q1174 : (Jvm.Cond.instanceMethod ({ cls := "TwoSeek", name := "door", desc := "(II)I" } : Jvm.MethodName)) ∈ lw_all := lw_g (lw_at lw_m5 99 rfl) rfl
theorem q1175 : (Jvm.Cond.selects "TwoSeek" ({ cls := "TwoSeek", name := "door", desc := "(II)I" } : Jvm.MethodName) ({ cls := "TwoSeek", name := "door", desc := "(II)I" } : Jvm.MethodName)) ∈ lw_all := lw_g (lw_at lw_m5 100 rfl) rfl
theorem q1176 : (Jvm.Cond.code ({ cls := "TwoSeek", name := "door", desc := "(II)I" } : Jvm.MethodName) prog_1_method_70_code (9 : Nat) (Option.some Jvm.ClassFile.FieldType.int)) ∈ lw_all := lw_g (lw_at lw_m5 101 rfl) rfl
theorem q1178 : (Jvm.Cond.instanceMethod ({ cls := "TwoSeek", name := "wander", desc := "(III)I" } : Jvm.MethodName)) ∈ lw_all := lw_g (lw_at lw_m5 103 rfl) rfl
theorem q1179 : (Jvm.Cond.selects "TwoSeek" ({ cls := "TwoSeek", name := "wander", desc := "(III)I" } : Jvm.MethodName) ({ cls := "TwoSeek", name := "wander", desc := "(III)I" } : Jvm.MethodName)) ∈ lw_all := lw_g (lw_at lw_m5 104 rfl) rfl
theorem q1180 : (Jvm.Cond.code ({ cls := "TwoSeek", name := "wander", desc := "(III)I" } : Jvm.MethodName) prog_1_method_71_code (8 : Nat) (Option.some Jvm.ClassFile.FieldType.int)) ∈ lw_all := lw_g (lw_at lw_m5 105 rfl) rfl
theorem q1181 : (Jvm.Cond.constant "TwoSeek" (481 : Nat) (1103515245 : Int32)) ∈ lw_all := lw_g (lw_at lw_m5 106 rfl) rfl
theorem q1182 : (Jvm.Cond.constant "TwoSeek" (484 : Nat) (2147483647 : Int32)) ∈ lw_all := lw_g (lw_at lw_m5 107 rfl) rfl
theorem q1183 : (Jvm.Cond.constant "TwoSeek" (485 : Nat) (65536 : Int32)) ∈ lw_all := lw_g (lw_at lw_m5 108 rfl) rfl
theorem in_X0 : ∀ w ∈ wsX00, w ∈ lw_all := lw_in wsX00 [424, 426, 428, 430, 432, 434, 436, 438, 440, 442, 444, 446, 448, 450, 452, 454, 456, 458, 460, 462, 464, 466, 468, 470, 472, 474, 476, 478, 480, 482, 484, 486, 488, 490, 492, 494, 496, 498, 500, 502, 504, 506, 508, 510, 512, 514, 516, 518] (by decide +kernel) (by decide +kernel)
