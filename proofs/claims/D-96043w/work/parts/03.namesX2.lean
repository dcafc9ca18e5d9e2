/-! ThreeSnowballsModel -/
set_option maxRecDepth 100000
def RX2 : String := "ThreeSnowballsModel"
def TX2 : u_T := fun k => match k with
  | 0 => ("ThreeSnowballsModel", "may", "[I", true)
  | 1 => ("ThreeSnowballsModel", "changeAt", "[I", true)
  | 2 => ("ThreeSnowballsModel", "changeWas", "[I", true)
  | 3 => ("ThreeSnowballsModel", "changeIs", "[I", true)
  | 4 => ("ThreeSnowballsModel", "keptMany", "I", false)
  | 5 => ("ThreeSnowballsModel", "done", "I", false)
  | 6 => ("ThreeSnowballsModel", "players", "I", false)
  | 7 => ("ThreeSnowballsModel", "order", "[I", true)
  | 8 => ("ThreeSnowballsModel", "place", "[I", true)
  | 9 => ("ThreeSnowballsModel", "bell", "I", false)
  | 10 => ("ThreeSnowballsModel", "prize", "[I", true)
  | 11 => ("ThreeSnowballsModel", "digitsOf", "[I", true)
  | 12 => ("ThreeSnowballsModel", "tape", "[I", true)
  | 13 => ("ThreeSnowballsModel", "tapeMany", "I", false)
  | 14 => ("ThreeSnowballsModel", "text", "[I", true)
  | 15 => ("ThreeSnowballsModel", "textMany", "I", false)
  | 16 => ("ThreeSnowballsModel", "base", "I", false)
  | 17 => ("ThreeSnowballsModel", "at", "I", false)
  | 18 => ("ThreeSnowballsModel", "ends", "I", false)
  | 19 => ("ThreeSnowballsModel", "fault", "I", false)
  | 20 => ("ThreeSnowballsModel", "opened", "I", false)
  | 21 => ("ThreeSnowballsModel", "names", "[I", true)
  | 22 => ("ThreeSnowballsModel", "power", "[J", true)
  | 23 => ("ThreeSnowballsModel", "worthAt", "[J", true)
  | 24 => ("ThreeSnowballsModel", "aimAt", "[I", true)
  | 25 => ("ThreeSnowballsModel", "hitAt", "[I", true)
  | 26 => ("ThreeSnowballsModel", "now", "[J", true)
  | 27 => ("ThreeSnowballsModel", "value", "[J", true)
  | 28 => ("ThreeSnowballsModel", "waysWere", "[I", true)
  | 29 => ("ThreeSnowballsModel", "firstFalse", "I", false)
  | 30 => ("ThreeSnowballsModel", "firstWrong", "I", false)
  | 31 => ("ThreeSnowballsModel", "chanceAbove", "J", false)
  | 32 => ("ThreeSnowballsModel", "chanceBelow", "J", false)
  | 33 => ("ThreeSnowballsModel", "deedSet", "I", false)
  | 34 => ("ThreeSnowballsModel", "deedTurn", "I", false)
  | 35 => ("ThreeSnowballsModel", "deedThrows", "I", false)
  | 36 => ("ThreeSnowballsModel", "isKept", "Z", false)
  | 37 => ("ThreeSnowballsModel", "imageSet", "I", false)
  | 38 => ("ThreeSnowballsModel", "imageTurn", "I", false)
  | 39 => ("ThreeSnowballsModel", "imageThrows", "I", false)
  | 40 => ("ThreeSnowballsModel", "bodies", "I", false)
  | 41 => ("ThreeSnowballsModel", "bodyKind", "[I", true)
  | 42 => ("ThreeSnowballsModel", "trace", "[I", true)
  | 43 => ("ThreeSnowballsModel", "ran", "I", false)
  | 44 => ("ThreeSnowballsModel", "ownKind", "I", false)
  | 45 => ("ThreeSnowballsModel", "ownNumber", "I", false)
  | 46 => ("ThreeSnowballsModel", "shelf", "[I", true)
  | 47 => ("ThreeSnowballsModel", "many", "[I", true)
  | 48 => ("ThreeSnowballsModel", "items", "[J", true)
  | _ => ("ThreeSnowballsModel", "carried", "[J", true)
def tyX2 : Nat → FieldType := fun k => match k with
  | 0 => .array .int
  | 1 => .array .int
  | 2 => .array .int
  | 3 => .array .int
  | 4 => .int
  | 5 => .int
  | 6 => .int
  | 7 => .array .int
  | 8 => .array .int
  | 9 => .int
  | 10 => .array .int
  | 11 => .array .int
  | 12 => .array .int
  | 13 => .int
  | 14 => .array .int
  | 15 => .int
  | 16 => .int
  | 17 => .int
  | 18 => .int
  | 19 => .int
  | 20 => .int
  | 21 => .array .int
  | 22 => .array .long
  | 23 => .array .long
  | 24 => .array .int
  | 25 => .array .int
  | 26 => .array .long
  | 27 => .array .long
  | 28 => .array .int
  | 29 => .int
  | 30 => .int
  | 31 => .long
  | 32 => .long
  | 33 => .int
  | 34 => .int
  | 35 => .int
  | 36 => .boolean
  | 37 => .int
  | 38 => .int
  | 39 => .int
  | 40 => .int
  | 41 => .array .int
  | 42 => .array .int
  | 43 => .int
  | 44 => .int
  | 45 => .int
  | 46 => .array .int
  | 47 => .array .int
  | 48 => .array .long
  | _ => .array .long
abbrev wsX20 : List Cond := u_ws RX2 TX2 50
set_option maxRecDepth 100000 in
theorem nmX2 : ∀ a, a < 50 → ∀ b, b < 50 → a ≠ b → (TX2 a).2.1 ≠ (TX2 b).2.1 := by decide +kernel
set_option maxRecDepth 100000 in
theorem tyX2_ok : ∀ k, k < 50 → parseFieldDescriptor (TX2 k).2.2.1 = some (tyX2 k) := by decide +kernel
abbrev cX2_init : ByteArray := prog_31_method_4_code
def yX2_init : MethodName := ⟨RX2, "<init>", "()V"⟩
def dkwX2_init_10 : List UInt8 := [79, 42, 180, 0, 28, 5, 7, 79, 42, 180, 0, 28, 6, 5, 79, 42, 180, 0, 28, 7, 4, 79, 177]
abbrev dktX2_init_10 : List UInt8 := dkwX2_init_10 ++ []
def dkwX2_init_9 : List UInt8 := [132, 1, 1, 167, 255, 240, 42, 2, 181, 0, 83, 42, 16, 6, 181, 0, 87, 42, 180, 0, 28, 4, 16, 9]
abbrev dktX2_init_9 : List UInt8 := dkwX2_init_9 ++ dktX2_init_10
def dkwX2_init_8 : List UInt8 := [42, 16, 60, 188, 11, 181, 0, 80, 3, 60, 27, 16, 6, 162, 0, 16, 42, 180, 0, 71, 27, 2, 79]
abbrev dktX2_init_8 : List UInt8 := dkwX2_init_8 ++ dktX2_init_9
def dkwX2_init_7 : List UInt8 := [16, 6, 188, 10, 181, 0, 71, 42, 16, 6, 188, 10, 181, 0, 74, 42, 17, 1, 104, 188, 11, 181, 0, 77]
abbrev dktX2_init_7 : List UInt8 := dkwX2_init_7 ++ dktX2_init_8
def dkwX2_init_6 : List UInt8 := [42, 7, 188, 10, 181, 0, 62, 42, 16, 50, 188, 10, 181, 0, 65, 42, 16, 24, 188, 10, 181, 0, 68, 42]
abbrev dktX2_init_6 : List UInt8 := dkwX2_init_6 ++ dktX2_init_7
def dkwX2_init_5 : List UInt8 := [17, 2, 128, 188, 10, 181, 0, 53, 42, 7, 188, 11, 181, 0, 56, 42, 17, 2, 128, 188, 11, 181, 0, 59]
abbrev dktX2_init_5 : List UInt8 := dkwX2_init_5 ++ dktX2_init_6
def dkwX2_init_4 : List UInt8 := [181, 0, 43, 42, 17, 10, 0, 188, 11, 181, 0, 47, 42, 17, 2, 128, 188, 10, 181, 0, 50, 42]
abbrev dktX2_init_4 : List UInt8 := dkwX2_init_4 ++ dktX2_init_5
def dkwX2_init_3 : List UInt8 := [181, 0, 34, 42, 16, 120, 188, 10, 181, 0, 37, 42, 8, 188, 10, 181, 0, 40, 42, 16, 10, 188, 11]
abbrev dktX2_init_3 : List UInt8 := dkwX2_init_3 ++ dktX2_init_4
def dkwX2_init_2 : List UInt8 := [181, 0, 25, 42, 8, 188, 10, 181, 0, 28, 42, 7, 188, 10, 181, 0, 31, 42, 16, 120, 188, 10]
abbrev dktX2_init_2 : List UInt8 := dkwX2_init_2 ++ dktX2_init_3
def dkwX2_init_1 : List UInt8 := [188, 10, 181, 0, 16, 42, 16, 40, 188, 10, 181, 0, 19, 42, 7, 188, 10, 181, 0, 22, 42, 7, 188, 10]
abbrev dktX2_init_1 : List UInt8 := dkwX2_init_1 ++ dktX2_init_2
def dkwX2_init_0 : List UInt8 := [42, 183, 0, 3, 42, 16, 12, 188, 10, 181, 0, 9, 42, 16, 40, 188, 10, 181, 0, 13, 42, 16, 40]
abbrev dktX2_init_0 : List UInt8 := dkwX2_init_0 ++ dktX2_init_1
theorem dksX2_init_0 : cX2_init.data.toList.drop 0 = dktX2_init_0 := by decide +kernel
theorem dksX2_init_1 : cX2_init.data.toList.drop 23 = dktX2_init_1 := dk_seg dksX2_init_0 23 rfl rfl
theorem dksX2_init_2 : cX2_init.data.toList.drop 47 = dktX2_init_2 := dk_seg dksX2_init_1 24 rfl rfl
theorem dksX2_init_3 : cX2_init.data.toList.drop 69 = dktX2_init_3 := dk_seg dksX2_init_2 22 rfl rfl
theorem dksX2_init_4 : cX2_init.data.toList.drop 92 = dktX2_init_4 := dk_seg dksX2_init_3 23 rfl rfl
theorem dksX2_init_5 : cX2_init.data.toList.drop 114 = dktX2_init_5 := dk_seg dksX2_init_4 22 rfl rfl
theorem dksX2_init_6 : cX2_init.data.toList.drop 138 = dktX2_init_6 := dk_seg dksX2_init_5 24 rfl rfl
theorem dksX2_init_7 : cX2_init.data.toList.drop 162 = dktX2_init_7 := dk_seg dksX2_init_6 24 rfl rfl
theorem dksX2_init_8 : cX2_init.data.toList.drop 186 = dktX2_init_8 := dk_seg dksX2_init_7 24 rfl rfl
theorem dksX2_init_9 : cX2_init.data.toList.drop 209 = dktX2_init_9 := dk_seg dksX2_init_8 23 rfl rfl
theorem dksX2_init_10 : cX2_init.data.toList.drop 233 = dktX2_init_10 := dk_seg dksX2_init_9 24 rfl rfl
theorem dX2_init_0 : decode cX2_init 0 = .ok (.aload_n 0, 1) := dk_42 (dk_at dksX2_init_0 0 rfl rfl)
theorem dX2_init_1 : decode cX2_init 1 = .ok (.invokespecial 3, 3) := dk_183 0 3 (dk_at dksX2_init_0 1 rfl rfl)
theorem dX2_init_4 : decode cX2_init 4 = .ok (.aload_n 0, 1) := dk_42 (dk_at dksX2_init_0 4 rfl rfl)
theorem dX2_init_5 : decode cX2_init 5 = .ok (.bipush 12, 2) := dk_16 12 (dk_at dksX2_init_0 5 rfl rfl)
theorem dX2_init_7 : decode cX2_init 7 = .ok (.newarray .int, 2) := dk_188_10 (dk_at dksX2_init_0 7 rfl rfl)
theorem dX2_init_9 : decode cX2_init 9 = .ok (.putfield 9, 3) := dk_181 0 9 (dk_at dksX2_init_0 9 rfl rfl)
theorem dX2_init_12 : decode cX2_init 12 = .ok (.aload_n 0, 1) := dk_42 (dk_at dksX2_init_0 12 rfl rfl)
theorem dX2_init_13 : decode cX2_init 13 = .ok (.bipush 40, 2) := dk_16 40 (dk_at dksX2_init_0 13 rfl rfl)
theorem dX2_init_15 : decode cX2_init 15 = .ok (.newarray .int, 2) := dk_188_10 (dk_at dksX2_init_0 15 rfl rfl)
theorem dX2_init_17 : decode cX2_init 17 = .ok (.putfield 13, 3) := dk_181 0 13 (dk_at dksX2_init_0 17 rfl rfl)
theorem dX2_init_20 : decode cX2_init 20 = .ok (.aload_n 0, 1) := dk_42 (dk_at dksX2_init_0 20 rfl rfl)
theorem dX2_init_21 : decode cX2_init 21 = .ok (.bipush 40, 2) := dk_16 40 (dk_at dksX2_init_0 21 rfl rfl)
theorem dX2_init_23 : decode cX2_init 23 = .ok (.newarray .int, 2) := dk_188_10 (dk_at dksX2_init_1 0 rfl rfl)
theorem dX2_init_25 : decode cX2_init 25 = .ok (.putfield 16, 3) := dk_181 0 16 (dk_at dksX2_init_1 2 rfl rfl)
theorem dX2_init_28 : decode cX2_init 28 = .ok (.aload_n 0, 1) := dk_42 (dk_at dksX2_init_1 5 rfl rfl)
theorem dX2_init_29 : decode cX2_init 29 = .ok (.bipush 40, 2) := dk_16 40 (dk_at dksX2_init_1 6 rfl rfl)
theorem dX2_init_31 : decode cX2_init 31 = .ok (.newarray .int, 2) := dk_188_10 (dk_at dksX2_init_1 8 rfl rfl)
theorem dX2_init_33 : decode cX2_init 33 = .ok (.putfield 19, 3) := dk_181 0 19 (dk_at dksX2_init_1 10 rfl rfl)
theorem dX2_init_36 : decode cX2_init 36 = .ok (.aload_n 0, 1) := dk_42 (dk_at dksX2_init_1 13 rfl rfl)
theorem dX2_init_37 : decode cX2_init 37 = .ok (.iconst 4, 1) := dk_7 (dk_at dksX2_init_1 14 rfl rfl)
theorem dX2_init_38 : decode cX2_init 38 = .ok (.newarray .int, 2) := dk_188_10 (dk_at dksX2_init_1 15 rfl rfl)
theorem dX2_init_40 : decode cX2_init 40 = .ok (.putfield 22, 3) := dk_181 0 22 (dk_at dksX2_init_1 17 rfl rfl)
theorem dX2_init_43 : decode cX2_init 43 = .ok (.aload_n 0, 1) := dk_42 (dk_at dksX2_init_1 20 rfl rfl)
theorem dX2_init_44 : decode cX2_init 44 = .ok (.iconst 4, 1) := dk_7 (dk_at dksX2_init_1 21 rfl rfl)
theorem dX2_init_45 : decode cX2_init 45 = .ok (.newarray .int, 2) := dk_188_10 (dk_at dksX2_init_1 22 rfl rfl)
theorem dX2_init_47 : decode cX2_init 47 = .ok (.putfield 25, 3) := dk_181 0 25 (dk_at dksX2_init_2 0 rfl rfl)
theorem dX2_init_50 : decode cX2_init 50 = .ok (.aload_n 0, 1) := dk_42 (dk_at dksX2_init_2 3 rfl rfl)
theorem dX2_init_51 : decode cX2_init 51 = .ok (.iconst 5, 1) := dk_8 (dk_at dksX2_init_2 4 rfl rfl)
theorem dX2_init_52 : decode cX2_init 52 = .ok (.newarray .int, 2) := dk_188_10 (dk_at dksX2_init_2 5 rfl rfl)
theorem dX2_init_54 : decode cX2_init 54 = .ok (.putfield 28, 3) := dk_181 0 28 (dk_at dksX2_init_2 7 rfl rfl)
theorem dX2_init_57 : decode cX2_init 57 = .ok (.aload_n 0, 1) := dk_42 (dk_at dksX2_init_2 10 rfl rfl)
theorem dX2_init_58 : decode cX2_init 58 = .ok (.iconst 4, 1) := dk_7 (dk_at dksX2_init_2 11 rfl rfl)
theorem dX2_init_59 : decode cX2_init 59 = .ok (.newarray .int, 2) := dk_188_10 (dk_at dksX2_init_2 12 rfl rfl)
theorem dX2_init_61 : decode cX2_init 61 = .ok (.putfield 31, 3) := dk_181 0 31 (dk_at dksX2_init_2 14 rfl rfl)
theorem dX2_init_64 : decode cX2_init 64 = .ok (.aload_n 0, 1) := dk_42 (dk_at dksX2_init_2 17 rfl rfl)
theorem dX2_init_65 : decode cX2_init 65 = .ok (.bipush 120, 2) := dk_16 120 (dk_at dksX2_init_2 18 rfl rfl)
theorem dX2_init_67 : decode cX2_init 67 = .ok (.newarray .int, 2) := dk_188_10 (dk_at dksX2_init_2 20 rfl rfl)
theorem dX2_init_69 : decode cX2_init 69 = .ok (.putfield 34, 3) := dk_181 0 34 (dk_at dksX2_init_3 0 rfl rfl)
theorem dX2_init_72 : decode cX2_init 72 = .ok (.aload_n 0, 1) := dk_42 (dk_at dksX2_init_3 3 rfl rfl)
theorem dX2_init_73 : decode cX2_init 73 = .ok (.bipush 120, 2) := dk_16 120 (dk_at dksX2_init_3 4 rfl rfl)
theorem dX2_init_75 : decode cX2_init 75 = .ok (.newarray .int, 2) := dk_188_10 (dk_at dksX2_init_3 6 rfl rfl)
theorem dX2_init_77 : decode cX2_init 77 = .ok (.putfield 37, 3) := dk_181 0 37 (dk_at dksX2_init_3 8 rfl rfl)
theorem dX2_init_80 : decode cX2_init 80 = .ok (.aload_n 0, 1) := dk_42 (dk_at dksX2_init_3 11 rfl rfl)
theorem dX2_init_81 : decode cX2_init 81 = .ok (.iconst 5, 1) := dk_8 (dk_at dksX2_init_3 12 rfl rfl)
theorem dX2_init_82 : decode cX2_init 82 = .ok (.newarray .int, 2) := dk_188_10 (dk_at dksX2_init_3 13 rfl rfl)
theorem dX2_init_84 : decode cX2_init 84 = .ok (.putfield 40, 3) := dk_181 0 40 (dk_at dksX2_init_3 15 rfl rfl)
theorem dX2_init_87 : decode cX2_init 87 = .ok (.aload_n 0, 1) := dk_42 (dk_at dksX2_init_3 18 rfl rfl)
theorem dX2_init_88 : decode cX2_init 88 = .ok (.bipush 10, 2) := dk_16 10 (dk_at dksX2_init_3 19 rfl rfl)
theorem dX2_init_90 : decode cX2_init 90 = .ok (.newarray .long, 2) := dk_188_11 (dk_at dksX2_init_3 21 rfl rfl)
theorem dX2_init_92 : decode cX2_init 92 = .ok (.putfield 43, 3) := dk_181 0 43 (dk_at dksX2_init_4 0 rfl rfl)
theorem dX2_init_95 : decode cX2_init 95 = .ok (.aload_n 0, 1) := dk_42 (dk_at dksX2_init_4 3 rfl rfl)
theorem dX2_init_96 : decode cX2_init 96 = .ok (.sipush 2560, 3) := dk_17 10 0 (dk_at dksX2_init_4 4 rfl rfl)
theorem dX2_init_99 : decode cX2_init 99 = .ok (.newarray .long, 2) := dk_188_11 (dk_at dksX2_init_4 7 rfl rfl)
theorem dX2_init_101 : decode cX2_init 101 = .ok (.putfield 47, 3) := dk_181 0 47 (dk_at dksX2_init_4 9 rfl rfl)
theorem dX2_init_104 : decode cX2_init 104 = .ok (.aload_n 0, 1) := dk_42 (dk_at dksX2_init_4 12 rfl rfl)
theorem dX2_init_105 : decode cX2_init 105 = .ok (.sipush 640, 3) := dk_17 2 128 (dk_at dksX2_init_4 13 rfl rfl)
theorem dX2_init_108 : decode cX2_init 108 = .ok (.newarray .int, 2) := dk_188_10 (dk_at dksX2_init_4 16 rfl rfl)
theorem dX2_init_110 : decode cX2_init 110 = .ok (.putfield 50, 3) := dk_181 0 50 (dk_at dksX2_init_4 18 rfl rfl)
theorem dX2_init_113 : decode cX2_init 113 = .ok (.aload_n 0, 1) := dk_42 (dk_at dksX2_init_4 21 rfl rfl)
theorem dX2_init_114 : decode cX2_init 114 = .ok (.sipush 640, 3) := dk_17 2 128 (dk_at dksX2_init_5 0 rfl rfl)
theorem dX2_init_117 : decode cX2_init 117 = .ok (.newarray .int, 2) := dk_188_10 (dk_at dksX2_init_5 3 rfl rfl)
theorem dX2_init_119 : decode cX2_init 119 = .ok (.putfield 53, 3) := dk_181 0 53 (dk_at dksX2_init_5 5 rfl rfl)
theorem dX2_init_122 : decode cX2_init 122 = .ok (.aload_n 0, 1) := dk_42 (dk_at dksX2_init_5 8 rfl rfl)
theorem dX2_init_123 : decode cX2_init 123 = .ok (.iconst 4, 1) := dk_7 (dk_at dksX2_init_5 9 rfl rfl)
theorem dX2_init_124 : decode cX2_init 124 = .ok (.newarray .long, 2) := dk_188_11 (dk_at dksX2_init_5 10 rfl rfl)
theorem dX2_init_126 : decode cX2_init 126 = .ok (.putfield 56, 3) := dk_181 0 56 (dk_at dksX2_init_5 12 rfl rfl)
theorem dX2_init_129 : decode cX2_init 129 = .ok (.aload_n 0, 1) := dk_42 (dk_at dksX2_init_5 15 rfl rfl)
theorem dX2_init_130 : decode cX2_init 130 = .ok (.sipush 640, 3) := dk_17 2 128 (dk_at dksX2_init_5 16 rfl rfl)
theorem dX2_init_133 : decode cX2_init 133 = .ok (.newarray .long, 2) := dk_188_11 (dk_at dksX2_init_5 19 rfl rfl)
theorem dX2_init_135 : decode cX2_init 135 = .ok (.putfield 59, 3) := dk_181 0 59 (dk_at dksX2_init_5 21 rfl rfl)
theorem dX2_init_138 : decode cX2_init 138 = .ok (.aload_n 0, 1) := dk_42 (dk_at dksX2_init_6 0 rfl rfl)
theorem dX2_init_139 : decode cX2_init 139 = .ok (.iconst 4, 1) := dk_7 (dk_at dksX2_init_6 1 rfl rfl)
theorem dX2_init_140 : decode cX2_init 140 = .ok (.newarray .int, 2) := dk_188_10 (dk_at dksX2_init_6 2 rfl rfl)
theorem dX2_init_142 : decode cX2_init 142 = .ok (.putfield 62, 3) := dk_181 0 62 (dk_at dksX2_init_6 4 rfl rfl)
theorem dX2_init_145 : decode cX2_init 145 = .ok (.aload_n 0, 1) := dk_42 (dk_at dksX2_init_6 7 rfl rfl)
theorem dX2_init_146 : decode cX2_init 146 = .ok (.bipush 50, 2) := dk_16 50 (dk_at dksX2_init_6 8 rfl rfl)
theorem dX2_init_148 : decode cX2_init 148 = .ok (.newarray .int, 2) := dk_188_10 (dk_at dksX2_init_6 10 rfl rfl)
theorem dX2_init_150 : decode cX2_init 150 = .ok (.putfield 65, 3) := dk_181 0 65 (dk_at dksX2_init_6 12 rfl rfl)
theorem dX2_init_153 : decode cX2_init 153 = .ok (.aload_n 0, 1) := dk_42 (dk_at dksX2_init_6 15 rfl rfl)
theorem dX2_init_154 : decode cX2_init 154 = .ok (.bipush 24, 2) := dk_16 24 (dk_at dksX2_init_6 16 rfl rfl)
theorem dX2_init_156 : decode cX2_init 156 = .ok (.newarray .int, 2) := dk_188_10 (dk_at dksX2_init_6 18 rfl rfl)
theorem dX2_init_158 : decode cX2_init 158 = .ok (.putfield 68, 3) := dk_181 0 68 (dk_at dksX2_init_6 20 rfl rfl)
theorem dX2_init_161 : decode cX2_init 161 = .ok (.aload_n 0, 1) := dk_42 (dk_at dksX2_init_6 23 rfl rfl)
theorem dX2_init_162 : decode cX2_init 162 = .ok (.bipush 6, 2) := dk_16 6 (dk_at dksX2_init_7 0 rfl rfl)
theorem dX2_init_164 : decode cX2_init 164 = .ok (.newarray .int, 2) := dk_188_10 (dk_at dksX2_init_7 2 rfl rfl)
theorem dX2_init_166 : decode cX2_init 166 = .ok (.putfield 71, 3) := dk_181 0 71 (dk_at dksX2_init_7 4 rfl rfl)
theorem dX2_init_169 : decode cX2_init 169 = .ok (.aload_n 0, 1) := dk_42 (dk_at dksX2_init_7 7 rfl rfl)
theorem dX2_init_170 : decode cX2_init 170 = .ok (.bipush 6, 2) := dk_16 6 (dk_at dksX2_init_7 8 rfl rfl)
theorem dX2_init_172 : decode cX2_init 172 = .ok (.newarray .int, 2) := dk_188_10 (dk_at dksX2_init_7 10 rfl rfl)
theorem dX2_init_174 : decode cX2_init 174 = .ok (.putfield 74, 3) := dk_181 0 74 (dk_at dksX2_init_7 12 rfl rfl)
theorem dX2_init_177 : decode cX2_init 177 = .ok (.aload_n 0, 1) := dk_42 (dk_at dksX2_init_7 15 rfl rfl)
theorem dX2_init_178 : decode cX2_init 178 = .ok (.sipush 360, 3) := dk_17 1 104 (dk_at dksX2_init_7 16 rfl rfl)
theorem dX2_init_181 : decode cX2_init 181 = .ok (.newarray .long, 2) := dk_188_11 (dk_at dksX2_init_7 19 rfl rfl)
theorem dX2_init_183 : decode cX2_init 183 = .ok (.putfield 77, 3) := dk_181 0 77 (dk_at dksX2_init_7 21 rfl rfl)
theorem dX2_init_186 : decode cX2_init 186 = .ok (.aload_n 0, 1) := dk_42 (dk_at dksX2_init_8 0 rfl rfl)
theorem dX2_init_187 : decode cX2_init 187 = .ok (.bipush 60, 2) := dk_16 60 (dk_at dksX2_init_8 1 rfl rfl)
theorem dX2_init_189 : decode cX2_init 189 = .ok (.newarray .long, 2) := dk_188_11 (dk_at dksX2_init_8 3 rfl rfl)
theorem dX2_init_191 : decode cX2_init 191 = .ok (.putfield 80, 3) := dk_181 0 80 (dk_at dksX2_init_8 5 rfl rfl)
theorem dX2_init_194 : decode cX2_init 194 = .ok (.iconst 0, 1) := dk_3 (dk_at dksX2_init_8 8 rfl rfl)
theorem dX2_init_195 : decode cX2_init 195 = .ok (.istore_n 1, 1) := dk_60 (dk_at dksX2_init_8 9 rfl rfl)
theorem dX2_init_196 : decode cX2_init 196 = .ok (.iload_n 1, 1) := dk_27 (dk_at dksX2_init_8 10 rfl rfl)
theorem dX2_init_197 : decode cX2_init 197 = .ok (.bipush 6, 2) := dk_16 6 (dk_at dksX2_init_8 11 rfl rfl)
theorem dX2_init_199 : decode cX2_init 199 = .ok (.if_icmp .ge 16, 3) := dk_162 0 16 (dk_at dksX2_init_8 13 rfl rfl)
theorem dX2_init_202 : decode cX2_init 202 = .ok (.aload_n 0, 1) := dk_42 (dk_at dksX2_init_8 16 rfl rfl)
theorem dX2_init_203 : decode cX2_init 203 = .ok (.getfield 71, 3) := dk_180 0 71 (dk_at dksX2_init_8 17 rfl rfl)
theorem dX2_init_206 : decode cX2_init 206 = .ok (.iload_n 1, 1) := dk_27 (dk_at dksX2_init_8 20 rfl rfl)
theorem dX2_init_207 : decode cX2_init 207 = .ok (.iconst (-1), 1) := dk_2 (dk_at dksX2_init_8 21 rfl rfl)
theorem dX2_init_208 : decode cX2_init 208 = .ok (.iastore, 1) := dk_79 (dk_at dksX2_init_8 22 rfl rfl)
theorem dX2_init_209 : decode cX2_init 209 = .ok (.iinc 1 1, 3) := dk_132 1 1 (dk_at dksX2_init_9 0 rfl rfl)
theorem dX2_init_212 : decode cX2_init 212 = .ok (.goto (-16), 3) := dk_167 255 240 (dk_at dksX2_init_9 3 rfl rfl)
theorem dX2_init_215 : decode cX2_init 215 = .ok (.aload_n 0, 1) := dk_42 (dk_at dksX2_init_9 6 rfl rfl)
theorem dX2_init_216 : decode cX2_init 216 = .ok (.iconst (-1), 1) := dk_2 (dk_at dksX2_init_9 7 rfl rfl)
theorem dX2_init_217 : decode cX2_init 217 = .ok (.putfield 83, 3) := dk_181 0 83 (dk_at dksX2_init_9 8 rfl rfl)
theorem dX2_init_220 : decode cX2_init 220 = .ok (.aload_n 0, 1) := dk_42 (dk_at dksX2_init_9 11 rfl rfl)
theorem dX2_init_221 : decode cX2_init 221 = .ok (.bipush 6, 2) := dk_16 6 (dk_at dksX2_init_9 12 rfl rfl)
theorem dX2_init_223 : decode cX2_init 223 = .ok (.putfield 87, 3) := dk_181 0 87 (dk_at dksX2_init_9 14 rfl rfl)
theorem dX2_init_226 : decode cX2_init 226 = .ok (.aload_n 0, 1) := dk_42 (dk_at dksX2_init_9 17 rfl rfl)
theorem dX2_init_227 : decode cX2_init 227 = .ok (.getfield 28, 3) := dk_180 0 28 (dk_at dksX2_init_9 18 rfl rfl)
theorem dX2_init_230 : decode cX2_init 230 = .ok (.iconst 1, 1) := dk_4 (dk_at dksX2_init_9 21 rfl rfl)
theorem dX2_init_231 : decode cX2_init 231 = .ok (.bipush 9, 2) := dk_16 9 (dk_at dksX2_init_9 22 rfl rfl)
theorem dX2_init_233 : decode cX2_init 233 = .ok (.iastore, 1) := dk_79 (dk_at dksX2_init_10 0 rfl rfl)
theorem dX2_init_234 : decode cX2_init 234 = .ok (.aload_n 0, 1) := dk_42 (dk_at dksX2_init_10 1 rfl rfl)
theorem dX2_init_235 : decode cX2_init 235 = .ok (.getfield 28, 3) := dk_180 0 28 (dk_at dksX2_init_10 2 rfl rfl)
theorem dX2_init_238 : decode cX2_init 238 = .ok (.iconst 2, 1) := dk_5 (dk_at dksX2_init_10 5 rfl rfl)
theorem dX2_init_239 : decode cX2_init 239 = .ok (.iconst 4, 1) := dk_7 (dk_at dksX2_init_10 6 rfl rfl)
theorem dX2_init_240 : decode cX2_init 240 = .ok (.iastore, 1) := dk_79 (dk_at dksX2_init_10 7 rfl rfl)
theorem dX2_init_241 : decode cX2_init 241 = .ok (.aload_n 0, 1) := dk_42 (dk_at dksX2_init_10 8 rfl rfl)
theorem dX2_init_242 : decode cX2_init 242 = .ok (.getfield 28, 3) := dk_180 0 28 (dk_at dksX2_init_10 9 rfl rfl)
theorem dX2_init_245 : decode cX2_init 245 = .ok (.iconst 3, 1) := dk_6 (dk_at dksX2_init_10 12 rfl rfl)
theorem dX2_init_246 : decode cX2_init 246 = .ok (.iconst 2, 1) := dk_5 (dk_at dksX2_init_10 13 rfl rfl)
theorem dX2_init_247 : decode cX2_init 247 = .ok (.iastore, 1) := dk_79 (dk_at dksX2_init_10 14 rfl rfl)
theorem dX2_init_248 : decode cX2_init 248 = .ok (.aload_n 0, 1) := dk_42 (dk_at dksX2_init_10 15 rfl rfl)
theorem dX2_init_249 : decode cX2_init 249 = .ok (.getfield 28, 3) := dk_180 0 28 (dk_at dksX2_init_10 16 rfl rfl)
theorem dX2_init_252 : decode cX2_init 252 = .ok (.iconst 4, 1) := dk_7 (dk_at dksX2_init_10 19 rfl rfl)
theorem dX2_init_253 : decode cX2_init 253 = .ok (.iconst 1, 1) := dk_4 (dk_at dksX2_init_10 20 rfl rfl)
theorem dX2_init_254 : decode cX2_init 254 = .ok (.iastore, 1) := dk_79 (dk_at dksX2_init_10 21 rfl rfl)
theorem dX2_init_255 : decode cX2_init 255 = .ok (.return_, 1) := dk_177 (dk_at dksX2_init_10 22 rfl rfl)
abbrev cX2_undo : ByteArray := prog_31_method_6_code
def yX2_undo : MethodName := ⟨RX2, "undo", "()I"⟩
def dkwX2_undo_1 : List UInt8 := [42, 180, 0, 13, 42, 180, 0, 90, 46, 42, 180, 0, 16, 42, 180, 0, 90, 46, 79, 42, 180, 0, 90, 172]
abbrev dktX2_undo_1 : List UInt8 := dkwX2_undo_1 ++ []
def dkwX2_undo_0 : List UInt8 := [42, 180, 0, 90, 154, 0, 6, 16, 251, 172, 42, 89, 180, 0, 90, 4, 100, 181, 0, 90, 42, 180, 0, 9]
abbrev dktX2_undo_0 : List UInt8 := dkwX2_undo_0 ++ dktX2_undo_1
theorem dksX2_undo_0 : cX2_undo.data.toList.drop 0 = dktX2_undo_0 := by decide +kernel
theorem dksX2_undo_1 : cX2_undo.data.toList.drop 24 = dktX2_undo_1 := dk_seg dksX2_undo_0 24 rfl rfl
theorem dX2_undo_0 : decode cX2_undo 0 = .ok (.aload_n 0, 1) := dk_42 (dk_at dksX2_undo_0 0 rfl rfl)
theorem dX2_undo_1 : decode cX2_undo 1 = .ok (.getfield 90, 3) := dk_180 0 90 (dk_at dksX2_undo_0 1 rfl rfl)
theorem dX2_undo_4 : decode cX2_undo 4 = .ok (.ifCond .ne 6, 3) := dk_154 0 6 (dk_at dksX2_undo_0 4 rfl rfl)
theorem dX2_undo_7 : decode cX2_undo 7 = .ok (.bipush (-5), 2) := dk_16 251 (dk_at dksX2_undo_0 7 rfl rfl)
theorem dX2_undo_9 : decode cX2_undo 9 = .ok (.ireturn, 1) := dk_172 (dk_at dksX2_undo_0 9 rfl rfl)
theorem dX2_undo_10 : decode cX2_undo 10 = .ok (.aload_n 0, 1) := dk_42 (dk_at dksX2_undo_0 10 rfl rfl)
theorem dX2_undo_11 : decode cX2_undo 11 = .ok (.dup, 1) := dk_89 (dk_at dksX2_undo_0 11 rfl rfl)
theorem dX2_undo_12 : decode cX2_undo 12 = .ok (.getfield 90, 3) := dk_180 0 90 (dk_at dksX2_undo_0 12 rfl rfl)
theorem dX2_undo_15 : decode cX2_undo 15 = .ok (.iconst 1, 1) := dk_4 (dk_at dksX2_undo_0 15 rfl rfl)
theorem dX2_undo_16 : decode cX2_undo 16 = .ok (.isub, 1) := dk_100 (dk_at dksX2_undo_0 16 rfl rfl)
theorem dX2_undo_17 : decode cX2_undo 17 = .ok (.putfield 90, 3) := dk_181 0 90 (dk_at dksX2_undo_0 17 rfl rfl)
theorem dX2_undo_20 : decode cX2_undo 20 = .ok (.aload_n 0, 1) := dk_42 (dk_at dksX2_undo_0 20 rfl rfl)
theorem dX2_undo_21 : decode cX2_undo 21 = .ok (.getfield 9, 3) := dk_180 0 9 (dk_at dksX2_undo_0 21 rfl rfl)
theorem dX2_undo_24 : decode cX2_undo 24 = .ok (.aload_n 0, 1) := dk_42 (dk_at dksX2_undo_1 0 rfl rfl)
theorem dX2_undo_25 : decode cX2_undo 25 = .ok (.getfield 13, 3) := dk_180 0 13 (dk_at dksX2_undo_1 1 rfl rfl)
theorem dX2_undo_28 : decode cX2_undo 28 = .ok (.aload_n 0, 1) := dk_42 (dk_at dksX2_undo_1 4 rfl rfl)
theorem dX2_undo_29 : decode cX2_undo 29 = .ok (.getfield 90, 3) := dk_180 0 90 (dk_at dksX2_undo_1 5 rfl rfl)
theorem dX2_undo_32 : decode cX2_undo 32 = .ok (.iaload, 1) := dk_46 (dk_at dksX2_undo_1 8 rfl rfl)
theorem dX2_undo_33 : decode cX2_undo 33 = .ok (.aload_n 0, 1) := dk_42 (dk_at dksX2_undo_1 9 rfl rfl)
theorem dX2_undo_34 : decode cX2_undo 34 = .ok (.getfield 16, 3) := dk_180 0 16 (dk_at dksX2_undo_1 10 rfl rfl)
theorem dX2_undo_37 : decode cX2_undo 37 = .ok (.aload_n 0, 1) := dk_42 (dk_at dksX2_undo_1 13 rfl rfl)
theorem dX2_undo_38 : decode cX2_undo 38 = .ok (.getfield 90, 3) := dk_180 0 90 (dk_at dksX2_undo_1 14 rfl rfl)
theorem dX2_undo_41 : decode cX2_undo 41 = .ok (.iaload, 1) := dk_46 (dk_at dksX2_undo_1 17 rfl rfl)
theorem dX2_undo_42 : decode cX2_undo 42 = .ok (.iastore, 1) := dk_79 (dk_at dksX2_undo_1 18 rfl rfl)
theorem dX2_undo_43 : decode cX2_undo 43 = .ok (.aload_n 0, 1) := dk_42 (dk_at dksX2_undo_1 19 rfl rfl)
theorem dX2_undo_44 : decode cX2_undo 44 = .ok (.getfield 90, 3) := dk_180 0 90 (dk_at dksX2_undo_1 20 rfl rfl)
theorem dX2_undo_47 : decode cX2_undo 47 = .ok (.ireturn, 1) := dk_172 (dk_at dksX2_undo_1 23 rfl rfl)
abbrev cX2_redo : ByteArray := prog_31_method_7_code
def yX2_redo : MethodName := ⟨RX2, "redo", "()I"⟩
def dkwX2_redo_2 : List UInt8 := [42, 180, 0, 93, 42, 180, 0, 90, 100, 172]
abbrev dktX2_redo_2 : List UInt8 := dkwX2_redo_2 ++ []
def dkwX2_redo_1 : List UInt8 := [180, 0, 90, 46, 42, 180, 0, 19, 42, 180, 0, 90, 46, 79, 42, 89, 180, 0, 90, 4, 96, 181, 0, 90]
abbrev dktX2_redo_1 : List UInt8 := dkwX2_redo_1 ++ dktX2_redo_2
def dkwX2_redo_0 : List UInt8 := [42, 180, 0, 90, 42, 180, 0, 93, 160, 0, 6, 16, 251, 172, 42, 180, 0, 9, 42, 180, 0, 13, 42]
abbrev dktX2_redo_0 : List UInt8 := dkwX2_redo_0 ++ dktX2_redo_1
theorem dksX2_redo_0 : cX2_redo.data.toList.drop 0 = dktX2_redo_0 := by decide +kernel
theorem dksX2_redo_1 : cX2_redo.data.toList.drop 23 = dktX2_redo_1 := dk_seg dksX2_redo_0 23 rfl rfl
theorem dksX2_redo_2 : cX2_redo.data.toList.drop 47 = dktX2_redo_2 := dk_seg dksX2_redo_1 24 rfl rfl
theorem dX2_redo_0 : decode cX2_redo 0 = .ok (.aload_n 0, 1) := dk_42 (dk_at dksX2_redo_0 0 rfl rfl)
theorem dX2_redo_1 : decode cX2_redo 1 = .ok (.getfield 90, 3) := dk_180 0 90 (dk_at dksX2_redo_0 1 rfl rfl)
theorem dX2_redo_4 : decode cX2_redo 4 = .ok (.aload_n 0, 1) := dk_42 (dk_at dksX2_redo_0 4 rfl rfl)
theorem dX2_redo_5 : decode cX2_redo 5 = .ok (.getfield 93, 3) := dk_180 0 93 (dk_at dksX2_redo_0 5 rfl rfl)
theorem dX2_redo_8 : decode cX2_redo 8 = .ok (.if_icmp .ne 6, 3) := dk_160 0 6 (dk_at dksX2_redo_0 8 rfl rfl)
theorem dX2_redo_11 : decode cX2_redo 11 = .ok (.bipush (-5), 2) := dk_16 251 (dk_at dksX2_redo_0 11 rfl rfl)
theorem dX2_redo_13 : decode cX2_redo 13 = .ok (.ireturn, 1) := dk_172 (dk_at dksX2_redo_0 13 rfl rfl)
theorem dX2_redo_14 : decode cX2_redo 14 = .ok (.aload_n 0, 1) := dk_42 (dk_at dksX2_redo_0 14 rfl rfl)
theorem dX2_redo_15 : decode cX2_redo 15 = .ok (.getfield 9, 3) := dk_180 0 9 (dk_at dksX2_redo_0 15 rfl rfl)
theorem dX2_redo_18 : decode cX2_redo 18 = .ok (.aload_n 0, 1) := dk_42 (dk_at dksX2_redo_0 18 rfl rfl)
theorem dX2_redo_19 : decode cX2_redo 19 = .ok (.getfield 13, 3) := dk_180 0 13 (dk_at dksX2_redo_0 19 rfl rfl)
theorem dX2_redo_22 : decode cX2_redo 22 = .ok (.aload_n 0, 1) := dk_42 (dk_at dksX2_redo_0 22 rfl rfl)
theorem dX2_redo_23 : decode cX2_redo 23 = .ok (.getfield 90, 3) := dk_180 0 90 (dk_at dksX2_redo_1 0 rfl rfl)
theorem dX2_redo_26 : decode cX2_redo 26 = .ok (.iaload, 1) := dk_46 (dk_at dksX2_redo_1 3 rfl rfl)
theorem dX2_redo_27 : decode cX2_redo 27 = .ok (.aload_n 0, 1) := dk_42 (dk_at dksX2_redo_1 4 rfl rfl)
theorem dX2_redo_28 : decode cX2_redo 28 = .ok (.getfield 19, 3) := dk_180 0 19 (dk_at dksX2_redo_1 5 rfl rfl)
theorem dX2_redo_31 : decode cX2_redo 31 = .ok (.aload_n 0, 1) := dk_42 (dk_at dksX2_redo_1 8 rfl rfl)
theorem dX2_redo_32 : decode cX2_redo 32 = .ok (.getfield 90, 3) := dk_180 0 90 (dk_at dksX2_redo_1 9 rfl rfl)
theorem dX2_redo_35 : decode cX2_redo 35 = .ok (.iaload, 1) := dk_46 (dk_at dksX2_redo_1 12 rfl rfl)
theorem dX2_redo_36 : decode cX2_redo 36 = .ok (.iastore, 1) := dk_79 (dk_at dksX2_redo_1 13 rfl rfl)
theorem dX2_redo_37 : decode cX2_redo 37 = .ok (.aload_n 0, 1) := dk_42 (dk_at dksX2_redo_1 14 rfl rfl)
theorem dX2_redo_38 : decode cX2_redo 38 = .ok (.dup, 1) := dk_89 (dk_at dksX2_redo_1 15 rfl rfl)
theorem dX2_redo_39 : decode cX2_redo 39 = .ok (.getfield 90, 3) := dk_180 0 90 (dk_at dksX2_redo_1 16 rfl rfl)
theorem dX2_redo_42 : decode cX2_redo 42 = .ok (.iconst 1, 1) := dk_4 (dk_at dksX2_redo_1 19 rfl rfl)
theorem dX2_redo_43 : decode cX2_redo 43 = .ok (.iadd, 1) := dk_96 (dk_at dksX2_redo_1 20 rfl rfl)
theorem dX2_redo_44 : decode cX2_redo 44 = .ok (.putfield 90, 3) := dk_181 0 90 (dk_at dksX2_redo_1 21 rfl rfl)
theorem dX2_redo_47 : decode cX2_redo 47 = .ok (.aload_n 0, 1) := dk_42 (dk_at dksX2_redo_2 0 rfl rfl)
theorem dX2_redo_48 : decode cX2_redo 48 = .ok (.getfield 93, 3) := dk_180 0 93 (dk_at dksX2_redo_2 1 rfl rfl)
theorem dX2_redo_51 : decode cX2_redo 51 = .ok (.aload_n 0, 1) := dk_42 (dk_at dksX2_redo_2 4 rfl rfl)
theorem dX2_redo_52 : decode cX2_redo 52 = .ok (.getfield 90, 3) := dk_180 0 90 (dk_at dksX2_redo_2 5 rfl rfl)
theorem dX2_redo_55 : decode cX2_redo 55 = .ok (.isub, 1) := dk_100 (dk_at dksX2_redo_2 8 rfl rfl)
theorem dX2_redo_56 : decode cX2_redo 56 = .ok (.ireturn, 1) := dk_172 (dk_at dksX2_redo_2 9 rfl rfl)
abbrev cX2_player : ByteArray := prog_31_method_12_code
def yX2_player : MethodName := ⟨RX2, "player", "(II)I"⟩
def dkwX2_player_1 : List UInt8 := [27, 28, 182, 0, 114, 42, 180, 0, 96, 4, 100, 172]
abbrev dktX2_player_1 : List UInt8 := dkwX2_player_1 ++ []
def dkwX2_player_0 : List UInt8 := [27, 133, 28, 133, 184, 0, 110, 154, 0, 5, 2, 172, 42, 180, 0, 96, 7, 160, 0, 6, 16, 253, 172, 42]
abbrev dktX2_player_0 : List UInt8 := dkwX2_player_0 ++ dktX2_player_1
theorem dksX2_player_0 : cX2_player.data.toList.drop 0 = dktX2_player_0 := by decide +kernel
theorem dksX2_player_1 : cX2_player.data.toList.drop 24 = dktX2_player_1 := dk_seg dksX2_player_0 24 rfl rfl
theorem dX2_player_0 : decode cX2_player 0 = .ok (.iload_n 1, 1) := dk_27 (dk_at dksX2_player_0 0 rfl rfl)
theorem dX2_player_1 : decode cX2_player 1 = .ok (.i2l, 1) := dk_133 (dk_at dksX2_player_0 1 rfl rfl)
theorem dX2_player_2 : decode cX2_player 2 = .ok (.iload_n 2, 1) := dk_28 (dk_at dksX2_player_0 2 rfl rfl)
theorem dX2_player_3 : decode cX2_player 3 = .ok (.i2l, 1) := dk_133 (dk_at dksX2_player_0 3 rfl rfl)
theorem dX2_player_4 : decode cX2_player 4 = .ok (.invokestatic 110, 3) := dk_184 0 110 (dk_at dksX2_player_0 4 rfl rfl)
theorem dX2_player_7 : decode cX2_player 7 = .ok (.ifCond .ne 5, 3) := dk_154 0 5 (dk_at dksX2_player_0 7 rfl rfl)
theorem dX2_player_10 : decode cX2_player 10 = .ok (.iconst (-1), 1) := dk_2 (dk_at dksX2_player_0 10 rfl rfl)
theorem dX2_player_11 : decode cX2_player 11 = .ok (.ireturn, 1) := dk_172 (dk_at dksX2_player_0 11 rfl rfl)
theorem dX2_player_12 : decode cX2_player 12 = .ok (.aload_n 0, 1) := dk_42 (dk_at dksX2_player_0 12 rfl rfl)
theorem dX2_player_13 : decode cX2_player 13 = .ok (.getfield 96, 3) := dk_180 0 96 (dk_at dksX2_player_0 13 rfl rfl)
theorem dX2_player_16 : decode cX2_player 16 = .ok (.iconst 4, 1) := dk_7 (dk_at dksX2_player_0 16 rfl rfl)
theorem dX2_player_17 : decode cX2_player 17 = .ok (.if_icmp .ne 6, 3) := dk_160 0 6 (dk_at dksX2_player_0 17 rfl rfl)
theorem dX2_player_20 : decode cX2_player 20 = .ok (.bipush (-3), 2) := dk_16 253 (dk_at dksX2_player_0 20 rfl rfl)
theorem dX2_player_22 : decode cX2_player 22 = .ok (.ireturn, 1) := dk_172 (dk_at dksX2_player_0 22 rfl rfl)
theorem dX2_player_23 : decode cX2_player 23 = .ok (.aload_n 0, 1) := dk_42 (dk_at dksX2_player_0 23 rfl rfl)
theorem dX2_player_24 : decode cX2_player 24 = .ok (.iload_n 1, 1) := dk_27 (dk_at dksX2_player_1 0 rfl rfl)
theorem dX2_player_25 : decode cX2_player 25 = .ok (.iload_n 2, 1) := dk_28 (dk_at dksX2_player_1 1 rfl rfl)
theorem dX2_player_26 : decode cX2_player 26 = .ok (.invokevirtual 114, 3) := dk_182 0 114 (dk_at dksX2_player_1 2 rfl rfl)
theorem dX2_player_29 : decode cX2_player 29 = .ok (.aload_n 0, 1) := dk_42 (dk_at dksX2_player_1 5 rfl rfl)
theorem dX2_player_30 : decode cX2_player 30 = .ok (.getfield 96, 3) := dk_180 0 96 (dk_at dksX2_player_1 6 rfl rfl)
theorem dX2_player_33 : decode cX2_player 33 = .ok (.iconst 1, 1) := dk_4 (dk_at dksX2_player_1 9 rfl rfl)
theorem dX2_player_34 : decode cX2_player 34 = .ok (.isub, 1) := dk_100 (dk_at dksX2_player_1 10 rfl rfl)
theorem dX2_player_35 : decode cX2_player 35 = .ok (.ireturn, 1) := dk_172 (dk_at dksX2_player_1 11 rfl rfl)
abbrev cX2_isOne : ByteArray := prog_31_method_10_code
def yX2_isOne : MethodName := ⟨RX2, "isOne", "(JJ)Z"⟩
def dkwX2_isOne_1 : List UInt8 := [167, 0, 4, 3, 172]
abbrev dktX2_isOne_1 : List UInt8 := dkwX2_isOne_1 ++ []
def dkwX2_isOne_0 : List UInt8 := [30, 9, 20, 0, 103, 184, 0, 99, 153, 0, 18, 32, 9, 20, 0, 105, 184, 0, 99, 153, 0, 7, 4]
abbrev dktX2_isOne_0 : List UInt8 := dkwX2_isOne_0 ++ dktX2_isOne_1
theorem dksX2_isOne_0 : cX2_isOne.data.toList.drop 0 = dktX2_isOne_0 := by decide +kernel
theorem dksX2_isOne_1 : cX2_isOne.data.toList.drop 23 = dktX2_isOne_1 := dk_seg dksX2_isOne_0 23 rfl rfl
theorem dX2_isOne_0 : decode cX2_isOne 0 = .ok (.lload_n 0, 1) := dk_30 (dk_at dksX2_isOne_0 0 rfl rfl)
theorem dX2_isOne_1 : decode cX2_isOne 1 = .ok (.lconst 0, 1) := dk_9 (dk_at dksX2_isOne_0 1 rfl rfl)
theorem dX2_isOne_2 : decode cX2_isOne 2 = .ok (.ldc2_w 103, 3) := dk_20 0 103 (dk_at dksX2_isOne_0 2 rfl rfl)
theorem dX2_isOne_5 : decode cX2_isOne 5 = .ok (.invokestatic 99, 3) := dk_184 0 99 (dk_at dksX2_isOne_0 5 rfl rfl)
theorem dX2_isOne_8 : decode cX2_isOne 8 = .ok (.ifCond .eq 18, 3) := dk_153 0 18 (dk_at dksX2_isOne_0 8 rfl rfl)
theorem dX2_isOne_11 : decode cX2_isOne 11 = .ok (.lload_n 2, 1) := dk_32 (dk_at dksX2_isOne_0 11 rfl rfl)
theorem dX2_isOne_12 : decode cX2_isOne 12 = .ok (.lconst 0, 1) := dk_9 (dk_at dksX2_isOne_0 12 rfl rfl)
theorem dX2_isOne_13 : decode cX2_isOne 13 = .ok (.ldc2_w 105, 3) := dk_20 0 105 (dk_at dksX2_isOne_0 13 rfl rfl)
theorem dX2_isOne_16 : decode cX2_isOne 16 = .ok (.invokestatic 99, 3) := dk_184 0 99 (dk_at dksX2_isOne_0 16 rfl rfl)
theorem dX2_isOne_19 : decode cX2_isOne 19 = .ok (.ifCond .eq 7, 3) := dk_153 0 7 (dk_at dksX2_isOne_0 19 rfl rfl)
theorem dX2_isOne_22 : decode cX2_isOne 22 = .ok (.iconst 1, 1) := dk_4 (dk_at dksX2_isOne_0 22 rfl rfl)
theorem dX2_isOne_23 : decode cX2_isOne 23 = .ok (.goto 4, 3) := dk_167 0 4 (dk_at dksX2_isOne_1 0 rfl rfl)
theorem dX2_isOne_26 : decode cX2_isOne 26 = .ok (.iconst 0, 1) := dk_3 (dk_at dksX2_isOne_1 3 rfl rfl)
theorem dX2_isOne_27 : decode cX2_isOne 27 = .ok (.ireturn, 1) := dk_172 (dk_at dksX2_isOne_1 4 rfl rfl)
abbrev cX2_within : ByteArray := prog_31_method_1_code
def yX2_within : MethodName := ⟨RX2, "within", "(JJJ)Z"⟩
def dkwX2_within_0 : List UInt8 := [30, 32, 148, 155, 0, 14, 30, 22, 4, 148, 157, 0, 7, 4, 167, 0, 4, 3, 172]
abbrev dktX2_within_0 : List UInt8 := dkwX2_within_0 ++ []
theorem dksX2_within_0 : cX2_within.data.toList.drop 0 = dktX2_within_0 := by decide +kernel
theorem dX2_within_0 : decode cX2_within 0 = .ok (.lload_n 0, 1) := dk_30 (dk_at dksX2_within_0 0 rfl rfl)
theorem dX2_within_1 : decode cX2_within 1 = .ok (.lload_n 2, 1) := dk_32 (dk_at dksX2_within_0 1 rfl rfl)
theorem dX2_within_2 : decode cX2_within 2 = .ok (.lcmp, 1) := dk_148 (dk_at dksX2_within_0 2 rfl rfl)
theorem dX2_within_3 : decode cX2_within 3 = .ok (.ifCond .lt 14, 3) := dk_155 0 14 (dk_at dksX2_within_0 3 rfl rfl)
theorem dX2_within_6 : decode cX2_within 6 = .ok (.lload_n 0, 1) := dk_30 (dk_at dksX2_within_0 6 rfl rfl)
theorem dX2_within_7 : decode cX2_within 7 = .ok (.lload 4, 2) := dk_22 4 (dk_at dksX2_within_0 7 rfl rfl)
theorem dX2_within_9 : decode cX2_within 9 = .ok (.lcmp, 1) := dk_148 (dk_at dksX2_within_0 9 rfl rfl)
theorem dX2_within_10 : decode cX2_within 10 = .ok (.ifCond .gt 7, 3) := dk_157 0 7 (dk_at dksX2_within_0 10 rfl rfl)
theorem dX2_within_13 : decode cX2_within 13 = .ok (.iconst 1, 1) := dk_4 (dk_at dksX2_within_0 13 rfl rfl)
theorem dX2_within_14 : decode cX2_within 14 = .ok (.goto 4, 3) := dk_167 0 4 (dk_at dksX2_within_0 14 rfl rfl)
theorem dX2_within_17 : decode cX2_within 17 = .ok (.iconst 0, 1) := dk_3 (dk_at dksX2_within_0 17 rfl rfl)
theorem dX2_within_18 : decode cX2_within 18 = .ok (.ireturn, 1) := dk_172 (dk_at dksX2_within_0 18 rfl rfl)
abbrev cX2_adds : ByteArray := prog_31_method_11_code
def yX2_adds : MethodName := ⟨RX2, "adds", "(II)V"⟩
def dkwX2_adds_3 : List UInt8 := [42, 182, 0, 107, 177]
abbrev dktX2_adds_3 : List UInt8 := dkwX2_adds_3 ++ []
def dkwX2_adds_2 : List UInt8 := [79, 42, 180, 0, 25, 42, 180, 0, 96, 42, 180, 0, 96, 79, 42, 89, 180, 0, 96, 4, 96, 181, 0, 96]
abbrev dktX2_adds_2 : List UInt8 := dkwX2_adds_2 ++ dktX2_adds_3
def dkwX2_adds_1 : List UInt8 := [180, 0, 9, 16, 8, 42, 180, 0, 96, 96, 3, 79, 42, 180, 0, 22, 42, 180, 0, 96, 42, 180, 0, 96]
abbrev dktX2_adds_1 : List UInt8 := dkwX2_adds_1 ++ dktX2_adds_2
def dkwX2_adds_0 : List UInt8 := [42, 180, 0, 9, 42, 180, 0, 96, 27, 79, 42, 180, 0, 9, 7, 42, 180, 0, 96, 96, 28, 79, 42]
abbrev dktX2_adds_0 : List UInt8 := dkwX2_adds_0 ++ dktX2_adds_1
theorem dksX2_adds_0 : cX2_adds.data.toList.drop 0 = dktX2_adds_0 := by decide +kernel
theorem dksX2_adds_1 : cX2_adds.data.toList.drop 23 = dktX2_adds_1 := dk_seg dksX2_adds_0 23 rfl rfl
theorem dksX2_adds_2 : cX2_adds.data.toList.drop 47 = dktX2_adds_2 := dk_seg dksX2_adds_1 24 rfl rfl
theorem dksX2_adds_3 : cX2_adds.data.toList.drop 71 = dktX2_adds_3 := dk_seg dksX2_adds_2 24 rfl rfl
theorem dX2_adds_0 : decode cX2_adds 0 = .ok (.aload_n 0, 1) := dk_42 (dk_at dksX2_adds_0 0 rfl rfl)
theorem dX2_adds_1 : decode cX2_adds 1 = .ok (.getfield 9, 3) := dk_180 0 9 (dk_at dksX2_adds_0 1 rfl rfl)
theorem dX2_adds_4 : decode cX2_adds 4 = .ok (.aload_n 0, 1) := dk_42 (dk_at dksX2_adds_0 4 rfl rfl)
theorem dX2_adds_5 : decode cX2_adds 5 = .ok (.getfield 96, 3) := dk_180 0 96 (dk_at dksX2_adds_0 5 rfl rfl)
theorem dX2_adds_8 : decode cX2_adds 8 = .ok (.iload_n 1, 1) := dk_27 (dk_at dksX2_adds_0 8 rfl rfl)
theorem dX2_adds_9 : decode cX2_adds 9 = .ok (.iastore, 1) := dk_79 (dk_at dksX2_adds_0 9 rfl rfl)
theorem dX2_adds_10 : decode cX2_adds 10 = .ok (.aload_n 0, 1) := dk_42 (dk_at dksX2_adds_0 10 rfl rfl)
theorem dX2_adds_11 : decode cX2_adds 11 = .ok (.getfield 9, 3) := dk_180 0 9 (dk_at dksX2_adds_0 11 rfl rfl)
theorem dX2_adds_14 : decode cX2_adds 14 = .ok (.iconst 4, 1) := dk_7 (dk_at dksX2_adds_0 14 rfl rfl)
theorem dX2_adds_15 : decode cX2_adds 15 = .ok (.aload_n 0, 1) := dk_42 (dk_at dksX2_adds_0 15 rfl rfl)
theorem dX2_adds_16 : decode cX2_adds 16 = .ok (.getfield 96, 3) := dk_180 0 96 (dk_at dksX2_adds_0 16 rfl rfl)
theorem dX2_adds_19 : decode cX2_adds 19 = .ok (.iadd, 1) := dk_96 (dk_at dksX2_adds_0 19 rfl rfl)
theorem dX2_adds_20 : decode cX2_adds 20 = .ok (.iload_n 2, 1) := dk_28 (dk_at dksX2_adds_0 20 rfl rfl)
theorem dX2_adds_21 : decode cX2_adds 21 = .ok (.iastore, 1) := dk_79 (dk_at dksX2_adds_0 21 rfl rfl)
theorem dX2_adds_22 : decode cX2_adds 22 = .ok (.aload_n 0, 1) := dk_42 (dk_at dksX2_adds_0 22 rfl rfl)
theorem dX2_adds_23 : decode cX2_adds 23 = .ok (.getfield 9, 3) := dk_180 0 9 (dk_at dksX2_adds_1 0 rfl rfl)
theorem dX2_adds_26 : decode cX2_adds 26 = .ok (.bipush 8, 2) := dk_16 8 (dk_at dksX2_adds_1 3 rfl rfl)
theorem dX2_adds_28 : decode cX2_adds 28 = .ok (.aload_n 0, 1) := dk_42 (dk_at dksX2_adds_1 5 rfl rfl)
theorem dX2_adds_29 : decode cX2_adds 29 = .ok (.getfield 96, 3) := dk_180 0 96 (dk_at dksX2_adds_1 6 rfl rfl)
theorem dX2_adds_32 : decode cX2_adds 32 = .ok (.iadd, 1) := dk_96 (dk_at dksX2_adds_1 9 rfl rfl)
theorem dX2_adds_33 : decode cX2_adds 33 = .ok (.iconst 0, 1) := dk_3 (dk_at dksX2_adds_1 10 rfl rfl)
theorem dX2_adds_34 : decode cX2_adds 34 = .ok (.iastore, 1) := dk_79 (dk_at dksX2_adds_1 11 rfl rfl)
theorem dX2_adds_35 : decode cX2_adds 35 = .ok (.aload_n 0, 1) := dk_42 (dk_at dksX2_adds_1 12 rfl rfl)
theorem dX2_adds_36 : decode cX2_adds 36 = .ok (.getfield 22, 3) := dk_180 0 22 (dk_at dksX2_adds_1 13 rfl rfl)
theorem dX2_adds_39 : decode cX2_adds 39 = .ok (.aload_n 0, 1) := dk_42 (dk_at dksX2_adds_1 16 rfl rfl)
theorem dX2_adds_40 : decode cX2_adds 40 = .ok (.getfield 96, 3) := dk_180 0 96 (dk_at dksX2_adds_1 17 rfl rfl)
theorem dX2_adds_43 : decode cX2_adds 43 = .ok (.aload_n 0, 1) := dk_42 (dk_at dksX2_adds_1 20 rfl rfl)
theorem dX2_adds_44 : decode cX2_adds 44 = .ok (.getfield 96, 3) := dk_180 0 96 (dk_at dksX2_adds_1 21 rfl rfl)
theorem dX2_adds_47 : decode cX2_adds 47 = .ok (.iastore, 1) := dk_79 (dk_at dksX2_adds_2 0 rfl rfl)
theorem dX2_adds_48 : decode cX2_adds 48 = .ok (.aload_n 0, 1) := dk_42 (dk_at dksX2_adds_2 1 rfl rfl)
theorem dX2_adds_49 : decode cX2_adds 49 = .ok (.getfield 25, 3) := dk_180 0 25 (dk_at dksX2_adds_2 2 rfl rfl)
theorem dX2_adds_52 : decode cX2_adds 52 = .ok (.aload_n 0, 1) := dk_42 (dk_at dksX2_adds_2 5 rfl rfl)
theorem dX2_adds_53 : decode cX2_adds 53 = .ok (.getfield 96, 3) := dk_180 0 96 (dk_at dksX2_adds_2 6 rfl rfl)
theorem dX2_adds_56 : decode cX2_adds 56 = .ok (.aload_n 0, 1) := dk_42 (dk_at dksX2_adds_2 9 rfl rfl)
theorem dX2_adds_57 : decode cX2_adds 57 = .ok (.getfield 96, 3) := dk_180 0 96 (dk_at dksX2_adds_2 10 rfl rfl)
theorem dX2_adds_60 : decode cX2_adds 60 = .ok (.iastore, 1) := dk_79 (dk_at dksX2_adds_2 13 rfl rfl)
theorem dX2_adds_61 : decode cX2_adds 61 = .ok (.aload_n 0, 1) := dk_42 (dk_at dksX2_adds_2 14 rfl rfl)
theorem dX2_adds_62 : decode cX2_adds 62 = .ok (.dup, 1) := dk_89 (dk_at dksX2_adds_2 15 rfl rfl)
theorem dX2_adds_63 : decode cX2_adds 63 = .ok (.getfield 96, 3) := dk_180 0 96 (dk_at dksX2_adds_2 16 rfl rfl)
theorem dX2_adds_66 : decode cX2_adds 66 = .ok (.iconst 1, 1) := dk_4 (dk_at dksX2_adds_2 19 rfl rfl)
theorem dX2_adds_67 : decode cX2_adds 67 = .ok (.iadd, 1) := dk_96 (dk_at dksX2_adds_2 20 rfl rfl)
theorem dX2_adds_68 : decode cX2_adds 68 = .ok (.putfield 96, 3) := dk_181 0 96 (dk_at dksX2_adds_2 21 rfl rfl)
theorem dX2_adds_71 : decode cX2_adds 71 = .ok (.aload_n 0, 1) := dk_42 (dk_at dksX2_adds_3 0 rfl rfl)
theorem dX2_adds_72 : decode cX2_adds 72 = .ok (.invokevirtual 107, 3) := dk_182 0 107 (dk_at dksX2_adds_3 1 rfl rfl)
theorem dX2_adds_75 : decode cX2_adds 75 = .ok (.return_, 1) := dk_177 (dk_at dksX2_adds_3 4 rfl rfl)
abbrev cX2_startsAnew : ByteArray := prog_31_method_69_code
def yX2_startsAnew : MethodName := ⟨RX2, "startsAnew", "()V"⟩
def dkwX2_startsAnew_1 : List UInt8 := [3, 181, 1, 60, 177]
abbrev dktX2_startsAnew_1 : List UInt8 := dkwX2_startsAnew_1 ++ []
def dkwX2_startsAnew_0 : List UInt8 := [42, 3, 181, 1, 53, 42, 42, 182, 0, 225, 181, 0, 139, 42, 42, 180, 0, 22, 3, 46, 181, 1, 57, 42]
abbrev dktX2_startsAnew_0 : List UInt8 := dkwX2_startsAnew_0 ++ dktX2_startsAnew_1
theorem dksX2_startsAnew_0 : cX2_startsAnew.data.toList.drop 0 = dktX2_startsAnew_0 := by decide +kernel
theorem dksX2_startsAnew_1 : cX2_startsAnew.data.toList.drop 24 = dktX2_startsAnew_1 := dk_seg dksX2_startsAnew_0 24 rfl rfl
theorem dX2_startsAnew_0 : decode cX2_startsAnew 0 = .ok (.aload_n 0, 1) := dk_42 (dk_at dksX2_startsAnew_0 0 rfl rfl)
theorem dX2_startsAnew_1 : decode cX2_startsAnew 1 = .ok (.iconst 0, 1) := dk_3 (dk_at dksX2_startsAnew_0 1 rfl rfl)
theorem dX2_startsAnew_2 : decode cX2_startsAnew 2 = .ok (.putfield 309, 3) := dk_181 1 53 (dk_at dksX2_startsAnew_0 2 rfl rfl)
theorem dX2_startsAnew_5 : decode cX2_startsAnew 5 = .ok (.aload_n 0, 1) := dk_42 (dk_at dksX2_startsAnew_0 5 rfl rfl)
theorem dX2_startsAnew_6 : decode cX2_startsAnew 6 = .ok (.aload_n 0, 1) := dk_42 (dk_at dksX2_startsAnew_0 6 rfl rfl)
theorem dX2_startsAnew_7 : decode cX2_startsAnew 7 = .ok (.invokevirtual 225, 3) := dk_182 0 225 (dk_at dksX2_startsAnew_0 7 rfl rfl)
theorem dX2_startsAnew_10 : decode cX2_startsAnew 10 = .ok (.putfield 139, 3) := dk_181 0 139 (dk_at dksX2_startsAnew_0 10 rfl rfl)
theorem dX2_startsAnew_13 : decode cX2_startsAnew 13 = .ok (.aload_n 0, 1) := dk_42 (dk_at dksX2_startsAnew_0 13 rfl rfl)
theorem dX2_startsAnew_14 : decode cX2_startsAnew 14 = .ok (.aload_n 0, 1) := dk_42 (dk_at dksX2_startsAnew_0 14 rfl rfl)
theorem dX2_startsAnew_15 : decode cX2_startsAnew 15 = .ok (.getfield 22, 3) := dk_180 0 22 (dk_at dksX2_startsAnew_0 15 rfl rfl)
theorem dX2_startsAnew_18 : decode cX2_startsAnew 18 = .ok (.iconst 0, 1) := dk_3 (dk_at dksX2_startsAnew_0 18 rfl rfl)
theorem dX2_startsAnew_19 : decode cX2_startsAnew 19 = .ok (.iaload, 1) := dk_46 (dk_at dksX2_startsAnew_0 19 rfl rfl)
theorem dX2_startsAnew_20 : decode cX2_startsAnew 20 = .ok (.putfield 313, 3) := dk_181 1 57 (dk_at dksX2_startsAnew_0 20 rfl rfl)
theorem dX2_startsAnew_23 : decode cX2_startsAnew 23 = .ok (.aload_n 0, 1) := dk_42 (dk_at dksX2_startsAnew_0 23 rfl rfl)
theorem dX2_startsAnew_24 : decode cX2_startsAnew 24 = .ok (.iconst 0, 1) := dk_3 (dk_at dksX2_startsAnew_1 0 rfl rfl)
theorem dX2_startsAnew_25 : decode cX2_startsAnew 25 = .ok (.putfield 316, 3) := dk_181 1 60 (dk_at dksX2_startsAnew_1 1 rfl rfl)
theorem dX2_startsAnew_28 : decode cX2_startsAnew 28 = .ok (.return_, 1) := dk_177 (dk_at dksX2_startsAnew_1 4 rfl rfl)
abbrev cX2_all : ByteArray := prog_31_method_9_code
def yX2_all : MethodName := ⟨RX2, "all", "()I"⟩
def dkwX2_all_0 : List UInt8 := [4, 42, 180, 0, 96, 120, 4, 100, 172]
abbrev dktX2_all_0 : List UInt8 := dkwX2_all_0 ++ []
theorem dksX2_all_0 : cX2_all.data.toList.drop 0 = dktX2_all_0 := by decide +kernel
theorem dX2_all_0 : decode cX2_all 0 = .ok (.iconst 1, 1) := dk_4 (dk_at dksX2_all_0 0 rfl rfl)
theorem dX2_all_1 : decode cX2_all 1 = .ok (.aload_n 0, 1) := dk_42 (dk_at dksX2_all_0 1 rfl rfl)
theorem dX2_all_2 : decode cX2_all 2 = .ok (.getfield 96, 3) := dk_180 0 96 (dk_at dksX2_all_0 2 rfl rfl)
theorem dX2_all_5 : decode cX2_all 5 = .ok (.ishl, 1) := dk_120 (dk_at dksX2_all_0 5 rfl rfl)
theorem dX2_all_6 : decode cX2_all 6 = .ok (.iconst 1, 1) := dk_4 (dk_at dksX2_all_0 6 rfl rfl)
theorem dX2_all_7 : decode cX2_all 7 = .ok (.isub, 1) := dk_100 (dk_at dksX2_all_0 7 rfl rfl)
theorem dX2_all_8 : decode cX2_all 8 = .ok (.ireturn, 1) := dk_172 (dk_at dksX2_all_0 8 rfl rfl)
abbrev cX2_players : ByteArray := prog_31_method_13_code
def yX2_players : MethodName := ⟨RX2, "players", "(III)I"⟩
def dkwX2_players_8 : List UInt8 := [167, 255, 136, 21, 4, 172]
abbrev dktX2_players_8 : List UInt8 := dkwX2_players_8 ++ []
def dkwX2_players_7 : List UInt8 := [42, 180, 0, 77, 21, 6, 47, 136, 42, 180, 0, 77, 21, 6, 4, 96, 47, 136, 182, 0, 114, 132, 4, 1]
abbrev dktX2_players_7 : List UInt8 := dkwX2_players_7 ++ dktX2_players_8
def dkwX2_players_6 : List UInt8 := [21, 6, 4, 96, 47, 184, 0, 110, 153, 0, 7, 4, 167, 0, 4, 3, 54, 5, 21, 5, 153, 0, 28, 42]
abbrev dktX2_players_6 : List UInt8 := dkwX2_players_6 ++ dktX2_players_7
def dkwX2_players_5 : List UInt8 := [96, 5, 21, 4, 104, 96, 54, 6, 21, 5, 153, 0, 29, 42, 180, 0, 77, 21, 6, 47, 42, 180, 0, 77]
abbrev dktX2_players_5 : List UInt8 := dkwX2_players_5 ++ dktX2_players_6
def dkwX2_players_4 : List UInt8 := [100, 163, 0, 15, 42, 180, 0, 96, 7, 162, 0, 7, 4, 167, 0, 4, 3, 54, 5, 16, 60, 27, 104, 28]
abbrev dktX2_players_4 : List UInt8 := dkwX2_players_4 ++ dktX2_players_5
def dkwX2_players_3 : List UInt8 := [21, 5, 153, 0, 121, 21, 4, 29, 162, 0, 115, 28, 42, 180, 0, 74, 27, 46, 5, 100, 5, 21, 4, 104]
abbrev dktX2_players_3 : List UInt8 := dkwX2_players_3 ++ dktX2_players_4
def dkwX2_players_2 : List UInt8 := [54, 4, 42, 180, 0, 71, 27, 46, 16, 50, 160, 0, 11, 28, 155, 0, 7, 4, 167, 0, 4, 3, 54, 5]
abbrev dktX2_players_2 : List UInt8 := dkwX2_players_2 ++ dktX2_players_3
def dkwX2_players_1 : List UInt8 := [180, 0, 71, 27, 46, 155, 0, 17, 42, 180, 0, 71, 27, 46, 16, 50, 159, 0, 6, 16, 244, 172, 3]
abbrev dktX2_players_1 : List UInt8 := dkwX2_players_1 ++ dktX2_players_2
def dkwX2_players_0 : List UInt8 := [27, 184, 0, 118, 153, 0, 15, 29, 133, 10, 20, 0, 122, 184, 0, 99, 154, 0, 5, 2, 172, 42]
abbrev dktX2_players_0 : List UInt8 := dkwX2_players_0 ++ dktX2_players_1
theorem dksX2_players_0 : cX2_players.data.toList.drop 0 = dktX2_players_0 := by decide +kernel
theorem dksX2_players_1 : cX2_players.data.toList.drop 22 = dktX2_players_1 := dk_seg dksX2_players_0 22 rfl rfl
theorem dksX2_players_2 : cX2_players.data.toList.drop 45 = dktX2_players_2 := dk_seg dksX2_players_1 23 rfl rfl
theorem dksX2_players_3 : cX2_players.data.toList.drop 69 = dktX2_players_3 := dk_seg dksX2_players_2 24 rfl rfl
theorem dksX2_players_4 : cX2_players.data.toList.drop 93 = dktX2_players_4 := dk_seg dksX2_players_3 24 rfl rfl
theorem dksX2_players_5 : cX2_players.data.toList.drop 117 = dktX2_players_5 := dk_seg dksX2_players_4 24 rfl rfl
theorem dksX2_players_6 : cX2_players.data.toList.drop 141 = dktX2_players_6 := dk_seg dksX2_players_5 24 rfl rfl
theorem dksX2_players_7 : cX2_players.data.toList.drop 165 = dktX2_players_7 := dk_seg dksX2_players_6 24 rfl rfl
theorem dksX2_players_8 : cX2_players.data.toList.drop 189 = dktX2_players_8 := dk_seg dksX2_players_7 24 rfl rfl
theorem dX2_players_0 : decode cX2_players 0 = .ok (.iload_n 1, 1) := dk_27 (dk_at dksX2_players_0 0 rfl rfl)
theorem dX2_players_1 : decode cX2_players 1 = .ok (.invokestatic 118, 3) := dk_184 0 118 (dk_at dksX2_players_0 1 rfl rfl)
theorem dX2_players_4 : decode cX2_players 4 = .ok (.ifCond .eq 15, 3) := dk_153 0 15 (dk_at dksX2_players_0 4 rfl rfl)
theorem dX2_players_7 : decode cX2_players 7 = .ok (.iload_n 3, 1) := dk_29 (dk_at dksX2_players_0 7 rfl rfl)
theorem dX2_players_8 : decode cX2_players 8 = .ok (.i2l, 1) := dk_133 (dk_at dksX2_players_0 8 rfl rfl)
theorem dX2_players_9 : decode cX2_players 9 = .ok (.lconst 1, 1) := dk_10 (dk_at dksX2_players_0 9 rfl rfl)
theorem dX2_players_10 : decode cX2_players 10 = .ok (.ldc2_w 122, 3) := dk_20 0 122 (dk_at dksX2_players_0 10 rfl rfl)
theorem dX2_players_13 : decode cX2_players 13 = .ok (.invokestatic 99, 3) := dk_184 0 99 (dk_at dksX2_players_0 13 rfl rfl)
theorem dX2_players_16 : decode cX2_players 16 = .ok (.ifCond .ne 5, 3) := dk_154 0 5 (dk_at dksX2_players_0 16 rfl rfl)
theorem dX2_players_19 : decode cX2_players 19 = .ok (.iconst (-1), 1) := dk_2 (dk_at dksX2_players_0 19 rfl rfl)
theorem dX2_players_20 : decode cX2_players 20 = .ok (.ireturn, 1) := dk_172 (dk_at dksX2_players_0 20 rfl rfl)
theorem dX2_players_21 : decode cX2_players 21 = .ok (.aload_n 0, 1) := dk_42 (dk_at dksX2_players_0 21 rfl rfl)
theorem dX2_players_22 : decode cX2_players 22 = .ok (.getfield 71, 3) := dk_180 0 71 (dk_at dksX2_players_1 0 rfl rfl)
theorem dX2_players_25 : decode cX2_players 25 = .ok (.iload_n 1, 1) := dk_27 (dk_at dksX2_players_1 3 rfl rfl)
theorem dX2_players_26 : decode cX2_players 26 = .ok (.iaload, 1) := dk_46 (dk_at dksX2_players_1 4 rfl rfl)
theorem dX2_players_27 : decode cX2_players 27 = .ok (.ifCond .lt 17, 3) := dk_155 0 17 (dk_at dksX2_players_1 5 rfl rfl)
theorem dX2_players_30 : decode cX2_players 30 = .ok (.aload_n 0, 1) := dk_42 (dk_at dksX2_players_1 8 rfl rfl)
theorem dX2_players_31 : decode cX2_players 31 = .ok (.getfield 71, 3) := dk_180 0 71 (dk_at dksX2_players_1 9 rfl rfl)
theorem dX2_players_34 : decode cX2_players 34 = .ok (.iload_n 1, 1) := dk_27 (dk_at dksX2_players_1 12 rfl rfl)
theorem dX2_players_35 : decode cX2_players 35 = .ok (.iaload, 1) := dk_46 (dk_at dksX2_players_1 13 rfl rfl)
theorem dX2_players_36 : decode cX2_players 36 = .ok (.bipush 50, 2) := dk_16 50 (dk_at dksX2_players_1 14 rfl rfl)
theorem dX2_players_38 : decode cX2_players 38 = .ok (.if_icmp .eq 6, 3) := dk_159 0 6 (dk_at dksX2_players_1 16 rfl rfl)
theorem dX2_players_41 : decode cX2_players 41 = .ok (.bipush (-12), 2) := dk_16 244 (dk_at dksX2_players_1 19 rfl rfl)
theorem dX2_players_43 : decode cX2_players 43 = .ok (.ireturn, 1) := dk_172 (dk_at dksX2_players_1 21 rfl rfl)
theorem dX2_players_44 : decode cX2_players 44 = .ok (.iconst 0, 1) := dk_3 (dk_at dksX2_players_1 22 rfl rfl)
theorem dX2_players_45 : decode cX2_players 45 = .ok (.istore 4, 2) := dk_54 4 (dk_at dksX2_players_2 0 rfl rfl)
theorem dX2_players_47 : decode cX2_players 47 = .ok (.aload_n 0, 1) := dk_42 (dk_at dksX2_players_2 2 rfl rfl)
theorem dX2_players_48 : decode cX2_players 48 = .ok (.getfield 71, 3) := dk_180 0 71 (dk_at dksX2_players_2 3 rfl rfl)
theorem dX2_players_51 : decode cX2_players 51 = .ok (.iload_n 1, 1) := dk_27 (dk_at dksX2_players_2 6 rfl rfl)
theorem dX2_players_52 : decode cX2_players 52 = .ok (.iaload, 1) := dk_46 (dk_at dksX2_players_2 7 rfl rfl)
theorem dX2_players_53 : decode cX2_players 53 = .ok (.bipush 50, 2) := dk_16 50 (dk_at dksX2_players_2 8 rfl rfl)
theorem dX2_players_55 : decode cX2_players 55 = .ok (.if_icmp .ne 11, 3) := dk_160 0 11 (dk_at dksX2_players_2 10 rfl rfl)
theorem dX2_players_58 : decode cX2_players 58 = .ok (.iload_n 2, 1) := dk_28 (dk_at dksX2_players_2 13 rfl rfl)
theorem dX2_players_59 : decode cX2_players 59 = .ok (.ifCond .lt 7, 3) := dk_155 0 7 (dk_at dksX2_players_2 14 rfl rfl)
theorem dX2_players_62 : decode cX2_players 62 = .ok (.iconst 1, 1) := dk_4 (dk_at dksX2_players_2 17 rfl rfl)
theorem dX2_players_63 : decode cX2_players 63 = .ok (.goto 4, 3) := dk_167 0 4 (dk_at dksX2_players_2 18 rfl rfl)
theorem dX2_players_66 : decode cX2_players 66 = .ok (.iconst 0, 1) := dk_3 (dk_at dksX2_players_2 21 rfl rfl)
theorem dX2_players_67 : decode cX2_players 67 = .ok (.istore 5, 2) := dk_54 5 (dk_at dksX2_players_2 22 rfl rfl)
theorem dX2_players_69 : decode cX2_players 69 = .ok (.iload 5, 2) := dk_21 5 (dk_at dksX2_players_3 0 rfl rfl)
theorem dX2_players_71 : decode cX2_players 71 = .ok (.ifCond .eq 121, 3) := dk_153 0 121 (dk_at dksX2_players_3 2 rfl rfl)
theorem dX2_players_74 : decode cX2_players 74 = .ok (.iload 4, 2) := dk_21 4 (dk_at dksX2_players_3 5 rfl rfl)
theorem dX2_players_76 : decode cX2_players 76 = .ok (.iload_n 3, 1) := dk_29 (dk_at dksX2_players_3 7 rfl rfl)
theorem dX2_players_77 : decode cX2_players 77 = .ok (.if_icmp .ge 115, 3) := dk_162 0 115 (dk_at dksX2_players_3 8 rfl rfl)
theorem dX2_players_80 : decode cX2_players 80 = .ok (.iload_n 2, 1) := dk_28 (dk_at dksX2_players_3 11 rfl rfl)
theorem dX2_players_81 : decode cX2_players 81 = .ok (.aload_n 0, 1) := dk_42 (dk_at dksX2_players_3 12 rfl rfl)
theorem dX2_players_82 : decode cX2_players 82 = .ok (.getfield 74, 3) := dk_180 0 74 (dk_at dksX2_players_3 13 rfl rfl)
theorem dX2_players_85 : decode cX2_players 85 = .ok (.iload_n 1, 1) := dk_27 (dk_at dksX2_players_3 16 rfl rfl)
theorem dX2_players_86 : decode cX2_players 86 = .ok (.iaload, 1) := dk_46 (dk_at dksX2_players_3 17 rfl rfl)
theorem dX2_players_87 : decode cX2_players 87 = .ok (.iconst 2, 1) := dk_5 (dk_at dksX2_players_3 18 rfl rfl)
theorem dX2_players_88 : decode cX2_players 88 = .ok (.isub, 1) := dk_100 (dk_at dksX2_players_3 19 rfl rfl)
theorem dX2_players_89 : decode cX2_players 89 = .ok (.iconst 2, 1) := dk_5 (dk_at dksX2_players_3 20 rfl rfl)
theorem dX2_players_90 : decode cX2_players 90 = .ok (.iload 4, 2) := dk_21 4 (dk_at dksX2_players_3 21 rfl rfl)
theorem dX2_players_92 : decode cX2_players 92 = .ok (.imul, 1) := dk_104 (dk_at dksX2_players_3 23 rfl rfl)
theorem dX2_players_93 : decode cX2_players 93 = .ok (.isub, 1) := dk_100 (dk_at dksX2_players_4 0 rfl rfl)
theorem dX2_players_94 : decode cX2_players 94 = .ok (.if_icmp .gt 15, 3) := dk_163 0 15 (dk_at dksX2_players_4 1 rfl rfl)
theorem dX2_players_97 : decode cX2_players 97 = .ok (.aload_n 0, 1) := dk_42 (dk_at dksX2_players_4 4 rfl rfl)
theorem dX2_players_98 : decode cX2_players 98 = .ok (.getfield 96, 3) := dk_180 0 96 (dk_at dksX2_players_4 5 rfl rfl)
theorem dX2_players_101 : decode cX2_players 101 = .ok (.iconst 4, 1) := dk_7 (dk_at dksX2_players_4 8 rfl rfl)
theorem dX2_players_102 : decode cX2_players 102 = .ok (.if_icmp .ge 7, 3) := dk_162 0 7 (dk_at dksX2_players_4 9 rfl rfl)
theorem dX2_players_105 : decode cX2_players 105 = .ok (.iconst 1, 1) := dk_4 (dk_at dksX2_players_4 12 rfl rfl)
theorem dX2_players_106 : decode cX2_players 106 = .ok (.goto 4, 3) := dk_167 0 4 (dk_at dksX2_players_4 13 rfl rfl)
theorem dX2_players_109 : decode cX2_players 109 = .ok (.iconst 0, 1) := dk_3 (dk_at dksX2_players_4 16 rfl rfl)
theorem dX2_players_110 : decode cX2_players 110 = .ok (.istore 5, 2) := dk_54 5 (dk_at dksX2_players_4 17 rfl rfl)
theorem dX2_players_112 : decode cX2_players 112 = .ok (.bipush 60, 2) := dk_16 60 (dk_at dksX2_players_4 19 rfl rfl)
theorem dX2_players_114 : decode cX2_players 114 = .ok (.iload_n 1, 1) := dk_27 (dk_at dksX2_players_4 21 rfl rfl)
theorem dX2_players_115 : decode cX2_players 115 = .ok (.imul, 1) := dk_104 (dk_at dksX2_players_4 22 rfl rfl)
theorem dX2_players_116 : decode cX2_players 116 = .ok (.iload_n 2, 1) := dk_28 (dk_at dksX2_players_4 23 rfl rfl)
theorem dX2_players_117 : decode cX2_players 117 = .ok (.iadd, 1) := dk_96 (dk_at dksX2_players_5 0 rfl rfl)
theorem dX2_players_118 : decode cX2_players 118 = .ok (.iconst 2, 1) := dk_5 (dk_at dksX2_players_5 1 rfl rfl)
theorem dX2_players_119 : decode cX2_players 119 = .ok (.iload 4, 2) := dk_21 4 (dk_at dksX2_players_5 2 rfl rfl)
theorem dX2_players_121 : decode cX2_players 121 = .ok (.imul, 1) := dk_104 (dk_at dksX2_players_5 4 rfl rfl)
theorem dX2_players_122 : decode cX2_players 122 = .ok (.iadd, 1) := dk_96 (dk_at dksX2_players_5 5 rfl rfl)
theorem dX2_players_123 : decode cX2_players 123 = .ok (.istore 6, 2) := dk_54 6 (dk_at dksX2_players_5 6 rfl rfl)
theorem dX2_players_125 : decode cX2_players 125 = .ok (.iload 5, 2) := dk_21 5 (dk_at dksX2_players_5 8 rfl rfl)
theorem dX2_players_127 : decode cX2_players 127 = .ok (.ifCond .eq 29, 3) := dk_153 0 29 (dk_at dksX2_players_5 10 rfl rfl)
theorem dX2_players_130 : decode cX2_players 130 = .ok (.aload_n 0, 1) := dk_42 (dk_at dksX2_players_5 13 rfl rfl)
theorem dX2_players_131 : decode cX2_players 131 = .ok (.getfield 77, 3) := dk_180 0 77 (dk_at dksX2_players_5 14 rfl rfl)
theorem dX2_players_134 : decode cX2_players 134 = .ok (.iload 6, 2) := dk_21 6 (dk_at dksX2_players_5 17 rfl rfl)
theorem dX2_players_136 : decode cX2_players 136 = .ok (.laload, 1) := dk_47 (dk_at dksX2_players_5 19 rfl rfl)
theorem dX2_players_137 : decode cX2_players 137 = .ok (.aload_n 0, 1) := dk_42 (dk_at dksX2_players_5 20 rfl rfl)
theorem dX2_players_138 : decode cX2_players 138 = .ok (.getfield 77, 3) := dk_180 0 77 (dk_at dksX2_players_5 21 rfl rfl)
theorem dX2_players_141 : decode cX2_players 141 = .ok (.iload 6, 2) := dk_21 6 (dk_at dksX2_players_6 0 rfl rfl)
theorem dX2_players_143 : decode cX2_players 143 = .ok (.iconst 1, 1) := dk_4 (dk_at dksX2_players_6 2 rfl rfl)
theorem dX2_players_144 : decode cX2_players 144 = .ok (.iadd, 1) := dk_96 (dk_at dksX2_players_6 3 rfl rfl)
theorem dX2_players_145 : decode cX2_players 145 = .ok (.laload, 1) := dk_47 (dk_at dksX2_players_6 4 rfl rfl)
theorem dX2_players_146 : decode cX2_players 146 = .ok (.invokestatic 110, 3) := dk_184 0 110 (dk_at dksX2_players_6 5 rfl rfl)
theorem dX2_players_149 : decode cX2_players 149 = .ok (.ifCond .eq 7, 3) := dk_153 0 7 (dk_at dksX2_players_6 8 rfl rfl)
theorem dX2_players_152 : decode cX2_players 152 = .ok (.iconst 1, 1) := dk_4 (dk_at dksX2_players_6 11 rfl rfl)
theorem dX2_players_153 : decode cX2_players 153 = .ok (.goto 4, 3) := dk_167 0 4 (dk_at dksX2_players_6 12 rfl rfl)
theorem dX2_players_156 : decode cX2_players 156 = .ok (.iconst 0, 1) := dk_3 (dk_at dksX2_players_6 15 rfl rfl)
theorem dX2_players_157 : decode cX2_players 157 = .ok (.istore 5, 2) := dk_54 5 (dk_at dksX2_players_6 16 rfl rfl)
theorem dX2_players_159 : decode cX2_players 159 = .ok (.iload 5, 2) := dk_21 5 (dk_at dksX2_players_6 18 rfl rfl)
theorem dX2_players_161 : decode cX2_players 161 = .ok (.ifCond .eq 28, 3) := dk_153 0 28 (dk_at dksX2_players_6 20 rfl rfl)
theorem dX2_players_164 : decode cX2_players 164 = .ok (.aload_n 0, 1) := dk_42 (dk_at dksX2_players_6 23 rfl rfl)
theorem dX2_players_165 : decode cX2_players 165 = .ok (.aload_n 0, 1) := dk_42 (dk_at dksX2_players_7 0 rfl rfl)
theorem dX2_players_166 : decode cX2_players 166 = .ok (.getfield 77, 3) := dk_180 0 77 (dk_at dksX2_players_7 1 rfl rfl)
theorem dX2_players_169 : decode cX2_players 169 = .ok (.iload 6, 2) := dk_21 6 (dk_at dksX2_players_7 4 rfl rfl)
theorem dX2_players_171 : decode cX2_players 171 = .ok (.laload, 1) := dk_47 (dk_at dksX2_players_7 6 rfl rfl)
theorem dX2_players_172 : decode cX2_players 172 = .ok (.l2i, 1) := dk_136 (dk_at dksX2_players_7 7 rfl rfl)
theorem dX2_players_173 : decode cX2_players 173 = .ok (.aload_n 0, 1) := dk_42 (dk_at dksX2_players_7 8 rfl rfl)
theorem dX2_players_174 : decode cX2_players 174 = .ok (.getfield 77, 3) := dk_180 0 77 (dk_at dksX2_players_7 9 rfl rfl)
theorem dX2_players_177 : decode cX2_players 177 = .ok (.iload 6, 2) := dk_21 6 (dk_at dksX2_players_7 12 rfl rfl)
theorem dX2_players_179 : decode cX2_players 179 = .ok (.iconst 1, 1) := dk_4 (dk_at dksX2_players_7 14 rfl rfl)
theorem dX2_players_180 : decode cX2_players 180 = .ok (.iadd, 1) := dk_96 (dk_at dksX2_players_7 15 rfl rfl)
theorem dX2_players_181 : decode cX2_players 181 = .ok (.laload, 1) := dk_47 (dk_at dksX2_players_7 16 rfl rfl)
theorem dX2_players_182 : decode cX2_players 182 = .ok (.l2i, 1) := dk_136 (dk_at dksX2_players_7 17 rfl rfl)
theorem dX2_players_183 : decode cX2_players 183 = .ok (.invokevirtual 114, 3) := dk_182 0 114 (dk_at dksX2_players_7 18 rfl rfl)
theorem dX2_players_186 : decode cX2_players 186 = .ok (.iinc 4 1, 3) := dk_132 4 1 (dk_at dksX2_players_7 21 rfl rfl)
theorem dX2_players_189 : decode cX2_players 189 = .ok (.goto (-120), 3) := dk_167 255 136 (dk_at dksX2_players_8 0 rfl rfl)
theorem dX2_players_192 : decode cX2_players 192 = .ok (.iload 4, 2) := dk_21 4 (dk_at dksX2_players_8 3 rfl rfl)
theorem dX2_players_194 : decode cX2_players 194 = .ok (.ireturn, 1) := dk_172 (dk_at dksX2_players_8 5 rfl rfl)
abbrev cX2_isShelf : ByteArray := prog_31_method_85_code
def yX2_isShelf : MethodName := ⟨RX2, "isShelf", "(I)Z"⟩
def dkwX2_isShelf_0 : List UInt8 := [26, 133, 9, 20, 0, 105, 184, 0, 99, 172]
abbrev dktX2_isShelf_0 : List UInt8 := dkwX2_isShelf_0 ++ []
theorem dksX2_isShelf_0 : cX2_isShelf.data.toList.drop 0 = dktX2_isShelf_0 := by decide +kernel
theorem dX2_isShelf_0 : decode cX2_isShelf 0 = .ok (.iload_n 0, 1) := dk_26 (dk_at dksX2_isShelf_0 0 rfl rfl)
theorem dX2_isShelf_1 : decode cX2_isShelf 1 = .ok (.i2l, 1) := dk_133 (dk_at dksX2_isShelf_0 1 rfl rfl)
theorem dX2_isShelf_2 : decode cX2_isShelf 2 = .ok (.lconst 0, 1) := dk_9 (dk_at dksX2_isShelf_0 2 rfl rfl)
theorem dX2_isShelf_3 : decode cX2_isShelf 3 = .ok (.ldc2_w 105, 3) := dk_20 0 105 (dk_at dksX2_isShelf_0 3 rfl rfl)
theorem dX2_isShelf_6 : decode cX2_isShelf 6 = .ok (.invokestatic 99, 3) := dk_184 0 99 (dk_at dksX2_isShelf_0 6 rfl rfl)
theorem dX2_isShelf_9 : decode cX2_isShelf 9 = .ok (.ireturn, 1) := dk_172 (dk_at dksX2_isShelf_0 9 rfl rfl)
abbrev cX2_mend : ByteArray := prog_31_method_14_code
def yX2_mend : MethodName := ⟨RX2, "mend", "(III)I"⟩
def dkwX2_mend_5 : List UInt8 := [2, 172, 2, 172]
abbrev dktX2_mend_5 : List UInt8 := dkwX2_mend_5 ++ []
def dkwX2_mend_4 : List UInt8 := [29, 133, 9, 20, 0, 131, 184, 0, 99, 153, 0, 15, 42, 16, 8, 27, 96, 29, 182, 0, 127, 167, 0, 4]
abbrev dktX2_mend_4 : List UInt8 := dkwX2_mend_4 ++ dktX2_mend_5
def dkwX2_mend_3 : List UInt8 := [133, 9, 20, 0, 105, 184, 0, 99, 153, 0, 14, 42, 7, 27, 96, 29, 182, 0, 127, 167, 0, 4, 2, 172]
abbrev dktX2_mend_3 : List UInt8 := dkwX2_mend_3 ++ dktX2_mend_4
def dkwX2_mend_2 : List UInt8 := [29, 133, 9, 20, 0, 103, 184, 0, 99, 153, 0, 12, 42, 27, 29, 182, 0, 127, 167, 0, 4, 2, 172, 29]
abbrev dktX2_mend_2 : List UInt8 := dkwX2_mend_2 ++ dktX2_mend_3
def dkwX2_mend_1 : List UInt8 := [170, 0, 0, 0, 99, 0, 0, 0, 0, 0, 0, 0, 2, 0, 0, 0, 25, 0, 0, 0, 48, 0, 0, 0, 73]
abbrev dktX2_mend_1 : List UInt8 := dkwX2_mend_1 ++ dktX2_mend_2
def dkwX2_mend_0 : List UInt8 := [42, 27, 182, 0, 124, 154, 0, 5, 2, 172, 28]
abbrev dktX2_mend_0 : List UInt8 := dkwX2_mend_0 ++ dktX2_mend_1
theorem dksX2_mend_0 : cX2_mend.data.toList.drop 0 = dktX2_mend_0 := by decide +kernel
theorem dksX2_mend_1 : cX2_mend.data.toList.drop 11 = dktX2_mend_1 := dk_seg dksX2_mend_0 11 rfl rfl
theorem dksX2_mend_2 : cX2_mend.data.toList.drop 36 = dktX2_mend_2 := dk_seg dksX2_mend_1 25 rfl rfl
theorem dksX2_mend_3 : cX2_mend.data.toList.drop 60 = dktX2_mend_3 := dk_seg dksX2_mend_2 24 rfl rfl
theorem dksX2_mend_4 : cX2_mend.data.toList.drop 84 = dktX2_mend_4 := dk_seg dksX2_mend_3 24 rfl rfl
theorem dksX2_mend_5 : cX2_mend.data.toList.drop 108 = dktX2_mend_5 := dk_seg dksX2_mend_4 24 rfl rfl
theorem dX2_mend_0 : decode cX2_mend 0 = .ok (.aload_n 0, 1) := dk_42 (dk_at dksX2_mend_0 0 rfl rfl)
theorem dX2_mend_1 : decode cX2_mend 1 = .ok (.iload_n 1, 1) := dk_27 (dk_at dksX2_mend_0 1 rfl rfl)
theorem dX2_mend_2 : decode cX2_mend 2 = .ok (.invokevirtual 124, 3) := dk_182 0 124 (dk_at dksX2_mend_0 2 rfl rfl)
theorem dX2_mend_5 : decode cX2_mend 5 = .ok (.ifCond .ne 5, 3) := dk_154 0 5 (dk_at dksX2_mend_0 5 rfl rfl)
theorem dX2_mend_8 : decode cX2_mend 8 = .ok (.iconst (-1), 1) := dk_2 (dk_at dksX2_mend_0 8 rfl rfl)
theorem dX2_mend_9 : decode cX2_mend 9 = .ok (.ireturn, 1) := dk_172 (dk_at dksX2_mend_0 9 rfl rfl)
theorem dX2_mend_10 : decode cX2_mend 10 = .ok (.iload_n 2, 1) := dk_28 (dk_at dksX2_mend_0 10 rfl rfl)
theorem dX2_mend_11 : decode cX2_mend 11 = .ok (.tableswitch 99 0 2 #[25, 48, 73], 25) := by decide +kernel
theorem dX2_mend_36 : decode cX2_mend 36 = .ok (.iload_n 3, 1) := dk_29 (dk_at dksX2_mend_2 0 rfl rfl)
theorem dX2_mend_37 : decode cX2_mend 37 = .ok (.i2l, 1) := dk_133 (dk_at dksX2_mend_2 1 rfl rfl)
theorem dX2_mend_38 : decode cX2_mend 38 = .ok (.lconst 0, 1) := dk_9 (dk_at dksX2_mend_2 2 rfl rfl)
theorem dX2_mend_39 : decode cX2_mend 39 = .ok (.ldc2_w 103, 3) := dk_20 0 103 (dk_at dksX2_mend_2 3 rfl rfl)
theorem dX2_mend_42 : decode cX2_mend 42 = .ok (.invokestatic 99, 3) := dk_184 0 99 (dk_at dksX2_mend_2 6 rfl rfl)
theorem dX2_mend_45 : decode cX2_mend 45 = .ok (.ifCond .eq 12, 3) := dk_153 0 12 (dk_at dksX2_mend_2 9 rfl rfl)
theorem dX2_mend_48 : decode cX2_mend 48 = .ok (.aload_n 0, 1) := dk_42 (dk_at dksX2_mend_2 12 rfl rfl)
theorem dX2_mend_49 : decode cX2_mend 49 = .ok (.iload_n 1, 1) := dk_27 (dk_at dksX2_mend_2 13 rfl rfl)
theorem dX2_mend_50 : decode cX2_mend 50 = .ok (.iload_n 3, 1) := dk_29 (dk_at dksX2_mend_2 14 rfl rfl)
theorem dX2_mend_51 : decode cX2_mend 51 = .ok (.invokevirtual 127, 3) := dk_182 0 127 (dk_at dksX2_mend_2 15 rfl rfl)
theorem dX2_mend_54 : decode cX2_mend 54 = .ok (.goto 4, 3) := dk_167 0 4 (dk_at dksX2_mend_2 18 rfl rfl)
theorem dX2_mend_57 : decode cX2_mend 57 = .ok (.iconst (-1), 1) := dk_2 (dk_at dksX2_mend_2 21 rfl rfl)
theorem dX2_mend_58 : decode cX2_mend 58 = .ok (.ireturn, 1) := dk_172 (dk_at dksX2_mend_2 22 rfl rfl)
theorem dX2_mend_59 : decode cX2_mend 59 = .ok (.iload_n 3, 1) := dk_29 (dk_at dksX2_mend_2 23 rfl rfl)
theorem dX2_mend_60 : decode cX2_mend 60 = .ok (.i2l, 1) := dk_133 (dk_at dksX2_mend_3 0 rfl rfl)
theorem dX2_mend_61 : decode cX2_mend 61 = .ok (.lconst 0, 1) := dk_9 (dk_at dksX2_mend_3 1 rfl rfl)
theorem dX2_mend_62 : decode cX2_mend 62 = .ok (.ldc2_w 105, 3) := dk_20 0 105 (dk_at dksX2_mend_3 2 rfl rfl)
theorem dX2_mend_65 : decode cX2_mend 65 = .ok (.invokestatic 99, 3) := dk_184 0 99 (dk_at dksX2_mend_3 5 rfl rfl)
theorem dX2_mend_68 : decode cX2_mend 68 = .ok (.ifCond .eq 14, 3) := dk_153 0 14 (dk_at dksX2_mend_3 8 rfl rfl)
theorem dX2_mend_71 : decode cX2_mend 71 = .ok (.aload_n 0, 1) := dk_42 (dk_at dksX2_mend_3 11 rfl rfl)
theorem dX2_mend_72 : decode cX2_mend 72 = .ok (.iconst 4, 1) := dk_7 (dk_at dksX2_mend_3 12 rfl rfl)
theorem dX2_mend_73 : decode cX2_mend 73 = .ok (.iload_n 1, 1) := dk_27 (dk_at dksX2_mend_3 13 rfl rfl)
theorem dX2_mend_74 : decode cX2_mend 74 = .ok (.iadd, 1) := dk_96 (dk_at dksX2_mend_3 14 rfl rfl)
theorem dX2_mend_75 : decode cX2_mend 75 = .ok (.iload_n 3, 1) := dk_29 (dk_at dksX2_mend_3 15 rfl rfl)
theorem dX2_mend_76 : decode cX2_mend 76 = .ok (.invokevirtual 127, 3) := dk_182 0 127 (dk_at dksX2_mend_3 16 rfl rfl)
theorem dX2_mend_79 : decode cX2_mend 79 = .ok (.goto 4, 3) := dk_167 0 4 (dk_at dksX2_mend_3 19 rfl rfl)
theorem dX2_mend_82 : decode cX2_mend 82 = .ok (.iconst (-1), 1) := dk_2 (dk_at dksX2_mend_3 22 rfl rfl)
theorem dX2_mend_83 : decode cX2_mend 83 = .ok (.ireturn, 1) := dk_172 (dk_at dksX2_mend_3 23 rfl rfl)
theorem dX2_mend_84 : decode cX2_mend 84 = .ok (.iload_n 3, 1) := dk_29 (dk_at dksX2_mend_4 0 rfl rfl)
theorem dX2_mend_85 : decode cX2_mend 85 = .ok (.i2l, 1) := dk_133 (dk_at dksX2_mend_4 1 rfl rfl)
theorem dX2_mend_86 : decode cX2_mend 86 = .ok (.lconst 0, 1) := dk_9 (dk_at dksX2_mend_4 2 rfl rfl)
theorem dX2_mend_87 : decode cX2_mend 87 = .ok (.ldc2_w 131, 3) := dk_20 0 131 (dk_at dksX2_mend_4 3 rfl rfl)
theorem dX2_mend_90 : decode cX2_mend 90 = .ok (.invokestatic 99, 3) := dk_184 0 99 (dk_at dksX2_mend_4 6 rfl rfl)
theorem dX2_mend_93 : decode cX2_mend 93 = .ok (.ifCond .eq 15, 3) := dk_153 0 15 (dk_at dksX2_mend_4 9 rfl rfl)
theorem dX2_mend_96 : decode cX2_mend 96 = .ok (.aload_n 0, 1) := dk_42 (dk_at dksX2_mend_4 12 rfl rfl)
theorem dX2_mend_97 : decode cX2_mend 97 = .ok (.bipush 8, 2) := dk_16 8 (dk_at dksX2_mend_4 13 rfl rfl)
theorem dX2_mend_99 : decode cX2_mend 99 = .ok (.iload_n 1, 1) := dk_27 (dk_at dksX2_mend_4 15 rfl rfl)
theorem dX2_mend_100 : decode cX2_mend 100 = .ok (.iadd, 1) := dk_96 (dk_at dksX2_mend_4 16 rfl rfl)
theorem dX2_mend_101 : decode cX2_mend 101 = .ok (.iload_n 3, 1) := dk_29 (dk_at dksX2_mend_4 17 rfl rfl)
theorem dX2_mend_102 : decode cX2_mend 102 = .ok (.invokevirtual 127, 3) := dk_182 0 127 (dk_at dksX2_mend_4 18 rfl rfl)
theorem dX2_mend_105 : decode cX2_mend 105 = .ok (.goto 4, 3) := dk_167 0 4 (dk_at dksX2_mend_4 21 rfl rfl)
theorem dX2_mend_108 : decode cX2_mend 108 = .ok (.iconst (-1), 1) := dk_2 (dk_at dksX2_mend_5 0 rfl rfl)
theorem dX2_mend_109 : decode cX2_mend 109 = .ok (.ireturn, 1) := dk_172 (dk_at dksX2_mend_5 1 rfl rfl)
theorem dX2_mend_110 : decode cX2_mend 110 = .ok (.iconst (-1), 1) := dk_2 (dk_at dksX2_mend_5 2 rfl rfl)
theorem dX2_mend_111 : decode cX2_mend 111 = .ok (.ireturn, 1) := dk_172 (dk_at dksX2_mend_5 3 rfl rfl)
abbrev cX2_isPlayer : ByteArray := prog_31_method_8_code
def yX2_isPlayer : MethodName := ⟨RX2, "isPlayer", "(I)Z"⟩
def dkwX2_isPlayer_0 : List UInt8 := [27, 133, 9, 42, 180, 0, 96, 4, 100, 133, 184, 0, 99, 172]
abbrev dktX2_isPlayer_0 : List UInt8 := dkwX2_isPlayer_0 ++ []
theorem dksX2_isPlayer_0 : cX2_isPlayer.data.toList.drop 0 = dktX2_isPlayer_0 := by decide +kernel
theorem dX2_isPlayer_0 : decode cX2_isPlayer 0 = .ok (.iload_n 1, 1) := dk_27 (dk_at dksX2_isPlayer_0 0 rfl rfl)
theorem dX2_isPlayer_1 : decode cX2_isPlayer 1 = .ok (.i2l, 1) := dk_133 (dk_at dksX2_isPlayer_0 1 rfl rfl)
theorem dX2_isPlayer_2 : decode cX2_isPlayer 2 = .ok (.lconst 0, 1) := dk_9 (dk_at dksX2_isPlayer_0 2 rfl rfl)
theorem dX2_isPlayer_3 : decode cX2_isPlayer 3 = .ok (.aload_n 0, 1) := dk_42 (dk_at dksX2_isPlayer_0 3 rfl rfl)
theorem dX2_isPlayer_4 : decode cX2_isPlayer 4 = .ok (.getfield 96, 3) := dk_180 0 96 (dk_at dksX2_isPlayer_0 4 rfl rfl)
theorem dX2_isPlayer_7 : decode cX2_isPlayer 7 = .ok (.iconst 1, 1) := dk_4 (dk_at dksX2_isPlayer_0 7 rfl rfl)
theorem dX2_isPlayer_8 : decode cX2_isPlayer 8 = .ok (.isub, 1) := dk_100 (dk_at dksX2_isPlayer_0 8 rfl rfl)
theorem dX2_isPlayer_9 : decode cX2_isPlayer 9 = .ok (.i2l, 1) := dk_133 (dk_at dksX2_isPlayer_0 9 rfl rfl)
theorem dX2_isPlayer_10 : decode cX2_isPlayer 10 = .ok (.invokestatic 99, 3) := dk_184 0 99 (dk_at dksX2_isPlayer_0 10 rfl rfl)
theorem dX2_isPlayer_13 : decode cX2_isPlayer 13 = .ok (.ireturn, 1) := dk_172 (dk_at dksX2_isPlayer_0 13 rfl rfl)
abbrev cX2_becomes : ByteArray := prog_31_method_5_code
def yX2_becomes : MethodName := ⟨RX2, "becomes", "(II)I"⟩
def dkwX2_becomes_6 : List UInt8 := [181, 0, 93, 42, 180, 0, 9, 27, 28, 79, 29, 172]
abbrev dktX2_becomes_6 : List UInt8 := dkwX2_becomes_6 ++ []
def dkwX2_becomes_5 : List UInt8 := [180, 0, 19, 42, 180, 0, 90, 28, 79, 42, 89, 180, 0, 90, 4, 96, 181, 0, 90, 42, 42, 180, 0, 90]
abbrev dktX2_becomes_5 : List UInt8 := dkwX2_becomes_5 ++ dktX2_becomes_6
def dkwX2_becomes_4 : List UInt8 := [181, 0, 90, 42, 180, 0, 13, 42, 180, 0, 90, 27, 79, 42, 180, 0, 16, 42, 180, 0, 90, 29, 79, 42]
abbrev dktX2_becomes_4 : List UInt8 := dkwX2_becomes_4 ++ dktX2_becomes_5
def dkwX2_becomes_3 : List UInt8 := [100, 42, 180, 0, 19, 21, 4, 46, 79, 132, 4, 1, 167, 255, 198, 42, 89, 180, 0, 90, 4, 100]
abbrev dktX2_becomes_3 : List UInt8 := dkwX2_becomes_3 ++ dktX2_becomes_4
def dkwX2_becomes_2 : List UInt8 := [79, 42, 180, 0, 16, 21, 4, 4, 100, 42, 180, 0, 16, 21, 4, 46, 79, 42, 180, 0, 19, 21, 4, 4]
abbrev dktX2_becomes_2 : List UInt8 := dkwX2_becomes_2 ++ dktX2_becomes_3
def dkwX2_becomes_1 : List UInt8 := [54, 4, 21, 4, 16, 40, 162, 0, 57, 42, 180, 0, 13, 21, 4, 4, 100, 42, 180, 0, 13, 21, 4, 46]
abbrev dktX2_becomes_1 : List UInt8 := dkwX2_becomes_1 ++ dktX2_becomes_2
def dkwX2_becomes_0 : List UInt8 := [42, 180, 0, 9, 27, 46, 62, 29, 28, 160, 0, 5, 29, 172, 42, 180, 0, 90, 16, 40, 160, 0, 77, 4]
abbrev dktX2_becomes_0 : List UInt8 := dkwX2_becomes_0 ++ dktX2_becomes_1
theorem dksX2_becomes_0 : cX2_becomes.data.toList.drop 0 = dktX2_becomes_0 := by decide +kernel
theorem dksX2_becomes_1 : cX2_becomes.data.toList.drop 24 = dktX2_becomes_1 := dk_seg dksX2_becomes_0 24 rfl rfl
theorem dksX2_becomes_2 : cX2_becomes.data.toList.drop 48 = dktX2_becomes_2 := dk_seg dksX2_becomes_1 24 rfl rfl
theorem dksX2_becomes_3 : cX2_becomes.data.toList.drop 72 = dktX2_becomes_3 := dk_seg dksX2_becomes_2 24 rfl rfl
theorem dksX2_becomes_4 : cX2_becomes.data.toList.drop 94 = dktX2_becomes_4 := dk_seg dksX2_becomes_3 22 rfl rfl
theorem dksX2_becomes_5 : cX2_becomes.data.toList.drop 118 = dktX2_becomes_5 := dk_seg dksX2_becomes_4 24 rfl rfl
theorem dksX2_becomes_6 : cX2_becomes.data.toList.drop 142 = dktX2_becomes_6 := dk_seg dksX2_becomes_5 24 rfl rfl
theorem dX2_becomes_0 : decode cX2_becomes 0 = .ok (.aload_n 0, 1) := dk_42 (dk_at dksX2_becomes_0 0 rfl rfl)
theorem dX2_becomes_1 : decode cX2_becomes 1 = .ok (.getfield 9, 3) := dk_180 0 9 (dk_at dksX2_becomes_0 1 rfl rfl)
theorem dX2_becomes_4 : decode cX2_becomes 4 = .ok (.iload_n 1, 1) := dk_27 (dk_at dksX2_becomes_0 4 rfl rfl)
theorem dX2_becomes_5 : decode cX2_becomes 5 = .ok (.iaload, 1) := dk_46 (dk_at dksX2_becomes_0 5 rfl rfl)
theorem dX2_becomes_6 : decode cX2_becomes 6 = .ok (.istore_n 3, 1) := dk_62 (dk_at dksX2_becomes_0 6 rfl rfl)
theorem dX2_becomes_7 : decode cX2_becomes 7 = .ok (.iload_n 3, 1) := dk_29 (dk_at dksX2_becomes_0 7 rfl rfl)
theorem dX2_becomes_8 : decode cX2_becomes 8 = .ok (.iload_n 2, 1) := dk_28 (dk_at dksX2_becomes_0 8 rfl rfl)
theorem dX2_becomes_9 : decode cX2_becomes 9 = .ok (.if_icmp .ne 5, 3) := dk_160 0 5 (dk_at dksX2_becomes_0 9 rfl rfl)
theorem dX2_becomes_12 : decode cX2_becomes 12 = .ok (.iload_n 3, 1) := dk_29 (dk_at dksX2_becomes_0 12 rfl rfl)
theorem dX2_becomes_13 : decode cX2_becomes 13 = .ok (.ireturn, 1) := dk_172 (dk_at dksX2_becomes_0 13 rfl rfl)
theorem dX2_becomes_14 : decode cX2_becomes 14 = .ok (.aload_n 0, 1) := dk_42 (dk_at dksX2_becomes_0 14 rfl rfl)
theorem dX2_becomes_15 : decode cX2_becomes 15 = .ok (.getfield 90, 3) := dk_180 0 90 (dk_at dksX2_becomes_0 15 rfl rfl)
theorem dX2_becomes_18 : decode cX2_becomes 18 = .ok (.bipush 40, 2) := dk_16 40 (dk_at dksX2_becomes_0 18 rfl rfl)
theorem dX2_becomes_20 : decode cX2_becomes 20 = .ok (.if_icmp .ne 77, 3) := dk_160 0 77 (dk_at dksX2_becomes_0 20 rfl rfl)
theorem dX2_becomes_23 : decode cX2_becomes 23 = .ok (.iconst 1, 1) := dk_4 (dk_at dksX2_becomes_0 23 rfl rfl)
theorem dX2_becomes_24 : decode cX2_becomes 24 = .ok (.istore 4, 2) := dk_54 4 (dk_at dksX2_becomes_1 0 rfl rfl)
theorem dX2_becomes_26 : decode cX2_becomes 26 = .ok (.iload 4, 2) := dk_21 4 (dk_at dksX2_becomes_1 2 rfl rfl)
theorem dX2_becomes_28 : decode cX2_becomes 28 = .ok (.bipush 40, 2) := dk_16 40 (dk_at dksX2_becomes_1 4 rfl rfl)
theorem dX2_becomes_30 : decode cX2_becomes 30 = .ok (.if_icmp .ge 57, 3) := dk_162 0 57 (dk_at dksX2_becomes_1 6 rfl rfl)
theorem dX2_becomes_33 : decode cX2_becomes 33 = .ok (.aload_n 0, 1) := dk_42 (dk_at dksX2_becomes_1 9 rfl rfl)
theorem dX2_becomes_34 : decode cX2_becomes 34 = .ok (.getfield 13, 3) := dk_180 0 13 (dk_at dksX2_becomes_1 10 rfl rfl)
theorem dX2_becomes_37 : decode cX2_becomes 37 = .ok (.iload 4, 2) := dk_21 4 (dk_at dksX2_becomes_1 13 rfl rfl)
theorem dX2_becomes_39 : decode cX2_becomes 39 = .ok (.iconst 1, 1) := dk_4 (dk_at dksX2_becomes_1 15 rfl rfl)
theorem dX2_becomes_40 : decode cX2_becomes 40 = .ok (.isub, 1) := dk_100 (dk_at dksX2_becomes_1 16 rfl rfl)
theorem dX2_becomes_41 : decode cX2_becomes 41 = .ok (.aload_n 0, 1) := dk_42 (dk_at dksX2_becomes_1 17 rfl rfl)
theorem dX2_becomes_42 : decode cX2_becomes 42 = .ok (.getfield 13, 3) := dk_180 0 13 (dk_at dksX2_becomes_1 18 rfl rfl)
theorem dX2_becomes_45 : decode cX2_becomes 45 = .ok (.iload 4, 2) := dk_21 4 (dk_at dksX2_becomes_1 21 rfl rfl)
theorem dX2_becomes_47 : decode cX2_becomes 47 = .ok (.iaload, 1) := dk_46 (dk_at dksX2_becomes_1 23 rfl rfl)
theorem dX2_becomes_48 : decode cX2_becomes 48 = .ok (.iastore, 1) := dk_79 (dk_at dksX2_becomes_2 0 rfl rfl)
theorem dX2_becomes_49 : decode cX2_becomes 49 = .ok (.aload_n 0, 1) := dk_42 (dk_at dksX2_becomes_2 1 rfl rfl)
theorem dX2_becomes_50 : decode cX2_becomes 50 = .ok (.getfield 16, 3) := dk_180 0 16 (dk_at dksX2_becomes_2 2 rfl rfl)
theorem dX2_becomes_53 : decode cX2_becomes 53 = .ok (.iload 4, 2) := dk_21 4 (dk_at dksX2_becomes_2 5 rfl rfl)
theorem dX2_becomes_55 : decode cX2_becomes 55 = .ok (.iconst 1, 1) := dk_4 (dk_at dksX2_becomes_2 7 rfl rfl)
theorem dX2_becomes_56 : decode cX2_becomes 56 = .ok (.isub, 1) := dk_100 (dk_at dksX2_becomes_2 8 rfl rfl)
theorem dX2_becomes_57 : decode cX2_becomes 57 = .ok (.aload_n 0, 1) := dk_42 (dk_at dksX2_becomes_2 9 rfl rfl)
theorem dX2_becomes_58 : decode cX2_becomes 58 = .ok (.getfield 16, 3) := dk_180 0 16 (dk_at dksX2_becomes_2 10 rfl rfl)
theorem dX2_becomes_61 : decode cX2_becomes 61 = .ok (.iload 4, 2) := dk_21 4 (dk_at dksX2_becomes_2 13 rfl rfl)
theorem dX2_becomes_63 : decode cX2_becomes 63 = .ok (.iaload, 1) := dk_46 (dk_at dksX2_becomes_2 15 rfl rfl)
theorem dX2_becomes_64 : decode cX2_becomes 64 = .ok (.iastore, 1) := dk_79 (dk_at dksX2_becomes_2 16 rfl rfl)
theorem dX2_becomes_65 : decode cX2_becomes 65 = .ok (.aload_n 0, 1) := dk_42 (dk_at dksX2_becomes_2 17 rfl rfl)
theorem dX2_becomes_66 : decode cX2_becomes 66 = .ok (.getfield 19, 3) := dk_180 0 19 (dk_at dksX2_becomes_2 18 rfl rfl)
theorem dX2_becomes_69 : decode cX2_becomes 69 = .ok (.iload 4, 2) := dk_21 4 (dk_at dksX2_becomes_2 21 rfl rfl)
theorem dX2_becomes_71 : decode cX2_becomes 71 = .ok (.iconst 1, 1) := dk_4 (dk_at dksX2_becomes_2 23 rfl rfl)
theorem dX2_becomes_72 : decode cX2_becomes 72 = .ok (.isub, 1) := dk_100 (dk_at dksX2_becomes_3 0 rfl rfl)
theorem dX2_becomes_73 : decode cX2_becomes 73 = .ok (.aload_n 0, 1) := dk_42 (dk_at dksX2_becomes_3 1 rfl rfl)
theorem dX2_becomes_74 : decode cX2_becomes 74 = .ok (.getfield 19, 3) := dk_180 0 19 (dk_at dksX2_becomes_3 2 rfl rfl)
theorem dX2_becomes_77 : decode cX2_becomes 77 = .ok (.iload 4, 2) := dk_21 4 (dk_at dksX2_becomes_3 5 rfl rfl)
theorem dX2_becomes_79 : decode cX2_becomes 79 = .ok (.iaload, 1) := dk_46 (dk_at dksX2_becomes_3 7 rfl rfl)
theorem dX2_becomes_80 : decode cX2_becomes 80 = .ok (.iastore, 1) := dk_79 (dk_at dksX2_becomes_3 8 rfl rfl)
theorem dX2_becomes_81 : decode cX2_becomes 81 = .ok (.iinc 4 1, 3) := dk_132 4 1 (dk_at dksX2_becomes_3 9 rfl rfl)
theorem dX2_becomes_84 : decode cX2_becomes 84 = .ok (.goto (-58), 3) := dk_167 255 198 (dk_at dksX2_becomes_3 12 rfl rfl)
theorem dX2_becomes_87 : decode cX2_becomes 87 = .ok (.aload_n 0, 1) := dk_42 (dk_at dksX2_becomes_3 15 rfl rfl)
theorem dX2_becomes_88 : decode cX2_becomes 88 = .ok (.dup, 1) := dk_89 (dk_at dksX2_becomes_3 16 rfl rfl)
theorem dX2_becomes_89 : decode cX2_becomes 89 = .ok (.getfield 90, 3) := dk_180 0 90 (dk_at dksX2_becomes_3 17 rfl rfl)
theorem dX2_becomes_92 : decode cX2_becomes 92 = .ok (.iconst 1, 1) := dk_4 (dk_at dksX2_becomes_3 20 rfl rfl)
theorem dX2_becomes_93 : decode cX2_becomes 93 = .ok (.isub, 1) := dk_100 (dk_at dksX2_becomes_3 21 rfl rfl)
theorem dX2_becomes_94 : decode cX2_becomes 94 = .ok (.putfield 90, 3) := dk_181 0 90 (dk_at dksX2_becomes_4 0 rfl rfl)
theorem dX2_becomes_97 : decode cX2_becomes 97 = .ok (.aload_n 0, 1) := dk_42 (dk_at dksX2_becomes_4 3 rfl rfl)
theorem dX2_becomes_98 : decode cX2_becomes 98 = .ok (.getfield 13, 3) := dk_180 0 13 (dk_at dksX2_becomes_4 4 rfl rfl)
theorem dX2_becomes_101 : decode cX2_becomes 101 = .ok (.aload_n 0, 1) := dk_42 (dk_at dksX2_becomes_4 7 rfl rfl)
theorem dX2_becomes_102 : decode cX2_becomes 102 = .ok (.getfield 90, 3) := dk_180 0 90 (dk_at dksX2_becomes_4 8 rfl rfl)
theorem dX2_becomes_105 : decode cX2_becomes 105 = .ok (.iload_n 1, 1) := dk_27 (dk_at dksX2_becomes_4 11 rfl rfl)
theorem dX2_becomes_106 : decode cX2_becomes 106 = .ok (.iastore, 1) := dk_79 (dk_at dksX2_becomes_4 12 rfl rfl)
theorem dX2_becomes_107 : decode cX2_becomes 107 = .ok (.aload_n 0, 1) := dk_42 (dk_at dksX2_becomes_4 13 rfl rfl)
theorem dX2_becomes_108 : decode cX2_becomes 108 = .ok (.getfield 16, 3) := dk_180 0 16 (dk_at dksX2_becomes_4 14 rfl rfl)
theorem dX2_becomes_111 : decode cX2_becomes 111 = .ok (.aload_n 0, 1) := dk_42 (dk_at dksX2_becomes_4 17 rfl rfl)
theorem dX2_becomes_112 : decode cX2_becomes 112 = .ok (.getfield 90, 3) := dk_180 0 90 (dk_at dksX2_becomes_4 18 rfl rfl)
theorem dX2_becomes_115 : decode cX2_becomes 115 = .ok (.iload_n 3, 1) := dk_29 (dk_at dksX2_becomes_4 21 rfl rfl)
theorem dX2_becomes_116 : decode cX2_becomes 116 = .ok (.iastore, 1) := dk_79 (dk_at dksX2_becomes_4 22 rfl rfl)
theorem dX2_becomes_117 : decode cX2_becomes 117 = .ok (.aload_n 0, 1) := dk_42 (dk_at dksX2_becomes_4 23 rfl rfl)
theorem dX2_becomes_118 : decode cX2_becomes 118 = .ok (.getfield 19, 3) := dk_180 0 19 (dk_at dksX2_becomes_5 0 rfl rfl)
theorem dX2_becomes_121 : decode cX2_becomes 121 = .ok (.aload_n 0, 1) := dk_42 (dk_at dksX2_becomes_5 3 rfl rfl)
theorem dX2_becomes_122 : decode cX2_becomes 122 = .ok (.getfield 90, 3) := dk_180 0 90 (dk_at dksX2_becomes_5 4 rfl rfl)
theorem dX2_becomes_125 : decode cX2_becomes 125 = .ok (.iload_n 2, 1) := dk_28 (dk_at dksX2_becomes_5 7 rfl rfl)
theorem dX2_becomes_126 : decode cX2_becomes 126 = .ok (.iastore, 1) := dk_79 (dk_at dksX2_becomes_5 8 rfl rfl)
theorem dX2_becomes_127 : decode cX2_becomes 127 = .ok (.aload_n 0, 1) := dk_42 (dk_at dksX2_becomes_5 9 rfl rfl)
theorem dX2_becomes_128 : decode cX2_becomes 128 = .ok (.dup, 1) := dk_89 (dk_at dksX2_becomes_5 10 rfl rfl)
theorem dX2_becomes_129 : decode cX2_becomes 129 = .ok (.getfield 90, 3) := dk_180 0 90 (dk_at dksX2_becomes_5 11 rfl rfl)
theorem dX2_becomes_132 : decode cX2_becomes 132 = .ok (.iconst 1, 1) := dk_4 (dk_at dksX2_becomes_5 14 rfl rfl)
theorem dX2_becomes_133 : decode cX2_becomes 133 = .ok (.iadd, 1) := dk_96 (dk_at dksX2_becomes_5 15 rfl rfl)
theorem dX2_becomes_134 : decode cX2_becomes 134 = .ok (.putfield 90, 3) := dk_181 0 90 (dk_at dksX2_becomes_5 16 rfl rfl)
theorem dX2_becomes_137 : decode cX2_becomes 137 = .ok (.aload_n 0, 1) := dk_42 (dk_at dksX2_becomes_5 19 rfl rfl)
theorem dX2_becomes_138 : decode cX2_becomes 138 = .ok (.aload_n 0, 1) := dk_42 (dk_at dksX2_becomes_5 20 rfl rfl)
theorem dX2_becomes_139 : decode cX2_becomes 139 = .ok (.getfield 90, 3) := dk_180 0 90 (dk_at dksX2_becomes_5 21 rfl rfl)
theorem dX2_becomes_142 : decode cX2_becomes 142 = .ok (.putfield 93, 3) := dk_181 0 93 (dk_at dksX2_becomes_6 0 rfl rfl)
theorem dX2_becomes_145 : decode cX2_becomes 145 = .ok (.aload_n 0, 1) := dk_42 (dk_at dksX2_becomes_6 3 rfl rfl)
theorem dX2_becomes_146 : decode cX2_becomes 146 = .ok (.getfield 9, 3) := dk_180 0 9 (dk_at dksX2_becomes_6 4 rfl rfl)
theorem dX2_becomes_149 : decode cX2_becomes 149 = .ok (.iload_n 1, 1) := dk_27 (dk_at dksX2_becomes_6 7 rfl rfl)
theorem dX2_becomes_150 : decode cX2_becomes 150 = .ok (.iload_n 2, 1) := dk_28 (dk_at dksX2_becomes_6 8 rfl rfl)
theorem dX2_becomes_151 : decode cX2_becomes 151 = .ok (.iastore, 1) := dk_79 (dk_at dksX2_becomes_6 9 rfl rfl)
theorem dX2_becomes_152 : decode cX2_becomes 152 = .ok (.iload_n 3, 1) := dk_29 (dk_at dksX2_becomes_6 10 rfl rfl)
theorem dX2_becomes_153 : decode cX2_becomes 153 = .ok (.ireturn, 1) := dk_172 (dk_at dksX2_becomes_6 11 rfl rfl)
abbrev cX2_order : ByteArray := prog_31_method_15_code
def yX2_order : MethodName := ⟨RX2, "order", "(I)I"⟩
def dkwX2_order_5 : List UInt8 := [46, 21, 4, 79, 132, 4, 1, 167, 255, 216, 42, 182, 0, 107, 4, 172]
abbrev dktX2_order_5 : List UInt8 := dkwX2_order_5 ++ []
def dkwX2_order_4 : List UInt8 := [42, 180, 0, 22, 21, 4, 42, 180, 0, 31, 21, 4, 46, 79, 42, 180, 0, 25, 42, 180, 0, 31, 21, 4]
abbrev dktX2_order_4 : List UInt8 := dkwX2_order_4 ++ dktX2_order_5
def dkwX2_order_3 : List UInt8 := [132, 4, 255, 167, 255, 195, 29, 153, 0, 5, 2, 172, 3, 54, 4, 21, 4, 42, 180, 0, 96, 162, 0, 37]
abbrev dktX2_order_3 : List UInt8 := dkwX2_order_3 ++ dktX2_order_4
def dkwX2_order_2 : List UInt8 := [2, 172, 28, 4, 21, 5, 120, 128, 61, 42, 180, 0, 31, 21, 4, 21, 5, 79, 29, 16, 10, 108, 62]
abbrev dktX2_order_2 : List UInt8 := dkwX2_order_2 ++ dktX2_order_3
def dkwX2_order_1 : List UInt8 := [54, 5, 29, 158, 0, 21, 42, 21, 5, 182, 0, 124, 153, 0, 12, 28, 21, 5, 184, 0, 133, 153, 0, 5]
abbrev dktX2_order_1 : List UInt8 := dkwX2_order_1 ++ dktX2_order_2
def dkwX2_order_0 : List UInt8 := [3, 61, 27, 62, 42, 180, 0, 96, 4, 100, 54, 4, 21, 4, 155, 0, 62, 29, 16, 10, 112, 4, 100]
abbrev dktX2_order_0 : List UInt8 := dkwX2_order_0 ++ dktX2_order_1
theorem dksX2_order_0 : cX2_order.data.toList.drop 0 = dktX2_order_0 := by decide +kernel
theorem dksX2_order_1 : cX2_order.data.toList.drop 23 = dktX2_order_1 := dk_seg dksX2_order_0 23 rfl rfl
theorem dksX2_order_2 : cX2_order.data.toList.drop 47 = dktX2_order_2 := dk_seg dksX2_order_1 24 rfl rfl
theorem dksX2_order_3 : cX2_order.data.toList.drop 70 = dktX2_order_3 := dk_seg dksX2_order_2 23 rfl rfl
theorem dksX2_order_4 : cX2_order.data.toList.drop 94 = dktX2_order_4 := dk_seg dksX2_order_3 24 rfl rfl
theorem dksX2_order_5 : cX2_order.data.toList.drop 118 = dktX2_order_5 := dk_seg dksX2_order_4 24 rfl rfl
theorem dX2_order_0 : decode cX2_order 0 = .ok (.iconst 0, 1) := dk_3 (dk_at dksX2_order_0 0 rfl rfl)
theorem dX2_order_1 : decode cX2_order 1 = .ok (.istore_n 2, 1) := dk_61 (dk_at dksX2_order_0 1 rfl rfl)
theorem dX2_order_2 : decode cX2_order 2 = .ok (.iload_n 1, 1) := dk_27 (dk_at dksX2_order_0 2 rfl rfl)
theorem dX2_order_3 : decode cX2_order 3 = .ok (.istore_n 3, 1) := dk_62 (dk_at dksX2_order_0 3 rfl rfl)
theorem dX2_order_4 : decode cX2_order 4 = .ok (.aload_n 0, 1) := dk_42 (dk_at dksX2_order_0 4 rfl rfl)
theorem dX2_order_5 : decode cX2_order 5 = .ok (.getfield 96, 3) := dk_180 0 96 (dk_at dksX2_order_0 5 rfl rfl)
theorem dX2_order_8 : decode cX2_order 8 = .ok (.iconst 1, 1) := dk_4 (dk_at dksX2_order_0 8 rfl rfl)
theorem dX2_order_9 : decode cX2_order 9 = .ok (.isub, 1) := dk_100 (dk_at dksX2_order_0 9 rfl rfl)
theorem dX2_order_10 : decode cX2_order 10 = .ok (.istore 4, 2) := dk_54 4 (dk_at dksX2_order_0 10 rfl rfl)
theorem dX2_order_12 : decode cX2_order 12 = .ok (.iload 4, 2) := dk_21 4 (dk_at dksX2_order_0 12 rfl rfl)
theorem dX2_order_14 : decode cX2_order 14 = .ok (.ifCond .lt 62, 3) := dk_155 0 62 (dk_at dksX2_order_0 14 rfl rfl)
theorem dX2_order_17 : decode cX2_order 17 = .ok (.iload_n 3, 1) := dk_29 (dk_at dksX2_order_0 17 rfl rfl)
theorem dX2_order_18 : decode cX2_order 18 = .ok (.bipush 10, 2) := dk_16 10 (dk_at dksX2_order_0 18 rfl rfl)
theorem dX2_order_20 : decode cX2_order 20 = .ok (.irem, 1) := dk_112 (dk_at dksX2_order_0 20 rfl rfl)
theorem dX2_order_21 : decode cX2_order 21 = .ok (.iconst 1, 1) := dk_4 (dk_at dksX2_order_0 21 rfl rfl)
theorem dX2_order_22 : decode cX2_order 22 = .ok (.isub, 1) := dk_100 (dk_at dksX2_order_0 22 rfl rfl)
theorem dX2_order_23 : decode cX2_order 23 = .ok (.istore 5, 2) := dk_54 5 (dk_at dksX2_order_1 0 rfl rfl)
theorem dX2_order_25 : decode cX2_order 25 = .ok (.iload_n 3, 1) := dk_29 (dk_at dksX2_order_1 2 rfl rfl)
theorem dX2_order_26 : decode cX2_order 26 = .ok (.ifCond .le 21, 3) := dk_158 0 21 (dk_at dksX2_order_1 3 rfl rfl)
theorem dX2_order_29 : decode cX2_order 29 = .ok (.aload_n 0, 1) := dk_42 (dk_at dksX2_order_1 6 rfl rfl)
theorem dX2_order_30 : decode cX2_order 30 = .ok (.iload 5, 2) := dk_21 5 (dk_at dksX2_order_1 7 rfl rfl)
theorem dX2_order_32 : decode cX2_order 32 = .ok (.invokevirtual 124, 3) := dk_182 0 124 (dk_at dksX2_order_1 9 rfl rfl)
theorem dX2_order_35 : decode cX2_order 35 = .ok (.ifCond .eq 12, 3) := dk_153 0 12 (dk_at dksX2_order_1 12 rfl rfl)
theorem dX2_order_38 : decode cX2_order 38 = .ok (.iload_n 2, 1) := dk_28 (dk_at dksX2_order_1 15 rfl rfl)
theorem dX2_order_39 : decode cX2_order 39 = .ok (.iload 5, 2) := dk_21 5 (dk_at dksX2_order_1 16 rfl rfl)
theorem dX2_order_41 : decode cX2_order 41 = .ok (.invokestatic 133, 3) := dk_184 0 133 (dk_at dksX2_order_1 18 rfl rfl)
theorem dX2_order_44 : decode cX2_order 44 = .ok (.ifCond .eq 5, 3) := dk_153 0 5 (dk_at dksX2_order_1 21 rfl rfl)
theorem dX2_order_47 : decode cX2_order 47 = .ok (.iconst (-1), 1) := dk_2 (dk_at dksX2_order_2 0 rfl rfl)
theorem dX2_order_48 : decode cX2_order 48 = .ok (.ireturn, 1) := dk_172 (dk_at dksX2_order_2 1 rfl rfl)
theorem dX2_order_49 : decode cX2_order 49 = .ok (.iload_n 2, 1) := dk_28 (dk_at dksX2_order_2 2 rfl rfl)
theorem dX2_order_50 : decode cX2_order 50 = .ok (.iconst 1, 1) := dk_4 (dk_at dksX2_order_2 3 rfl rfl)
theorem dX2_order_51 : decode cX2_order 51 = .ok (.iload 5, 2) := dk_21 5 (dk_at dksX2_order_2 4 rfl rfl)
theorem dX2_order_53 : decode cX2_order 53 = .ok (.ishl, 1) := dk_120 (dk_at dksX2_order_2 6 rfl rfl)
theorem dX2_order_54 : decode cX2_order 54 = .ok (.ior, 1) := dk_128 (dk_at dksX2_order_2 7 rfl rfl)
theorem dX2_order_55 : decode cX2_order 55 = .ok (.istore_n 2, 1) := dk_61 (dk_at dksX2_order_2 8 rfl rfl)
theorem dX2_order_56 : decode cX2_order 56 = .ok (.aload_n 0, 1) := dk_42 (dk_at dksX2_order_2 9 rfl rfl)
theorem dX2_order_57 : decode cX2_order 57 = .ok (.getfield 31, 3) := dk_180 0 31 (dk_at dksX2_order_2 10 rfl rfl)
theorem dX2_order_60 : decode cX2_order 60 = .ok (.iload 4, 2) := dk_21 4 (dk_at dksX2_order_2 13 rfl rfl)
theorem dX2_order_62 : decode cX2_order 62 = .ok (.iload 5, 2) := dk_21 5 (dk_at dksX2_order_2 15 rfl rfl)
theorem dX2_order_64 : decode cX2_order 64 = .ok (.iastore, 1) := dk_79 (dk_at dksX2_order_2 17 rfl rfl)
theorem dX2_order_65 : decode cX2_order 65 = .ok (.iload_n 3, 1) := dk_29 (dk_at dksX2_order_2 18 rfl rfl)
theorem dX2_order_66 : decode cX2_order 66 = .ok (.bipush 10, 2) := dk_16 10 (dk_at dksX2_order_2 19 rfl rfl)
theorem dX2_order_68 : decode cX2_order 68 = .ok (.idiv, 1) := dk_108 (dk_at dksX2_order_2 21 rfl rfl)
theorem dX2_order_69 : decode cX2_order 69 = .ok (.istore_n 3, 1) := dk_62 (dk_at dksX2_order_2 22 rfl rfl)
theorem dX2_order_70 : decode cX2_order 70 = .ok (.iinc 4 (-1), 3) := dk_132 4 255 (dk_at dksX2_order_3 0 rfl rfl)
theorem dX2_order_73 : decode cX2_order 73 = .ok (.goto (-61), 3) := dk_167 255 195 (dk_at dksX2_order_3 3 rfl rfl)
theorem dX2_order_76 : decode cX2_order 76 = .ok (.iload_n 3, 1) := dk_29 (dk_at dksX2_order_3 6 rfl rfl)
theorem dX2_order_77 : decode cX2_order 77 = .ok (.ifCond .eq 5, 3) := dk_153 0 5 (dk_at dksX2_order_3 7 rfl rfl)
theorem dX2_order_80 : decode cX2_order 80 = .ok (.iconst (-1), 1) := dk_2 (dk_at dksX2_order_3 10 rfl rfl)
theorem dX2_order_81 : decode cX2_order 81 = .ok (.ireturn, 1) := dk_172 (dk_at dksX2_order_3 11 rfl rfl)
theorem dX2_order_82 : decode cX2_order 82 = .ok (.iconst 0, 1) := dk_3 (dk_at dksX2_order_3 12 rfl rfl)
theorem dX2_order_83 : decode cX2_order 83 = .ok (.istore 4, 2) := dk_54 4 (dk_at dksX2_order_3 13 rfl rfl)
theorem dX2_order_85 : decode cX2_order 85 = .ok (.iload 4, 2) := dk_21 4 (dk_at dksX2_order_3 15 rfl rfl)
theorem dX2_order_87 : decode cX2_order 87 = .ok (.aload_n 0, 1) := dk_42 (dk_at dksX2_order_3 17 rfl rfl)
theorem dX2_order_88 : decode cX2_order 88 = .ok (.getfield 96, 3) := dk_180 0 96 (dk_at dksX2_order_3 18 rfl rfl)
theorem dX2_order_91 : decode cX2_order 91 = .ok (.if_icmp .ge 37, 3) := dk_162 0 37 (dk_at dksX2_order_3 21 rfl rfl)
theorem dX2_order_94 : decode cX2_order 94 = .ok (.aload_n 0, 1) := dk_42 (dk_at dksX2_order_4 0 rfl rfl)
theorem dX2_order_95 : decode cX2_order 95 = .ok (.getfield 22, 3) := dk_180 0 22 (dk_at dksX2_order_4 1 rfl rfl)
theorem dX2_order_98 : decode cX2_order 98 = .ok (.iload 4, 2) := dk_21 4 (dk_at dksX2_order_4 4 rfl rfl)
theorem dX2_order_100 : decode cX2_order 100 = .ok (.aload_n 0, 1) := dk_42 (dk_at dksX2_order_4 6 rfl rfl)
theorem dX2_order_101 : decode cX2_order 101 = .ok (.getfield 31, 3) := dk_180 0 31 (dk_at dksX2_order_4 7 rfl rfl)
theorem dX2_order_104 : decode cX2_order 104 = .ok (.iload 4, 2) := dk_21 4 (dk_at dksX2_order_4 10 rfl rfl)
theorem dX2_order_106 : decode cX2_order 106 = .ok (.iaload, 1) := dk_46 (dk_at dksX2_order_4 12 rfl rfl)
theorem dX2_order_107 : decode cX2_order 107 = .ok (.iastore, 1) := dk_79 (dk_at dksX2_order_4 13 rfl rfl)
theorem dX2_order_108 : decode cX2_order 108 = .ok (.aload_n 0, 1) := dk_42 (dk_at dksX2_order_4 14 rfl rfl)
theorem dX2_order_109 : decode cX2_order 109 = .ok (.getfield 25, 3) := dk_180 0 25 (dk_at dksX2_order_4 15 rfl rfl)
theorem dX2_order_112 : decode cX2_order 112 = .ok (.aload_n 0, 1) := dk_42 (dk_at dksX2_order_4 18 rfl rfl)
theorem dX2_order_113 : decode cX2_order 113 = .ok (.getfield 31, 3) := dk_180 0 31 (dk_at dksX2_order_4 19 rfl rfl)
theorem dX2_order_116 : decode cX2_order 116 = .ok (.iload 4, 2) := dk_21 4 (dk_at dksX2_order_4 22 rfl rfl)
theorem dX2_order_118 : decode cX2_order 118 = .ok (.iaload, 1) := dk_46 (dk_at dksX2_order_5 0 rfl rfl)
theorem dX2_order_119 : decode cX2_order 119 = .ok (.iload 4, 2) := dk_21 4 (dk_at dksX2_order_5 1 rfl rfl)
theorem dX2_order_121 : decode cX2_order 121 = .ok (.iastore, 1) := dk_79 (dk_at dksX2_order_5 3 rfl rfl)
theorem dX2_order_122 : decode cX2_order 122 = .ok (.iinc 4 1, 3) := dk_132 4 1 (dk_at dksX2_order_5 4 rfl rfl)
theorem dX2_order_125 : decode cX2_order 125 = .ok (.goto (-40), 3) := dk_167 255 216 (dk_at dksX2_order_5 7 rfl rfl)
theorem dX2_order_128 : decode cX2_order 128 = .ok (.aload_n 0, 1) := dk_42 (dk_at dksX2_order_5 10 rfl rfl)
theorem dX2_order_129 : decode cX2_order 129 = .ok (.invokevirtual 107, 3) := dk_182 0 107 (dk_at dksX2_order_5 11 rfl rfl)
theorem dX2_order_132 : decode cX2_order 132 = .ok (.iconst 1, 1) := dk_4 (dk_at dksX2_order_5 14 rfl rfl)
theorem dX2_order_133 : decode cX2_order 133 = .ok (.ireturn, 1) := dk_172 (dk_at dksX2_order_5 15 rfl rfl)
abbrev cX2_isIn : ByteArray := prog_31_method_3_code
def yX2_isIn : MethodName := ⟨RX2, "isIn", "(II)Z"⟩
def dkwX2_isIn_0 : List UInt8 := [26, 27, 122, 4, 126, 4, 160, 0, 7, 4, 167, 0, 4, 3, 172]
abbrev dktX2_isIn_0 : List UInt8 := dkwX2_isIn_0 ++ []
theorem dksX2_isIn_0 : cX2_isIn.data.toList.drop 0 = dktX2_isIn_0 := by decide +kernel
theorem dX2_isIn_0 : decode cX2_isIn 0 = .ok (.iload_n 0, 1) := dk_26 (dk_at dksX2_isIn_0 0 rfl rfl)
theorem dX2_isIn_1 : decode cX2_isIn 1 = .ok (.iload_n 1, 1) := dk_27 (dk_at dksX2_isIn_0 1 rfl rfl)
theorem dX2_isIn_2 : decode cX2_isIn 2 = .ok (.ishr, 1) := dk_122 (dk_at dksX2_isIn_0 2 rfl rfl)
theorem dX2_isIn_3 : decode cX2_isIn 3 = .ok (.iconst 1, 1) := dk_4 (dk_at dksX2_isIn_0 3 rfl rfl)
theorem dX2_isIn_4 : decode cX2_isIn 4 = .ok (.iand, 1) := dk_126 (dk_at dksX2_isIn_0 4 rfl rfl)
theorem dX2_isIn_5 : decode cX2_isIn 5 = .ok (.iconst 1, 1) := dk_4 (dk_at dksX2_isIn_0 5 rfl rfl)
theorem dX2_isIn_6 : decode cX2_isIn 6 = .ok (.if_icmp .ne 7, 3) := dk_160 0 7 (dk_at dksX2_isIn_0 6 rfl rfl)
theorem dX2_isIn_9 : decode cX2_isIn 9 = .ok (.iconst 1, 1) := dk_4 (dk_at dksX2_isIn_0 9 rfl rfl)
theorem dX2_isIn_10 : decode cX2_isIn 10 = .ok (.goto 4, 3) := dk_167 0 4 (dk_at dksX2_isIn_0 10 rfl rfl)
theorem dX2_isIn_13 : decode cX2_isIn 13 = .ok (.iconst 0, 1) := dk_3 (dk_at dksX2_isIn_0 13 rfl rfl)
theorem dX2_isIn_14 : decode cX2_isIn 14 = .ok (.ireturn, 1) := dk_172 (dk_at dksX2_isIn_0 14 rfl rfl)
abbrev cX2_bell : ByteArray := prog_31_method_16_code
def yX2_bell : MethodName := ⟨RX2, "bell", "(I)I"⟩
def dkwX2_bell_1 : List UInt8 := [42, 182, 0, 107, 28, 172]
abbrev dktX2_bell_1 : List UInt8 := dkwX2_bell_1 ++ []
def dkwX2_bell_0 : List UInt8 := [27, 133, 9, 20, 0, 137, 184, 0, 99, 154, 0, 5, 2, 172, 42, 180, 0, 87, 61, 42, 27, 181, 0, 87]
abbrev dktX2_bell_0 : List UInt8 := dkwX2_bell_0 ++ dktX2_bell_1
theorem dksX2_bell_0 : cX2_bell.data.toList.drop 0 = dktX2_bell_0 := by decide +kernel
theorem dksX2_bell_1 : cX2_bell.data.toList.drop 24 = dktX2_bell_1 := dk_seg dksX2_bell_0 24 rfl rfl
theorem dX2_bell_0 : decode cX2_bell 0 = .ok (.iload_n 1, 1) := dk_27 (dk_at dksX2_bell_0 0 rfl rfl)
theorem dX2_bell_1 : decode cX2_bell 1 = .ok (.i2l, 1) := dk_133 (dk_at dksX2_bell_0 1 rfl rfl)
theorem dX2_bell_2 : decode cX2_bell 2 = .ok (.lconst 0, 1) := dk_9 (dk_at dksX2_bell_0 2 rfl rfl)
theorem dX2_bell_3 : decode cX2_bell 3 = .ok (.ldc2_w 137, 3) := dk_20 0 137 (dk_at dksX2_bell_0 3 rfl rfl)
theorem dX2_bell_6 : decode cX2_bell 6 = .ok (.invokestatic 99, 3) := dk_184 0 99 (dk_at dksX2_bell_0 6 rfl rfl)
theorem dX2_bell_9 : decode cX2_bell 9 = .ok (.ifCond .ne 5, 3) := dk_154 0 5 (dk_at dksX2_bell_0 9 rfl rfl)
theorem dX2_bell_12 : decode cX2_bell 12 = .ok (.iconst (-1), 1) := dk_2 (dk_at dksX2_bell_0 12 rfl rfl)
theorem dX2_bell_13 : decode cX2_bell 13 = .ok (.ireturn, 1) := dk_172 (dk_at dksX2_bell_0 13 rfl rfl)
theorem dX2_bell_14 : decode cX2_bell 14 = .ok (.aload_n 0, 1) := dk_42 (dk_at dksX2_bell_0 14 rfl rfl)
theorem dX2_bell_15 : decode cX2_bell 15 = .ok (.getfield 87, 3) := dk_180 0 87 (dk_at dksX2_bell_0 15 rfl rfl)
theorem dX2_bell_18 : decode cX2_bell 18 = .ok (.istore_n 2, 1) := dk_61 (dk_at dksX2_bell_0 18 rfl rfl)
theorem dX2_bell_19 : decode cX2_bell 19 = .ok (.aload_n 0, 1) := dk_42 (dk_at dksX2_bell_0 19 rfl rfl)
theorem dX2_bell_20 : decode cX2_bell 20 = .ok (.iload_n 1, 1) := dk_27 (dk_at dksX2_bell_0 20 rfl rfl)
theorem dX2_bell_21 : decode cX2_bell 21 = .ok (.putfield 87, 3) := dk_181 0 87 (dk_at dksX2_bell_0 21 rfl rfl)
theorem dX2_bell_24 : decode cX2_bell 24 = .ok (.aload_n 0, 1) := dk_42 (dk_at dksX2_bell_1 0 rfl rfl)
theorem dX2_bell_25 : decode cX2_bell 25 = .ok (.invokevirtual 107, 3) := dk_182 0 107 (dk_at dksX2_bell_1 1 rfl rfl)
theorem dX2_bell_28 : decode cX2_bell 28 = .ok (.iload_n 2, 1) := dk_28 (dk_at dksX2_bell_1 4 rfl rfl)
theorem dX2_bell_29 : decode cX2_bell 29 = .ok (.ireturn, 1) := dk_172 (dk_at dksX2_bell_1 5 rfl rfl)
abbrev cX2_prize : ByteArray := prog_31_method_17_code
def yX2_prize : MethodName := ⟨RX2, "prize", "(II)I"⟩
def dkwX2_prize_1 : List UInt8 := [2, 172, 42, 180, 0, 28, 27, 46, 62, 42, 180, 0, 28, 27, 28, 79, 29, 172]
abbrev dktX2_prize_1 : List UInt8 := dkwX2_prize_1 ++ []
def dkwX2_prize_0 : List UInt8 := [27, 133, 10, 20, 0, 122, 184, 0, 99, 153, 0, 15, 28, 133, 9, 20, 0, 137, 184, 0, 99, 154, 0, 5]
abbrev dktX2_prize_0 : List UInt8 := dkwX2_prize_0 ++ dktX2_prize_1
theorem dksX2_prize_0 : cX2_prize.data.toList.drop 0 = dktX2_prize_0 := by decide +kernel
theorem dksX2_prize_1 : cX2_prize.data.toList.drop 24 = dktX2_prize_1 := dk_seg dksX2_prize_0 24 rfl rfl
theorem dX2_prize_0 : decode cX2_prize 0 = .ok (.iload_n 1, 1) := dk_27 (dk_at dksX2_prize_0 0 rfl rfl)
theorem dX2_prize_1 : decode cX2_prize 1 = .ok (.i2l, 1) := dk_133 (dk_at dksX2_prize_0 1 rfl rfl)
theorem dX2_prize_2 : decode cX2_prize 2 = .ok (.lconst 1, 1) := dk_10 (dk_at dksX2_prize_0 2 rfl rfl)
theorem dX2_prize_3 : decode cX2_prize 3 = .ok (.ldc2_w 122, 3) := dk_20 0 122 (dk_at dksX2_prize_0 3 rfl rfl)
theorem dX2_prize_6 : decode cX2_prize 6 = .ok (.invokestatic 99, 3) := dk_184 0 99 (dk_at dksX2_prize_0 6 rfl rfl)
theorem dX2_prize_9 : decode cX2_prize 9 = .ok (.ifCond .eq 15, 3) := dk_153 0 15 (dk_at dksX2_prize_0 9 rfl rfl)
theorem dX2_prize_12 : decode cX2_prize 12 = .ok (.iload_n 2, 1) := dk_28 (dk_at dksX2_prize_0 12 rfl rfl)
theorem dX2_prize_13 : decode cX2_prize 13 = .ok (.i2l, 1) := dk_133 (dk_at dksX2_prize_0 13 rfl rfl)
theorem dX2_prize_14 : decode cX2_prize 14 = .ok (.lconst 0, 1) := dk_9 (dk_at dksX2_prize_0 14 rfl rfl)
theorem dX2_prize_15 : decode cX2_prize 15 = .ok (.ldc2_w 137, 3) := dk_20 0 137 (dk_at dksX2_prize_0 15 rfl rfl)
theorem dX2_prize_18 : decode cX2_prize 18 = .ok (.invokestatic 99, 3) := dk_184 0 99 (dk_at dksX2_prize_0 18 rfl rfl)
theorem dX2_prize_21 : decode cX2_prize 21 = .ok (.ifCond .ne 5, 3) := dk_154 0 5 (dk_at dksX2_prize_0 21 rfl rfl)
theorem dX2_prize_24 : decode cX2_prize 24 = .ok (.iconst (-1), 1) := dk_2 (dk_at dksX2_prize_1 0 rfl rfl)
theorem dX2_prize_25 : decode cX2_prize 25 = .ok (.ireturn, 1) := dk_172 (dk_at dksX2_prize_1 1 rfl rfl)
theorem dX2_prize_26 : decode cX2_prize 26 = .ok (.aload_n 0, 1) := dk_42 (dk_at dksX2_prize_1 2 rfl rfl)
theorem dX2_prize_27 : decode cX2_prize 27 = .ok (.getfield 28, 3) := dk_180 0 28 (dk_at dksX2_prize_1 3 rfl rfl)
theorem dX2_prize_30 : decode cX2_prize 30 = .ok (.iload_n 1, 1) := dk_27 (dk_at dksX2_prize_1 6 rfl rfl)
theorem dX2_prize_31 : decode cX2_prize 31 = .ok (.iaload, 1) := dk_46 (dk_at dksX2_prize_1 7 rfl rfl)
theorem dX2_prize_32 : decode cX2_prize 32 = .ok (.istore_n 3, 1) := dk_62 (dk_at dksX2_prize_1 8 rfl rfl)
theorem dX2_prize_33 : decode cX2_prize 33 = .ok (.aload_n 0, 1) := dk_42 (dk_at dksX2_prize_1 9 rfl rfl)
theorem dX2_prize_34 : decode cX2_prize 34 = .ok (.getfield 28, 3) := dk_180 0 28 (dk_at dksX2_prize_1 10 rfl rfl)
theorem dX2_prize_37 : decode cX2_prize 37 = .ok (.iload_n 1, 1) := dk_27 (dk_at dksX2_prize_1 13 rfl rfl)
theorem dX2_prize_38 : decode cX2_prize 38 = .ok (.iload_n 2, 1) := dk_28 (dk_at dksX2_prize_1 14 rfl rfl)
theorem dX2_prize_39 : decode cX2_prize 39 = .ok (.iastore, 1) := dk_79 (dk_at dksX2_prize_1 15 rfl rfl)
theorem dX2_prize_40 : decode cX2_prize 40 = .ok (.iload_n 3, 1) := dk_29 (dk_at dksX2_prize_1 16 rfl rfl)
theorem dX2_prize_41 : decode cX2_prize 41 = .ok (.ireturn, 1) := dk_172 (dk_at dksX2_prize_1 17 rfl rfl)
abbrev cX2_of : ByteArray := prog_31_method_18_code
def yX2_of : MethodName := ⟨RX2, "of", "(II)I"⟩
def dkwX2_of_3 : List UInt8 := [184, 0, 133, 153, 0, 7, 4, 167, 0, 4, 3, 172, 2, 172]
abbrev dktX2_of_3 : List UInt8 := dkwX2_of_3 ++ []
def dkwX2_of_2 : List UInt8 := [42, 180, 0, 9, 7, 28, 104, 27, 96, 46, 172, 42, 180, 0, 25, 27, 46, 172, 42, 180, 0, 139, 27]
abbrev dktX2_of_2 : List UInt8 := dkwX2_of_2 ++ dktX2_of_3
def dkwX2_of_1 : List UInt8 := [170, 0, 0, 0, 68, 0, 0, 0, 0, 0, 0, 0, 4, 0, 0, 0, 33, 0, 0, 0, 33, 0, 0, 0, 33, 0, 0, 0, 44, 0, 0, 0, 51]
abbrev dktX2_of_1 : List UInt8 := dkwX2_of_1 ++ dktX2_of_2
def dkwX2_of_0 : List UInt8 := [42, 27, 182, 0, 124, 154, 0, 5, 2, 172, 28]
abbrev dktX2_of_0 : List UInt8 := dkwX2_of_0 ++ dktX2_of_1
theorem dksX2_of_0 : cX2_of.data.toList.drop 0 = dktX2_of_0 := by decide +kernel
theorem dksX2_of_1 : cX2_of.data.toList.drop 11 = dktX2_of_1 := dk_seg dksX2_of_0 11 rfl rfl
theorem dksX2_of_2 : cX2_of.data.toList.drop 44 = dktX2_of_2 := dk_seg dksX2_of_1 33 rfl rfl
theorem dksX2_of_3 : cX2_of.data.toList.drop 67 = dktX2_of_3 := dk_seg dksX2_of_2 23 rfl rfl
theorem dX2_of_0 : decode cX2_of 0 = .ok (.aload_n 0, 1) := dk_42 (dk_at dksX2_of_0 0 rfl rfl)
theorem dX2_of_1 : decode cX2_of 1 = .ok (.iload_n 1, 1) := dk_27 (dk_at dksX2_of_0 1 rfl rfl)
theorem dX2_of_2 : decode cX2_of 2 = .ok (.invokevirtual 124, 3) := dk_182 0 124 (dk_at dksX2_of_0 2 rfl rfl)
theorem dX2_of_5 : decode cX2_of 5 = .ok (.ifCond .ne 5, 3) := dk_154 0 5 (dk_at dksX2_of_0 5 rfl rfl)
theorem dX2_of_8 : decode cX2_of 8 = .ok (.iconst (-1), 1) := dk_2 (dk_at dksX2_of_0 8 rfl rfl)
theorem dX2_of_9 : decode cX2_of 9 = .ok (.ireturn, 1) := dk_172 (dk_at dksX2_of_0 9 rfl rfl)
theorem dX2_of_10 : decode cX2_of 10 = .ok (.iload_n 2, 1) := dk_28 (dk_at dksX2_of_0 10 rfl rfl)
theorem dX2_of_11 : decode cX2_of 11 = .ok (.tableswitch 68 0 4 #[33, 33, 33, 44, 51], 33) := by decide +kernel
theorem dX2_of_44 : decode cX2_of 44 = .ok (.aload_n 0, 1) := dk_42 (dk_at dksX2_of_2 0 rfl rfl)
theorem dX2_of_45 : decode cX2_of 45 = .ok (.getfield 9, 3) := dk_180 0 9 (dk_at dksX2_of_2 1 rfl rfl)
theorem dX2_of_48 : decode cX2_of 48 = .ok (.iconst 4, 1) := dk_7 (dk_at dksX2_of_2 4 rfl rfl)
theorem dX2_of_49 : decode cX2_of 49 = .ok (.iload_n 2, 1) := dk_28 (dk_at dksX2_of_2 5 rfl rfl)
theorem dX2_of_50 : decode cX2_of 50 = .ok (.imul, 1) := dk_104 (dk_at dksX2_of_2 6 rfl rfl)
theorem dX2_of_51 : decode cX2_of 51 = .ok (.iload_n 1, 1) := dk_27 (dk_at dksX2_of_2 7 rfl rfl)
theorem dX2_of_52 : decode cX2_of 52 = .ok (.iadd, 1) := dk_96 (dk_at dksX2_of_2 8 rfl rfl)
theorem dX2_of_53 : decode cX2_of 53 = .ok (.iaload, 1) := dk_46 (dk_at dksX2_of_2 9 rfl rfl)
theorem dX2_of_54 : decode cX2_of 54 = .ok (.ireturn, 1) := dk_172 (dk_at dksX2_of_2 10 rfl rfl)
theorem dX2_of_55 : decode cX2_of 55 = .ok (.aload_n 0, 1) := dk_42 (dk_at dksX2_of_2 11 rfl rfl)
theorem dX2_of_56 : decode cX2_of 56 = .ok (.getfield 25, 3) := dk_180 0 25 (dk_at dksX2_of_2 12 rfl rfl)
theorem dX2_of_59 : decode cX2_of 59 = .ok (.iload_n 1, 1) := dk_27 (dk_at dksX2_of_2 15 rfl rfl)
theorem dX2_of_60 : decode cX2_of 60 = .ok (.iaload, 1) := dk_46 (dk_at dksX2_of_2 16 rfl rfl)
theorem dX2_of_61 : decode cX2_of 61 = .ok (.ireturn, 1) := dk_172 (dk_at dksX2_of_2 17 rfl rfl)
theorem dX2_of_62 : decode cX2_of 62 = .ok (.aload_n 0, 1) := dk_42 (dk_at dksX2_of_2 18 rfl rfl)
theorem dX2_of_63 : decode cX2_of 63 = .ok (.getfield 139, 3) := dk_180 0 139 (dk_at dksX2_of_2 19 rfl rfl)
theorem dX2_of_66 : decode cX2_of 66 = .ok (.iload_n 1, 1) := dk_27 (dk_at dksX2_of_2 22 rfl rfl)
theorem dX2_of_67 : decode cX2_of 67 = .ok (.invokestatic 133, 3) := dk_184 0 133 (dk_at dksX2_of_3 0 rfl rfl)
theorem dX2_of_70 : decode cX2_of 70 = .ok (.ifCond .eq 7, 3) := dk_153 0 7 (dk_at dksX2_of_3 3 rfl rfl)
theorem dX2_of_73 : decode cX2_of 73 = .ok (.iconst 1, 1) := dk_4 (dk_at dksX2_of_3 6 rfl rfl)
theorem dX2_of_74 : decode cX2_of 74 = .ok (.goto 4, 3) := dk_167 0 4 (dk_at dksX2_of_3 7 rfl rfl)
theorem dX2_of_77 : decode cX2_of 77 = .ok (.iconst 0, 1) := dk_3 (dk_at dksX2_of_3 10 rfl rfl)
theorem dX2_of_78 : decode cX2_of 78 = .ok (.ireturn, 1) := dk_172 (dk_at dksX2_of_3 11 rfl rfl)
theorem dX2_of_79 : decode cX2_of 79 = .ok (.iconst (-1), 1) := dk_2 (dk_at dksX2_of_3 12 rfl rfl)
theorem dX2_of_80 : decode cX2_of 80 = .ok (.ireturn, 1) := dk_172 (dk_at dksX2_of_3 13 rfl rfl)
abbrev cX2_feed : ByteArray := prog_31_method_19_code
def yX2_feed : MethodName := ⟨RX2, "feed", "(I)I"⟩
def dkwX2_feed_2 : List UInt8 := [180, 0, 144, 172]
abbrev dktX2_feed_2 : List UInt8 := dkwX2_feed_2 ++ []
def dkwX2_feed_1 : List UInt8 := [16, 253, 172, 42, 180, 0, 34, 42, 180, 0, 144, 27, 79, 42, 89, 180, 0, 144, 4, 96, 181, 0, 144, 42]
abbrev dktX2_feed_1 : List UInt8 := dkwX2_feed_1 ++ dktX2_feed_2
def dkwX2_feed_0 : List UInt8 := [27, 133, 9, 20, 0, 142, 184, 0, 99, 154, 0, 5, 2, 172, 42, 180, 0, 144, 16, 120, 160, 0, 6]
abbrev dktX2_feed_0 : List UInt8 := dkwX2_feed_0 ++ dktX2_feed_1
theorem dksX2_feed_0 : cX2_feed.data.toList.drop 0 = dktX2_feed_0 := by decide +kernel
theorem dksX2_feed_1 : cX2_feed.data.toList.drop 23 = dktX2_feed_1 := dk_seg dksX2_feed_0 23 rfl rfl
theorem dksX2_feed_2 : cX2_feed.data.toList.drop 47 = dktX2_feed_2 := dk_seg dksX2_feed_1 24 rfl rfl
theorem dX2_feed_0 : decode cX2_feed 0 = .ok (.iload_n 1, 1) := dk_27 (dk_at dksX2_feed_0 0 rfl rfl)
theorem dX2_feed_1 : decode cX2_feed 1 = .ok (.i2l, 1) := dk_133 (dk_at dksX2_feed_0 1 rfl rfl)
theorem dX2_feed_2 : decode cX2_feed 2 = .ok (.lconst 0, 1) := dk_9 (dk_at dksX2_feed_0 2 rfl rfl)
theorem dX2_feed_3 : decode cX2_feed 3 = .ok (.ldc2_w 142, 3) := dk_20 0 142 (dk_at dksX2_feed_0 3 rfl rfl)
theorem dX2_feed_6 : decode cX2_feed 6 = .ok (.invokestatic 99, 3) := dk_184 0 99 (dk_at dksX2_feed_0 6 rfl rfl)
theorem dX2_feed_9 : decode cX2_feed 9 = .ok (.ifCond .ne 5, 3) := dk_154 0 5 (dk_at dksX2_feed_0 9 rfl rfl)
theorem dX2_feed_12 : decode cX2_feed 12 = .ok (.iconst (-1), 1) := dk_2 (dk_at dksX2_feed_0 12 rfl rfl)
theorem dX2_feed_13 : decode cX2_feed 13 = .ok (.ireturn, 1) := dk_172 (dk_at dksX2_feed_0 13 rfl rfl)
theorem dX2_feed_14 : decode cX2_feed 14 = .ok (.aload_n 0, 1) := dk_42 (dk_at dksX2_feed_0 14 rfl rfl)
theorem dX2_feed_15 : decode cX2_feed 15 = .ok (.getfield 144, 3) := dk_180 0 144 (dk_at dksX2_feed_0 15 rfl rfl)
theorem dX2_feed_18 : decode cX2_feed 18 = .ok (.bipush 120, 2) := dk_16 120 (dk_at dksX2_feed_0 18 rfl rfl)
theorem dX2_feed_20 : decode cX2_feed 20 = .ok (.if_icmp .ne 6, 3) := dk_160 0 6 (dk_at dksX2_feed_0 20 rfl rfl)
theorem dX2_feed_23 : decode cX2_feed 23 = .ok (.bipush (-3), 2) := dk_16 253 (dk_at dksX2_feed_1 0 rfl rfl)
theorem dX2_feed_25 : decode cX2_feed 25 = .ok (.ireturn, 1) := dk_172 (dk_at dksX2_feed_1 2 rfl rfl)
theorem dX2_feed_26 : decode cX2_feed 26 = .ok (.aload_n 0, 1) := dk_42 (dk_at dksX2_feed_1 3 rfl rfl)
theorem dX2_feed_27 : decode cX2_feed 27 = .ok (.getfield 34, 3) := dk_180 0 34 (dk_at dksX2_feed_1 4 rfl rfl)
theorem dX2_feed_30 : decode cX2_feed 30 = .ok (.aload_n 0, 1) := dk_42 (dk_at dksX2_feed_1 7 rfl rfl)
theorem dX2_feed_31 : decode cX2_feed 31 = .ok (.getfield 144, 3) := dk_180 0 144 (dk_at dksX2_feed_1 8 rfl rfl)
theorem dX2_feed_34 : decode cX2_feed 34 = .ok (.iload_n 1, 1) := dk_27 (dk_at dksX2_feed_1 11 rfl rfl)
theorem dX2_feed_35 : decode cX2_feed 35 = .ok (.iastore, 1) := dk_79 (dk_at dksX2_feed_1 12 rfl rfl)
theorem dX2_feed_36 : decode cX2_feed 36 = .ok (.aload_n 0, 1) := dk_42 (dk_at dksX2_feed_1 13 rfl rfl)
theorem dX2_feed_37 : decode cX2_feed 37 = .ok (.dup, 1) := dk_89 (dk_at dksX2_feed_1 14 rfl rfl)
theorem dX2_feed_38 : decode cX2_feed 38 = .ok (.getfield 144, 3) := dk_180 0 144 (dk_at dksX2_feed_1 15 rfl rfl)
theorem dX2_feed_41 : decode cX2_feed 41 = .ok (.iconst 1, 1) := dk_4 (dk_at dksX2_feed_1 18 rfl rfl)
theorem dX2_feed_42 : decode cX2_feed 42 = .ok (.iadd, 1) := dk_96 (dk_at dksX2_feed_1 19 rfl rfl)
theorem dX2_feed_43 : decode cX2_feed 43 = .ok (.putfield 144, 3) := dk_181 0 144 (dk_at dksX2_feed_1 20 rfl rfl)
theorem dX2_feed_46 : decode cX2_feed 46 = .ok (.aload_n 0, 1) := dk_42 (dk_at dksX2_feed_1 23 rfl rfl)
theorem dX2_feed_47 : decode cX2_feed 47 = .ok (.getfield 144, 3) := dk_180 0 144 (dk_at dksX2_feed_2 0 rfl rfl)
theorem dX2_feed_50 : decode cX2_feed 50 = .ok (.ireturn, 1) := dk_172 (dk_at dksX2_feed_2 3 rfl rfl)
abbrev cX2_law : ByteArray := prog_31_method_31_code
def yX2_law : MethodName := ⟨RX2, "law", "()I"⟩
def dkwX2_law_2 : List UInt8 := [180, 0, 34, 29, 46, 79, 132, 3, 1, 167, 255, 236, 42, 28, 181, 0, 83, 4, 172]
abbrev dktX2_law_2 : List UInt8 := dkwX2_law_2 ++ []
def dkwX2_law_1 : List UInt8 := [155, 0, 11, 16, 156, 42, 180, 0, 156, 100, 172, 3, 62, 29, 28, 162, 0, 21, 42, 180, 0, 37, 29, 42]
abbrev dktX2_law_1 : List UInt8 := dkwX2_law_1 ++ dktX2_law_2
def dkwX2_law_0 : List UInt8 := [42, 2, 42, 180, 0, 144, 182, 0, 194, 60, 42, 180, 0, 144, 61, 42, 3, 181, 0, 144, 42, 180, 0, 156]
abbrev dktX2_law_0 : List UInt8 := dkwX2_law_0 ++ dktX2_law_1
theorem dksX2_law_0 : cX2_law.data.toList.drop 0 = dktX2_law_0 := by decide +kernel
theorem dksX2_law_1 : cX2_law.data.toList.drop 24 = dktX2_law_1 := dk_seg dksX2_law_0 24 rfl rfl
theorem dksX2_law_2 : cX2_law.data.toList.drop 48 = dktX2_law_2 := dk_seg dksX2_law_1 24 rfl rfl
theorem dX2_law_0 : decode cX2_law 0 = .ok (.aload_n 0, 1) := dk_42 (dk_at dksX2_law_0 0 rfl rfl)
theorem dX2_law_1 : decode cX2_law 1 = .ok (.iconst (-1), 1) := dk_2 (dk_at dksX2_law_0 1 rfl rfl)
theorem dX2_law_2 : decode cX2_law 2 = .ok (.aload_n 0, 1) := dk_42 (dk_at dksX2_law_0 2 rfl rfl)
theorem dX2_law_3 : decode cX2_law 3 = .ok (.getfield 144, 3) := dk_180 0 144 (dk_at dksX2_law_0 3 rfl rfl)
theorem dX2_law_6 : decode cX2_law 6 = .ok (.invokevirtual 194, 3) := dk_182 0 194 (dk_at dksX2_law_0 6 rfl rfl)
theorem dX2_law_9 : decode cX2_law 9 = .ok (.istore_n 1, 1) := dk_60 (dk_at dksX2_law_0 9 rfl rfl)
theorem dX2_law_10 : decode cX2_law 10 = .ok (.aload_n 0, 1) := dk_42 (dk_at dksX2_law_0 10 rfl rfl)
theorem dX2_law_11 : decode cX2_law 11 = .ok (.getfield 144, 3) := dk_180 0 144 (dk_at dksX2_law_0 11 rfl rfl)
theorem dX2_law_14 : decode cX2_law 14 = .ok (.istore_n 2, 1) := dk_61 (dk_at dksX2_law_0 14 rfl rfl)
theorem dX2_law_15 : decode cX2_law 15 = .ok (.aload_n 0, 1) := dk_42 (dk_at dksX2_law_0 15 rfl rfl)
theorem dX2_law_16 : decode cX2_law 16 = .ok (.iconst 0, 1) := dk_3 (dk_at dksX2_law_0 16 rfl rfl)
theorem dX2_law_17 : decode cX2_law 17 = .ok (.putfield 144, 3) := dk_181 0 144 (dk_at dksX2_law_0 17 rfl rfl)
theorem dX2_law_20 : decode cX2_law 20 = .ok (.aload_n 0, 1) := dk_42 (dk_at dksX2_law_0 20 rfl rfl)
theorem dX2_law_21 : decode cX2_law 21 = .ok (.getfield 156, 3) := dk_180 0 156 (dk_at dksX2_law_0 21 rfl rfl)
theorem dX2_law_24 : decode cX2_law 24 = .ok (.ifCond .lt 11, 3) := dk_155 0 11 (dk_at dksX2_law_1 0 rfl rfl)
theorem dX2_law_27 : decode cX2_law 27 = .ok (.bipush (-100), 2) := dk_16 156 (dk_at dksX2_law_1 3 rfl rfl)
theorem dX2_law_29 : decode cX2_law 29 = .ok (.aload_n 0, 1) := dk_42 (dk_at dksX2_law_1 5 rfl rfl)
theorem dX2_law_30 : decode cX2_law 30 = .ok (.getfield 156, 3) := dk_180 0 156 (dk_at dksX2_law_1 6 rfl rfl)
theorem dX2_law_33 : decode cX2_law 33 = .ok (.isub, 1) := dk_100 (dk_at dksX2_law_1 9 rfl rfl)
theorem dX2_law_34 : decode cX2_law 34 = .ok (.ireturn, 1) := dk_172 (dk_at dksX2_law_1 10 rfl rfl)
theorem dX2_law_35 : decode cX2_law 35 = .ok (.iconst 0, 1) := dk_3 (dk_at dksX2_law_1 11 rfl rfl)
theorem dX2_law_36 : decode cX2_law 36 = .ok (.istore_n 3, 1) := dk_62 (dk_at dksX2_law_1 12 rfl rfl)
theorem dX2_law_37 : decode cX2_law 37 = .ok (.iload_n 3, 1) := dk_29 (dk_at dksX2_law_1 13 rfl rfl)
theorem dX2_law_38 : decode cX2_law 38 = .ok (.iload_n 2, 1) := dk_28 (dk_at dksX2_law_1 14 rfl rfl)
theorem dX2_law_39 : decode cX2_law 39 = .ok (.if_icmp .ge 21, 3) := dk_162 0 21 (dk_at dksX2_law_1 15 rfl rfl)
theorem dX2_law_42 : decode cX2_law 42 = .ok (.aload_n 0, 1) := dk_42 (dk_at dksX2_law_1 18 rfl rfl)
theorem dX2_law_43 : decode cX2_law 43 = .ok (.getfield 37, 3) := dk_180 0 37 (dk_at dksX2_law_1 19 rfl rfl)
theorem dX2_law_46 : decode cX2_law 46 = .ok (.iload_n 3, 1) := dk_29 (dk_at dksX2_law_1 22 rfl rfl)
theorem dX2_law_47 : decode cX2_law 47 = .ok (.aload_n 0, 1) := dk_42 (dk_at dksX2_law_1 23 rfl rfl)
theorem dX2_law_48 : decode cX2_law 48 = .ok (.getfield 34, 3) := dk_180 0 34 (dk_at dksX2_law_2 0 rfl rfl)
theorem dX2_law_51 : decode cX2_law 51 = .ok (.iload_n 3, 1) := dk_29 (dk_at dksX2_law_2 3 rfl rfl)
theorem dX2_law_52 : decode cX2_law 52 = .ok (.iaload, 1) := dk_46 (dk_at dksX2_law_2 4 rfl rfl)
theorem dX2_law_53 : decode cX2_law 53 = .ok (.iastore, 1) := dk_79 (dk_at dksX2_law_2 5 rfl rfl)
theorem dX2_law_54 : decode cX2_law 54 = .ok (.iinc 3 1, 3) := dk_132 3 1 (dk_at dksX2_law_2 6 rfl rfl)
theorem dX2_law_57 : decode cX2_law 57 = .ok (.goto (-20), 3) := dk_167 255 236 (dk_at dksX2_law_2 9 rfl rfl)
theorem dX2_law_60 : decode cX2_law 60 = .ok (.aload_n 0, 1) := dk_42 (dk_at dksX2_law_2 12 rfl rfl)
theorem dX2_law_61 : decode cX2_law 61 = .ok (.iload_n 2, 1) := dk_28 (dk_at dksX2_law_2 13 rfl rfl)
theorem dX2_law_62 : decode cX2_law 62 = .ok (.putfield 83, 3) := dk_181 0 83 (dk_at dksX2_law_2 14 rfl rfl)
theorem dX2_law_65 : decode cX2_law 65 = .ok (.iconst 1, 1) := dk_4 (dk_at dksX2_law_2 17 rfl rfl)
theorem dX2_law_66 : decode cX2_law 66 = .ok (.ireturn, 1) := dk_172 (dk_at dksX2_law_2 18 rfl rfl)
abbrev cX2_workOut : ByteArray := prog_31_method_30_code
def yX2_workOut : MethodName := ⟨RX2, "workOut", "(II)I"⟩
def dkwX2_workOut_5 : List UInt8 := [180, 0, 147, 42, 180, 0, 150, 162, 0, 8, 42, 182, 0, 184, 172, 21, 4, 172]
abbrev dktX2_workOut_5 : List UInt8 := dkwX2_workOut_5 ++ []
def dkwX2_workOut_4 : List UInt8 := [21, 6, 54, 4, 42, 16, 59, 182, 0, 166, 54, 5, 167, 255, 185, 42, 180, 0, 156, 156, 0, 19, 42]
abbrev dktX2_workOut_4 : List UInt8 := dkwX2_workOut_4 ++ dktX2_workOut_5
def dkwX2_workOut_3 : List UInt8 := [182, 0, 187, 54, 6, 42, 180, 0, 156, 156, 0, 18, 21, 7, 153, 0, 13, 29, 154, 0, 9, 4, 62]
abbrev dktX2_workOut_3 : List UInt8 := dkwX2_workOut_3 ++ dktX2_workOut_4
def dkwX2_workOut_2 : List UInt8 := [54, 7, 42, 16, 63, 182, 0, 166, 153, 0, 21, 21, 6, 153, 0, 7, 4, 167, 0, 4, 3, 54, 7, 42]
abbrev dktX2_workOut_2 : List UInt8 := dkwX2_workOut_2 ++ dktX2_workOut_3
def dkwX2_workOut_1 : List UInt8 := [181, 0, 181, 3, 62, 3, 54, 4, 4, 54, 5, 21, 5, 153, 0, 72, 42, 182, 0, 187, 54, 6, 4]
abbrev dktX2_workOut_1 : List UInt8 := dkwX2_workOut_1 ++ dktX2_workOut_2
def dkwX2_workOut_0 : List UInt8 := [42, 27, 181, 0, 153, 42, 3, 181, 0, 147, 42, 28, 181, 0, 150, 42, 2, 181, 0, 156, 42, 3]
abbrev dktX2_workOut_0 : List UInt8 := dkwX2_workOut_0 ++ dktX2_workOut_1
theorem dksX2_workOut_0 : cX2_workOut.data.toList.drop 0 = dktX2_workOut_0 := by decide +kernel
theorem dksX2_workOut_1 : cX2_workOut.data.toList.drop 22 = dktX2_workOut_1 := dk_seg dksX2_workOut_0 22 rfl rfl
theorem dksX2_workOut_2 : cX2_workOut.data.toList.drop 45 = dktX2_workOut_2 := dk_seg dksX2_workOut_1 23 rfl rfl
theorem dksX2_workOut_3 : cX2_workOut.data.toList.drop 69 = dktX2_workOut_3 := dk_seg dksX2_workOut_2 24 rfl rfl
theorem dksX2_workOut_4 : cX2_workOut.data.toList.drop 92 = dktX2_workOut_4 := dk_seg dksX2_workOut_3 23 rfl rfl
theorem dksX2_workOut_5 : cX2_workOut.data.toList.drop 115 = dktX2_workOut_5 := dk_seg dksX2_workOut_4 23 rfl rfl
theorem dX2_workOut_0 : decode cX2_workOut 0 = .ok (.aload_n 0, 1) := dk_42 (dk_at dksX2_workOut_0 0 rfl rfl)
theorem dX2_workOut_1 : decode cX2_workOut 1 = .ok (.iload_n 1, 1) := dk_27 (dk_at dksX2_workOut_0 1 rfl rfl)
theorem dX2_workOut_2 : decode cX2_workOut 2 = .ok (.putfield 153, 3) := dk_181 0 153 (dk_at dksX2_workOut_0 2 rfl rfl)
theorem dX2_workOut_5 : decode cX2_workOut 5 = .ok (.aload_n 0, 1) := dk_42 (dk_at dksX2_workOut_0 5 rfl rfl)
theorem dX2_workOut_6 : decode cX2_workOut 6 = .ok (.iconst 0, 1) := dk_3 (dk_at dksX2_workOut_0 6 rfl rfl)
theorem dX2_workOut_7 : decode cX2_workOut 7 = .ok (.putfield 147, 3) := dk_181 0 147 (dk_at dksX2_workOut_0 7 rfl rfl)
theorem dX2_workOut_10 : decode cX2_workOut 10 = .ok (.aload_n 0, 1) := dk_42 (dk_at dksX2_workOut_0 10 rfl rfl)
theorem dX2_workOut_11 : decode cX2_workOut 11 = .ok (.iload_n 2, 1) := dk_28 (dk_at dksX2_workOut_0 11 rfl rfl)
theorem dX2_workOut_12 : decode cX2_workOut 12 = .ok (.putfield 150, 3) := dk_181 0 150 (dk_at dksX2_workOut_0 12 rfl rfl)
theorem dX2_workOut_15 : decode cX2_workOut 15 = .ok (.aload_n 0, 1) := dk_42 (dk_at dksX2_workOut_0 15 rfl rfl)
theorem dX2_workOut_16 : decode cX2_workOut 16 = .ok (.iconst (-1), 1) := dk_2 (dk_at dksX2_workOut_0 16 rfl rfl)
theorem dX2_workOut_17 : decode cX2_workOut 17 = .ok (.putfield 156, 3) := dk_181 0 156 (dk_at dksX2_workOut_0 17 rfl rfl)
theorem dX2_workOut_20 : decode cX2_workOut 20 = .ok (.aload_n 0, 1) := dk_42 (dk_at dksX2_workOut_0 20 rfl rfl)
theorem dX2_workOut_21 : decode cX2_workOut 21 = .ok (.iconst 0, 1) := dk_3 (dk_at dksX2_workOut_0 21 rfl rfl)
theorem dX2_workOut_22 : decode cX2_workOut 22 = .ok (.putfield 181, 3) := dk_181 0 181 (dk_at dksX2_workOut_1 0 rfl rfl)
theorem dX2_workOut_25 : decode cX2_workOut 25 = .ok (.iconst 0, 1) := dk_3 (dk_at dksX2_workOut_1 3 rfl rfl)
theorem dX2_workOut_26 : decode cX2_workOut 26 = .ok (.istore_n 3, 1) := dk_62 (dk_at dksX2_workOut_1 4 rfl rfl)
theorem dX2_workOut_27 : decode cX2_workOut 27 = .ok (.iconst 0, 1) := dk_3 (dk_at dksX2_workOut_1 5 rfl rfl)
theorem dX2_workOut_28 : decode cX2_workOut 28 = .ok (.istore 4, 2) := dk_54 4 (dk_at dksX2_workOut_1 6 rfl rfl)
theorem dX2_workOut_30 : decode cX2_workOut 30 = .ok (.iconst 1, 1) := dk_4 (dk_at dksX2_workOut_1 8 rfl rfl)
theorem dX2_workOut_31 : decode cX2_workOut 31 = .ok (.istore 5, 2) := dk_54 5 (dk_at dksX2_workOut_1 9 rfl rfl)
theorem dX2_workOut_33 : decode cX2_workOut 33 = .ok (.iload 5, 2) := dk_21 5 (dk_at dksX2_workOut_1 11 rfl rfl)
theorem dX2_workOut_35 : decode cX2_workOut 35 = .ok (.ifCond .eq 72, 3) := dk_153 0 72 (dk_at dksX2_workOut_1 13 rfl rfl)
theorem dX2_workOut_38 : decode cX2_workOut 38 = .ok (.aload_n 0, 1) := dk_42 (dk_at dksX2_workOut_1 16 rfl rfl)
theorem dX2_workOut_39 : decode cX2_workOut 39 = .ok (.invokevirtual 187, 3) := dk_182 0 187 (dk_at dksX2_workOut_1 17 rfl rfl)
theorem dX2_workOut_42 : decode cX2_workOut 42 = .ok (.istore 6, 2) := dk_54 6 (dk_at dksX2_workOut_1 20 rfl rfl)
theorem dX2_workOut_44 : decode cX2_workOut 44 = .ok (.iconst 1, 1) := dk_4 (dk_at dksX2_workOut_1 22 rfl rfl)
theorem dX2_workOut_45 : decode cX2_workOut 45 = .ok (.istore 7, 2) := dk_54 7 (dk_at dksX2_workOut_2 0 rfl rfl)
theorem dX2_workOut_47 : decode cX2_workOut 47 = .ok (.aload_n 0, 1) := dk_42 (dk_at dksX2_workOut_2 2 rfl rfl)
theorem dX2_workOut_48 : decode cX2_workOut 48 = .ok (.bipush 63, 2) := dk_16 63 (dk_at dksX2_workOut_2 3 rfl rfl)
theorem dX2_workOut_50 : decode cX2_workOut 50 = .ok (.invokevirtual 166, 3) := dk_182 0 166 (dk_at dksX2_workOut_2 5 rfl rfl)
theorem dX2_workOut_53 : decode cX2_workOut 53 = .ok (.ifCond .eq 21, 3) := dk_153 0 21 (dk_at dksX2_workOut_2 8 rfl rfl)
theorem dX2_workOut_56 : decode cX2_workOut 56 = .ok (.iload 6, 2) := dk_21 6 (dk_at dksX2_workOut_2 11 rfl rfl)
theorem dX2_workOut_58 : decode cX2_workOut 58 = .ok (.ifCond .eq 7, 3) := dk_153 0 7 (dk_at dksX2_workOut_2 13 rfl rfl)
theorem dX2_workOut_61 : decode cX2_workOut 61 = .ok (.iconst 1, 1) := dk_4 (dk_at dksX2_workOut_2 16 rfl rfl)
theorem dX2_workOut_62 : decode cX2_workOut 62 = .ok (.goto 4, 3) := dk_167 0 4 (dk_at dksX2_workOut_2 17 rfl rfl)
theorem dX2_workOut_65 : decode cX2_workOut 65 = .ok (.iconst 0, 1) := dk_3 (dk_at dksX2_workOut_2 20 rfl rfl)
theorem dX2_workOut_66 : decode cX2_workOut 66 = .ok (.istore 7, 2) := dk_54 7 (dk_at dksX2_workOut_2 21 rfl rfl)
theorem dX2_workOut_68 : decode cX2_workOut 68 = .ok (.aload_n 0, 1) := dk_42 (dk_at dksX2_workOut_2 23 rfl rfl)
theorem dX2_workOut_69 : decode cX2_workOut 69 = .ok (.invokevirtual 187, 3) := dk_182 0 187 (dk_at dksX2_workOut_3 0 rfl rfl)
theorem dX2_workOut_72 : decode cX2_workOut 72 = .ok (.istore 6, 2) := dk_54 6 (dk_at dksX2_workOut_3 3 rfl rfl)
theorem dX2_workOut_74 : decode cX2_workOut 74 = .ok (.aload_n 0, 1) := dk_42 (dk_at dksX2_workOut_3 5 rfl rfl)
theorem dX2_workOut_75 : decode cX2_workOut 75 = .ok (.getfield 156, 3) := dk_180 0 156 (dk_at dksX2_workOut_3 6 rfl rfl)
theorem dX2_workOut_78 : decode cX2_workOut 78 = .ok (.ifCond .ge 18, 3) := dk_156 0 18 (dk_at dksX2_workOut_3 9 rfl rfl)
theorem dX2_workOut_81 : decode cX2_workOut 81 = .ok (.iload 7, 2) := dk_21 7 (dk_at dksX2_workOut_3 12 rfl rfl)
theorem dX2_workOut_83 : decode cX2_workOut 83 = .ok (.ifCond .eq 13, 3) := dk_153 0 13 (dk_at dksX2_workOut_3 14 rfl rfl)
theorem dX2_workOut_86 : decode cX2_workOut 86 = .ok (.iload_n 3, 1) := dk_29 (dk_at dksX2_workOut_3 17 rfl rfl)
theorem dX2_workOut_87 : decode cX2_workOut 87 = .ok (.ifCond .ne 9, 3) := dk_154 0 9 (dk_at dksX2_workOut_3 18 rfl rfl)
theorem dX2_workOut_90 : decode cX2_workOut 90 = .ok (.iconst 1, 1) := dk_4 (dk_at dksX2_workOut_3 21 rfl rfl)
theorem dX2_workOut_91 : decode cX2_workOut 91 = .ok (.istore_n 3, 1) := dk_62 (dk_at dksX2_workOut_3 22 rfl rfl)
theorem dX2_workOut_92 : decode cX2_workOut 92 = .ok (.iload 6, 2) := dk_21 6 (dk_at dksX2_workOut_4 0 rfl rfl)
theorem dX2_workOut_94 : decode cX2_workOut 94 = .ok (.istore 4, 2) := dk_54 4 (dk_at dksX2_workOut_4 2 rfl rfl)
theorem dX2_workOut_96 : decode cX2_workOut 96 = .ok (.aload_n 0, 1) := dk_42 (dk_at dksX2_workOut_4 4 rfl rfl)
theorem dX2_workOut_97 : decode cX2_workOut 97 = .ok (.bipush 59, 2) := dk_16 59 (dk_at dksX2_workOut_4 5 rfl rfl)
theorem dX2_workOut_99 : decode cX2_workOut 99 = .ok (.invokevirtual 166, 3) := dk_182 0 166 (dk_at dksX2_workOut_4 7 rfl rfl)
theorem dX2_workOut_102 : decode cX2_workOut 102 = .ok (.istore 5, 2) := dk_54 5 (dk_at dksX2_workOut_4 10 rfl rfl)
theorem dX2_workOut_104 : decode cX2_workOut 104 = .ok (.goto (-71), 3) := dk_167 255 185 (dk_at dksX2_workOut_4 12 rfl rfl)
theorem dX2_workOut_107 : decode cX2_workOut 107 = .ok (.aload_n 0, 1) := dk_42 (dk_at dksX2_workOut_4 15 rfl rfl)
theorem dX2_workOut_108 : decode cX2_workOut 108 = .ok (.getfield 156, 3) := dk_180 0 156 (dk_at dksX2_workOut_4 16 rfl rfl)
theorem dX2_workOut_111 : decode cX2_workOut 111 = .ok (.ifCond .ge 19, 3) := dk_156 0 19 (dk_at dksX2_workOut_4 19 rfl rfl)
theorem dX2_workOut_114 : decode cX2_workOut 114 = .ok (.aload_n 0, 1) := dk_42 (dk_at dksX2_workOut_4 22 rfl rfl)
theorem dX2_workOut_115 : decode cX2_workOut 115 = .ok (.getfield 147, 3) := dk_180 0 147 (dk_at dksX2_workOut_5 0 rfl rfl)
theorem dX2_workOut_118 : decode cX2_workOut 118 = .ok (.aload_n 0, 1) := dk_42 (dk_at dksX2_workOut_5 3 rfl rfl)
theorem dX2_workOut_119 : decode cX2_workOut 119 = .ok (.getfield 150, 3) := dk_180 0 150 (dk_at dksX2_workOut_5 4 rfl rfl)
theorem dX2_workOut_122 : decode cX2_workOut 122 = .ok (.if_icmp .ge 8, 3) := dk_162 0 8 (dk_at dksX2_workOut_5 7 rfl rfl)
theorem dX2_workOut_125 : decode cX2_workOut 125 = .ok (.aload_n 0, 1) := dk_42 (dk_at dksX2_workOut_5 10 rfl rfl)
theorem dX2_workOut_126 : decode cX2_workOut 126 = .ok (.invokevirtual 184, 3) := dk_182 0 184 (dk_at dksX2_workOut_5 11 rfl rfl)
theorem dX2_workOut_129 : decode cX2_workOut 129 = .ok (.ireturn, 1) := dk_172 (dk_at dksX2_workOut_5 14 rfl rfl)
theorem dX2_workOut_130 : decode cX2_workOut 130 = .ok (.iload 4, 2) := dk_21 4 (dk_at dksX2_workOut_5 15 rfl rfl)
theorem dX2_workOut_132 : decode cX2_workOut 132 = .ok (.ireturn, 1) := dk_172 (dk_at dksX2_workOut_5 17 rfl rfl)
abbrev cX2_either : ByteArray := prog_31_method_23_code
def yX2_either : MethodName := ⟨RX2, "either", "()I"⟩
def dkwX2_either_1 : List UInt8 := [153, 0, 7, 4, 167, 0, 4, 3, 60, 167, 255, 228, 27, 172]
abbrev dktX2_either_1 : List UInt8 := dkwX2_either_1 ++ []
def dkwX2_either_0 : List UInt8 := [42, 182, 0, 163, 60, 42, 16, 124, 182, 0, 166, 153, 0, 25, 42, 182, 0, 163, 61, 27, 154, 0, 7, 28]
abbrev dktX2_either_0 : List UInt8 := dkwX2_either_0 ++ dktX2_either_1
theorem dksX2_either_0 : cX2_either.data.toList.drop 0 = dktX2_either_0 := by decide +kernel
theorem dksX2_either_1 : cX2_either.data.toList.drop 24 = dktX2_either_1 := dk_seg dksX2_either_0 24 rfl rfl
theorem dX2_either_0 : decode cX2_either 0 = .ok (.aload_n 0, 1) := dk_42 (dk_at dksX2_either_0 0 rfl rfl)
theorem dX2_either_1 : decode cX2_either 1 = .ok (.invokevirtual 163, 3) := dk_182 0 163 (dk_at dksX2_either_0 1 rfl rfl)
theorem dX2_either_4 : decode cX2_either 4 = .ok (.istore_n 1, 1) := dk_60 (dk_at dksX2_either_0 4 rfl rfl)
theorem dX2_either_5 : decode cX2_either 5 = .ok (.aload_n 0, 1) := dk_42 (dk_at dksX2_either_0 5 rfl rfl)
theorem dX2_either_6 : decode cX2_either 6 = .ok (.bipush 124, 2) := dk_16 124 (dk_at dksX2_either_0 6 rfl rfl)
theorem dX2_either_8 : decode cX2_either 8 = .ok (.invokevirtual 166, 3) := dk_182 0 166 (dk_at dksX2_either_0 8 rfl rfl)
theorem dX2_either_11 : decode cX2_either 11 = .ok (.ifCond .eq 25, 3) := dk_153 0 25 (dk_at dksX2_either_0 11 rfl rfl)
theorem dX2_either_14 : decode cX2_either 14 = .ok (.aload_n 0, 1) := dk_42 (dk_at dksX2_either_0 14 rfl rfl)
theorem dX2_either_15 : decode cX2_either 15 = .ok (.invokevirtual 163, 3) := dk_182 0 163 (dk_at dksX2_either_0 15 rfl rfl)
theorem dX2_either_18 : decode cX2_either 18 = .ok (.istore_n 2, 1) := dk_61 (dk_at dksX2_either_0 18 rfl rfl)
theorem dX2_either_19 : decode cX2_either 19 = .ok (.iload_n 1, 1) := dk_27 (dk_at dksX2_either_0 19 rfl rfl)
theorem dX2_either_20 : decode cX2_either 20 = .ok (.ifCond .ne 7, 3) := dk_154 0 7 (dk_at dksX2_either_0 20 rfl rfl)
theorem dX2_either_23 : decode cX2_either 23 = .ok (.iload_n 2, 1) := dk_28 (dk_at dksX2_either_0 23 rfl rfl)
theorem dX2_either_24 : decode cX2_either 24 = .ok (.ifCond .eq 7, 3) := dk_153 0 7 (dk_at dksX2_either_1 0 rfl rfl)
theorem dX2_either_27 : decode cX2_either 27 = .ok (.iconst 1, 1) := dk_4 (dk_at dksX2_either_1 3 rfl rfl)
theorem dX2_either_28 : decode cX2_either 28 = .ok (.goto 4, 3) := dk_167 0 4 (dk_at dksX2_either_1 4 rfl rfl)
theorem dX2_either_31 : decode cX2_either 31 = .ok (.iconst 0, 1) := dk_3 (dk_at dksX2_either_1 7 rfl rfl)
theorem dX2_either_32 : decode cX2_either 32 = .ok (.istore_n 1, 1) := dk_60 (dk_at dksX2_either_1 8 rfl rfl)
theorem dX2_either_33 : decode cX2_either 33 = .ok (.goto (-28), 3) := dk_167 255 228 (dk_at dksX2_either_1 9 rfl rfl)
theorem dX2_either_36 : decode cX2_either 36 = .ok (.iload_n 1, 1) := dk_27 (dk_at dksX2_either_1 12 rfl rfl)
theorem dX2_either_37 : decode cX2_either 37 = .ok (.ireturn, 1) := dk_172 (dk_at dksX2_either_1 13 rfl rfl)
abbrev cX2_both : ByteArray := prog_31_method_24_code
def yX2_both : MethodName := ⟨RX2, "both", "()I"⟩
def dkwX2_both_1 : List UInt8 := [153, 0, 7, 4, 167, 0, 4, 3, 60, 167, 255, 228, 27, 172]
abbrev dktX2_both_1 : List UInt8 := dkwX2_both_1 ++ []
def dkwX2_both_0 : List UInt8 := [42, 182, 0, 169, 60, 42, 16, 38, 182, 0, 166, 153, 0, 25, 42, 182, 0, 169, 61, 27, 153, 0, 11, 28]
abbrev dktX2_both_0 : List UInt8 := dkwX2_both_0 ++ dktX2_both_1
theorem dksX2_both_0 : cX2_both.data.toList.drop 0 = dktX2_both_0 := by decide +kernel
theorem dksX2_both_1 : cX2_both.data.toList.drop 24 = dktX2_both_1 := dk_seg dksX2_both_0 24 rfl rfl
theorem dX2_both_0 : decode cX2_both 0 = .ok (.aload_n 0, 1) := dk_42 (dk_at dksX2_both_0 0 rfl rfl)
theorem dX2_both_1 : decode cX2_both 1 = .ok (.invokevirtual 169, 3) := dk_182 0 169 (dk_at dksX2_both_0 1 rfl rfl)
theorem dX2_both_4 : decode cX2_both 4 = .ok (.istore_n 1, 1) := dk_60 (dk_at dksX2_both_0 4 rfl rfl)
theorem dX2_both_5 : decode cX2_both 5 = .ok (.aload_n 0, 1) := dk_42 (dk_at dksX2_both_0 5 rfl rfl)
theorem dX2_both_6 : decode cX2_both 6 = .ok (.bipush 38, 2) := dk_16 38 (dk_at dksX2_both_0 6 rfl rfl)
theorem dX2_both_8 : decode cX2_both 8 = .ok (.invokevirtual 166, 3) := dk_182 0 166 (dk_at dksX2_both_0 8 rfl rfl)
theorem dX2_both_11 : decode cX2_both 11 = .ok (.ifCond .eq 25, 3) := dk_153 0 25 (dk_at dksX2_both_0 11 rfl rfl)
theorem dX2_both_14 : decode cX2_both 14 = .ok (.aload_n 0, 1) := dk_42 (dk_at dksX2_both_0 14 rfl rfl)
theorem dX2_both_15 : decode cX2_both 15 = .ok (.invokevirtual 169, 3) := dk_182 0 169 (dk_at dksX2_both_0 15 rfl rfl)
theorem dX2_both_18 : decode cX2_both 18 = .ok (.istore_n 2, 1) := dk_61 (dk_at dksX2_both_0 18 rfl rfl)
theorem dX2_both_19 : decode cX2_both 19 = .ok (.iload_n 1, 1) := dk_27 (dk_at dksX2_both_0 19 rfl rfl)
theorem dX2_both_20 : decode cX2_both 20 = .ok (.ifCond .eq 11, 3) := dk_153 0 11 (dk_at dksX2_both_0 20 rfl rfl)
theorem dX2_both_23 : decode cX2_both 23 = .ok (.iload_n 2, 1) := dk_28 (dk_at dksX2_both_0 23 rfl rfl)
theorem dX2_both_24 : decode cX2_both 24 = .ok (.ifCond .eq 7, 3) := dk_153 0 7 (dk_at dksX2_both_1 0 rfl rfl)
theorem dX2_both_27 : decode cX2_both 27 = .ok (.iconst 1, 1) := dk_4 (dk_at dksX2_both_1 3 rfl rfl)
theorem dX2_both_28 : decode cX2_both 28 = .ok (.goto 4, 3) := dk_167 0 4 (dk_at dksX2_both_1 4 rfl rfl)
theorem dX2_both_31 : decode cX2_both 31 = .ok (.iconst 0, 1) := dk_3 (dk_at dksX2_both_1 7 rfl rfl)
theorem dX2_both_32 : decode cX2_both 32 = .ok (.istore_n 1, 1) := dk_60 (dk_at dksX2_both_1 8 rfl rfl)
theorem dX2_both_33 : decode cX2_both 33 = .ok (.goto (-28), 3) := dk_167 255 228 (dk_at dksX2_both_1 9 rfl rfl)
theorem dX2_both_36 : decode cX2_both 36 = .ok (.iload_n 1, 1) := dk_27 (dk_at dksX2_both_1 12 rfl rfl)
theorem dX2_both_37 : decode cX2_both 37 = .ok (.ireturn, 1) := dk_172 (dk_at dksX2_both_1 13 rfl rfl)
abbrev cX2_compared : ByteArray := prog_31_method_25_code
def yX2_compared : MethodName := ⟨RX2, "compared", "()I"⟩
def dkwX2_compared_3 : List UInt8 := [27, 29, 160, 0, 15, 167, 0, 8, 27, 29, 164, 0, 7, 4, 167, 0, 4, 3, 172]
abbrev dktX2_compared_3 : List UInt8 := dkwX2_compared_3 ++ []
def dkwX2_compared_2 : List UInt8 := [182, 0, 172, 62, 28, 16, 60, 160, 0, 11, 27, 29, 162, 0, 29, 167, 0, 22, 28, 16, 61, 160, 0, 11]
abbrev dktX2_compared_2 : List UInt8 := dkwX2_compared_2 ++ dktX2_compared_3
def dkwX2_compared_1 : List UInt8 := [16, 61, 159, 0, 11, 28, 16, 62, 159, 0, 5, 27, 172, 42, 89, 180, 0, 147, 4, 96, 181, 0, 147, 42]
abbrev dktX2_compared_1 : List UInt8 := dkwX2_compared_1 ++ dktX2_compared_2
def dkwX2_compared_0 : List UInt8 := [42, 182, 0, 172, 60, 42, 182, 0, 159, 61, 42, 180, 0, 156, 156, 0, 21, 28, 16, 60, 159, 0, 17, 28]
abbrev dktX2_compared_0 : List UInt8 := dkwX2_compared_0 ++ dktX2_compared_1
theorem dksX2_compared_0 : cX2_compared.data.toList.drop 0 = dktX2_compared_0 := by decide +kernel
theorem dksX2_compared_1 : cX2_compared.data.toList.drop 24 = dktX2_compared_1 := dk_seg dksX2_compared_0 24 rfl rfl
theorem dksX2_compared_2 : cX2_compared.data.toList.drop 48 = dktX2_compared_2 := dk_seg dksX2_compared_1 24 rfl rfl
theorem dksX2_compared_3 : cX2_compared.data.toList.drop 72 = dktX2_compared_3 := dk_seg dksX2_compared_2 24 rfl rfl
theorem dX2_compared_0 : decode cX2_compared 0 = .ok (.aload_n 0, 1) := dk_42 (dk_at dksX2_compared_0 0 rfl rfl)
theorem dX2_compared_1 : decode cX2_compared 1 = .ok (.invokevirtual 172, 3) := dk_182 0 172 (dk_at dksX2_compared_0 1 rfl rfl)
theorem dX2_compared_4 : decode cX2_compared 4 = .ok (.istore_n 1, 1) := dk_60 (dk_at dksX2_compared_0 4 rfl rfl)
theorem dX2_compared_5 : decode cX2_compared 5 = .ok (.aload_n 0, 1) := dk_42 (dk_at dksX2_compared_0 5 rfl rfl)
theorem dX2_compared_6 : decode cX2_compared 6 = .ok (.invokevirtual 159, 3) := dk_182 0 159 (dk_at dksX2_compared_0 6 rfl rfl)
theorem dX2_compared_9 : decode cX2_compared 9 = .ok (.istore_n 2, 1) := dk_61 (dk_at dksX2_compared_0 9 rfl rfl)
theorem dX2_compared_10 : decode cX2_compared 10 = .ok (.aload_n 0, 1) := dk_42 (dk_at dksX2_compared_0 10 rfl rfl)
theorem dX2_compared_11 : decode cX2_compared 11 = .ok (.getfield 156, 3) := dk_180 0 156 (dk_at dksX2_compared_0 11 rfl rfl)
theorem dX2_compared_14 : decode cX2_compared 14 = .ok (.ifCond .ge 21, 3) := dk_156 0 21 (dk_at dksX2_compared_0 14 rfl rfl)
theorem dX2_compared_17 : decode cX2_compared 17 = .ok (.iload_n 2, 1) := dk_28 (dk_at dksX2_compared_0 17 rfl rfl)
theorem dX2_compared_18 : decode cX2_compared 18 = .ok (.bipush 60, 2) := dk_16 60 (dk_at dksX2_compared_0 18 rfl rfl)
theorem dX2_compared_20 : decode cX2_compared 20 = .ok (.if_icmp .eq 17, 3) := dk_159 0 17 (dk_at dksX2_compared_0 20 rfl rfl)
theorem dX2_compared_23 : decode cX2_compared 23 = .ok (.iload_n 2, 1) := dk_28 (dk_at dksX2_compared_0 23 rfl rfl)
theorem dX2_compared_24 : decode cX2_compared 24 = .ok (.bipush 61, 2) := dk_16 61 (dk_at dksX2_compared_1 0 rfl rfl)
theorem dX2_compared_26 : decode cX2_compared 26 = .ok (.if_icmp .eq 11, 3) := dk_159 0 11 (dk_at dksX2_compared_1 2 rfl rfl)
theorem dX2_compared_29 : decode cX2_compared 29 = .ok (.iload_n 2, 1) := dk_28 (dk_at dksX2_compared_1 5 rfl rfl)
theorem dX2_compared_30 : decode cX2_compared 30 = .ok (.bipush 62, 2) := dk_16 62 (dk_at dksX2_compared_1 6 rfl rfl)
theorem dX2_compared_32 : decode cX2_compared 32 = .ok (.if_icmp .eq 5, 3) := dk_159 0 5 (dk_at dksX2_compared_1 8 rfl rfl)
theorem dX2_compared_35 : decode cX2_compared 35 = .ok (.iload_n 1, 1) := dk_27 (dk_at dksX2_compared_1 11 rfl rfl)
theorem dX2_compared_36 : decode cX2_compared 36 = .ok (.ireturn, 1) := dk_172 (dk_at dksX2_compared_1 12 rfl rfl)
theorem dX2_compared_37 : decode cX2_compared 37 = .ok (.aload_n 0, 1) := dk_42 (dk_at dksX2_compared_1 13 rfl rfl)
theorem dX2_compared_38 : decode cX2_compared 38 = .ok (.dup, 1) := dk_89 (dk_at dksX2_compared_1 14 rfl rfl)
theorem dX2_compared_39 : decode cX2_compared 39 = .ok (.getfield 147, 3) := dk_180 0 147 (dk_at dksX2_compared_1 15 rfl rfl)
theorem dX2_compared_42 : decode cX2_compared 42 = .ok (.iconst 1, 1) := dk_4 (dk_at dksX2_compared_1 18 rfl rfl)
theorem dX2_compared_43 : decode cX2_compared 43 = .ok (.iadd, 1) := dk_96 (dk_at dksX2_compared_1 19 rfl rfl)
theorem dX2_compared_44 : decode cX2_compared 44 = .ok (.putfield 147, 3) := dk_181 0 147 (dk_at dksX2_compared_1 20 rfl rfl)
theorem dX2_compared_47 : decode cX2_compared 47 = .ok (.aload_n 0, 1) := dk_42 (dk_at dksX2_compared_1 23 rfl rfl)
theorem dX2_compared_48 : decode cX2_compared 48 = .ok (.invokevirtual 172, 3) := dk_182 0 172 (dk_at dksX2_compared_2 0 rfl rfl)
theorem dX2_compared_51 : decode cX2_compared 51 = .ok (.istore_n 3, 1) := dk_62 (dk_at dksX2_compared_2 3 rfl rfl)
theorem dX2_compared_52 : decode cX2_compared 52 = .ok (.iload_n 2, 1) := dk_28 (dk_at dksX2_compared_2 4 rfl rfl)
theorem dX2_compared_53 : decode cX2_compared 53 = .ok (.bipush 60, 2) := dk_16 60 (dk_at dksX2_compared_2 5 rfl rfl)
theorem dX2_compared_55 : decode cX2_compared 55 = .ok (.if_icmp .ne 11, 3) := dk_160 0 11 (dk_at dksX2_compared_2 7 rfl rfl)
theorem dX2_compared_58 : decode cX2_compared 58 = .ok (.iload_n 1, 1) := dk_27 (dk_at dksX2_compared_2 10 rfl rfl)
theorem dX2_compared_59 : decode cX2_compared 59 = .ok (.iload_n 3, 1) := dk_29 (dk_at dksX2_compared_2 11 rfl rfl)
theorem dX2_compared_60 : decode cX2_compared 60 = .ok (.if_icmp .ge 29, 3) := dk_162 0 29 (dk_at dksX2_compared_2 12 rfl rfl)
theorem dX2_compared_63 : decode cX2_compared 63 = .ok (.goto 22, 3) := dk_167 0 22 (dk_at dksX2_compared_2 15 rfl rfl)
theorem dX2_compared_66 : decode cX2_compared 66 = .ok (.iload_n 2, 1) := dk_28 (dk_at dksX2_compared_2 18 rfl rfl)
theorem dX2_compared_67 : decode cX2_compared 67 = .ok (.bipush 61, 2) := dk_16 61 (dk_at dksX2_compared_2 19 rfl rfl)
theorem dX2_compared_69 : decode cX2_compared 69 = .ok (.if_icmp .ne 11, 3) := dk_160 0 11 (dk_at dksX2_compared_2 21 rfl rfl)
theorem dX2_compared_72 : decode cX2_compared 72 = .ok (.iload_n 1, 1) := dk_27 (dk_at dksX2_compared_3 0 rfl rfl)
theorem dX2_compared_73 : decode cX2_compared 73 = .ok (.iload_n 3, 1) := dk_29 (dk_at dksX2_compared_3 1 rfl rfl)
theorem dX2_compared_74 : decode cX2_compared 74 = .ok (.if_icmp .ne 15, 3) := dk_160 0 15 (dk_at dksX2_compared_3 2 rfl rfl)
theorem dX2_compared_77 : decode cX2_compared 77 = .ok (.goto 8, 3) := dk_167 0 8 (dk_at dksX2_compared_3 5 rfl rfl)
theorem dX2_compared_80 : decode cX2_compared 80 = .ok (.iload_n 1, 1) := dk_27 (dk_at dksX2_compared_3 8 rfl rfl)
theorem dX2_compared_81 : decode cX2_compared 81 = .ok (.iload_n 3, 1) := dk_29 (dk_at dksX2_compared_3 9 rfl rfl)
theorem dX2_compared_82 : decode cX2_compared 82 = .ok (.if_icmp .le 7, 3) := dk_164 0 7 (dk_at dksX2_compared_3 10 rfl rfl)
theorem dX2_compared_85 : decode cX2_compared 85 = .ok (.iconst 1, 1) := dk_4 (dk_at dksX2_compared_3 13 rfl rfl)
theorem dX2_compared_86 : decode cX2_compared 86 = .ok (.goto 4, 3) := dk_167 0 4 (dk_at dksX2_compared_3 14 rfl rfl)
theorem dX2_compared_89 : decode cX2_compared 89 = .ok (.iconst 0, 1) := dk_3 (dk_at dksX2_compared_3 17 rfl rfl)
theorem dX2_compared_90 : decode cX2_compared 90 = .ok (.ireturn, 1) := dk_172 (dk_at dksX2_compared_3 18 rfl rfl)
abbrev cX2_sums : ByteArray := prog_31_method_26_code
def yX2_sums : MethodName := ⟨RX2, "sums", "()I"⟩
def dkwX2_sums_3 : List UInt8 := [27, 29, 100, 60, 167, 255, 187, 27, 172]
abbrev dktX2_sums_3 : List UInt8 := dkwX2_sums_3 ++ []
def dkwX2_sums_2 : List UInt8 := [89, 180, 0, 147, 4, 96, 181, 0, 147, 42, 182, 0, 175, 62, 28, 153, 0, 9, 27, 29, 96, 167, 0, 6]
abbrev dktX2_sums_2 : List UInt8 := dkwX2_sums_2 ++ dktX2_sums_3
def dkwX2_sums_1 : List UInt8 := [182, 0, 159, 16, 45, 160, 0, 50, 42, 182, 0, 159, 16, 43, 160, 0, 7, 4, 167, 0, 4, 3, 61, 42]
abbrev dktX2_sums_1 : List UInt8 := dkwX2_sums_1 ++ dktX2_sums_2
def dkwX2_sums_0 : List UInt8 := [42, 182, 0, 175, 60, 42, 180, 0, 156, 156, 0, 68, 42, 182, 0, 159, 16, 43, 159, 0, 12, 42]
abbrev dktX2_sums_0 : List UInt8 := dkwX2_sums_0 ++ dktX2_sums_1
theorem dksX2_sums_0 : cX2_sums.data.toList.drop 0 = dktX2_sums_0 := by decide +kernel
theorem dksX2_sums_1 : cX2_sums.data.toList.drop 22 = dktX2_sums_1 := dk_seg dksX2_sums_0 22 rfl rfl
theorem dksX2_sums_2 : cX2_sums.data.toList.drop 46 = dktX2_sums_2 := dk_seg dksX2_sums_1 24 rfl rfl
theorem dksX2_sums_3 : cX2_sums.data.toList.drop 70 = dktX2_sums_3 := dk_seg dksX2_sums_2 24 rfl rfl
theorem dX2_sums_0 : decode cX2_sums 0 = .ok (.aload_n 0, 1) := dk_42 (dk_at dksX2_sums_0 0 rfl rfl)
theorem dX2_sums_1 : decode cX2_sums 1 = .ok (.invokevirtual 175, 3) := dk_182 0 175 (dk_at dksX2_sums_0 1 rfl rfl)
theorem dX2_sums_4 : decode cX2_sums 4 = .ok (.istore_n 1, 1) := dk_60 (dk_at dksX2_sums_0 4 rfl rfl)
theorem dX2_sums_5 : decode cX2_sums 5 = .ok (.aload_n 0, 1) := dk_42 (dk_at dksX2_sums_0 5 rfl rfl)
theorem dX2_sums_6 : decode cX2_sums 6 = .ok (.getfield 156, 3) := dk_180 0 156 (dk_at dksX2_sums_0 6 rfl rfl)
theorem dX2_sums_9 : decode cX2_sums 9 = .ok (.ifCond .ge 68, 3) := dk_156 0 68 (dk_at dksX2_sums_0 9 rfl rfl)
theorem dX2_sums_12 : decode cX2_sums 12 = .ok (.aload_n 0, 1) := dk_42 (dk_at dksX2_sums_0 12 rfl rfl)
theorem dX2_sums_13 : decode cX2_sums 13 = .ok (.invokevirtual 159, 3) := dk_182 0 159 (dk_at dksX2_sums_0 13 rfl rfl)
theorem dX2_sums_16 : decode cX2_sums 16 = .ok (.bipush 43, 2) := dk_16 43 (dk_at dksX2_sums_0 16 rfl rfl)
theorem dX2_sums_18 : decode cX2_sums 18 = .ok (.if_icmp .eq 12, 3) := dk_159 0 12 (dk_at dksX2_sums_0 18 rfl rfl)
theorem dX2_sums_21 : decode cX2_sums 21 = .ok (.aload_n 0, 1) := dk_42 (dk_at dksX2_sums_0 21 rfl rfl)
theorem dX2_sums_22 : decode cX2_sums 22 = .ok (.invokevirtual 159, 3) := dk_182 0 159 (dk_at dksX2_sums_1 0 rfl rfl)
theorem dX2_sums_25 : decode cX2_sums 25 = .ok (.bipush 45, 2) := dk_16 45 (dk_at dksX2_sums_1 3 rfl rfl)
theorem dX2_sums_27 : decode cX2_sums 27 = .ok (.if_icmp .ne 50, 3) := dk_160 0 50 (dk_at dksX2_sums_1 5 rfl rfl)
theorem dX2_sums_30 : decode cX2_sums 30 = .ok (.aload_n 0, 1) := dk_42 (dk_at dksX2_sums_1 8 rfl rfl)
theorem dX2_sums_31 : decode cX2_sums 31 = .ok (.invokevirtual 159, 3) := dk_182 0 159 (dk_at dksX2_sums_1 9 rfl rfl)
theorem dX2_sums_34 : decode cX2_sums 34 = .ok (.bipush 43, 2) := dk_16 43 (dk_at dksX2_sums_1 12 rfl rfl)
theorem dX2_sums_36 : decode cX2_sums 36 = .ok (.if_icmp .ne 7, 3) := dk_160 0 7 (dk_at dksX2_sums_1 14 rfl rfl)
theorem dX2_sums_39 : decode cX2_sums 39 = .ok (.iconst 1, 1) := dk_4 (dk_at dksX2_sums_1 17 rfl rfl)
theorem dX2_sums_40 : decode cX2_sums 40 = .ok (.goto 4, 3) := dk_167 0 4 (dk_at dksX2_sums_1 18 rfl rfl)
theorem dX2_sums_43 : decode cX2_sums 43 = .ok (.iconst 0, 1) := dk_3 (dk_at dksX2_sums_1 21 rfl rfl)
theorem dX2_sums_44 : decode cX2_sums 44 = .ok (.istore_n 2, 1) := dk_61 (dk_at dksX2_sums_1 22 rfl rfl)
theorem dX2_sums_45 : decode cX2_sums 45 = .ok (.aload_n 0, 1) := dk_42 (dk_at dksX2_sums_1 23 rfl rfl)
theorem dX2_sums_46 : decode cX2_sums 46 = .ok (.dup, 1) := dk_89 (dk_at dksX2_sums_2 0 rfl rfl)
theorem dX2_sums_47 : decode cX2_sums 47 = .ok (.getfield 147, 3) := dk_180 0 147 (dk_at dksX2_sums_2 1 rfl rfl)
theorem dX2_sums_50 : decode cX2_sums 50 = .ok (.iconst 1, 1) := dk_4 (dk_at dksX2_sums_2 4 rfl rfl)
theorem dX2_sums_51 : decode cX2_sums 51 = .ok (.iadd, 1) := dk_96 (dk_at dksX2_sums_2 5 rfl rfl)
theorem dX2_sums_52 : decode cX2_sums 52 = .ok (.putfield 147, 3) := dk_181 0 147 (dk_at dksX2_sums_2 6 rfl rfl)
theorem dX2_sums_55 : decode cX2_sums 55 = .ok (.aload_n 0, 1) := dk_42 (dk_at dksX2_sums_2 9 rfl rfl)
theorem dX2_sums_56 : decode cX2_sums 56 = .ok (.invokevirtual 175, 3) := dk_182 0 175 (dk_at dksX2_sums_2 10 rfl rfl)
theorem dX2_sums_59 : decode cX2_sums 59 = .ok (.istore_n 3, 1) := dk_62 (dk_at dksX2_sums_2 13 rfl rfl)
theorem dX2_sums_60 : decode cX2_sums 60 = .ok (.iload_n 2, 1) := dk_28 (dk_at dksX2_sums_2 14 rfl rfl)
theorem dX2_sums_61 : decode cX2_sums 61 = .ok (.ifCond .eq 9, 3) := dk_153 0 9 (dk_at dksX2_sums_2 15 rfl rfl)
theorem dX2_sums_64 : decode cX2_sums 64 = .ok (.iload_n 1, 1) := dk_27 (dk_at dksX2_sums_2 18 rfl rfl)
theorem dX2_sums_65 : decode cX2_sums 65 = .ok (.iload_n 3, 1) := dk_29 (dk_at dksX2_sums_2 19 rfl rfl)
theorem dX2_sums_66 : decode cX2_sums 66 = .ok (.iadd, 1) := dk_96 (dk_at dksX2_sums_2 20 rfl rfl)
theorem dX2_sums_67 : decode cX2_sums 67 = .ok (.goto 6, 3) := dk_167 0 6 (dk_at dksX2_sums_2 21 rfl rfl)
theorem dX2_sums_70 : decode cX2_sums 70 = .ok (.iload_n 1, 1) := dk_27 (dk_at dksX2_sums_3 0 rfl rfl)
theorem dX2_sums_71 : decode cX2_sums 71 = .ok (.iload_n 3, 1) := dk_29 (dk_at dksX2_sums_3 1 rfl rfl)
theorem dX2_sums_72 : decode cX2_sums 72 = .ok (.isub, 1) := dk_100 (dk_at dksX2_sums_3 2 rfl rfl)
theorem dX2_sums_73 : decode cX2_sums 73 = .ok (.istore_n 1, 1) := dk_60 (dk_at dksX2_sums_3 3 rfl rfl)
theorem dX2_sums_74 : decode cX2_sums 74 = .ok (.goto (-69), 3) := dk_167 255 187 (dk_at dksX2_sums_3 4 rfl rfl)
theorem dX2_sums_77 : decode cX2_sums 77 = .ok (.iload_n 1, 1) := dk_27 (dk_at dksX2_sums_3 7 rfl rfl)
theorem dX2_sums_78 : decode cX2_sums 78 = .ok (.ireturn, 1) := dk_172 (dk_at dksX2_sums_3 8 rfl rfl)
abbrev cX2_product : ByteArray := prog_31_method_27_code
def yX2_product : MethodName := ⟨RX2, "product", "()I"⟩
def dkwX2_product_4 : List UInt8 := [27, 172]
abbrev dktX2_product_4 : List UInt8 := dkwX2_product_4 ++ []
def dkwX2_product_3 : List UInt8 := [28, 16, 47, 160, 0, 9, 27, 29, 108, 167, 0, 6, 27, 29, 112, 60, 42, 182, 0, 159, 61, 167, 255, 175]
abbrev dktX2_product_3 : List UInt8 := dkwX2_product_3 ++ dktX2_product_4
def dkwX2_product_2 : List UInt8 := [182, 0, 178, 62, 28, 16, 42, 160, 0, 9, 27, 29, 104, 167, 0, 26, 29, 154, 0, 7, 3, 167, 0, 18]
abbrev dktX2_product_2 : List UInt8 := dkwX2_product_2 ++ dktX2_product_3
def dkwX2_product_1 : List UInt8 := [16, 47, 159, 0, 9, 28, 16, 37, 160, 0, 62, 42, 89, 180, 0, 147, 4, 96, 181, 0, 147, 42]
abbrev dktX2_product_1 : List UInt8 := dkwX2_product_1 ++ dktX2_product_2
def dkwX2_product_0 : List UInt8 := [42, 182, 0, 178, 60, 42, 182, 0, 159, 61, 42, 180, 0, 156, 156, 0, 80, 28, 16, 42, 159, 0, 15, 28]
abbrev dktX2_product_0 : List UInt8 := dkwX2_product_0 ++ dktX2_product_1
theorem dksX2_product_0 : cX2_product.data.toList.drop 0 = dktX2_product_0 := by decide +kernel
theorem dksX2_product_1 : cX2_product.data.toList.drop 24 = dktX2_product_1 := dk_seg dksX2_product_0 24 rfl rfl
theorem dksX2_product_2 : cX2_product.data.toList.drop 46 = dktX2_product_2 := dk_seg dksX2_product_1 22 rfl rfl
theorem dksX2_product_3 : cX2_product.data.toList.drop 70 = dktX2_product_3 := dk_seg dksX2_product_2 24 rfl rfl
theorem dksX2_product_4 : cX2_product.data.toList.drop 94 = dktX2_product_4 := dk_seg dksX2_product_3 24 rfl rfl
theorem dX2_product_0 : decode cX2_product 0 = .ok (.aload_n 0, 1) := dk_42 (dk_at dksX2_product_0 0 rfl rfl)
theorem dX2_product_1 : decode cX2_product 1 = .ok (.invokevirtual 178, 3) := dk_182 0 178 (dk_at dksX2_product_0 1 rfl rfl)
theorem dX2_product_4 : decode cX2_product 4 = .ok (.istore_n 1, 1) := dk_60 (dk_at dksX2_product_0 4 rfl rfl)
theorem dX2_product_5 : decode cX2_product 5 = .ok (.aload_n 0, 1) := dk_42 (dk_at dksX2_product_0 5 rfl rfl)
theorem dX2_product_6 : decode cX2_product 6 = .ok (.invokevirtual 159, 3) := dk_182 0 159 (dk_at dksX2_product_0 6 rfl rfl)
theorem dX2_product_9 : decode cX2_product 9 = .ok (.istore_n 2, 1) := dk_61 (dk_at dksX2_product_0 9 rfl rfl)
theorem dX2_product_10 : decode cX2_product 10 = .ok (.aload_n 0, 1) := dk_42 (dk_at dksX2_product_0 10 rfl rfl)
theorem dX2_product_11 : decode cX2_product 11 = .ok (.getfield 156, 3) := dk_180 0 156 (dk_at dksX2_product_0 11 rfl rfl)
theorem dX2_product_14 : decode cX2_product 14 = .ok (.ifCond .ge 80, 3) := dk_156 0 80 (dk_at dksX2_product_0 14 rfl rfl)
theorem dX2_product_17 : decode cX2_product 17 = .ok (.iload_n 2, 1) := dk_28 (dk_at dksX2_product_0 17 rfl rfl)
theorem dX2_product_18 : decode cX2_product 18 = .ok (.bipush 42, 2) := dk_16 42 (dk_at dksX2_product_0 18 rfl rfl)
theorem dX2_product_20 : decode cX2_product 20 = .ok (.if_icmp .eq 15, 3) := dk_159 0 15 (dk_at dksX2_product_0 20 rfl rfl)
theorem dX2_product_23 : decode cX2_product 23 = .ok (.iload_n 2, 1) := dk_28 (dk_at dksX2_product_0 23 rfl rfl)
theorem dX2_product_24 : decode cX2_product 24 = .ok (.bipush 47, 2) := dk_16 47 (dk_at dksX2_product_1 0 rfl rfl)
theorem dX2_product_26 : decode cX2_product 26 = .ok (.if_icmp .eq 9, 3) := dk_159 0 9 (dk_at dksX2_product_1 2 rfl rfl)
theorem dX2_product_29 : decode cX2_product 29 = .ok (.iload_n 2, 1) := dk_28 (dk_at dksX2_product_1 5 rfl rfl)
theorem dX2_product_30 : decode cX2_product 30 = .ok (.bipush 37, 2) := dk_16 37 (dk_at dksX2_product_1 6 rfl rfl)
theorem dX2_product_32 : decode cX2_product 32 = .ok (.if_icmp .ne 62, 3) := dk_160 0 62 (dk_at dksX2_product_1 8 rfl rfl)
theorem dX2_product_35 : decode cX2_product 35 = .ok (.aload_n 0, 1) := dk_42 (dk_at dksX2_product_1 11 rfl rfl)
theorem dX2_product_36 : decode cX2_product 36 = .ok (.dup, 1) := dk_89 (dk_at dksX2_product_1 12 rfl rfl)
theorem dX2_product_37 : decode cX2_product 37 = .ok (.getfield 147, 3) := dk_180 0 147 (dk_at dksX2_product_1 13 rfl rfl)
theorem dX2_product_40 : decode cX2_product 40 = .ok (.iconst 1, 1) := dk_4 (dk_at dksX2_product_1 16 rfl rfl)
theorem dX2_product_41 : decode cX2_product 41 = .ok (.iadd, 1) := dk_96 (dk_at dksX2_product_1 17 rfl rfl)
theorem dX2_product_42 : decode cX2_product 42 = .ok (.putfield 147, 3) := dk_181 0 147 (dk_at dksX2_product_1 18 rfl rfl)
theorem dX2_product_45 : decode cX2_product 45 = .ok (.aload_n 0, 1) := dk_42 (dk_at dksX2_product_1 21 rfl rfl)
theorem dX2_product_46 : decode cX2_product 46 = .ok (.invokevirtual 178, 3) := dk_182 0 178 (dk_at dksX2_product_2 0 rfl rfl)
theorem dX2_product_49 : decode cX2_product 49 = .ok (.istore_n 3, 1) := dk_62 (dk_at dksX2_product_2 3 rfl rfl)
theorem dX2_product_50 : decode cX2_product 50 = .ok (.iload_n 2, 1) := dk_28 (dk_at dksX2_product_2 4 rfl rfl)
theorem dX2_product_51 : decode cX2_product 51 = .ok (.bipush 42, 2) := dk_16 42 (dk_at dksX2_product_2 5 rfl rfl)
theorem dX2_product_53 : decode cX2_product 53 = .ok (.if_icmp .ne 9, 3) := dk_160 0 9 (dk_at dksX2_product_2 7 rfl rfl)
theorem dX2_product_56 : decode cX2_product 56 = .ok (.iload_n 1, 1) := dk_27 (dk_at dksX2_product_2 10 rfl rfl)
theorem dX2_product_57 : decode cX2_product 57 = .ok (.iload_n 3, 1) := dk_29 (dk_at dksX2_product_2 11 rfl rfl)
theorem dX2_product_58 : decode cX2_product 58 = .ok (.imul, 1) := dk_104 (dk_at dksX2_product_2 12 rfl rfl)
theorem dX2_product_59 : decode cX2_product 59 = .ok (.goto 26, 3) := dk_167 0 26 (dk_at dksX2_product_2 13 rfl rfl)
theorem dX2_product_62 : decode cX2_product 62 = .ok (.iload_n 3, 1) := dk_29 (dk_at dksX2_product_2 16 rfl rfl)
theorem dX2_product_63 : decode cX2_product 63 = .ok (.ifCond .ne 7, 3) := dk_154 0 7 (dk_at dksX2_product_2 17 rfl rfl)
theorem dX2_product_66 : decode cX2_product 66 = .ok (.iconst 0, 1) := dk_3 (dk_at dksX2_product_2 20 rfl rfl)
theorem dX2_product_67 : decode cX2_product 67 = .ok (.goto 18, 3) := dk_167 0 18 (dk_at dksX2_product_2 21 rfl rfl)
theorem dX2_product_70 : decode cX2_product 70 = .ok (.iload_n 2, 1) := dk_28 (dk_at dksX2_product_3 0 rfl rfl)
theorem dX2_product_71 : decode cX2_product 71 = .ok (.bipush 47, 2) := dk_16 47 (dk_at dksX2_product_3 1 rfl rfl)
theorem dX2_product_73 : decode cX2_product 73 = .ok (.if_icmp .ne 9, 3) := dk_160 0 9 (dk_at dksX2_product_3 3 rfl rfl)
theorem dX2_product_76 : decode cX2_product 76 = .ok (.iload_n 1, 1) := dk_27 (dk_at dksX2_product_3 6 rfl rfl)
theorem dX2_product_77 : decode cX2_product 77 = .ok (.iload_n 3, 1) := dk_29 (dk_at dksX2_product_3 7 rfl rfl)
theorem dX2_product_78 : decode cX2_product 78 = .ok (.idiv, 1) := dk_108 (dk_at dksX2_product_3 8 rfl rfl)
theorem dX2_product_79 : decode cX2_product 79 = .ok (.goto 6, 3) := dk_167 0 6 (dk_at dksX2_product_3 9 rfl rfl)
theorem dX2_product_82 : decode cX2_product 82 = .ok (.iload_n 1, 1) := dk_27 (dk_at dksX2_product_3 12 rfl rfl)
theorem dX2_product_83 : decode cX2_product 83 = .ok (.iload_n 3, 1) := dk_29 (dk_at dksX2_product_3 13 rfl rfl)
theorem dX2_product_84 : decode cX2_product 84 = .ok (.irem, 1) := dk_112 (dk_at dksX2_product_3 14 rfl rfl)
theorem dX2_product_85 : decode cX2_product 85 = .ok (.istore_n 1, 1) := dk_60 (dk_at dksX2_product_3 15 rfl rfl)
theorem dX2_product_86 : decode cX2_product 86 = .ok (.aload_n 0, 1) := dk_42 (dk_at dksX2_product_3 16 rfl rfl)
theorem dX2_product_87 : decode cX2_product 87 = .ok (.invokevirtual 159, 3) := dk_182 0 159 (dk_at dksX2_product_3 17 rfl rfl)
theorem dX2_product_90 : decode cX2_product 90 = .ok (.istore_n 2, 1) := dk_61 (dk_at dksX2_product_3 20 rfl rfl)
theorem dX2_product_91 : decode cX2_product 91 = .ok (.goto (-81), 3) := dk_167 255 175 (dk_at dksX2_product_3 21 rfl rfl)
theorem dX2_product_94 : decode cX2_product 94 = .ok (.iload_n 1, 1) := dk_27 (dk_at dksX2_product_4 0 rfl rfl)
theorem dX2_product_95 : decode cX2_product 95 = .ok (.ireturn, 1) := dk_172 (dk_at dksX2_product_4 1 rfl rfl)
abbrev cX2_one : ByteArray := prog_31_method_29_code
def yX2_one : MethodName := ⟨RX2, "one", "()I"⟩
def dkwX2_one_10 : List UInt8 := [182, 0, 184, 167, 0, 4, 29, 172]
abbrev dktX2_one_10 : List UInt8 := dkwX2_one_10 ++ []
def dkwX2_one_9 : List UInt8 := [62, 132, 4, 1, 42, 89, 180, 0, 147, 4, 96, 181, 0, 147, 167, 255, 206, 21, 4, 154, 0, 10, 42]
abbrev dktX2_one_9 : List UInt8 := dkwX2_one_9 ++ dktX2_one_10
def dkwX2_one_8 : List UInt8 := [161, 0, 41, 42, 182, 0, 159, 16, 57, 163, 0, 32, 16, 10, 29, 104, 42, 182, 0, 159, 96, 16, 48, 100]
abbrev dktX2_one_8 : List UInt8 := dkwX2_one_8 ++ dktX2_one_9
def dkwX2_one_7 : List UInt8 := [42, 180, 0, 40, 28, 46, 172, 3, 62, 3, 54, 4, 21, 4, 7, 162, 0, 50, 42, 182, 0, 159, 16, 48]
abbrev dktX2_one_7 : List UInt8 := dkwX2_one_7 ++ dktX2_one_8
def dkwX2_one_6 : List UInt8 := [167, 0, 4, 3, 172, 27, 184, 0, 190, 61, 28, 155, 0, 20, 42, 89, 180, 0, 147, 4, 96, 181, 0, 147]
abbrev dktX2_one_6 : List UInt8 := dkwX2_one_6 ++ dktX2_one_7
def dkwX2_one_5 : List UInt8 := [160, 0, 7, 28, 167, 0, 23, 27, 16, 45, 160, 0, 8, 28, 116, 167, 0, 12, 28, 154, 0, 7, 4]
abbrev dktX2_one_5 : List UInt8 := dkwX2_one_5 ++ dktX2_one_6
def dkwX2_one_4 : List UInt8 := [182, 0, 166, 154, 0, 8, 42, 182, 0, 184, 172, 42, 89, 180, 0, 181, 4, 100, 181, 0, 181, 27, 16, 40]
abbrev dktX2_one_4 : List UInt8 := dkwX2_one_4 ++ dktX2_one_5
def dkwX2_one_3 : List UInt8 := [160, 0, 10, 42, 182, 0, 187, 167, 0, 7, 42, 182, 0, 178, 61, 27, 16, 40, 160, 0, 17, 42, 16, 41]
abbrev dktX2_one_3 : List UInt8 := dkwX2_one_3 ++ dktX2_one_4
def dkwX2_one_2 : List UInt8 := [89, 180, 0, 181, 4, 96, 181, 0, 181, 42, 89, 180, 0, 147, 4, 96, 181, 0, 147, 27, 16, 40]
abbrev dktX2_one_2 : List UInt8 := dkwX2_one_2 ++ dktX2_one_3
def dkwX2_one_1 : List UInt8 := [159, 0, 9, 27, 16, 40, 160, 0, 116, 42, 180, 0, 181, 16, 6, 160, 0, 8, 42, 182, 0, 184, 172, 42]
abbrev dktX2_one_1 : List UInt8 := dkwX2_one_1 ++ dktX2_one_2
def dkwX2_one_0 : List UInt8 := [42, 180, 0, 156, 155, 0, 5, 3, 172, 42, 182, 0, 159, 60, 27, 16, 33, 159, 0, 15, 27, 16, 45]
abbrev dktX2_one_0 : List UInt8 := dkwX2_one_0 ++ dktX2_one_1
theorem dksX2_one_0 : cX2_one.data.toList.drop 0 = dktX2_one_0 := by decide +kernel
theorem dksX2_one_1 : cX2_one.data.toList.drop 23 = dktX2_one_1 := dk_seg dksX2_one_0 23 rfl rfl
theorem dksX2_one_2 : cX2_one.data.toList.drop 47 = dktX2_one_2 := dk_seg dksX2_one_1 24 rfl rfl
theorem dksX2_one_3 : cX2_one.data.toList.drop 69 = dktX2_one_3 := dk_seg dksX2_one_2 22 rfl rfl
theorem dksX2_one_4 : cX2_one.data.toList.drop 93 = dktX2_one_4 := dk_seg dksX2_one_3 24 rfl rfl
theorem dksX2_one_5 : cX2_one.data.toList.drop 117 = dktX2_one_5 := dk_seg dksX2_one_4 24 rfl rfl
theorem dksX2_one_6 : cX2_one.data.toList.drop 140 = dktX2_one_6 := dk_seg dksX2_one_5 23 rfl rfl
theorem dksX2_one_7 : cX2_one.data.toList.drop 164 = dktX2_one_7 := dk_seg dksX2_one_6 24 rfl rfl
theorem dksX2_one_8 : cX2_one.data.toList.drop 188 = dktX2_one_8 := dk_seg dksX2_one_7 24 rfl rfl
theorem dksX2_one_9 : cX2_one.data.toList.drop 212 = dktX2_one_9 := dk_seg dksX2_one_8 24 rfl rfl
theorem dksX2_one_10 : cX2_one.data.toList.drop 235 = dktX2_one_10 := dk_seg dksX2_one_9 23 rfl rfl
theorem dX2_one_0 : decode cX2_one 0 = .ok (.aload_n 0, 1) := dk_42 (dk_at dksX2_one_0 0 rfl rfl)
theorem dX2_one_1 : decode cX2_one 1 = .ok (.getfield 156, 3) := dk_180 0 156 (dk_at dksX2_one_0 1 rfl rfl)
theorem dX2_one_4 : decode cX2_one 4 = .ok (.ifCond .lt 5, 3) := dk_155 0 5 (dk_at dksX2_one_0 4 rfl rfl)
theorem dX2_one_7 : decode cX2_one 7 = .ok (.iconst 0, 1) := dk_3 (dk_at dksX2_one_0 7 rfl rfl)
theorem dX2_one_8 : decode cX2_one 8 = .ok (.ireturn, 1) := dk_172 (dk_at dksX2_one_0 8 rfl rfl)
theorem dX2_one_9 : decode cX2_one 9 = .ok (.aload_n 0, 1) := dk_42 (dk_at dksX2_one_0 9 rfl rfl)
theorem dX2_one_10 : decode cX2_one 10 = .ok (.invokevirtual 159, 3) := dk_182 0 159 (dk_at dksX2_one_0 10 rfl rfl)
theorem dX2_one_13 : decode cX2_one 13 = .ok (.istore_n 1, 1) := dk_60 (dk_at dksX2_one_0 13 rfl rfl)
theorem dX2_one_14 : decode cX2_one 14 = .ok (.iload_n 1, 1) := dk_27 (dk_at dksX2_one_0 14 rfl rfl)
theorem dX2_one_15 : decode cX2_one 15 = .ok (.bipush 33, 2) := dk_16 33 (dk_at dksX2_one_0 15 rfl rfl)
theorem dX2_one_17 : decode cX2_one 17 = .ok (.if_icmp .eq 15, 3) := dk_159 0 15 (dk_at dksX2_one_0 17 rfl rfl)
theorem dX2_one_20 : decode cX2_one 20 = .ok (.iload_n 1, 1) := dk_27 (dk_at dksX2_one_0 20 rfl rfl)
theorem dX2_one_21 : decode cX2_one 21 = .ok (.bipush 45, 2) := dk_16 45 (dk_at dksX2_one_0 21 rfl rfl)
theorem dX2_one_23 : decode cX2_one 23 = .ok (.if_icmp .eq 9, 3) := dk_159 0 9 (dk_at dksX2_one_1 0 rfl rfl)
theorem dX2_one_26 : decode cX2_one 26 = .ok (.iload_n 1, 1) := dk_27 (dk_at dksX2_one_1 3 rfl rfl)
theorem dX2_one_27 : decode cX2_one 27 = .ok (.bipush 40, 2) := dk_16 40 (dk_at dksX2_one_1 4 rfl rfl)
theorem dX2_one_29 : decode cX2_one 29 = .ok (.if_icmp .ne 116, 3) := dk_160 0 116 (dk_at dksX2_one_1 6 rfl rfl)
theorem dX2_one_32 : decode cX2_one 32 = .ok (.aload_n 0, 1) := dk_42 (dk_at dksX2_one_1 9 rfl rfl)
theorem dX2_one_33 : decode cX2_one 33 = .ok (.getfield 181, 3) := dk_180 0 181 (dk_at dksX2_one_1 10 rfl rfl)
theorem dX2_one_36 : decode cX2_one 36 = .ok (.bipush 6, 2) := dk_16 6 (dk_at dksX2_one_1 13 rfl rfl)
theorem dX2_one_38 : decode cX2_one 38 = .ok (.if_icmp .ne 8, 3) := dk_160 0 8 (dk_at dksX2_one_1 15 rfl rfl)
theorem dX2_one_41 : decode cX2_one 41 = .ok (.aload_n 0, 1) := dk_42 (dk_at dksX2_one_1 18 rfl rfl)
theorem dX2_one_42 : decode cX2_one 42 = .ok (.invokevirtual 184, 3) := dk_182 0 184 (dk_at dksX2_one_1 19 rfl rfl)
theorem dX2_one_45 : decode cX2_one 45 = .ok (.ireturn, 1) := dk_172 (dk_at dksX2_one_1 22 rfl rfl)
theorem dX2_one_46 : decode cX2_one 46 = .ok (.aload_n 0, 1) := dk_42 (dk_at dksX2_one_1 23 rfl rfl)
theorem dX2_one_47 : decode cX2_one 47 = .ok (.dup, 1) := dk_89 (dk_at dksX2_one_2 0 rfl rfl)
theorem dX2_one_48 : decode cX2_one 48 = .ok (.getfield 181, 3) := dk_180 0 181 (dk_at dksX2_one_2 1 rfl rfl)
theorem dX2_one_51 : decode cX2_one 51 = .ok (.iconst 1, 1) := dk_4 (dk_at dksX2_one_2 4 rfl rfl)
theorem dX2_one_52 : decode cX2_one 52 = .ok (.iadd, 1) := dk_96 (dk_at dksX2_one_2 5 rfl rfl)
theorem dX2_one_53 : decode cX2_one 53 = .ok (.putfield 181, 3) := dk_181 0 181 (dk_at dksX2_one_2 6 rfl rfl)
theorem dX2_one_56 : decode cX2_one 56 = .ok (.aload_n 0, 1) := dk_42 (dk_at dksX2_one_2 9 rfl rfl)
theorem dX2_one_57 : decode cX2_one 57 = .ok (.dup, 1) := dk_89 (dk_at dksX2_one_2 10 rfl rfl)
theorem dX2_one_58 : decode cX2_one 58 = .ok (.getfield 147, 3) := dk_180 0 147 (dk_at dksX2_one_2 11 rfl rfl)
theorem dX2_one_61 : decode cX2_one 61 = .ok (.iconst 1, 1) := dk_4 (dk_at dksX2_one_2 14 rfl rfl)
theorem dX2_one_62 : decode cX2_one 62 = .ok (.iadd, 1) := dk_96 (dk_at dksX2_one_2 15 rfl rfl)
theorem dX2_one_63 : decode cX2_one 63 = .ok (.putfield 147, 3) := dk_181 0 147 (dk_at dksX2_one_2 16 rfl rfl)
theorem dX2_one_66 : decode cX2_one 66 = .ok (.iload_n 1, 1) := dk_27 (dk_at dksX2_one_2 19 rfl rfl)
theorem dX2_one_67 : decode cX2_one 67 = .ok (.bipush 40, 2) := dk_16 40 (dk_at dksX2_one_2 20 rfl rfl)
theorem dX2_one_69 : decode cX2_one 69 = .ok (.if_icmp .ne 10, 3) := dk_160 0 10 (dk_at dksX2_one_3 0 rfl rfl)
theorem dX2_one_72 : decode cX2_one 72 = .ok (.aload_n 0, 1) := dk_42 (dk_at dksX2_one_3 3 rfl rfl)
theorem dX2_one_73 : decode cX2_one 73 = .ok (.invokevirtual 187, 3) := dk_182 0 187 (dk_at dksX2_one_3 4 rfl rfl)
theorem dX2_one_76 : decode cX2_one 76 = .ok (.goto 7, 3) := dk_167 0 7 (dk_at dksX2_one_3 7 rfl rfl)
theorem dX2_one_79 : decode cX2_one 79 = .ok (.aload_n 0, 1) := dk_42 (dk_at dksX2_one_3 10 rfl rfl)
theorem dX2_one_80 : decode cX2_one 80 = .ok (.invokevirtual 178, 3) := dk_182 0 178 (dk_at dksX2_one_3 11 rfl rfl)
theorem dX2_one_83 : decode cX2_one 83 = .ok (.istore_n 2, 1) := dk_61 (dk_at dksX2_one_3 14 rfl rfl)
theorem dX2_one_84 : decode cX2_one 84 = .ok (.iload_n 1, 1) := dk_27 (dk_at dksX2_one_3 15 rfl rfl)
theorem dX2_one_85 : decode cX2_one 85 = .ok (.bipush 40, 2) := dk_16 40 (dk_at dksX2_one_3 16 rfl rfl)
theorem dX2_one_87 : decode cX2_one 87 = .ok (.if_icmp .ne 17, 3) := dk_160 0 17 (dk_at dksX2_one_3 18 rfl rfl)
theorem dX2_one_90 : decode cX2_one 90 = .ok (.aload_n 0, 1) := dk_42 (dk_at dksX2_one_3 21 rfl rfl)
theorem dX2_one_91 : decode cX2_one 91 = .ok (.bipush 41, 2) := dk_16 41 (dk_at dksX2_one_3 22 rfl rfl)
theorem dX2_one_93 : decode cX2_one 93 = .ok (.invokevirtual 166, 3) := dk_182 0 166 (dk_at dksX2_one_4 0 rfl rfl)
theorem dX2_one_96 : decode cX2_one 96 = .ok (.ifCond .ne 8, 3) := dk_154 0 8 (dk_at dksX2_one_4 3 rfl rfl)
theorem dX2_one_99 : decode cX2_one 99 = .ok (.aload_n 0, 1) := dk_42 (dk_at dksX2_one_4 6 rfl rfl)
theorem dX2_one_100 : decode cX2_one 100 = .ok (.invokevirtual 184, 3) := dk_182 0 184 (dk_at dksX2_one_4 7 rfl rfl)
theorem dX2_one_103 : decode cX2_one 103 = .ok (.ireturn, 1) := dk_172 (dk_at dksX2_one_4 10 rfl rfl)
theorem dX2_one_104 : decode cX2_one 104 = .ok (.aload_n 0, 1) := dk_42 (dk_at dksX2_one_4 11 rfl rfl)
theorem dX2_one_105 : decode cX2_one 105 = .ok (.dup, 1) := dk_89 (dk_at dksX2_one_4 12 rfl rfl)
theorem dX2_one_106 : decode cX2_one 106 = .ok (.getfield 181, 3) := dk_180 0 181 (dk_at dksX2_one_4 13 rfl rfl)
theorem dX2_one_109 : decode cX2_one 109 = .ok (.iconst 1, 1) := dk_4 (dk_at dksX2_one_4 16 rfl rfl)
theorem dX2_one_110 : decode cX2_one 110 = .ok (.isub, 1) := dk_100 (dk_at dksX2_one_4 17 rfl rfl)
theorem dX2_one_111 : decode cX2_one 111 = .ok (.putfield 181, 3) := dk_181 0 181 (dk_at dksX2_one_4 18 rfl rfl)
theorem dX2_one_114 : decode cX2_one 114 = .ok (.iload_n 1, 1) := dk_27 (dk_at dksX2_one_4 21 rfl rfl)
theorem dX2_one_115 : decode cX2_one 115 = .ok (.bipush 40, 2) := dk_16 40 (dk_at dksX2_one_4 22 rfl rfl)
theorem dX2_one_117 : decode cX2_one 117 = .ok (.if_icmp .ne 7, 3) := dk_160 0 7 (dk_at dksX2_one_5 0 rfl rfl)
theorem dX2_one_120 : decode cX2_one 120 = .ok (.iload_n 2, 1) := dk_28 (dk_at dksX2_one_5 3 rfl rfl)
theorem dX2_one_121 : decode cX2_one 121 = .ok (.goto 23, 3) := dk_167 0 23 (dk_at dksX2_one_5 4 rfl rfl)
theorem dX2_one_124 : decode cX2_one 124 = .ok (.iload_n 1, 1) := dk_27 (dk_at dksX2_one_5 7 rfl rfl)
theorem dX2_one_125 : decode cX2_one 125 = .ok (.bipush 45, 2) := dk_16 45 (dk_at dksX2_one_5 8 rfl rfl)
theorem dX2_one_127 : decode cX2_one 127 = .ok (.if_icmp .ne 8, 3) := dk_160 0 8 (dk_at dksX2_one_5 10 rfl rfl)
theorem dX2_one_130 : decode cX2_one 130 = .ok (.iload_n 2, 1) := dk_28 (dk_at dksX2_one_5 13 rfl rfl)
theorem dX2_one_131 : decode cX2_one 131 = .ok (.ineg, 1) := dk_116 (dk_at dksX2_one_5 14 rfl rfl)
theorem dX2_one_132 : decode cX2_one 132 = .ok (.goto 12, 3) := dk_167 0 12 (dk_at dksX2_one_5 15 rfl rfl)
theorem dX2_one_135 : decode cX2_one 135 = .ok (.iload_n 2, 1) := dk_28 (dk_at dksX2_one_5 18 rfl rfl)
theorem dX2_one_136 : decode cX2_one 136 = .ok (.ifCond .ne 7, 3) := dk_154 0 7 (dk_at dksX2_one_5 19 rfl rfl)
theorem dX2_one_139 : decode cX2_one 139 = .ok (.iconst 1, 1) := dk_4 (dk_at dksX2_one_5 22 rfl rfl)
theorem dX2_one_140 : decode cX2_one 140 = .ok (.goto 4, 3) := dk_167 0 4 (dk_at dksX2_one_6 0 rfl rfl)
theorem dX2_one_143 : decode cX2_one 143 = .ok (.iconst 0, 1) := dk_3 (dk_at dksX2_one_6 3 rfl rfl)
theorem dX2_one_144 : decode cX2_one 144 = .ok (.ireturn, 1) := dk_172 (dk_at dksX2_one_6 4 rfl rfl)
theorem dX2_one_145 : decode cX2_one 145 = .ok (.iload_n 1, 1) := dk_27 (dk_at dksX2_one_6 5 rfl rfl)
theorem dX2_one_146 : decode cX2_one 146 = .ok (.invokestatic 190, 3) := dk_184 0 190 (dk_at dksX2_one_6 6 rfl rfl)
theorem dX2_one_149 : decode cX2_one 149 = .ok (.istore_n 2, 1) := dk_61 (dk_at dksX2_one_6 9 rfl rfl)
theorem dX2_one_150 : decode cX2_one 150 = .ok (.iload_n 2, 1) := dk_28 (dk_at dksX2_one_6 10 rfl rfl)
theorem dX2_one_151 : decode cX2_one 151 = .ok (.ifCond .lt 20, 3) := dk_155 0 20 (dk_at dksX2_one_6 11 rfl rfl)
theorem dX2_one_154 : decode cX2_one 154 = .ok (.aload_n 0, 1) := dk_42 (dk_at dksX2_one_6 14 rfl rfl)
theorem dX2_one_155 : decode cX2_one 155 = .ok (.dup, 1) := dk_89 (dk_at dksX2_one_6 15 rfl rfl)
theorem dX2_one_156 : decode cX2_one 156 = .ok (.getfield 147, 3) := dk_180 0 147 (dk_at dksX2_one_6 16 rfl rfl)
theorem dX2_one_159 : decode cX2_one 159 = .ok (.iconst 1, 1) := dk_4 (dk_at dksX2_one_6 19 rfl rfl)
theorem dX2_one_160 : decode cX2_one 160 = .ok (.iadd, 1) := dk_96 (dk_at dksX2_one_6 20 rfl rfl)
theorem dX2_one_161 : decode cX2_one 161 = .ok (.putfield 147, 3) := dk_181 0 147 (dk_at dksX2_one_6 21 rfl rfl)
theorem dX2_one_164 : decode cX2_one 164 = .ok (.aload_n 0, 1) := dk_42 (dk_at dksX2_one_7 0 rfl rfl)
theorem dX2_one_165 : decode cX2_one 165 = .ok (.getfield 40, 3) := dk_180 0 40 (dk_at dksX2_one_7 1 rfl rfl)
theorem dX2_one_168 : decode cX2_one 168 = .ok (.iload_n 2, 1) := dk_28 (dk_at dksX2_one_7 4 rfl rfl)
theorem dX2_one_169 : decode cX2_one 169 = .ok (.iaload, 1) := dk_46 (dk_at dksX2_one_7 5 rfl rfl)
theorem dX2_one_170 : decode cX2_one 170 = .ok (.ireturn, 1) := dk_172 (dk_at dksX2_one_7 6 rfl rfl)
theorem dX2_one_171 : decode cX2_one 171 = .ok (.iconst 0, 1) := dk_3 (dk_at dksX2_one_7 7 rfl rfl)
theorem dX2_one_172 : decode cX2_one 172 = .ok (.istore_n 3, 1) := dk_62 (dk_at dksX2_one_7 8 rfl rfl)
theorem dX2_one_173 : decode cX2_one 173 = .ok (.iconst 0, 1) := dk_3 (dk_at dksX2_one_7 9 rfl rfl)
theorem dX2_one_174 : decode cX2_one 174 = .ok (.istore 4, 2) := dk_54 4 (dk_at dksX2_one_7 10 rfl rfl)
theorem dX2_one_176 : decode cX2_one 176 = .ok (.iload 4, 2) := dk_21 4 (dk_at dksX2_one_7 12 rfl rfl)
theorem dX2_one_178 : decode cX2_one 178 = .ok (.iconst 4, 1) := dk_7 (dk_at dksX2_one_7 14 rfl rfl)
theorem dX2_one_179 : decode cX2_one 179 = .ok (.if_icmp .ge 50, 3) := dk_162 0 50 (dk_at dksX2_one_7 15 rfl rfl)
theorem dX2_one_182 : decode cX2_one 182 = .ok (.aload_n 0, 1) := dk_42 (dk_at dksX2_one_7 18 rfl rfl)
theorem dX2_one_183 : decode cX2_one 183 = .ok (.invokevirtual 159, 3) := dk_182 0 159 (dk_at dksX2_one_7 19 rfl rfl)
theorem dX2_one_186 : decode cX2_one 186 = .ok (.bipush 48, 2) := dk_16 48 (dk_at dksX2_one_7 22 rfl rfl)
theorem dX2_one_188 : decode cX2_one 188 = .ok (.if_icmp .lt 41, 3) := dk_161 0 41 (dk_at dksX2_one_8 0 rfl rfl)
theorem dX2_one_191 : decode cX2_one 191 = .ok (.aload_n 0, 1) := dk_42 (dk_at dksX2_one_8 3 rfl rfl)
theorem dX2_one_192 : decode cX2_one 192 = .ok (.invokevirtual 159, 3) := dk_182 0 159 (dk_at dksX2_one_8 4 rfl rfl)
theorem dX2_one_195 : decode cX2_one 195 = .ok (.bipush 57, 2) := dk_16 57 (dk_at dksX2_one_8 7 rfl rfl)
theorem dX2_one_197 : decode cX2_one 197 = .ok (.if_icmp .gt 32, 3) := dk_163 0 32 (dk_at dksX2_one_8 9 rfl rfl)
theorem dX2_one_200 : decode cX2_one 200 = .ok (.bipush 10, 2) := dk_16 10 (dk_at dksX2_one_8 12 rfl rfl)
theorem dX2_one_202 : decode cX2_one 202 = .ok (.iload_n 3, 1) := dk_29 (dk_at dksX2_one_8 14 rfl rfl)
theorem dX2_one_203 : decode cX2_one 203 = .ok (.imul, 1) := dk_104 (dk_at dksX2_one_8 15 rfl rfl)
theorem dX2_one_204 : decode cX2_one 204 = .ok (.aload_n 0, 1) := dk_42 (dk_at dksX2_one_8 16 rfl rfl)
theorem dX2_one_205 : decode cX2_one 205 = .ok (.invokevirtual 159, 3) := dk_182 0 159 (dk_at dksX2_one_8 17 rfl rfl)
theorem dX2_one_208 : decode cX2_one 208 = .ok (.iadd, 1) := dk_96 (dk_at dksX2_one_8 20 rfl rfl)
theorem dX2_one_209 : decode cX2_one 209 = .ok (.bipush 48, 2) := dk_16 48 (dk_at dksX2_one_8 21 rfl rfl)
theorem dX2_one_211 : decode cX2_one 211 = .ok (.isub, 1) := dk_100 (dk_at dksX2_one_8 23 rfl rfl)
theorem dX2_one_212 : decode cX2_one 212 = .ok (.istore_n 3, 1) := dk_62 (dk_at dksX2_one_9 0 rfl rfl)
theorem dX2_one_213 : decode cX2_one 213 = .ok (.iinc 4 1, 3) := dk_132 4 1 (dk_at dksX2_one_9 1 rfl rfl)
theorem dX2_one_216 : decode cX2_one 216 = .ok (.aload_n 0, 1) := dk_42 (dk_at dksX2_one_9 4 rfl rfl)
theorem dX2_one_217 : decode cX2_one 217 = .ok (.dup, 1) := dk_89 (dk_at dksX2_one_9 5 rfl rfl)
theorem dX2_one_218 : decode cX2_one 218 = .ok (.getfield 147, 3) := dk_180 0 147 (dk_at dksX2_one_9 6 rfl rfl)
theorem dX2_one_221 : decode cX2_one 221 = .ok (.iconst 1, 1) := dk_4 (dk_at dksX2_one_9 9 rfl rfl)
theorem dX2_one_222 : decode cX2_one 222 = .ok (.iadd, 1) := dk_96 (dk_at dksX2_one_9 10 rfl rfl)
theorem dX2_one_223 : decode cX2_one 223 = .ok (.putfield 147, 3) := dk_181 0 147 (dk_at dksX2_one_9 11 rfl rfl)
theorem dX2_one_226 : decode cX2_one 226 = .ok (.goto (-50), 3) := dk_167 255 206 (dk_at dksX2_one_9 14 rfl rfl)
theorem dX2_one_229 : decode cX2_one 229 = .ok (.iload 4, 2) := dk_21 4 (dk_at dksX2_one_9 17 rfl rfl)
theorem dX2_one_231 : decode cX2_one 231 = .ok (.ifCond .ne 10, 3) := dk_154 0 10 (dk_at dksX2_one_9 19 rfl rfl)
theorem dX2_one_234 : decode cX2_one 234 = .ok (.aload_n 0, 1) := dk_42 (dk_at dksX2_one_9 22 rfl rfl)
theorem dX2_one_235 : decode cX2_one 235 = .ok (.invokevirtual 184, 3) := dk_182 0 184 (dk_at dksX2_one_10 0 rfl rfl)
theorem dX2_one_238 : decode cX2_one 238 = .ok (.goto 4, 3) := dk_167 0 4 (dk_at dksX2_one_10 3 rfl rfl)
theorem dX2_one_241 : decode cX2_one 241 = .ok (.iload_n 3, 1) := dk_29 (dk_at dksX2_one_10 6 rfl rfl)
theorem dX2_one_242 : decode cX2_one 242 = .ok (.ireturn, 1) := dk_172 (dk_at dksX2_one_10 7 rfl rfl)
abbrev cX2_byteAt : ByteArray := prog_31_method_20_code
def yX2_byteAt : MethodName := ⟨RX2, "byteAt", "()I"⟩
def dkwX2_byteAt_2 : List UInt8 := [3, 172]
abbrev dktX2_byteAt_2 : List UInt8 := dkwX2_byteAt_2 ++ []
def dkwX2_byteAt_1 : List UInt8 := [180, 0, 147, 46, 167, 0, 21, 42, 180, 0, 37, 42, 180, 0, 153, 42, 180, 0, 147, 96, 46, 167, 0, 4]
abbrev dktX2_byteAt_1 : List UInt8 := dkwX2_byteAt_1 ++ dktX2_byteAt_2
def dkwX2_byteAt_0 : List UInt8 := [42, 180, 0, 147, 42, 180, 0, 150, 162, 0, 39, 42, 180, 0, 153, 156, 0, 15, 42, 180, 0, 34, 42]
abbrev dktX2_byteAt_0 : List UInt8 := dkwX2_byteAt_0 ++ dktX2_byteAt_1
theorem dksX2_byteAt_0 : cX2_byteAt.data.toList.drop 0 = dktX2_byteAt_0 := by decide +kernel
theorem dksX2_byteAt_1 : cX2_byteAt.data.toList.drop 23 = dktX2_byteAt_1 := dk_seg dksX2_byteAt_0 23 rfl rfl
theorem dksX2_byteAt_2 : cX2_byteAt.data.toList.drop 47 = dktX2_byteAt_2 := dk_seg dksX2_byteAt_1 24 rfl rfl
theorem dX2_byteAt_0 : decode cX2_byteAt 0 = .ok (.aload_n 0, 1) := dk_42 (dk_at dksX2_byteAt_0 0 rfl rfl)
theorem dX2_byteAt_1 : decode cX2_byteAt 1 = .ok (.getfield 147, 3) := dk_180 0 147 (dk_at dksX2_byteAt_0 1 rfl rfl)
theorem dX2_byteAt_4 : decode cX2_byteAt 4 = .ok (.aload_n 0, 1) := dk_42 (dk_at dksX2_byteAt_0 4 rfl rfl)
theorem dX2_byteAt_5 : decode cX2_byteAt 5 = .ok (.getfield 150, 3) := dk_180 0 150 (dk_at dksX2_byteAt_0 5 rfl rfl)
theorem dX2_byteAt_8 : decode cX2_byteAt 8 = .ok (.if_icmp .ge 39, 3) := dk_162 0 39 (dk_at dksX2_byteAt_0 8 rfl rfl)
theorem dX2_byteAt_11 : decode cX2_byteAt 11 = .ok (.aload_n 0, 1) := dk_42 (dk_at dksX2_byteAt_0 11 rfl rfl)
theorem dX2_byteAt_12 : decode cX2_byteAt 12 = .ok (.getfield 153, 3) := dk_180 0 153 (dk_at dksX2_byteAt_0 12 rfl rfl)
theorem dX2_byteAt_15 : decode cX2_byteAt 15 = .ok (.ifCond .ge 15, 3) := dk_156 0 15 (dk_at dksX2_byteAt_0 15 rfl rfl)
theorem dX2_byteAt_18 : decode cX2_byteAt 18 = .ok (.aload_n 0, 1) := dk_42 (dk_at dksX2_byteAt_0 18 rfl rfl)
theorem dX2_byteAt_19 : decode cX2_byteAt 19 = .ok (.getfield 34, 3) := dk_180 0 34 (dk_at dksX2_byteAt_0 19 rfl rfl)
theorem dX2_byteAt_22 : decode cX2_byteAt 22 = .ok (.aload_n 0, 1) := dk_42 (dk_at dksX2_byteAt_0 22 rfl rfl)
theorem dX2_byteAt_23 : decode cX2_byteAt 23 = .ok (.getfield 147, 3) := dk_180 0 147 (dk_at dksX2_byteAt_1 0 rfl rfl)
theorem dX2_byteAt_26 : decode cX2_byteAt 26 = .ok (.iaload, 1) := dk_46 (dk_at dksX2_byteAt_1 3 rfl rfl)
theorem dX2_byteAt_27 : decode cX2_byteAt 27 = .ok (.goto 21, 3) := dk_167 0 21 (dk_at dksX2_byteAt_1 4 rfl rfl)
theorem dX2_byteAt_30 : decode cX2_byteAt 30 = .ok (.aload_n 0, 1) := dk_42 (dk_at dksX2_byteAt_1 7 rfl rfl)
theorem dX2_byteAt_31 : decode cX2_byteAt 31 = .ok (.getfield 37, 3) := dk_180 0 37 (dk_at dksX2_byteAt_1 8 rfl rfl)
theorem dX2_byteAt_34 : decode cX2_byteAt 34 = .ok (.aload_n 0, 1) := dk_42 (dk_at dksX2_byteAt_1 11 rfl rfl)
theorem dX2_byteAt_35 : decode cX2_byteAt 35 = .ok (.getfield 153, 3) := dk_180 0 153 (dk_at dksX2_byteAt_1 12 rfl rfl)
theorem dX2_byteAt_38 : decode cX2_byteAt 38 = .ok (.aload_n 0, 1) := dk_42 (dk_at dksX2_byteAt_1 15 rfl rfl)
theorem dX2_byteAt_39 : decode cX2_byteAt 39 = .ok (.getfield 147, 3) := dk_180 0 147 (dk_at dksX2_byteAt_1 16 rfl rfl)
theorem dX2_byteAt_42 : decode cX2_byteAt 42 = .ok (.iadd, 1) := dk_96 (dk_at dksX2_byteAt_1 19 rfl rfl)
theorem dX2_byteAt_43 : decode cX2_byteAt 43 = .ok (.iaload, 1) := dk_46 (dk_at dksX2_byteAt_1 20 rfl rfl)
theorem dX2_byteAt_44 : decode cX2_byteAt 44 = .ok (.goto 4, 3) := dk_167 0 4 (dk_at dksX2_byteAt_1 21 rfl rfl)
theorem dX2_byteAt_47 : decode cX2_byteAt 47 = .ok (.iconst 0, 1) := dk_3 (dk_at dksX2_byteAt_2 0 rfl rfl)
theorem dX2_byteAt_48 : decode cX2_byteAt 48 = .ok (.ireturn, 1) := dk_172 (dk_at dksX2_byteAt_2 1 rfl rfl)
abbrev cX2_wrong : ByteArray := prog_31_method_21_code
def yX2_wrong : MethodName := ⟨RX2, "wrong", "()I"⟩
def dkwX2_wrong_0 : List UInt8 := [42, 42, 180, 0, 156, 156, 0, 10, 42, 180, 0, 147, 167, 0, 7, 42, 180, 0, 156, 181, 0, 156, 3, 172]
abbrev dktX2_wrong_0 : List UInt8 := dkwX2_wrong_0 ++ []
theorem dksX2_wrong_0 : cX2_wrong.data.toList.drop 0 = dktX2_wrong_0 := by decide +kernel
theorem dX2_wrong_0 : decode cX2_wrong 0 = .ok (.aload_n 0, 1) := dk_42 (dk_at dksX2_wrong_0 0 rfl rfl)
theorem dX2_wrong_1 : decode cX2_wrong 1 = .ok (.aload_n 0, 1) := dk_42 (dk_at dksX2_wrong_0 1 rfl rfl)
theorem dX2_wrong_2 : decode cX2_wrong 2 = .ok (.getfield 156, 3) := dk_180 0 156 (dk_at dksX2_wrong_0 2 rfl rfl)
theorem dX2_wrong_5 : decode cX2_wrong 5 = .ok (.ifCond .ge 10, 3) := dk_156 0 10 (dk_at dksX2_wrong_0 5 rfl rfl)
theorem dX2_wrong_8 : decode cX2_wrong 8 = .ok (.aload_n 0, 1) := dk_42 (dk_at dksX2_wrong_0 8 rfl rfl)
theorem dX2_wrong_9 : decode cX2_wrong 9 = .ok (.getfield 147, 3) := dk_180 0 147 (dk_at dksX2_wrong_0 9 rfl rfl)
theorem dX2_wrong_12 : decode cX2_wrong 12 = .ok (.goto 7, 3) := dk_167 0 7 (dk_at dksX2_wrong_0 12 rfl rfl)
theorem dX2_wrong_15 : decode cX2_wrong 15 = .ok (.aload_n 0, 1) := dk_42 (dk_at dksX2_wrong_0 15 rfl rfl)
theorem dX2_wrong_16 : decode cX2_wrong 16 = .ok (.getfield 156, 3) := dk_180 0 156 (dk_at dksX2_wrong_0 16 rfl rfl)
theorem dX2_wrong_19 : decode cX2_wrong 19 = .ok (.putfield 156, 3) := dk_181 0 156 (dk_at dksX2_wrong_0 19 rfl rfl)
theorem dX2_wrong_22 : decode cX2_wrong 22 = .ok (.iconst 0, 1) := dk_3 (dk_at dksX2_wrong_0 22 rfl rfl)
theorem dX2_wrong_23 : decode cX2_wrong 23 = .ok (.ireturn, 1) := dk_172 (dk_at dksX2_wrong_0 23 rfl rfl)
abbrev cX2_takes : ByteArray := prog_31_method_22_code
def yX2_takes : MethodName := ⟨RX2, "takes", "(I)Z"⟩
def dkwX2_takes_1 : List UInt8 := [181, 0, 147, 4, 172]
abbrev dktX2_takes_1 : List UInt8 := dkwX2_takes_1 ++ []
def dkwX2_takes_0 : List UInt8 := [42, 180, 0, 156, 156, 0, 11, 42, 182, 0, 159, 27, 159, 0, 5, 3, 172, 42, 89, 180, 0, 147, 4, 96]
abbrev dktX2_takes_0 : List UInt8 := dkwX2_takes_0 ++ dktX2_takes_1
theorem dksX2_takes_0 : cX2_takes.data.toList.drop 0 = dktX2_takes_0 := by decide +kernel
theorem dksX2_takes_1 : cX2_takes.data.toList.drop 24 = dktX2_takes_1 := dk_seg dksX2_takes_0 24 rfl rfl
theorem dX2_takes_0 : decode cX2_takes 0 = .ok (.aload_n 0, 1) := dk_42 (dk_at dksX2_takes_0 0 rfl rfl)
theorem dX2_takes_1 : decode cX2_takes 1 = .ok (.getfield 156, 3) := dk_180 0 156 (dk_at dksX2_takes_0 1 rfl rfl)
theorem dX2_takes_4 : decode cX2_takes 4 = .ok (.ifCond .ge 11, 3) := dk_156 0 11 (dk_at dksX2_takes_0 4 rfl rfl)
theorem dX2_takes_7 : decode cX2_takes 7 = .ok (.aload_n 0, 1) := dk_42 (dk_at dksX2_takes_0 7 rfl rfl)
theorem dX2_takes_8 : decode cX2_takes 8 = .ok (.invokevirtual 159, 3) := dk_182 0 159 (dk_at dksX2_takes_0 8 rfl rfl)
theorem dX2_takes_11 : decode cX2_takes 11 = .ok (.iload_n 1, 1) := dk_27 (dk_at dksX2_takes_0 11 rfl rfl)
theorem dX2_takes_12 : decode cX2_takes 12 = .ok (.if_icmp .eq 5, 3) := dk_159 0 5 (dk_at dksX2_takes_0 12 rfl rfl)
theorem dX2_takes_15 : decode cX2_takes 15 = .ok (.iconst 0, 1) := dk_3 (dk_at dksX2_takes_0 15 rfl rfl)
theorem dX2_takes_16 : decode cX2_takes 16 = .ok (.ireturn, 1) := dk_172 (dk_at dksX2_takes_0 16 rfl rfl)
theorem dX2_takes_17 : decode cX2_takes 17 = .ok (.aload_n 0, 1) := dk_42 (dk_at dksX2_takes_0 17 rfl rfl)
theorem dX2_takes_18 : decode cX2_takes 18 = .ok (.dup, 1) := dk_89 (dk_at dksX2_takes_0 18 rfl rfl)
theorem dX2_takes_19 : decode cX2_takes 19 = .ok (.getfield 147, 3) := dk_180 0 147 (dk_at dksX2_takes_0 19 rfl rfl)
theorem dX2_takes_22 : decode cX2_takes 22 = .ok (.iconst 1, 1) := dk_4 (dk_at dksX2_takes_0 22 rfl rfl)
theorem dX2_takes_23 : decode cX2_takes 23 = .ok (.iadd, 1) := dk_96 (dk_at dksX2_takes_0 23 rfl rfl)
theorem dX2_takes_24 : decode cX2_takes 24 = .ok (.putfield 147, 3) := dk_181 0 147 (dk_at dksX2_takes_1 0 rfl rfl)
theorem dX2_takes_27 : decode cX2_takes 27 = .ok (.iconst 1, 1) := dk_4 (dk_at dksX2_takes_1 3 rfl rfl)
theorem dX2_takes_28 : decode cX2_takes 28 = .ok (.ireturn, 1) := dk_172 (dk_at dksX2_takes_1 4 rfl rfl)
abbrev cX2_nameOf : ByteArray := prog_31_method_28_code
def yX2_nameOf : MethodName := ⟨RX2, "nameOf", "(I)I"⟩
def dkwX2_nameOf_2 : List UInt8 := [3, 172, 4, 172, 5, 172, 6, 172, 7, 172, 2, 172]
abbrev dktX2_nameOf_2 : List UInt8 := dkwX2_nameOf_2 ++ []
def dkwX2_nameOf_1 : List UInt8 := [171, 0, 0, 0, 0, 0, 61, 0, 0, 0, 5, 0, 0, 0, 97, 0, 0, 0, 53, 0, 0, 0, 104, 0, 0, 0, 51, 0, 0, 0, 109, 0, 0, 0, 57, 0, 0, 0, 110, 0, 0, 0, 59, 0, 0, 0, 116, 0, 0, 0, 55]
abbrev dktX2_nameOf_1 : List UInt8 := dkwX2_nameOf_1 ++ dktX2_nameOf_2
def dkwX2_nameOf_0 : List UInt8 := [26]
abbrev dktX2_nameOf_0 : List UInt8 := dkwX2_nameOf_0 ++ dktX2_nameOf_1
theorem dksX2_nameOf_0 : cX2_nameOf.data.toList.drop 0 = dktX2_nameOf_0 := by decide +kernel
theorem dksX2_nameOf_1 : cX2_nameOf.data.toList.drop 1 = dktX2_nameOf_1 := dk_seg dksX2_nameOf_0 1 rfl rfl
theorem dksX2_nameOf_2 : cX2_nameOf.data.toList.drop 52 = dktX2_nameOf_2 := dk_seg dksX2_nameOf_1 51 rfl rfl
theorem dX2_nameOf_0 : decode cX2_nameOf 0 = .ok (.iload_n 0, 1) := dk_26 (dk_at dksX2_nameOf_0 0 rfl rfl)
theorem dX2_nameOf_1 : decode cX2_nameOf 1 = .ok (.lookupswitch 61 #[(97, 53), (104, 51), (109, 57), (110, 59), (116, 55)], 51) := by decide +kernel
theorem dX2_nameOf_52 : decode cX2_nameOf 52 = .ok (.iconst 0, 1) := dk_3 (dk_at dksX2_nameOf_2 0 rfl rfl)
theorem dX2_nameOf_53 : decode cX2_nameOf 53 = .ok (.ireturn, 1) := dk_172 (dk_at dksX2_nameOf_2 1 rfl rfl)
theorem dX2_nameOf_54 : decode cX2_nameOf 54 = .ok (.iconst 1, 1) := dk_4 (dk_at dksX2_nameOf_2 2 rfl rfl)
theorem dX2_nameOf_55 : decode cX2_nameOf 55 = .ok (.ireturn, 1) := dk_172 (dk_at dksX2_nameOf_2 3 rfl rfl)
theorem dX2_nameOf_56 : decode cX2_nameOf 56 = .ok (.iconst 2, 1) := dk_5 (dk_at dksX2_nameOf_2 4 rfl rfl)
theorem dX2_nameOf_57 : decode cX2_nameOf 57 = .ok (.ireturn, 1) := dk_172 (dk_at dksX2_nameOf_2 5 rfl rfl)
theorem dX2_nameOf_58 : decode cX2_nameOf 58 = .ok (.iconst 3, 1) := dk_6 (dk_at dksX2_nameOf_2 6 rfl rfl)
theorem dX2_nameOf_59 : decode cX2_nameOf 59 = .ok (.ireturn, 1) := dk_172 (dk_at dksX2_nameOf_2 7 rfl rfl)
theorem dX2_nameOf_60 : decode cX2_nameOf 60 = .ok (.iconst 4, 1) := dk_7 (dk_at dksX2_nameOf_2 8 rfl rfl)
theorem dX2_nameOf_61 : decode cX2_nameOf 61 = .ok (.ireturn, 1) := dk_172 (dk_at dksX2_nameOf_2 9 rfl rfl)
theorem dX2_nameOf_62 : decode cX2_nameOf 62 = .ok (.iconst (-1), 1) := dk_2 (dk_at dksX2_nameOf_2 10 rfl rfl)
theorem dX2_nameOf_63 : decode cX2_nameOf 63 = .ok (.ireturn, 1) := dk_172 (dk_at dksX2_nameOf_2 11 rfl rfl)
abbrev cX2_worth : ByteArray := prog_31_method_50_code
def yX2_worth : MethodName := ⟨RX2, "worth", "(III)J"⟩
def dkwX2_worth_2 : List UInt8 := [28, 4, 100, 27, 182, 1, 10, 29, 182, 1, 14, 173]
abbrev dktX2_worth_2 : List UInt8 := dkwX2_worth_2 ++ []
def dkwX2_worth_1 : List UInt8 := [184, 0, 99, 154, 0, 7, 20, 1, 4, 173, 42, 28, 154, 0, 11, 42, 27, 182, 1, 6, 167, 0, 11, 42]
abbrev dktX2_worth_1 : List UInt8 := dkwX2_worth_1 ++ dktX2_worth_2
def dkwX2_worth_0 : List UInt8 := [42, 27, 182, 0, 124, 153, 0, 25, 28, 133, 9, 20, 1, 0, 184, 0, 99, 153, 0, 13, 29, 133, 9, 10]
abbrev dktX2_worth_0 : List UInt8 := dkwX2_worth_0 ++ dktX2_worth_1
theorem dksX2_worth_0 : cX2_worth.data.toList.drop 0 = dktX2_worth_0 := by decide +kernel
theorem dksX2_worth_1 : cX2_worth.data.toList.drop 24 = dktX2_worth_1 := dk_seg dksX2_worth_0 24 rfl rfl
theorem dksX2_worth_2 : cX2_worth.data.toList.drop 48 = dktX2_worth_2 := dk_seg dksX2_worth_1 24 rfl rfl
theorem dX2_worth_0 : decode cX2_worth 0 = .ok (.aload_n 0, 1) := dk_42 (dk_at dksX2_worth_0 0 rfl rfl)
theorem dX2_worth_1 : decode cX2_worth 1 = .ok (.iload_n 1, 1) := dk_27 (dk_at dksX2_worth_0 1 rfl rfl)
theorem dX2_worth_2 : decode cX2_worth 2 = .ok (.invokevirtual 124, 3) := dk_182 0 124 (dk_at dksX2_worth_0 2 rfl rfl)
theorem dX2_worth_5 : decode cX2_worth 5 = .ok (.ifCond .eq 25, 3) := dk_153 0 25 (dk_at dksX2_worth_0 5 rfl rfl)
theorem dX2_worth_8 : decode cX2_worth 8 = .ok (.iload_n 2, 1) := dk_28 (dk_at dksX2_worth_0 8 rfl rfl)
theorem dX2_worth_9 : decode cX2_worth 9 = .ok (.i2l, 1) := dk_133 (dk_at dksX2_worth_0 9 rfl rfl)
theorem dX2_worth_10 : decode cX2_worth 10 = .ok (.lconst 0, 1) := dk_9 (dk_at dksX2_worth_0 10 rfl rfl)
theorem dX2_worth_11 : decode cX2_worth 11 = .ok (.ldc2_w 256, 3) := dk_20 1 0 (dk_at dksX2_worth_0 11 rfl rfl)
theorem dX2_worth_14 : decode cX2_worth 14 = .ok (.invokestatic 99, 3) := dk_184 0 99 (dk_at dksX2_worth_0 14 rfl rfl)
theorem dX2_worth_17 : decode cX2_worth 17 = .ok (.ifCond .eq 13, 3) := dk_153 0 13 (dk_at dksX2_worth_0 17 rfl rfl)
theorem dX2_worth_20 : decode cX2_worth 20 = .ok (.iload_n 3, 1) := dk_29 (dk_at dksX2_worth_0 20 rfl rfl)
theorem dX2_worth_21 : decode cX2_worth 21 = .ok (.i2l, 1) := dk_133 (dk_at dksX2_worth_0 21 rfl rfl)
theorem dX2_worth_22 : decode cX2_worth 22 = .ok (.lconst 0, 1) := dk_9 (dk_at dksX2_worth_0 22 rfl rfl)
theorem dX2_worth_23 : decode cX2_worth 23 = .ok (.lconst 1, 1) := dk_10 (dk_at dksX2_worth_0 23 rfl rfl)
theorem dX2_worth_24 : decode cX2_worth 24 = .ok (.invokestatic 99, 3) := dk_184 0 99 (dk_at dksX2_worth_1 0 rfl rfl)
theorem dX2_worth_27 : decode cX2_worth 27 = .ok (.ifCond .ne 7, 3) := dk_154 0 7 (dk_at dksX2_worth_1 3 rfl rfl)
theorem dX2_worth_30 : decode cX2_worth 30 = .ok (.ldc2_w 260, 3) := dk_20 1 4 (dk_at dksX2_worth_1 6 rfl rfl)
theorem dX2_worth_33 : decode cX2_worth 33 = .ok (.lreturn, 1) := dk_173 (dk_at dksX2_worth_1 9 rfl rfl)
theorem dX2_worth_34 : decode cX2_worth 34 = .ok (.aload_n 0, 1) := dk_42 (dk_at dksX2_worth_1 10 rfl rfl)
theorem dX2_worth_35 : decode cX2_worth 35 = .ok (.iload_n 2, 1) := dk_28 (dk_at dksX2_worth_1 11 rfl rfl)
theorem dX2_worth_36 : decode cX2_worth 36 = .ok (.ifCond .ne 11, 3) := dk_154 0 11 (dk_at dksX2_worth_1 12 rfl rfl)
theorem dX2_worth_39 : decode cX2_worth 39 = .ok (.aload_n 0, 1) := dk_42 (dk_at dksX2_worth_1 15 rfl rfl)
theorem dX2_worth_40 : decode cX2_worth 40 = .ok (.iload_n 1, 1) := dk_27 (dk_at dksX2_worth_1 16 rfl rfl)
theorem dX2_worth_41 : decode cX2_worth 41 = .ok (.invokevirtual 262, 3) := dk_182 1 6 (dk_at dksX2_worth_1 17 rfl rfl)
theorem dX2_worth_44 : decode cX2_worth 44 = .ok (.goto 11, 3) := dk_167 0 11 (dk_at dksX2_worth_1 20 rfl rfl)
theorem dX2_worth_47 : decode cX2_worth 47 = .ok (.aload_n 0, 1) := dk_42 (dk_at dksX2_worth_1 23 rfl rfl)
theorem dX2_worth_48 : decode cX2_worth 48 = .ok (.iload_n 2, 1) := dk_28 (dk_at dksX2_worth_2 0 rfl rfl)
theorem dX2_worth_49 : decode cX2_worth 49 = .ok (.iconst 1, 1) := dk_4 (dk_at dksX2_worth_2 1 rfl rfl)
theorem dX2_worth_50 : decode cX2_worth 50 = .ok (.isub, 1) := dk_100 (dk_at dksX2_worth_2 2 rfl rfl)
theorem dX2_worth_51 : decode cX2_worth 51 = .ok (.iload_n 1, 1) := dk_27 (dk_at dksX2_worth_2 3 rfl rfl)
theorem dX2_worth_52 : decode cX2_worth 52 = .ok (.invokevirtual 266, 3) := dk_182 1 10 (dk_at dksX2_worth_2 4 rfl rfl)
theorem dX2_worth_55 : decode cX2_worth 55 = .ok (.iload_n 3, 1) := dk_29 (dk_at dksX2_worth_2 7 rfl rfl)
theorem dX2_worth_56 : decode cX2_worth 56 = .ok (.invokevirtual 270, 3) := dk_182 1 14 (dk_at dksX2_worth_2 8 rfl rfl)
theorem dX2_worth_59 : decode cX2_worth 59 = .ok (.lreturn, 1) := dk_173 (dk_at dksX2_worth_2 11 rfl rfl)
abbrev cX2_worthOf : ByteArray := prog_31_method_45_code
def yX2_worthOf : MethodName := ⟨RX2, "worthOf", "(I)J"⟩
def dkwX2_worthOf_0 : List UInt8 := [42, 182, 0, 241, 42, 42, 182, 0, 225, 3, 27, 182, 0, 244, 173]
abbrev dktX2_worthOf_0 : List UInt8 := dkwX2_worthOf_0 ++ []
theorem dksX2_worthOf_0 : cX2_worthOf.data.toList.drop 0 = dktX2_worthOf_0 := by decide +kernel
theorem dX2_worthOf_0 : decode cX2_worthOf 0 = .ok (.aload_n 0, 1) := dk_42 (dk_at dksX2_worthOf_0 0 rfl rfl)
theorem dX2_worthOf_1 : decode cX2_worthOf 1 = .ok (.invokevirtual 241, 3) := dk_182 0 241 (dk_at dksX2_worthOf_0 1 rfl rfl)
theorem dX2_worthOf_4 : decode cX2_worthOf 4 = .ok (.aload_n 0, 1) := dk_42 (dk_at dksX2_worthOf_0 4 rfl rfl)
theorem dX2_worthOf_5 : decode cX2_worthOf 5 = .ok (.aload_n 0, 1) := dk_42 (dk_at dksX2_worthOf_0 5 rfl rfl)
theorem dX2_worthOf_6 : decode cX2_worthOf 6 = .ok (.invokevirtual 225, 3) := dk_182 0 225 (dk_at dksX2_worthOf_0 6 rfl rfl)
theorem dX2_worthOf_9 : decode cX2_worthOf 9 = .ok (.iconst 0, 1) := dk_3 (dk_at dksX2_worthOf_0 9 rfl rfl)
theorem dX2_worthOf_10 : decode cX2_worthOf 10 = .ok (.iload_n 1, 1) := dk_27 (dk_at dksX2_worthOf_0 10 rfl rfl)
theorem dX2_worthOf_11 : decode cX2_worthOf 11 = .ok (.invokevirtual 244, 3) := dk_182 0 244 (dk_at dksX2_worthOf_0 11 rfl rfl)
theorem dX2_worthOf_14 : decode cX2_worthOf 14 = .ok (.lreturn, 1) := dk_173 (dk_at dksX2_worthOf_0 14 rfl rfl)
abbrev cX2_solves : ByteArray := prog_31_method_42_code
def yX2_solves : MethodName := ⟨RX2, "solves", "()V"⟩
def dkwX2_solves_5 : List UInt8 := [167, 255, 183, 177]
abbrev dktX2_solves_5 : List UInt8 := dkwX2_solves_5 ++ []
def dkwX2_solves_4 : List UInt8 := [42, 27, 28, 29, 182, 0, 235, 132, 3, 1, 167, 255, 211, 132, 2, 1, 167, 255, 195, 132, 1, 255]
abbrev dktX2_solves_4 : List UInt8 := dkwX2_solves_4 ++ dktX2_solves_5
def dkwX2_solves_3 : List UInt8 := [182, 0, 228, 153, 0, 13, 42, 27, 28, 29, 182, 0, 231, 167, 0, 18, 28, 29, 184, 0, 133, 153, 0, 10]
abbrev dktX2_solves_3 : List UInt8 := dkwX2_solves_3 ++ dktX2_solves_4
def dkwX2_solves_2 : List UInt8 := [3, 61, 28, 42, 182, 0, 225, 163, 0, 59, 3, 62, 29, 42, 180, 0, 96, 162, 0, 43, 42, 27, 28]
abbrev dktX2_solves_2 : List UInt8 := dkwX2_solves_2 ++ dktX2_solves_3
def dkwX2_solves_1 : List UInt8 := [180, 0, 43, 27, 4, 100, 47, 105, 80, 132, 1, 1, 167, 255, 229, 42, 180, 0, 87, 60, 27, 155, 0, 75]
abbrev dktX2_solves_1 : List UInt8 := dkwX2_solves_1 ++ dktX2_solves_2
def dkwX2_solves_0 : List UInt8 := [42, 180, 0, 43, 3, 10, 80, 4, 60, 27, 16, 9, 163, 0, 27, 42, 180, 0, 43, 27, 20, 0, 103, 42]
abbrev dktX2_solves_0 : List UInt8 := dkwX2_solves_0 ++ dktX2_solves_1
theorem dksX2_solves_0 : cX2_solves.data.toList.drop 0 = dktX2_solves_0 := by decide +kernel
theorem dksX2_solves_1 : cX2_solves.data.toList.drop 24 = dktX2_solves_1 := dk_seg dksX2_solves_0 24 rfl rfl
theorem dksX2_solves_2 : cX2_solves.data.toList.drop 48 = dktX2_solves_2 := dk_seg dksX2_solves_1 24 rfl rfl
theorem dksX2_solves_3 : cX2_solves.data.toList.drop 71 = dktX2_solves_3 := dk_seg dksX2_solves_2 23 rfl rfl
theorem dksX2_solves_4 : cX2_solves.data.toList.drop 95 = dktX2_solves_4 := dk_seg dksX2_solves_3 24 rfl rfl
theorem dksX2_solves_5 : cX2_solves.data.toList.drop 117 = dktX2_solves_5 := dk_seg dksX2_solves_4 22 rfl rfl
theorem dX2_solves_0 : decode cX2_solves 0 = .ok (.aload_n 0, 1) := dk_42 (dk_at dksX2_solves_0 0 rfl rfl)
theorem dX2_solves_1 : decode cX2_solves 1 = .ok (.getfield 43, 3) := dk_180 0 43 (dk_at dksX2_solves_0 1 rfl rfl)
theorem dX2_solves_4 : decode cX2_solves 4 = .ok (.iconst 0, 1) := dk_3 (dk_at dksX2_solves_0 4 rfl rfl)
theorem dX2_solves_5 : decode cX2_solves 5 = .ok (.lconst 1, 1) := dk_10 (dk_at dksX2_solves_0 5 rfl rfl)
theorem dX2_solves_6 : decode cX2_solves 6 = .ok (.lastore, 1) := dk_80 (dk_at dksX2_solves_0 6 rfl rfl)
theorem dX2_solves_7 : decode cX2_solves 7 = .ok (.iconst 1, 1) := dk_4 (dk_at dksX2_solves_0 7 rfl rfl)
theorem dX2_solves_8 : decode cX2_solves 8 = .ok (.istore_n 1, 1) := dk_60 (dk_at dksX2_solves_0 8 rfl rfl)
theorem dX2_solves_9 : decode cX2_solves 9 = .ok (.iload_n 1, 1) := dk_27 (dk_at dksX2_solves_0 9 rfl rfl)
theorem dX2_solves_10 : decode cX2_solves 10 = .ok (.bipush 9, 2) := dk_16 9 (dk_at dksX2_solves_0 10 rfl rfl)
theorem dX2_solves_12 : decode cX2_solves 12 = .ok (.if_icmp .gt 27, 3) := dk_163 0 27 (dk_at dksX2_solves_0 12 rfl rfl)
theorem dX2_solves_15 : decode cX2_solves 15 = .ok (.aload_n 0, 1) := dk_42 (dk_at dksX2_solves_0 15 rfl rfl)
theorem dX2_solves_16 : decode cX2_solves 16 = .ok (.getfield 43, 3) := dk_180 0 43 (dk_at dksX2_solves_0 16 rfl rfl)
theorem dX2_solves_19 : decode cX2_solves 19 = .ok (.iload_n 1, 1) := dk_27 (dk_at dksX2_solves_0 19 rfl rfl)
theorem dX2_solves_20 : decode cX2_solves 20 = .ok (.ldc2_w 103, 3) := dk_20 0 103 (dk_at dksX2_solves_0 20 rfl rfl)
theorem dX2_solves_23 : decode cX2_solves 23 = .ok (.aload_n 0, 1) := dk_42 (dk_at dksX2_solves_0 23 rfl rfl)
theorem dX2_solves_24 : decode cX2_solves 24 = .ok (.getfield 43, 3) := dk_180 0 43 (dk_at dksX2_solves_1 0 rfl rfl)
theorem dX2_solves_27 : decode cX2_solves 27 = .ok (.iload_n 1, 1) := dk_27 (dk_at dksX2_solves_1 3 rfl rfl)
theorem dX2_solves_28 : decode cX2_solves 28 = .ok (.iconst 1, 1) := dk_4 (dk_at dksX2_solves_1 4 rfl rfl)
theorem dX2_solves_29 : decode cX2_solves 29 = .ok (.isub, 1) := dk_100 (dk_at dksX2_solves_1 5 rfl rfl)
theorem dX2_solves_30 : decode cX2_solves 30 = .ok (.laload, 1) := dk_47 (dk_at dksX2_solves_1 6 rfl rfl)
theorem dX2_solves_31 : decode cX2_solves 31 = .ok (.lmul, 1) := dk_105 (dk_at dksX2_solves_1 7 rfl rfl)
theorem dX2_solves_32 : decode cX2_solves 32 = .ok (.lastore, 1) := dk_80 (dk_at dksX2_solves_1 8 rfl rfl)
theorem dX2_solves_33 : decode cX2_solves 33 = .ok (.iinc 1 1, 3) := dk_132 1 1 (dk_at dksX2_solves_1 9 rfl rfl)
theorem dX2_solves_36 : decode cX2_solves 36 = .ok (.goto (-27), 3) := dk_167 255 229 (dk_at dksX2_solves_1 12 rfl rfl)
theorem dX2_solves_39 : decode cX2_solves 39 = .ok (.aload_n 0, 1) := dk_42 (dk_at dksX2_solves_1 15 rfl rfl)
theorem dX2_solves_40 : decode cX2_solves 40 = .ok (.getfield 87, 3) := dk_180 0 87 (dk_at dksX2_solves_1 16 rfl rfl)
theorem dX2_solves_43 : decode cX2_solves 43 = .ok (.istore_n 1, 1) := dk_60 (dk_at dksX2_solves_1 19 rfl rfl)
theorem dX2_solves_44 : decode cX2_solves 44 = .ok (.iload_n 1, 1) := dk_27 (dk_at dksX2_solves_1 20 rfl rfl)
theorem dX2_solves_45 : decode cX2_solves 45 = .ok (.ifCond .lt 75, 3) := dk_155 0 75 (dk_at dksX2_solves_1 21 rfl rfl)
theorem dX2_solves_48 : decode cX2_solves 48 = .ok (.iconst 0, 1) := dk_3 (dk_at dksX2_solves_2 0 rfl rfl)
theorem dX2_solves_49 : decode cX2_solves 49 = .ok (.istore_n 2, 1) := dk_61 (dk_at dksX2_solves_2 1 rfl rfl)
theorem dX2_solves_50 : decode cX2_solves 50 = .ok (.iload_n 2, 1) := dk_28 (dk_at dksX2_solves_2 2 rfl rfl)
theorem dX2_solves_51 : decode cX2_solves 51 = .ok (.aload_n 0, 1) := dk_42 (dk_at dksX2_solves_2 3 rfl rfl)
theorem dX2_solves_52 : decode cX2_solves 52 = .ok (.invokevirtual 225, 3) := dk_182 0 225 (dk_at dksX2_solves_2 4 rfl rfl)
theorem dX2_solves_55 : decode cX2_solves 55 = .ok (.if_icmp .gt 59, 3) := dk_163 0 59 (dk_at dksX2_solves_2 7 rfl rfl)
theorem dX2_solves_58 : decode cX2_solves 58 = .ok (.iconst 0, 1) := dk_3 (dk_at dksX2_solves_2 10 rfl rfl)
theorem dX2_solves_59 : decode cX2_solves 59 = .ok (.istore_n 3, 1) := dk_62 (dk_at dksX2_solves_2 11 rfl rfl)
theorem dX2_solves_60 : decode cX2_solves 60 = .ok (.iload_n 3, 1) := dk_29 (dk_at dksX2_solves_2 12 rfl rfl)
theorem dX2_solves_61 : decode cX2_solves 61 = .ok (.aload_n 0, 1) := dk_42 (dk_at dksX2_solves_2 13 rfl rfl)
theorem dX2_solves_62 : decode cX2_solves 62 = .ok (.getfield 96, 3) := dk_180 0 96 (dk_at dksX2_solves_2 14 rfl rfl)
theorem dX2_solves_65 : decode cX2_solves 65 = .ok (.if_icmp .ge 43, 3) := dk_162 0 43 (dk_at dksX2_solves_2 17 rfl rfl)
theorem dX2_solves_68 : decode cX2_solves 68 = .ok (.aload_n 0, 1) := dk_42 (dk_at dksX2_solves_2 20 rfl rfl)
theorem dX2_solves_69 : decode cX2_solves 69 = .ok (.iload_n 1, 1) := dk_27 (dk_at dksX2_solves_2 21 rfl rfl)
theorem dX2_solves_70 : decode cX2_solves 70 = .ok (.iload_n 2, 1) := dk_28 (dk_at dksX2_solves_2 22 rfl rfl)
theorem dX2_solves_71 : decode cX2_solves 71 = .ok (.invokevirtual 228, 3) := dk_182 0 228 (dk_at dksX2_solves_3 0 rfl rfl)
theorem dX2_solves_74 : decode cX2_solves 74 = .ok (.ifCond .eq 13, 3) := dk_153 0 13 (dk_at dksX2_solves_3 3 rfl rfl)
theorem dX2_solves_77 : decode cX2_solves 77 = .ok (.aload_n 0, 1) := dk_42 (dk_at dksX2_solves_3 6 rfl rfl)
theorem dX2_solves_78 : decode cX2_solves 78 = .ok (.iload_n 1, 1) := dk_27 (dk_at dksX2_solves_3 7 rfl rfl)
theorem dX2_solves_79 : decode cX2_solves 79 = .ok (.iload_n 2, 1) := dk_28 (dk_at dksX2_solves_3 8 rfl rfl)
theorem dX2_solves_80 : decode cX2_solves 80 = .ok (.iload_n 3, 1) := dk_29 (dk_at dksX2_solves_3 9 rfl rfl)
theorem dX2_solves_81 : decode cX2_solves 81 = .ok (.invokevirtual 231, 3) := dk_182 0 231 (dk_at dksX2_solves_3 10 rfl rfl)
theorem dX2_solves_84 : decode cX2_solves 84 = .ok (.goto 18, 3) := dk_167 0 18 (dk_at dksX2_solves_3 13 rfl rfl)
theorem dX2_solves_87 : decode cX2_solves 87 = .ok (.iload_n 2, 1) := dk_28 (dk_at dksX2_solves_3 16 rfl rfl)
theorem dX2_solves_88 : decode cX2_solves 88 = .ok (.iload_n 3, 1) := dk_29 (dk_at dksX2_solves_3 17 rfl rfl)
theorem dX2_solves_89 : decode cX2_solves 89 = .ok (.invokestatic 133, 3) := dk_184 0 133 (dk_at dksX2_solves_3 18 rfl rfl)
theorem dX2_solves_92 : decode cX2_solves 92 = .ok (.ifCond .eq 10, 3) := dk_153 0 10 (dk_at dksX2_solves_3 21 rfl rfl)
theorem dX2_solves_95 : decode cX2_solves 95 = .ok (.aload_n 0, 1) := dk_42 (dk_at dksX2_solves_4 0 rfl rfl)
theorem dX2_solves_96 : decode cX2_solves 96 = .ok (.iload_n 1, 1) := dk_27 (dk_at dksX2_solves_4 1 rfl rfl)
theorem dX2_solves_97 : decode cX2_solves 97 = .ok (.iload_n 2, 1) := dk_28 (dk_at dksX2_solves_4 2 rfl rfl)
theorem dX2_solves_98 : decode cX2_solves 98 = .ok (.iload_n 3, 1) := dk_29 (dk_at dksX2_solves_4 3 rfl rfl)
theorem dX2_solves_99 : decode cX2_solves 99 = .ok (.invokevirtual 235, 3) := dk_182 0 235 (dk_at dksX2_solves_4 4 rfl rfl)
theorem dX2_solves_102 : decode cX2_solves 102 = .ok (.iinc 3 1, 3) := dk_132 3 1 (dk_at dksX2_solves_4 7 rfl rfl)
theorem dX2_solves_105 : decode cX2_solves 105 = .ok (.goto (-45), 3) := dk_167 255 211 (dk_at dksX2_solves_4 10 rfl rfl)
theorem dX2_solves_108 : decode cX2_solves 108 = .ok (.iinc 2 1, 3) := dk_132 2 1 (dk_at dksX2_solves_4 13 rfl rfl)
theorem dX2_solves_111 : decode cX2_solves 111 = .ok (.goto (-61), 3) := dk_167 255 195 (dk_at dksX2_solves_4 16 rfl rfl)
theorem dX2_solves_114 : decode cX2_solves 114 = .ok (.iinc 1 (-1), 3) := dk_132 1 255 (dk_at dksX2_solves_4 19 rfl rfl)
theorem dX2_solves_117 : decode cX2_solves 117 = .ok (.goto (-73), 3) := dk_167 255 183 (dk_at dksX2_solves_5 0 rfl rfl)
theorem dX2_solves_120 : decode cX2_solves 120 = .ok (.return_, 1) := dk_177 (dk_at dksX2_solves_5 3 rfl rfl)
abbrev cX2_isOver : ByteArray := prog_31_method_35_code
def yX2_isOver : MethodName := ⟨RX2, "isOver", "(II)Z"⟩
def dkwX2_isOver_0 : List UInt8 := [27, 42, 180, 0, 87, 162, 0, 11, 28, 184, 0, 197, 5, 162, 0, 7, 4, 167, 0, 4, 3, 172]
abbrev dktX2_isOver_0 : List UInt8 := dkwX2_isOver_0 ++ []
theorem dksX2_isOver_0 : cX2_isOver.data.toList.drop 0 = dktX2_isOver_0 := by decide +kernel
theorem dX2_isOver_0 : decode cX2_isOver 0 = .ok (.iload_n 1, 1) := dk_27 (dk_at dksX2_isOver_0 0 rfl rfl)
theorem dX2_isOver_1 : decode cX2_isOver 1 = .ok (.aload_n 0, 1) := dk_42 (dk_at dksX2_isOver_0 1 rfl rfl)
theorem dX2_isOver_2 : decode cX2_isOver 2 = .ok (.getfield 87, 3) := dk_180 0 87 (dk_at dksX2_isOver_0 2 rfl rfl)
theorem dX2_isOver_5 : decode cX2_isOver 5 = .ok (.if_icmp .ge 11, 3) := dk_162 0 11 (dk_at dksX2_isOver_0 5 rfl rfl)
theorem dX2_isOver_8 : decode cX2_isOver 8 = .ok (.iload_n 2, 1) := dk_28 (dk_at dksX2_isOver_0 8 rfl rfl)
theorem dX2_isOver_9 : decode cX2_isOver 9 = .ok (.invokestatic 197, 3) := dk_184 0 197 (dk_at dksX2_isOver_0 9 rfl rfl)
theorem dX2_isOver_12 : decode cX2_isOver 12 = .ok (.iconst 2, 1) := dk_5 (dk_at dksX2_isOver_0 12 rfl rfl)
theorem dX2_isOver_13 : decode cX2_isOver 13 = .ok (.if_icmp .ge 7, 3) := dk_162 0 7 (dk_at dksX2_isOver_0 13 rfl rfl)
theorem dX2_isOver_16 : decode cX2_isOver 16 = .ok (.iconst 1, 1) := dk_4 (dk_at dksX2_isOver_0 16 rfl rfl)
theorem dX2_isOver_17 : decode cX2_isOver 17 = .ok (.goto 4, 3) := dk_167 0 4 (dk_at dksX2_isOver_0 17 rfl rfl)
theorem dX2_isOver_20 : decode cX2_isOver 20 = .ok (.iconst 0, 1) := dk_3 (dk_at dksX2_isOver_0 20 rfl rfl)
theorem dX2_isOver_21 : decode cX2_isOver 21 = .ok (.ireturn, 1) := dk_172 (dk_at dksX2_isOver_0 21 rfl rfl)
abbrev cX2_bitsOf : ByteArray := prog_31_method_2_code
def yX2_bitsOf : MethodName := ⟨RX2, "bitsOf", "(I)I"⟩
def dkwX2_bitsOf_0 : List UInt8 := [3, 60, 26, 61, 28, 153, 0, 15, 132, 1, 1, 28, 28, 4, 100, 126, 61, 167, 255, 243, 27, 172]
abbrev dktX2_bitsOf_0 : List UInt8 := dkwX2_bitsOf_0 ++ []
theorem dksX2_bitsOf_0 : cX2_bitsOf.data.toList.drop 0 = dktX2_bitsOf_0 := by decide +kernel
theorem dX2_bitsOf_0 : decode cX2_bitsOf 0 = .ok (.iconst 0, 1) := dk_3 (dk_at dksX2_bitsOf_0 0 rfl rfl)
theorem dX2_bitsOf_1 : decode cX2_bitsOf 1 = .ok (.istore_n 1, 1) := dk_60 (dk_at dksX2_bitsOf_0 1 rfl rfl)
theorem dX2_bitsOf_2 : decode cX2_bitsOf 2 = .ok (.iload_n 0, 1) := dk_26 (dk_at dksX2_bitsOf_0 2 rfl rfl)
theorem dX2_bitsOf_3 : decode cX2_bitsOf 3 = .ok (.istore_n 2, 1) := dk_61 (dk_at dksX2_bitsOf_0 3 rfl rfl)
theorem dX2_bitsOf_4 : decode cX2_bitsOf 4 = .ok (.iload_n 2, 1) := dk_28 (dk_at dksX2_bitsOf_0 4 rfl rfl)
theorem dX2_bitsOf_5 : decode cX2_bitsOf 5 = .ok (.ifCond .eq 15, 3) := dk_153 0 15 (dk_at dksX2_bitsOf_0 5 rfl rfl)
theorem dX2_bitsOf_8 : decode cX2_bitsOf 8 = .ok (.iinc 1 1, 3) := dk_132 1 1 (dk_at dksX2_bitsOf_0 8 rfl rfl)
theorem dX2_bitsOf_11 : decode cX2_bitsOf 11 = .ok (.iload_n 2, 1) := dk_28 (dk_at dksX2_bitsOf_0 11 rfl rfl)
theorem dX2_bitsOf_12 : decode cX2_bitsOf 12 = .ok (.iload_n 2, 1) := dk_28 (dk_at dksX2_bitsOf_0 12 rfl rfl)
theorem dX2_bitsOf_13 : decode cX2_bitsOf 13 = .ok (.iconst 1, 1) := dk_4 (dk_at dksX2_bitsOf_0 13 rfl rfl)
theorem dX2_bitsOf_14 : decode cX2_bitsOf 14 = .ok (.isub, 1) := dk_100 (dk_at dksX2_bitsOf_0 14 rfl rfl)
theorem dX2_bitsOf_15 : decode cX2_bitsOf 15 = .ok (.iand, 1) := dk_126 (dk_at dksX2_bitsOf_0 15 rfl rfl)
theorem dX2_bitsOf_16 : decode cX2_bitsOf 16 = .ok (.istore_n 2, 1) := dk_61 (dk_at dksX2_bitsOf_0 16 rfl rfl)
theorem dX2_bitsOf_17 : decode cX2_bitsOf 17 = .ok (.goto (-13), 3) := dk_167 255 243 (dk_at dksX2_bitsOf_0 17 rfl rfl)
theorem dX2_bitsOf_20 : decode cX2_bitsOf 20 = .ok (.iload_n 1, 1) := dk_27 (dk_at dksX2_bitsOf_0 20 rfl rfl)
theorem dX2_bitsOf_21 : decode cX2_bitsOf 21 = .ok (.ireturn, 1) := dk_172 (dk_at dksX2_bitsOf_0 21 rfl rfl)
abbrev cX2_ends1 : ByteArray := prog_31_method_41_code
def yX2_ends1 : MethodName := ⟨RX2, "ends1", "(III)V"⟩
def dkwX2_ends1_3 : List UInt8 := [180, 0, 87, 27, 100, 47, 105, 167, 0, 4, 9, 80, 132, 5, 1, 167, 255, 197, 177]
abbrev dktX2_ends1_3 : List UInt8 := dkwX2_ends1_3 ++ []
def dkwX2_ends1_2 : List UInt8 := [28, 21, 5, 184, 0, 133, 153, 0, 28, 42, 180, 0, 28, 28, 184, 0, 197, 46, 133, 42, 180, 0, 43, 42]
abbrev dktX2_ends1_2 : List UInt8 := dkwX2_ends1_2 ++ dktX2_ends1_3
def dkwX2_ends1_1 : List UInt8 := [79, 3, 54, 5, 21, 5, 42, 180, 0, 96, 162, 0, 56, 42, 180, 0, 47, 7, 21, 4, 104, 21, 5, 96]
abbrev dktX2_ends1_1 : List UInt8 := dkwX2_ends1_1 ++ dktX2_ends1_2
def dkwX2_ends1_0 : List UInt8 := [27, 28, 29, 184, 0, 207, 54, 4, 42, 180, 0, 50, 21, 4, 16, 9, 79, 42, 180, 0, 53, 21, 4, 3]
abbrev dktX2_ends1_0 : List UInt8 := dkwX2_ends1_0 ++ dktX2_ends1_1
theorem dksX2_ends1_0 : cX2_ends1.data.toList.drop 0 = dktX2_ends1_0 := by decide +kernel
theorem dksX2_ends1_1 : cX2_ends1.data.toList.drop 24 = dktX2_ends1_1 := dk_seg dksX2_ends1_0 24 rfl rfl
theorem dksX2_ends1_2 : cX2_ends1.data.toList.drop 48 = dktX2_ends1_2 := dk_seg dksX2_ends1_1 24 rfl rfl
theorem dksX2_ends1_3 : cX2_ends1.data.toList.drop 72 = dktX2_ends1_3 := dk_seg dksX2_ends1_2 24 rfl rfl
theorem dX2_ends1_0 : decode cX2_ends1 0 = .ok (.iload_n 1, 1) := dk_27 (dk_at dksX2_ends1_0 0 rfl rfl)
theorem dX2_ends1_1 : decode cX2_ends1 1 = .ok (.iload_n 2, 1) := dk_28 (dk_at dksX2_ends1_0 1 rfl rfl)
theorem dX2_ends1_2 : decode cX2_ends1 2 = .ok (.iload_n 3, 1) := dk_29 (dk_at dksX2_ends1_0 2 rfl rfl)
theorem dX2_ends1_3 : decode cX2_ends1 3 = .ok (.invokestatic 207, 3) := dk_184 0 207 (dk_at dksX2_ends1_0 3 rfl rfl)
theorem dX2_ends1_6 : decode cX2_ends1 6 = .ok (.istore 4, 2) := dk_54 4 (dk_at dksX2_ends1_0 6 rfl rfl)
theorem dX2_ends1_8 : decode cX2_ends1 8 = .ok (.aload_n 0, 1) := dk_42 (dk_at dksX2_ends1_0 8 rfl rfl)
theorem dX2_ends1_9 : decode cX2_ends1 9 = .ok (.getfield 50, 3) := dk_180 0 50 (dk_at dksX2_ends1_0 9 rfl rfl)
theorem dX2_ends1_12 : decode cX2_ends1 12 = .ok (.iload 4, 2) := dk_21 4 (dk_at dksX2_ends1_0 12 rfl rfl)
theorem dX2_ends1_14 : decode cX2_ends1 14 = .ok (.bipush 9, 2) := dk_16 9 (dk_at dksX2_ends1_0 14 rfl rfl)
theorem dX2_ends1_16 : decode cX2_ends1 16 = .ok (.iastore, 1) := dk_79 (dk_at dksX2_ends1_0 16 rfl rfl)
theorem dX2_ends1_17 : decode cX2_ends1 17 = .ok (.aload_n 0, 1) := dk_42 (dk_at dksX2_ends1_0 17 rfl rfl)
theorem dX2_ends1_18 : decode cX2_ends1 18 = .ok (.getfield 53, 3) := dk_180 0 53 (dk_at dksX2_ends1_0 18 rfl rfl)
theorem dX2_ends1_21 : decode cX2_ends1 21 = .ok (.iload 4, 2) := dk_21 4 (dk_at dksX2_ends1_0 21 rfl rfl)
theorem dX2_ends1_23 : decode cX2_ends1 23 = .ok (.iconst 0, 1) := dk_3 (dk_at dksX2_ends1_0 23 rfl rfl)
theorem dX2_ends1_24 : decode cX2_ends1 24 = .ok (.iastore, 1) := dk_79 (dk_at dksX2_ends1_1 0 rfl rfl)
theorem dX2_ends1_25 : decode cX2_ends1 25 = .ok (.iconst 0, 1) := dk_3 (dk_at dksX2_ends1_1 1 rfl rfl)
theorem dX2_ends1_26 : decode cX2_ends1 26 = .ok (.istore 5, 2) := dk_54 5 (dk_at dksX2_ends1_1 2 rfl rfl)
theorem dX2_ends1_28 : decode cX2_ends1 28 = .ok (.iload 5, 2) := dk_21 5 (dk_at dksX2_ends1_1 4 rfl rfl)
theorem dX2_ends1_30 : decode cX2_ends1 30 = .ok (.aload_n 0, 1) := dk_42 (dk_at dksX2_ends1_1 6 rfl rfl)
theorem dX2_ends1_31 : decode cX2_ends1 31 = .ok (.getfield 96, 3) := dk_180 0 96 (dk_at dksX2_ends1_1 7 rfl rfl)
theorem dX2_ends1_34 : decode cX2_ends1 34 = .ok (.if_icmp .ge 56, 3) := dk_162 0 56 (dk_at dksX2_ends1_1 10 rfl rfl)
theorem dX2_ends1_37 : decode cX2_ends1 37 = .ok (.aload_n 0, 1) := dk_42 (dk_at dksX2_ends1_1 13 rfl rfl)
theorem dX2_ends1_38 : decode cX2_ends1 38 = .ok (.getfield 47, 3) := dk_180 0 47 (dk_at dksX2_ends1_1 14 rfl rfl)
theorem dX2_ends1_41 : decode cX2_ends1 41 = .ok (.iconst 4, 1) := dk_7 (dk_at dksX2_ends1_1 17 rfl rfl)
theorem dX2_ends1_42 : decode cX2_ends1 42 = .ok (.iload 4, 2) := dk_21 4 (dk_at dksX2_ends1_1 18 rfl rfl)
theorem dX2_ends1_44 : decode cX2_ends1 44 = .ok (.imul, 1) := dk_104 (dk_at dksX2_ends1_1 20 rfl rfl)
theorem dX2_ends1_45 : decode cX2_ends1 45 = .ok (.iload 5, 2) := dk_21 5 (dk_at dksX2_ends1_1 21 rfl rfl)
theorem dX2_ends1_47 : decode cX2_ends1 47 = .ok (.iadd, 1) := dk_96 (dk_at dksX2_ends1_1 23 rfl rfl)
theorem dX2_ends1_48 : decode cX2_ends1 48 = .ok (.iload_n 2, 1) := dk_28 (dk_at dksX2_ends1_2 0 rfl rfl)
theorem dX2_ends1_49 : decode cX2_ends1 49 = .ok (.iload 5, 2) := dk_21 5 (dk_at dksX2_ends1_2 1 rfl rfl)
theorem dX2_ends1_51 : decode cX2_ends1 51 = .ok (.invokestatic 133, 3) := dk_184 0 133 (dk_at dksX2_ends1_2 3 rfl rfl)
theorem dX2_ends1_54 : decode cX2_ends1 54 = .ok (.ifCond .eq 28, 3) := dk_153 0 28 (dk_at dksX2_ends1_2 6 rfl rfl)
theorem dX2_ends1_57 : decode cX2_ends1 57 = .ok (.aload_n 0, 1) := dk_42 (dk_at dksX2_ends1_2 9 rfl rfl)
theorem dX2_ends1_58 : decode cX2_ends1 58 = .ok (.getfield 28, 3) := dk_180 0 28 (dk_at dksX2_ends1_2 10 rfl rfl)
theorem dX2_ends1_61 : decode cX2_ends1 61 = .ok (.iload_n 2, 1) := dk_28 (dk_at dksX2_ends1_2 13 rfl rfl)
theorem dX2_ends1_62 : decode cX2_ends1 62 = .ok (.invokestatic 197, 3) := dk_184 0 197 (dk_at dksX2_ends1_2 14 rfl rfl)
theorem dX2_ends1_65 : decode cX2_ends1 65 = .ok (.iaload, 1) := dk_46 (dk_at dksX2_ends1_2 17 rfl rfl)
theorem dX2_ends1_66 : decode cX2_ends1 66 = .ok (.i2l, 1) := dk_133 (dk_at dksX2_ends1_2 18 rfl rfl)
theorem dX2_ends1_67 : decode cX2_ends1 67 = .ok (.aload_n 0, 1) := dk_42 (dk_at dksX2_ends1_2 19 rfl rfl)
theorem dX2_ends1_68 : decode cX2_ends1 68 = .ok (.getfield 43, 3) := dk_180 0 43 (dk_at dksX2_ends1_2 20 rfl rfl)
theorem dX2_ends1_71 : decode cX2_ends1 71 = .ok (.aload_n 0, 1) := dk_42 (dk_at dksX2_ends1_2 23 rfl rfl)
theorem dX2_ends1_72 : decode cX2_ends1 72 = .ok (.getfield 87, 3) := dk_180 0 87 (dk_at dksX2_ends1_3 0 rfl rfl)
theorem dX2_ends1_75 : decode cX2_ends1 75 = .ok (.iload_n 1, 1) := dk_27 (dk_at dksX2_ends1_3 3 rfl rfl)
theorem dX2_ends1_76 : decode cX2_ends1 76 = .ok (.isub, 1) := dk_100 (dk_at dksX2_ends1_3 4 rfl rfl)
theorem dX2_ends1_77 : decode cX2_ends1 77 = .ok (.laload, 1) := dk_47 (dk_at dksX2_ends1_3 5 rfl rfl)
theorem dX2_ends1_78 : decode cX2_ends1 78 = .ok (.lmul, 1) := dk_105 (dk_at dksX2_ends1_3 6 rfl rfl)
theorem dX2_ends1_79 : decode cX2_ends1 79 = .ok (.goto 4, 3) := dk_167 0 4 (dk_at dksX2_ends1_3 7 rfl rfl)
theorem dX2_ends1_82 : decode cX2_ends1 82 = .ok (.lconst 0, 1) := dk_9 (dk_at dksX2_ends1_3 10 rfl rfl)
theorem dX2_ends1_83 : decode cX2_ends1 83 = .ok (.lastore, 1) := dk_80 (dk_at dksX2_ends1_3 11 rfl rfl)
theorem dX2_ends1_84 : decode cX2_ends1 84 = .ok (.iinc 5 1, 3) := dk_132 5 1 (dk_at dksX2_ends1_3 12 rfl rfl)
theorem dX2_ends1_87 : decode cX2_ends1 87 = .ok (.goto (-59), 3) := dk_167 255 197 (dk_at dksX2_ends1_3 15 rfl rfl)
theorem dX2_ends1_90 : decode cX2_ends1 90 = .ok (.return_, 1) := dk_177 (dk_at dksX2_ends1_3 18 rfl rfl)
abbrev cX2_stateOf : ByteArray := prog_31_method_33_code
def yX2_stateOf : MethodName := ⟨RX2, "stateOf", "(III)I"⟩
def dkwX2_stateOf_0 : List UInt8 := [26, 16, 16, 104, 27, 96, 7, 104, 28, 96, 172]
abbrev dktX2_stateOf_0 : List UInt8 := dkwX2_stateOf_0 ++ []
theorem dksX2_stateOf_0 : cX2_stateOf.data.toList.drop 0 = dktX2_stateOf_0 := by decide +kernel
theorem dX2_stateOf_0 : decode cX2_stateOf 0 = .ok (.iload_n 0, 1) := dk_26 (dk_at dksX2_stateOf_0 0 rfl rfl)
theorem dX2_stateOf_1 : decode cX2_stateOf 1 = .ok (.bipush 16, 2) := dk_16 16 (dk_at dksX2_stateOf_0 1 rfl rfl)
theorem dX2_stateOf_3 : decode cX2_stateOf 3 = .ok (.imul, 1) := dk_104 (dk_at dksX2_stateOf_0 3 rfl rfl)
theorem dX2_stateOf_4 : decode cX2_stateOf 4 = .ok (.iload_n 1, 1) := dk_27 (dk_at dksX2_stateOf_0 4 rfl rfl)
theorem dX2_stateOf_5 : decode cX2_stateOf 5 = .ok (.iadd, 1) := dk_96 (dk_at dksX2_stateOf_0 5 rfl rfl)
theorem dX2_stateOf_6 : decode cX2_stateOf 6 = .ok (.iconst 4, 1) := dk_7 (dk_at dksX2_stateOf_0 6 rfl rfl)
theorem dX2_stateOf_7 : decode cX2_stateOf 7 = .ok (.imul, 1) := dk_104 (dk_at dksX2_stateOf_0 7 rfl rfl)
theorem dX2_stateOf_8 : decode cX2_stateOf 8 = .ok (.iload_n 2, 1) := dk_28 (dk_at dksX2_stateOf_0 8 rfl rfl)
theorem dX2_stateOf_9 : decode cX2_stateOf 9 = .ok (.iadd, 1) := dk_96 (dk_at dksX2_stateOf_0 9 rfl rfl)
theorem dX2_stateOf_10 : decode cX2_stateOf 10 = .ok (.ireturn, 1) := dk_172 (dk_at dksX2_stateOf_0 10 rfl rfl)
abbrev cX2_settles : ByteArray := prog_31_method_40_code
def yX2_settles : MethodName := ⟨RX2, "settles", "(III)V"⟩
def dkwX2_settles_9 : List UInt8 := [180, 0, 56, 21, 6, 47, 80, 132, 6, 1, 167, 255, 225, 177]
abbrev dktX2_settles_9 : List UInt8 := dkwX2_settles_9 ++ []
def dkwX2_settles_8 : List UInt8 := [54, 6, 21, 6, 42, 180, 0, 96, 162, 0, 28, 42, 180, 0, 47, 7, 21, 4, 104, 21, 6, 96, 42]
abbrev dktX2_settles_8 : List UInt8 := dkwX2_settles_8 ++ dktX2_settles_9
def dkwX2_settles_7 : List UInt8 := [29, 21, 5, 182, 0, 222, 79, 42, 27, 28, 29, 21, 5, 42, 180, 0, 53, 21, 4, 46, 182, 0, 218, 3]
abbrev dktX2_settles_7 : List UInt8 := dkwX2_settles_7 ++ dktX2_settles_8
def dkwX2_settles_6 : List UInt8 := [132, 8, 1, 167, 255, 162, 42, 180, 0, 50, 21, 4, 21, 5, 79, 42, 180, 0, 53, 21, 4, 42, 27, 28]
abbrev dktX2_settles_6 : List UInt8 := dkwX2_settles_6 ++ dktX2_settles_7
def dkwX2_settles_5 : List UInt8 := [180, 0, 56, 29, 47, 22, 6, 148, 158, 0, 12, 42, 180, 0, 56, 29, 47, 167, 0, 5, 22, 6, 55, 6]
abbrev dktX2_settles_5 : List UInt8 := dkwX2_settles_5 ++ dktX2_settles_6
def dkwX2_settles_4 : List UInt8 := [42, 180, 0, 56, 29, 47, 22, 6, 148, 158, 0, 8, 21, 8, 167, 0, 5, 21, 5, 54, 5, 42]
abbrev dktX2_settles_4 : List UInt8 := dkwX2_settles_4 ++ dktX2_settles_5
def dkwX2_settles_3 : List UInt8 := [154, 0, 6, 167, 0, 67, 42, 27, 28, 29, 21, 8, 42, 27, 28, 29, 21, 8, 182, 0, 222, 182, 0, 218]
abbrev dktX2_settles_3 : List UInt8 := dkwX2_settles_3 ++ dktX2_settles_4
def dkwX2_settles_2 : List UInt8 := [54, 8, 21, 8, 42, 180, 0, 96, 162, 0, 91, 21, 8, 29, 159, 0, 79, 28, 21, 8, 184, 0, 133]
abbrev dktX2_settles_2 : List UInt8 := dkwX2_settles_2 ++ dktX2_settles_3
def dkwX2_settles_1 : List UInt8 := [8, 160, 0, 121, 42, 27, 28, 29, 16, 9, 3, 182, 0, 218, 42, 180, 0, 56, 29, 47, 55, 6, 3]
abbrev dktX2_settles_1 : List UInt8 := dkwX2_settles_1 ++ dktX2_settles_2
def dkwX2_settles_0 : List UInt8 := [27, 28, 29, 184, 0, 207, 54, 4, 42, 29, 28, 182, 0, 215, 54, 5, 42, 180, 0, 9, 7, 29, 96, 46]
abbrev dktX2_settles_0 : List UInt8 := dkwX2_settles_0 ++ dktX2_settles_1
theorem dksX2_settles_0 : cX2_settles.data.toList.drop 0 = dktX2_settles_0 := by decide +kernel
theorem dksX2_settles_1 : cX2_settles.data.toList.drop 24 = dktX2_settles_1 := dk_seg dksX2_settles_0 24 rfl rfl
theorem dksX2_settles_2 : cX2_settles.data.toList.drop 47 = dktX2_settles_2 := dk_seg dksX2_settles_1 23 rfl rfl
theorem dksX2_settles_3 : cX2_settles.data.toList.drop 70 = dktX2_settles_3 := dk_seg dksX2_settles_2 23 rfl rfl
theorem dksX2_settles_4 : cX2_settles.data.toList.drop 94 = dktX2_settles_4 := dk_seg dksX2_settles_3 24 rfl rfl
theorem dksX2_settles_5 : cX2_settles.data.toList.drop 116 = dktX2_settles_5 := dk_seg dksX2_settles_4 22 rfl rfl
theorem dksX2_settles_6 : cX2_settles.data.toList.drop 140 = dktX2_settles_6 := dk_seg dksX2_settles_5 24 rfl rfl
theorem dksX2_settles_7 : cX2_settles.data.toList.drop 164 = dktX2_settles_7 := dk_seg dksX2_settles_6 24 rfl rfl
theorem dksX2_settles_8 : cX2_settles.data.toList.drop 188 = dktX2_settles_8 := dk_seg dksX2_settles_7 24 rfl rfl
theorem dksX2_settles_9 : cX2_settles.data.toList.drop 211 = dktX2_settles_9 := dk_seg dksX2_settles_8 23 rfl rfl
theorem dX2_settles_0 : decode cX2_settles 0 = .ok (.iload_n 1, 1) := dk_27 (dk_at dksX2_settles_0 0 rfl rfl)
theorem dX2_settles_1 : decode cX2_settles 1 = .ok (.iload_n 2, 1) := dk_28 (dk_at dksX2_settles_0 1 rfl rfl)
theorem dX2_settles_2 : decode cX2_settles 2 = .ok (.iload_n 3, 1) := dk_29 (dk_at dksX2_settles_0 2 rfl rfl)
theorem dX2_settles_3 : decode cX2_settles 3 = .ok (.invokestatic 207, 3) := dk_184 0 207 (dk_at dksX2_settles_0 3 rfl rfl)
theorem dX2_settles_6 : decode cX2_settles 6 = .ok (.istore 4, 2) := dk_54 4 (dk_at dksX2_settles_0 6 rfl rfl)
theorem dX2_settles_8 : decode cX2_settles 8 = .ok (.aload_n 0, 1) := dk_42 (dk_at dksX2_settles_0 8 rfl rfl)
theorem dX2_settles_9 : decode cX2_settles 9 = .ok (.iload_n 3, 1) := dk_29 (dk_at dksX2_settles_0 9 rfl rfl)
theorem dX2_settles_10 : decode cX2_settles 10 = .ok (.iload_n 2, 1) := dk_28 (dk_at dksX2_settles_0 10 rfl rfl)
theorem dX2_settles_11 : decode cX2_settles 11 = .ok (.invokevirtual 215, 3) := dk_182 0 215 (dk_at dksX2_settles_0 11 rfl rfl)
theorem dX2_settles_14 : decode cX2_settles 14 = .ok (.istore 5, 2) := dk_54 5 (dk_at dksX2_settles_0 14 rfl rfl)
theorem dX2_settles_16 : decode cX2_settles 16 = .ok (.aload_n 0, 1) := dk_42 (dk_at dksX2_settles_0 16 rfl rfl)
theorem dX2_settles_17 : decode cX2_settles 17 = .ok (.getfield 9, 3) := dk_180 0 9 (dk_at dksX2_settles_0 17 rfl rfl)
theorem dX2_settles_20 : decode cX2_settles 20 = .ok (.iconst 4, 1) := dk_7 (dk_at dksX2_settles_0 20 rfl rfl)
theorem dX2_settles_21 : decode cX2_settles 21 = .ok (.iload_n 3, 1) := dk_29 (dk_at dksX2_settles_0 21 rfl rfl)
theorem dX2_settles_22 : decode cX2_settles 22 = .ok (.iadd, 1) := dk_96 (dk_at dksX2_settles_0 22 rfl rfl)
theorem dX2_settles_23 : decode cX2_settles 23 = .ok (.iaload, 1) := dk_46 (dk_at dksX2_settles_0 23 rfl rfl)
theorem dX2_settles_24 : decode cX2_settles 24 = .ok (.iconst 5, 1) := dk_8 (dk_at dksX2_settles_1 0 rfl rfl)
theorem dX2_settles_25 : decode cX2_settles 25 = .ok (.if_icmp .ne 121, 3) := dk_160 0 121 (dk_at dksX2_settles_1 1 rfl rfl)
theorem dX2_settles_28 : decode cX2_settles 28 = .ok (.aload_n 0, 1) := dk_42 (dk_at dksX2_settles_1 4 rfl rfl)
theorem dX2_settles_29 : decode cX2_settles 29 = .ok (.iload_n 1, 1) := dk_27 (dk_at dksX2_settles_1 5 rfl rfl)
theorem dX2_settles_30 : decode cX2_settles 30 = .ok (.iload_n 2, 1) := dk_28 (dk_at dksX2_settles_1 6 rfl rfl)
theorem dX2_settles_31 : decode cX2_settles 31 = .ok (.iload_n 3, 1) := dk_29 (dk_at dksX2_settles_1 7 rfl rfl)
theorem dX2_settles_32 : decode cX2_settles 32 = .ok (.bipush 9, 2) := dk_16 9 (dk_at dksX2_settles_1 8 rfl rfl)
theorem dX2_settles_34 : decode cX2_settles 34 = .ok (.iconst 0, 1) := dk_3 (dk_at dksX2_settles_1 10 rfl rfl)
theorem dX2_settles_35 : decode cX2_settles 35 = .ok (.invokevirtual 218, 3) := dk_182 0 218 (dk_at dksX2_settles_1 11 rfl rfl)
theorem dX2_settles_38 : decode cX2_settles 38 = .ok (.aload_n 0, 1) := dk_42 (dk_at dksX2_settles_1 14 rfl rfl)
theorem dX2_settles_39 : decode cX2_settles 39 = .ok (.getfield 56, 3) := dk_180 0 56 (dk_at dksX2_settles_1 15 rfl rfl)
theorem dX2_settles_42 : decode cX2_settles 42 = .ok (.iload_n 3, 1) := dk_29 (dk_at dksX2_settles_1 18 rfl rfl)
theorem dX2_settles_43 : decode cX2_settles 43 = .ok (.laload, 1) := dk_47 (dk_at dksX2_settles_1 19 rfl rfl)
theorem dX2_settles_44 : decode cX2_settles 44 = .ok (.lstore 6, 2) := dk_55 6 (dk_at dksX2_settles_1 20 rfl rfl)
theorem dX2_settles_46 : decode cX2_settles 46 = .ok (.iconst 0, 1) := dk_3 (dk_at dksX2_settles_1 22 rfl rfl)
theorem dX2_settles_47 : decode cX2_settles 47 = .ok (.istore 8, 2) := dk_54 8 (dk_at dksX2_settles_2 0 rfl rfl)
theorem dX2_settles_49 : decode cX2_settles 49 = .ok (.iload 8, 2) := dk_21 8 (dk_at dksX2_settles_2 2 rfl rfl)
theorem dX2_settles_51 : decode cX2_settles 51 = .ok (.aload_n 0, 1) := dk_42 (dk_at dksX2_settles_2 4 rfl rfl)
theorem dX2_settles_52 : decode cX2_settles 52 = .ok (.getfield 96, 3) := dk_180 0 96 (dk_at dksX2_settles_2 5 rfl rfl)
theorem dX2_settles_55 : decode cX2_settles 55 = .ok (.if_icmp .ge 91, 3) := dk_162 0 91 (dk_at dksX2_settles_2 8 rfl rfl)
theorem dX2_settles_58 : decode cX2_settles 58 = .ok (.iload 8, 2) := dk_21 8 (dk_at dksX2_settles_2 11 rfl rfl)
theorem dX2_settles_60 : decode cX2_settles 60 = .ok (.iload_n 3, 1) := dk_29 (dk_at dksX2_settles_2 13 rfl rfl)
theorem dX2_settles_61 : decode cX2_settles 61 = .ok (.if_icmp .eq 79, 3) := dk_159 0 79 (dk_at dksX2_settles_2 14 rfl rfl)
theorem dX2_settles_64 : decode cX2_settles 64 = .ok (.iload_n 2, 1) := dk_28 (dk_at dksX2_settles_2 17 rfl rfl)
theorem dX2_settles_65 : decode cX2_settles 65 = .ok (.iload 8, 2) := dk_21 8 (dk_at dksX2_settles_2 18 rfl rfl)
theorem dX2_settles_67 : decode cX2_settles 67 = .ok (.invokestatic 133, 3) := dk_184 0 133 (dk_at dksX2_settles_2 20 rfl rfl)
theorem dX2_settles_70 : decode cX2_settles 70 = .ok (.ifCond .ne 6, 3) := dk_154 0 6 (dk_at dksX2_settles_3 0 rfl rfl)
theorem dX2_settles_73 : decode cX2_settles 73 = .ok (.goto 67, 3) := dk_167 0 67 (dk_at dksX2_settles_3 3 rfl rfl)
theorem dX2_settles_76 : decode cX2_settles 76 = .ok (.aload_n 0, 1) := dk_42 (dk_at dksX2_settles_3 6 rfl rfl)
theorem dX2_settles_77 : decode cX2_settles 77 = .ok (.iload_n 1, 1) := dk_27 (dk_at dksX2_settles_3 7 rfl rfl)
theorem dX2_settles_78 : decode cX2_settles 78 = .ok (.iload_n 2, 1) := dk_28 (dk_at dksX2_settles_3 8 rfl rfl)
theorem dX2_settles_79 : decode cX2_settles 79 = .ok (.iload_n 3, 1) := dk_29 (dk_at dksX2_settles_3 9 rfl rfl)
theorem dX2_settles_80 : decode cX2_settles 80 = .ok (.iload 8, 2) := dk_21 8 (dk_at dksX2_settles_3 10 rfl rfl)
theorem dX2_settles_82 : decode cX2_settles 82 = .ok (.aload_n 0, 1) := dk_42 (dk_at dksX2_settles_3 12 rfl rfl)
theorem dX2_settles_83 : decode cX2_settles 83 = .ok (.iload_n 1, 1) := dk_27 (dk_at dksX2_settles_3 13 rfl rfl)
theorem dX2_settles_84 : decode cX2_settles 84 = .ok (.iload_n 2, 1) := dk_28 (dk_at dksX2_settles_3 14 rfl rfl)
theorem dX2_settles_85 : decode cX2_settles 85 = .ok (.iload_n 3, 1) := dk_29 (dk_at dksX2_settles_3 15 rfl rfl)
theorem dX2_settles_86 : decode cX2_settles 86 = .ok (.iload 8, 2) := dk_21 8 (dk_at dksX2_settles_3 16 rfl rfl)
theorem dX2_settles_88 : decode cX2_settles 88 = .ok (.invokevirtual 222, 3) := dk_182 0 222 (dk_at dksX2_settles_3 18 rfl rfl)
theorem dX2_settles_91 : decode cX2_settles 91 = .ok (.invokevirtual 218, 3) := dk_182 0 218 (dk_at dksX2_settles_3 21 rfl rfl)
theorem dX2_settles_94 : decode cX2_settles 94 = .ok (.aload_n 0, 1) := dk_42 (dk_at dksX2_settles_4 0 rfl rfl)
theorem dX2_settles_95 : decode cX2_settles 95 = .ok (.getfield 56, 3) := dk_180 0 56 (dk_at dksX2_settles_4 1 rfl rfl)
theorem dX2_settles_98 : decode cX2_settles 98 = .ok (.iload_n 3, 1) := dk_29 (dk_at dksX2_settles_4 4 rfl rfl)
theorem dX2_settles_99 : decode cX2_settles 99 = .ok (.laload, 1) := dk_47 (dk_at dksX2_settles_4 5 rfl rfl)
theorem dX2_settles_100 : decode cX2_settles 100 = .ok (.lload 6, 2) := dk_22 6 (dk_at dksX2_settles_4 6 rfl rfl)
theorem dX2_settles_102 : decode cX2_settles 102 = .ok (.lcmp, 1) := dk_148 (dk_at dksX2_settles_4 8 rfl rfl)
theorem dX2_settles_103 : decode cX2_settles 103 = .ok (.ifCond .le 8, 3) := dk_158 0 8 (dk_at dksX2_settles_4 9 rfl rfl)
theorem dX2_settles_106 : decode cX2_settles 106 = .ok (.iload 8, 2) := dk_21 8 (dk_at dksX2_settles_4 12 rfl rfl)
theorem dX2_settles_108 : decode cX2_settles 108 = .ok (.goto 5, 3) := dk_167 0 5 (dk_at dksX2_settles_4 14 rfl rfl)
theorem dX2_settles_111 : decode cX2_settles 111 = .ok (.iload 5, 2) := dk_21 5 (dk_at dksX2_settles_4 17 rfl rfl)
theorem dX2_settles_113 : decode cX2_settles 113 = .ok (.istore 5, 2) := dk_54 5 (dk_at dksX2_settles_4 19 rfl rfl)
theorem dX2_settles_115 : decode cX2_settles 115 = .ok (.aload_n 0, 1) := dk_42 (dk_at dksX2_settles_4 21 rfl rfl)
theorem dX2_settles_116 : decode cX2_settles 116 = .ok (.getfield 56, 3) := dk_180 0 56 (dk_at dksX2_settles_5 0 rfl rfl)
theorem dX2_settles_119 : decode cX2_settles 119 = .ok (.iload_n 3, 1) := dk_29 (dk_at dksX2_settles_5 3 rfl rfl)
theorem dX2_settles_120 : decode cX2_settles 120 = .ok (.laload, 1) := dk_47 (dk_at dksX2_settles_5 4 rfl rfl)
theorem dX2_settles_121 : decode cX2_settles 121 = .ok (.lload 6, 2) := dk_22 6 (dk_at dksX2_settles_5 5 rfl rfl)
theorem dX2_settles_123 : decode cX2_settles 123 = .ok (.lcmp, 1) := dk_148 (dk_at dksX2_settles_5 7 rfl rfl)
theorem dX2_settles_124 : decode cX2_settles 124 = .ok (.ifCond .le 12, 3) := dk_158 0 12 (dk_at dksX2_settles_5 8 rfl rfl)
theorem dX2_settles_127 : decode cX2_settles 127 = .ok (.aload_n 0, 1) := dk_42 (dk_at dksX2_settles_5 11 rfl rfl)
theorem dX2_settles_128 : decode cX2_settles 128 = .ok (.getfield 56, 3) := dk_180 0 56 (dk_at dksX2_settles_5 12 rfl rfl)
theorem dX2_settles_131 : decode cX2_settles 131 = .ok (.iload_n 3, 1) := dk_29 (dk_at dksX2_settles_5 15 rfl rfl)
theorem dX2_settles_132 : decode cX2_settles 132 = .ok (.laload, 1) := dk_47 (dk_at dksX2_settles_5 16 rfl rfl)
theorem dX2_settles_133 : decode cX2_settles 133 = .ok (.goto 5, 3) := dk_167 0 5 (dk_at dksX2_settles_5 17 rfl rfl)
theorem dX2_settles_136 : decode cX2_settles 136 = .ok (.lload 6, 2) := dk_22 6 (dk_at dksX2_settles_5 20 rfl rfl)
theorem dX2_settles_138 : decode cX2_settles 138 = .ok (.lstore 6, 2) := dk_55 6 (dk_at dksX2_settles_5 22 rfl rfl)
theorem dX2_settles_140 : decode cX2_settles 140 = .ok (.iinc 8 1, 3) := dk_132 8 1 (dk_at dksX2_settles_6 0 rfl rfl)
theorem dX2_settles_143 : decode cX2_settles 143 = .ok (.goto (-94), 3) := dk_167 255 162 (dk_at dksX2_settles_6 3 rfl rfl)
theorem dX2_settles_146 : decode cX2_settles 146 = .ok (.aload_n 0, 1) := dk_42 (dk_at dksX2_settles_6 6 rfl rfl)
theorem dX2_settles_147 : decode cX2_settles 147 = .ok (.getfield 50, 3) := dk_180 0 50 (dk_at dksX2_settles_6 7 rfl rfl)
theorem dX2_settles_150 : decode cX2_settles 150 = .ok (.iload 4, 2) := dk_21 4 (dk_at dksX2_settles_6 10 rfl rfl)
theorem dX2_settles_152 : decode cX2_settles 152 = .ok (.iload 5, 2) := dk_21 5 (dk_at dksX2_settles_6 12 rfl rfl)
theorem dX2_settles_154 : decode cX2_settles 154 = .ok (.iastore, 1) := dk_79 (dk_at dksX2_settles_6 14 rfl rfl)
theorem dX2_settles_155 : decode cX2_settles 155 = .ok (.aload_n 0, 1) := dk_42 (dk_at dksX2_settles_6 15 rfl rfl)
theorem dX2_settles_156 : decode cX2_settles 156 = .ok (.getfield 53, 3) := dk_180 0 53 (dk_at dksX2_settles_6 16 rfl rfl)
theorem dX2_settles_159 : decode cX2_settles 159 = .ok (.iload 4, 2) := dk_21 4 (dk_at dksX2_settles_6 19 rfl rfl)
theorem dX2_settles_161 : decode cX2_settles 161 = .ok (.aload_n 0, 1) := dk_42 (dk_at dksX2_settles_6 21 rfl rfl)
theorem dX2_settles_162 : decode cX2_settles 162 = .ok (.iload_n 1, 1) := dk_27 (dk_at dksX2_settles_6 22 rfl rfl)
theorem dX2_settles_163 : decode cX2_settles 163 = .ok (.iload_n 2, 1) := dk_28 (dk_at dksX2_settles_6 23 rfl rfl)
theorem dX2_settles_164 : decode cX2_settles 164 = .ok (.iload_n 3, 1) := dk_29 (dk_at dksX2_settles_7 0 rfl rfl)
theorem dX2_settles_165 : decode cX2_settles 165 = .ok (.iload 5, 2) := dk_21 5 (dk_at dksX2_settles_7 1 rfl rfl)
theorem dX2_settles_167 : decode cX2_settles 167 = .ok (.invokevirtual 222, 3) := dk_182 0 222 (dk_at dksX2_settles_7 3 rfl rfl)
theorem dX2_settles_170 : decode cX2_settles 170 = .ok (.iastore, 1) := dk_79 (dk_at dksX2_settles_7 6 rfl rfl)
theorem dX2_settles_171 : decode cX2_settles 171 = .ok (.aload_n 0, 1) := dk_42 (dk_at dksX2_settles_7 7 rfl rfl)
theorem dX2_settles_172 : decode cX2_settles 172 = .ok (.iload_n 1, 1) := dk_27 (dk_at dksX2_settles_7 8 rfl rfl)
theorem dX2_settles_173 : decode cX2_settles 173 = .ok (.iload_n 2, 1) := dk_28 (dk_at dksX2_settles_7 9 rfl rfl)
theorem dX2_settles_174 : decode cX2_settles 174 = .ok (.iload_n 3, 1) := dk_29 (dk_at dksX2_settles_7 10 rfl rfl)
theorem dX2_settles_175 : decode cX2_settles 175 = .ok (.iload 5, 2) := dk_21 5 (dk_at dksX2_settles_7 11 rfl rfl)
theorem dX2_settles_177 : decode cX2_settles 177 = .ok (.aload_n 0, 1) := dk_42 (dk_at dksX2_settles_7 13 rfl rfl)
theorem dX2_settles_178 : decode cX2_settles 178 = .ok (.getfield 53, 3) := dk_180 0 53 (dk_at dksX2_settles_7 14 rfl rfl)
theorem dX2_settles_181 : decode cX2_settles 181 = .ok (.iload 4, 2) := dk_21 4 (dk_at dksX2_settles_7 17 rfl rfl)
theorem dX2_settles_183 : decode cX2_settles 183 = .ok (.iaload, 1) := dk_46 (dk_at dksX2_settles_7 19 rfl rfl)
theorem dX2_settles_184 : decode cX2_settles 184 = .ok (.invokevirtual 218, 3) := dk_182 0 218 (dk_at dksX2_settles_7 20 rfl rfl)
theorem dX2_settles_187 : decode cX2_settles 187 = .ok (.iconst 0, 1) := dk_3 (dk_at dksX2_settles_7 23 rfl rfl)
theorem dX2_settles_188 : decode cX2_settles 188 = .ok (.istore 6, 2) := dk_54 6 (dk_at dksX2_settles_8 0 rfl rfl)
theorem dX2_settles_190 : decode cX2_settles 190 = .ok (.iload 6, 2) := dk_21 6 (dk_at dksX2_settles_8 2 rfl rfl)
theorem dX2_settles_192 : decode cX2_settles 192 = .ok (.aload_n 0, 1) := dk_42 (dk_at dksX2_settles_8 4 rfl rfl)
theorem dX2_settles_193 : decode cX2_settles 193 = .ok (.getfield 96, 3) := dk_180 0 96 (dk_at dksX2_settles_8 5 rfl rfl)
theorem dX2_settles_196 : decode cX2_settles 196 = .ok (.if_icmp .ge 28, 3) := dk_162 0 28 (dk_at dksX2_settles_8 8 rfl rfl)
theorem dX2_settles_199 : decode cX2_settles 199 = .ok (.aload_n 0, 1) := dk_42 (dk_at dksX2_settles_8 11 rfl rfl)
theorem dX2_settles_200 : decode cX2_settles 200 = .ok (.getfield 47, 3) := dk_180 0 47 (dk_at dksX2_settles_8 12 rfl rfl)
theorem dX2_settles_203 : decode cX2_settles 203 = .ok (.iconst 4, 1) := dk_7 (dk_at dksX2_settles_8 15 rfl rfl)
theorem dX2_settles_204 : decode cX2_settles 204 = .ok (.iload 4, 2) := dk_21 4 (dk_at dksX2_settles_8 16 rfl rfl)
theorem dX2_settles_206 : decode cX2_settles 206 = .ok (.imul, 1) := dk_104 (dk_at dksX2_settles_8 18 rfl rfl)
theorem dX2_settles_207 : decode cX2_settles 207 = .ok (.iload 6, 2) := dk_21 6 (dk_at dksX2_settles_8 19 rfl rfl)
theorem dX2_settles_209 : decode cX2_settles 209 = .ok (.iadd, 1) := dk_96 (dk_at dksX2_settles_8 21 rfl rfl)
theorem dX2_settles_210 : decode cX2_settles 210 = .ok (.aload_n 0, 1) := dk_42 (dk_at dksX2_settles_8 22 rfl rfl)
theorem dX2_settles_211 : decode cX2_settles 211 = .ok (.getfield 56, 3) := dk_180 0 56 (dk_at dksX2_settles_9 0 rfl rfl)
theorem dX2_settles_214 : decode cX2_settles 214 = .ok (.iload 6, 2) := dk_21 6 (dk_at dksX2_settles_9 3 rfl rfl)
theorem dX2_settles_216 : decode cX2_settles 216 = .ok (.laload, 1) := dk_47 (dk_at dksX2_settles_9 5 rfl rfl)
theorem dX2_settles_217 : decode cX2_settles 217 = .ok (.lastore, 1) := dk_80 (dk_at dksX2_settles_9 6 rfl rfl)
theorem dX2_settles_218 : decode cX2_settles 218 = .ok (.iinc 6 1, 3) := dk_132 6 1 (dk_at dksX2_settles_9 7 rfl rfl)
theorem dX2_settles_221 : decode cX2_settles 221 = .ok (.goto (-31), 3) := dk_167 255 225 (dk_at dksX2_settles_9 10 rfl rfl)
theorem dX2_settles_224 : decode cX2_settles 224 = .ok (.return_, 1) := dk_177 (dk_at dksX2_settles_9 13 rfl rfl)
abbrev cX2_plainAim : ByteArray := prog_31_method_37_code
def yX2_plainAim : MethodName := ⟨RX2, "plainAim", "(II)I"⟩
def dkwX2_plainAim_4 : List UInt8 := [184, 0, 133, 153, 0, 7, 29, 167, 0, 5, 16, 9, 172, 16, 9, 172]
abbrev dktX2_plainAim_4 : List UInt8 := dkwX2_plainAim_4 ++ []
def dkwX2_plainAim_3 : List UInt8 := [180, 0, 9, 16, 8, 27, 96, 46, 62, 29, 42, 180, 0, 96, 162, 0, 20, 29, 27, 159, 0, 15, 28, 29]
abbrev dktX2_plainAim_3 : List UInt8 := dkwX2_plainAim_3 ++ dktX2_plainAim_4
def dkwX2_plainAim_2 : List UInt8 := [42, 27, 28, 4, 182, 0, 200, 172, 42, 27, 28, 3, 182, 0, 200, 172, 42, 27, 28, 182, 0, 204, 172, 42]
abbrev dktX2_plainAim_2 : List UInt8 := dkwX2_plainAim_2 ++ dktX2_plainAim_3
def dkwX2_plainAim_1 : List UInt8 := [170, 0, 0, 0, 0, 0, 0, 97, 0, 0, 0, 0, 0, 0, 0, 4, 0, 0, 0, 36, 0, 0, 0, 44, 0, 0, 0, 97, 0, 0, 0, 52, 0, 0, 0, 59]
abbrev dktX2_plainAim_1 : List UInt8 := dkwX2_plainAim_1 ++ dktX2_plainAim_2
def dkwX2_plainAim_0 : List UInt8 := [42, 180, 0, 9, 7, 27, 96, 46]
abbrev dktX2_plainAim_0 : List UInt8 := dkwX2_plainAim_0 ++ dktX2_plainAim_1
theorem dksX2_plainAim_0 : cX2_plainAim.data.toList.drop 0 = dktX2_plainAim_0 := by decide +kernel
theorem dksX2_plainAim_1 : cX2_plainAim.data.toList.drop 8 = dktX2_plainAim_1 := dk_seg dksX2_plainAim_0 8 rfl rfl
theorem dksX2_plainAim_2 : cX2_plainAim.data.toList.drop 44 = dktX2_plainAim_2 := dk_seg dksX2_plainAim_1 36 rfl rfl
theorem dksX2_plainAim_3 : cX2_plainAim.data.toList.drop 68 = dktX2_plainAim_3 := dk_seg dksX2_plainAim_2 24 rfl rfl
theorem dksX2_plainAim_4 : cX2_plainAim.data.toList.drop 92 = dktX2_plainAim_4 := dk_seg dksX2_plainAim_3 24 rfl rfl
theorem dX2_plainAim_0 : decode cX2_plainAim 0 = .ok (.aload_n 0, 1) := dk_42 (dk_at dksX2_plainAim_0 0 rfl rfl)
theorem dX2_plainAim_1 : decode cX2_plainAim 1 = .ok (.getfield 9, 3) := dk_180 0 9 (dk_at dksX2_plainAim_0 1 rfl rfl)
theorem dX2_plainAim_4 : decode cX2_plainAim 4 = .ok (.iconst 4, 1) := dk_7 (dk_at dksX2_plainAim_0 4 rfl rfl)
theorem dX2_plainAim_5 : decode cX2_plainAim 5 = .ok (.iload_n 1, 1) := dk_27 (dk_at dksX2_plainAim_0 5 rfl rfl)
theorem dX2_plainAim_6 : decode cX2_plainAim 6 = .ok (.iadd, 1) := dk_96 (dk_at dksX2_plainAim_0 6 rfl rfl)
theorem dX2_plainAim_7 : decode cX2_plainAim 7 = .ok (.iaload, 1) := dk_46 (dk_at dksX2_plainAim_0 7 rfl rfl)
theorem dX2_plainAim_8 : decode cX2_plainAim 8 = .ok (.tableswitch 97 0 4 #[36, 44, 97, 52, 59], 36) := by decide +kernel
theorem dX2_plainAim_44 : decode cX2_plainAim 44 = .ok (.aload_n 0, 1) := dk_42 (dk_at dksX2_plainAim_2 0 rfl rfl)
theorem dX2_plainAim_45 : decode cX2_plainAim 45 = .ok (.iload_n 1, 1) := dk_27 (dk_at dksX2_plainAim_2 1 rfl rfl)
theorem dX2_plainAim_46 : decode cX2_plainAim 46 = .ok (.iload_n 2, 1) := dk_28 (dk_at dksX2_plainAim_2 2 rfl rfl)
theorem dX2_plainAim_47 : decode cX2_plainAim 47 = .ok (.iconst 1, 1) := dk_4 (dk_at dksX2_plainAim_2 3 rfl rfl)
theorem dX2_plainAim_48 : decode cX2_plainAim 48 = .ok (.invokevirtual 200, 3) := dk_182 0 200 (dk_at dksX2_plainAim_2 4 rfl rfl)
theorem dX2_plainAim_51 : decode cX2_plainAim 51 = .ok (.ireturn, 1) := dk_172 (dk_at dksX2_plainAim_2 7 rfl rfl)
theorem dX2_plainAim_52 : decode cX2_plainAim 52 = .ok (.aload_n 0, 1) := dk_42 (dk_at dksX2_plainAim_2 8 rfl rfl)
theorem dX2_plainAim_53 : decode cX2_plainAim 53 = .ok (.iload_n 1, 1) := dk_27 (dk_at dksX2_plainAim_2 9 rfl rfl)
theorem dX2_plainAim_54 : decode cX2_plainAim 54 = .ok (.iload_n 2, 1) := dk_28 (dk_at dksX2_plainAim_2 10 rfl rfl)
theorem dX2_plainAim_55 : decode cX2_plainAim 55 = .ok (.iconst 0, 1) := dk_3 (dk_at dksX2_plainAim_2 11 rfl rfl)
theorem dX2_plainAim_56 : decode cX2_plainAim 56 = .ok (.invokevirtual 200, 3) := dk_182 0 200 (dk_at dksX2_plainAim_2 12 rfl rfl)
theorem dX2_plainAim_59 : decode cX2_plainAim 59 = .ok (.ireturn, 1) := dk_172 (dk_at dksX2_plainAim_2 15 rfl rfl)
theorem dX2_plainAim_60 : decode cX2_plainAim 60 = .ok (.aload_n 0, 1) := dk_42 (dk_at dksX2_plainAim_2 16 rfl rfl)
theorem dX2_plainAim_61 : decode cX2_plainAim 61 = .ok (.iload_n 1, 1) := dk_27 (dk_at dksX2_plainAim_2 17 rfl rfl)
theorem dX2_plainAim_62 : decode cX2_plainAim 62 = .ok (.iload_n 2, 1) := dk_28 (dk_at dksX2_plainAim_2 18 rfl rfl)
theorem dX2_plainAim_63 : decode cX2_plainAim 63 = .ok (.invokevirtual 204, 3) := dk_182 0 204 (dk_at dksX2_plainAim_2 19 rfl rfl)
theorem dX2_plainAim_66 : decode cX2_plainAim 66 = .ok (.ireturn, 1) := dk_172 (dk_at dksX2_plainAim_2 22 rfl rfl)
theorem dX2_plainAim_67 : decode cX2_plainAim 67 = .ok (.aload_n 0, 1) := dk_42 (dk_at dksX2_plainAim_2 23 rfl rfl)
theorem dX2_plainAim_68 : decode cX2_plainAim 68 = .ok (.getfield 9, 3) := dk_180 0 9 (dk_at dksX2_plainAim_3 0 rfl rfl)
theorem dX2_plainAim_71 : decode cX2_plainAim 71 = .ok (.bipush 8, 2) := dk_16 8 (dk_at dksX2_plainAim_3 3 rfl rfl)
theorem dX2_plainAim_73 : decode cX2_plainAim 73 = .ok (.iload_n 1, 1) := dk_27 (dk_at dksX2_plainAim_3 5 rfl rfl)
theorem dX2_plainAim_74 : decode cX2_plainAim 74 = .ok (.iadd, 1) := dk_96 (dk_at dksX2_plainAim_3 6 rfl rfl)
theorem dX2_plainAim_75 : decode cX2_plainAim 75 = .ok (.iaload, 1) := dk_46 (dk_at dksX2_plainAim_3 7 rfl rfl)
theorem dX2_plainAim_76 : decode cX2_plainAim 76 = .ok (.istore_n 3, 1) := dk_62 (dk_at dksX2_plainAim_3 8 rfl rfl)
theorem dX2_plainAim_77 : decode cX2_plainAim 77 = .ok (.iload_n 3, 1) := dk_29 (dk_at dksX2_plainAim_3 9 rfl rfl)
theorem dX2_plainAim_78 : decode cX2_plainAim 78 = .ok (.aload_n 0, 1) := dk_42 (dk_at dksX2_plainAim_3 10 rfl rfl)
theorem dX2_plainAim_79 : decode cX2_plainAim 79 = .ok (.getfield 96, 3) := dk_180 0 96 (dk_at dksX2_plainAim_3 11 rfl rfl)
theorem dX2_plainAim_82 : decode cX2_plainAim 82 = .ok (.if_icmp .ge 20, 3) := dk_162 0 20 (dk_at dksX2_plainAim_3 14 rfl rfl)
theorem dX2_plainAim_85 : decode cX2_plainAim 85 = .ok (.iload_n 3, 1) := dk_29 (dk_at dksX2_plainAim_3 17 rfl rfl)
theorem dX2_plainAim_86 : decode cX2_plainAim 86 = .ok (.iload_n 1, 1) := dk_27 (dk_at dksX2_plainAim_3 18 rfl rfl)
theorem dX2_plainAim_87 : decode cX2_plainAim 87 = .ok (.if_icmp .eq 15, 3) := dk_159 0 15 (dk_at dksX2_plainAim_3 19 rfl rfl)
theorem dX2_plainAim_90 : decode cX2_plainAim 90 = .ok (.iload_n 2, 1) := dk_28 (dk_at dksX2_plainAim_3 22 rfl rfl)
theorem dX2_plainAim_91 : decode cX2_plainAim 91 = .ok (.iload_n 3, 1) := dk_29 (dk_at dksX2_plainAim_3 23 rfl rfl)
theorem dX2_plainAim_92 : decode cX2_plainAim 92 = .ok (.invokestatic 133, 3) := dk_184 0 133 (dk_at dksX2_plainAim_4 0 rfl rfl)
theorem dX2_plainAim_95 : decode cX2_plainAim 95 = .ok (.ifCond .eq 7, 3) := dk_153 0 7 (dk_at dksX2_plainAim_4 3 rfl rfl)
theorem dX2_plainAim_98 : decode cX2_plainAim 98 = .ok (.iload_n 3, 1) := dk_29 (dk_at dksX2_plainAim_4 6 rfl rfl)
theorem dX2_plainAim_99 : decode cX2_plainAim 99 = .ok (.goto 5, 3) := dk_167 0 5 (dk_at dksX2_plainAim_4 7 rfl rfl)
theorem dX2_plainAim_102 : decode cX2_plainAim 102 = .ok (.bipush 9, 2) := dk_16 9 (dk_at dksX2_plainAim_4 10 rfl rfl)
theorem dX2_plainAim_104 : decode cX2_plainAim 104 = .ok (.ireturn, 1) := dk_172 (dk_at dksX2_plainAim_4 12 rfl rfl)
theorem dX2_plainAim_105 : decode cX2_plainAim 105 = .ok (.bipush 9, 2) := dk_16 9 (dk_at dksX2_plainAim_4 13 rfl rfl)
theorem dX2_plainAim_107 : decode cX2_plainAim 107 = .ok (.ireturn, 1) := dk_172 (dk_at dksX2_plainAim_4 15 rfl rfl)
abbrev cX2_byHits : ByteArray := prog_31_method_36_code
def yX2_byHits : MethodName := ⟨RX2, "byHits", "(IIZ)I"⟩
def dkwX2_byHits_5 : List UInt8 := [54, 4, 132, 5, 1, 167, 255, 143, 21, 4, 172]
abbrev dktX2_byHits_5 : List UInt8 := dkwX2_byHits_5 ++ []
def dkwX2_byHits_4 : List UInt8 := [167, 0, 4, 3, 54, 7, 21, 6, 153, 0, 13, 21, 7, 153, 0, 8, 21, 5, 167, 0, 5, 21, 4]
abbrev dktX2_byHits_4 : List UInt8 := dkwX2_byHits_4 ++ dktX2_byHits_5
def dkwX2_byHits_3 : List UInt8 := [164, 0, 27, 167, 0, 20, 42, 180, 0, 9, 21, 5, 46, 42, 180, 0, 9, 21, 4, 46, 162, 0, 7, 4]
abbrev dktX2_byHits_3 : List UInt8 := dkwX2_byHits_3 ++ dktX2_byHits_4
def dkwX2_byHits_2 : List UInt8 := [21, 6, 153, 0, 48, 29, 153, 0, 23, 42, 180, 0, 9, 21, 5, 46, 42, 180, 0, 9, 21, 4, 46]
abbrev dktX2_byHits_2 : List UInt8 := dkwX2_byHits_2 ++ dktX2_byHits_3
def dkwX2_byHits_1 : List UInt8 := [153, 0, 13, 21, 5, 27, 159, 0, 7, 4, 167, 0, 4, 3, 54, 6, 21, 4, 16, 9, 159, 0, 49]
abbrev dktX2_byHits_1 : List UInt8 := dkwX2_byHits_1 ++ dktX2_byHits_2
def dkwX2_byHits_0 : List UInt8 := [16, 9, 54, 4, 3, 54, 5, 21, 5, 42, 180, 0, 96, 162, 0, 110, 28, 21, 5, 184, 0, 133]
abbrev dktX2_byHits_0 : List UInt8 := dkwX2_byHits_0 ++ dktX2_byHits_1
theorem dksX2_byHits_0 : cX2_byHits.data.toList.drop 0 = dktX2_byHits_0 := by decide +kernel
theorem dksX2_byHits_1 : cX2_byHits.data.toList.drop 22 = dktX2_byHits_1 := dk_seg dksX2_byHits_0 22 rfl rfl
theorem dksX2_byHits_2 : cX2_byHits.data.toList.drop 45 = dktX2_byHits_2 := dk_seg dksX2_byHits_1 23 rfl rfl
theorem dksX2_byHits_3 : cX2_byHits.data.toList.drop 68 = dktX2_byHits_3 := dk_seg dksX2_byHits_2 23 rfl rfl
theorem dksX2_byHits_4 : cX2_byHits.data.toList.drop 92 = dktX2_byHits_4 := dk_seg dksX2_byHits_3 24 rfl rfl
theorem dksX2_byHits_5 : cX2_byHits.data.toList.drop 115 = dktX2_byHits_5 := dk_seg dksX2_byHits_4 23 rfl rfl
theorem dX2_byHits_0 : decode cX2_byHits 0 = .ok (.bipush 9, 2) := dk_16 9 (dk_at dksX2_byHits_0 0 rfl rfl)
theorem dX2_byHits_2 : decode cX2_byHits 2 = .ok (.istore 4, 2) := dk_54 4 (dk_at dksX2_byHits_0 2 rfl rfl)
theorem dX2_byHits_4 : decode cX2_byHits 4 = .ok (.iconst 0, 1) := dk_3 (dk_at dksX2_byHits_0 4 rfl rfl)
theorem dX2_byHits_5 : decode cX2_byHits 5 = .ok (.istore 5, 2) := dk_54 5 (dk_at dksX2_byHits_0 5 rfl rfl)
theorem dX2_byHits_7 : decode cX2_byHits 7 = .ok (.iload 5, 2) := dk_21 5 (dk_at dksX2_byHits_0 7 rfl rfl)
theorem dX2_byHits_9 : decode cX2_byHits 9 = .ok (.aload_n 0, 1) := dk_42 (dk_at dksX2_byHits_0 9 rfl rfl)
theorem dX2_byHits_10 : decode cX2_byHits 10 = .ok (.getfield 96, 3) := dk_180 0 96 (dk_at dksX2_byHits_0 10 rfl rfl)
theorem dX2_byHits_13 : decode cX2_byHits 13 = .ok (.if_icmp .ge 110, 3) := dk_162 0 110 (dk_at dksX2_byHits_0 13 rfl rfl)
theorem dX2_byHits_16 : decode cX2_byHits 16 = .ok (.iload_n 2, 1) := dk_28 (dk_at dksX2_byHits_0 16 rfl rfl)
theorem dX2_byHits_17 : decode cX2_byHits 17 = .ok (.iload 5, 2) := dk_21 5 (dk_at dksX2_byHits_0 17 rfl rfl)
theorem dX2_byHits_19 : decode cX2_byHits 19 = .ok (.invokestatic 133, 3) := dk_184 0 133 (dk_at dksX2_byHits_0 19 rfl rfl)
theorem dX2_byHits_22 : decode cX2_byHits 22 = .ok (.ifCond .eq 13, 3) := dk_153 0 13 (dk_at dksX2_byHits_1 0 rfl rfl)
theorem dX2_byHits_25 : decode cX2_byHits 25 = .ok (.iload 5, 2) := dk_21 5 (dk_at dksX2_byHits_1 3 rfl rfl)
theorem dX2_byHits_27 : decode cX2_byHits 27 = .ok (.iload_n 1, 1) := dk_27 (dk_at dksX2_byHits_1 5 rfl rfl)
theorem dX2_byHits_28 : decode cX2_byHits 28 = .ok (.if_icmp .eq 7, 3) := dk_159 0 7 (dk_at dksX2_byHits_1 6 rfl rfl)
theorem dX2_byHits_31 : decode cX2_byHits 31 = .ok (.iconst 1, 1) := dk_4 (dk_at dksX2_byHits_1 9 rfl rfl)
theorem dX2_byHits_32 : decode cX2_byHits 32 = .ok (.goto 4, 3) := dk_167 0 4 (dk_at dksX2_byHits_1 10 rfl rfl)
theorem dX2_byHits_35 : decode cX2_byHits 35 = .ok (.iconst 0, 1) := dk_3 (dk_at dksX2_byHits_1 13 rfl rfl)
theorem dX2_byHits_36 : decode cX2_byHits 36 = .ok (.istore 6, 2) := dk_54 6 (dk_at dksX2_byHits_1 14 rfl rfl)
theorem dX2_byHits_38 : decode cX2_byHits 38 = .ok (.iload 4, 2) := dk_21 4 (dk_at dksX2_byHits_1 16 rfl rfl)
theorem dX2_byHits_40 : decode cX2_byHits 40 = .ok (.bipush 9, 2) := dk_16 9 (dk_at dksX2_byHits_1 18 rfl rfl)
theorem dX2_byHits_42 : decode cX2_byHits 42 = .ok (.if_icmp .eq 49, 3) := dk_159 0 49 (dk_at dksX2_byHits_1 20 rfl rfl)
theorem dX2_byHits_45 : decode cX2_byHits 45 = .ok (.iload 6, 2) := dk_21 6 (dk_at dksX2_byHits_2 0 rfl rfl)
theorem dX2_byHits_47 : decode cX2_byHits 47 = .ok (.ifCond .eq 48, 3) := dk_153 0 48 (dk_at dksX2_byHits_2 2 rfl rfl)
theorem dX2_byHits_50 : decode cX2_byHits 50 = .ok (.iload_n 3, 1) := dk_29 (dk_at dksX2_byHits_2 5 rfl rfl)
theorem dX2_byHits_51 : decode cX2_byHits 51 = .ok (.ifCond .eq 23, 3) := dk_153 0 23 (dk_at dksX2_byHits_2 6 rfl rfl)
theorem dX2_byHits_54 : decode cX2_byHits 54 = .ok (.aload_n 0, 1) := dk_42 (dk_at dksX2_byHits_2 9 rfl rfl)
theorem dX2_byHits_55 : decode cX2_byHits 55 = .ok (.getfield 9, 3) := dk_180 0 9 (dk_at dksX2_byHits_2 10 rfl rfl)
theorem dX2_byHits_58 : decode cX2_byHits 58 = .ok (.iload 5, 2) := dk_21 5 (dk_at dksX2_byHits_2 13 rfl rfl)
theorem dX2_byHits_60 : decode cX2_byHits 60 = .ok (.iaload, 1) := dk_46 (dk_at dksX2_byHits_2 15 rfl rfl)
theorem dX2_byHits_61 : decode cX2_byHits 61 = .ok (.aload_n 0, 1) := dk_42 (dk_at dksX2_byHits_2 16 rfl rfl)
theorem dX2_byHits_62 : decode cX2_byHits 62 = .ok (.getfield 9, 3) := dk_180 0 9 (dk_at dksX2_byHits_2 17 rfl rfl)
theorem dX2_byHits_65 : decode cX2_byHits 65 = .ok (.iload 4, 2) := dk_21 4 (dk_at dksX2_byHits_2 20 rfl rfl)
theorem dX2_byHits_67 : decode cX2_byHits 67 = .ok (.iaload, 1) := dk_46 (dk_at dksX2_byHits_2 22 rfl rfl)
theorem dX2_byHits_68 : decode cX2_byHits 68 = .ok (.if_icmp .le 27, 3) := dk_164 0 27 (dk_at dksX2_byHits_3 0 rfl rfl)
theorem dX2_byHits_71 : decode cX2_byHits 71 = .ok (.goto 20, 3) := dk_167 0 20 (dk_at dksX2_byHits_3 3 rfl rfl)
theorem dX2_byHits_74 : decode cX2_byHits 74 = .ok (.aload_n 0, 1) := dk_42 (dk_at dksX2_byHits_3 6 rfl rfl)
theorem dX2_byHits_75 : decode cX2_byHits 75 = .ok (.getfield 9, 3) := dk_180 0 9 (dk_at dksX2_byHits_3 7 rfl rfl)
theorem dX2_byHits_78 : decode cX2_byHits 78 = .ok (.iload 5, 2) := dk_21 5 (dk_at dksX2_byHits_3 10 rfl rfl)
theorem dX2_byHits_80 : decode cX2_byHits 80 = .ok (.iaload, 1) := dk_46 (dk_at dksX2_byHits_3 12 rfl rfl)
theorem dX2_byHits_81 : decode cX2_byHits 81 = .ok (.aload_n 0, 1) := dk_42 (dk_at dksX2_byHits_3 13 rfl rfl)
theorem dX2_byHits_82 : decode cX2_byHits 82 = .ok (.getfield 9, 3) := dk_180 0 9 (dk_at dksX2_byHits_3 14 rfl rfl)
theorem dX2_byHits_85 : decode cX2_byHits 85 = .ok (.iload 4, 2) := dk_21 4 (dk_at dksX2_byHits_3 17 rfl rfl)
theorem dX2_byHits_87 : decode cX2_byHits 87 = .ok (.iaload, 1) := dk_46 (dk_at dksX2_byHits_3 19 rfl rfl)
theorem dX2_byHits_88 : decode cX2_byHits 88 = .ok (.if_icmp .ge 7, 3) := dk_162 0 7 (dk_at dksX2_byHits_3 20 rfl rfl)
theorem dX2_byHits_91 : decode cX2_byHits 91 = .ok (.iconst 1, 1) := dk_4 (dk_at dksX2_byHits_3 23 rfl rfl)
theorem dX2_byHits_92 : decode cX2_byHits 92 = .ok (.goto 4, 3) := dk_167 0 4 (dk_at dksX2_byHits_4 0 rfl rfl)
theorem dX2_byHits_95 : decode cX2_byHits 95 = .ok (.iconst 0, 1) := dk_3 (dk_at dksX2_byHits_4 3 rfl rfl)
theorem dX2_byHits_96 : decode cX2_byHits 96 = .ok (.istore 7, 2) := dk_54 7 (dk_at dksX2_byHits_4 4 rfl rfl)
theorem dX2_byHits_98 : decode cX2_byHits 98 = .ok (.iload 6, 2) := dk_21 6 (dk_at dksX2_byHits_4 6 rfl rfl)
theorem dX2_byHits_100 : decode cX2_byHits 100 = .ok (.ifCond .eq 13, 3) := dk_153 0 13 (dk_at dksX2_byHits_4 8 rfl rfl)
theorem dX2_byHits_103 : decode cX2_byHits 103 = .ok (.iload 7, 2) := dk_21 7 (dk_at dksX2_byHits_4 11 rfl rfl)
theorem dX2_byHits_105 : decode cX2_byHits 105 = .ok (.ifCond .eq 8, 3) := dk_153 0 8 (dk_at dksX2_byHits_4 13 rfl rfl)
theorem dX2_byHits_108 : decode cX2_byHits 108 = .ok (.iload 5, 2) := dk_21 5 (dk_at dksX2_byHits_4 16 rfl rfl)
theorem dX2_byHits_110 : decode cX2_byHits 110 = .ok (.goto 5, 3) := dk_167 0 5 (dk_at dksX2_byHits_4 18 rfl rfl)
theorem dX2_byHits_113 : decode cX2_byHits 113 = .ok (.iload 4, 2) := dk_21 4 (dk_at dksX2_byHits_4 21 rfl rfl)
theorem dX2_byHits_115 : decode cX2_byHits 115 = .ok (.istore 4, 2) := dk_54 4 (dk_at dksX2_byHits_5 0 rfl rfl)
theorem dX2_byHits_117 : decode cX2_byHits 117 = .ok (.iinc 5 1, 3) := dk_132 5 1 (dk_at dksX2_byHits_5 2 rfl rfl)
theorem dX2_byHits_120 : decode cX2_byHits 120 = .ok (.goto (-113), 3) := dk_167 255 143 (dk_at dksX2_byHits_5 5 rfl rfl)
theorem dX2_byHits_123 : decode cX2_byHits 123 = .ok (.iload 4, 2) := dk_21 4 (dk_at dksX2_byHits_5 8 rfl rfl)
theorem dX2_byHits_125 : decode cX2_byHits 125 = .ok (.ireturn, 1) := dk_172 (dk_at dksX2_byHits_5 10 rfl rfl)
abbrev cX2_nextOf : ByteArray := prog_31_method_34_code
def yX2_nextOf : MethodName := ⟨RX2, "nextOf", "(II)I"⟩
def dkwX2_nextOf_2 : List UInt8 := [167, 255, 213, 27, 172]
abbrev dktX2_nextOf_2 : List UInt8 := dkwX2_nextOf_2 ++ []
def dkwX2_nextOf_1 : List UInt8 := [180, 0, 96, 112, 46, 54, 4, 28, 21, 4, 184, 0, 133, 153, 0, 6, 21, 4, 172, 132, 3, 1]
abbrev dktX2_nextOf_1 : List UInt8 := dkwX2_nextOf_1 ++ dktX2_nextOf_2
def dkwX2_nextOf_0 : List UInt8 := [4, 62, 29, 42, 180, 0, 96, 163, 0, 41, 42, 180, 0, 22, 42, 180, 0, 25, 27, 46, 29, 96, 42]
abbrev dktX2_nextOf_0 : List UInt8 := dkwX2_nextOf_0 ++ dktX2_nextOf_1
theorem dksX2_nextOf_0 : cX2_nextOf.data.toList.drop 0 = dktX2_nextOf_0 := by decide +kernel
theorem dksX2_nextOf_1 : cX2_nextOf.data.toList.drop 23 = dktX2_nextOf_1 := dk_seg dksX2_nextOf_0 23 rfl rfl
theorem dksX2_nextOf_2 : cX2_nextOf.data.toList.drop 45 = dktX2_nextOf_2 := dk_seg dksX2_nextOf_1 22 rfl rfl
theorem dX2_nextOf_0 : decode cX2_nextOf 0 = .ok (.iconst 1, 1) := dk_4 (dk_at dksX2_nextOf_0 0 rfl rfl)
theorem dX2_nextOf_1 : decode cX2_nextOf 1 = .ok (.istore_n 3, 1) := dk_62 (dk_at dksX2_nextOf_0 1 rfl rfl)
theorem dX2_nextOf_2 : decode cX2_nextOf 2 = .ok (.iload_n 3, 1) := dk_29 (dk_at dksX2_nextOf_0 2 rfl rfl)
theorem dX2_nextOf_3 : decode cX2_nextOf 3 = .ok (.aload_n 0, 1) := dk_42 (dk_at dksX2_nextOf_0 3 rfl rfl)
theorem dX2_nextOf_4 : decode cX2_nextOf 4 = .ok (.getfield 96, 3) := dk_180 0 96 (dk_at dksX2_nextOf_0 4 rfl rfl)
theorem dX2_nextOf_7 : decode cX2_nextOf 7 = .ok (.if_icmp .gt 41, 3) := dk_163 0 41 (dk_at dksX2_nextOf_0 7 rfl rfl)
theorem dX2_nextOf_10 : decode cX2_nextOf 10 = .ok (.aload_n 0, 1) := dk_42 (dk_at dksX2_nextOf_0 10 rfl rfl)
theorem dX2_nextOf_11 : decode cX2_nextOf 11 = .ok (.getfield 22, 3) := dk_180 0 22 (dk_at dksX2_nextOf_0 11 rfl rfl)
theorem dX2_nextOf_14 : decode cX2_nextOf 14 = .ok (.aload_n 0, 1) := dk_42 (dk_at dksX2_nextOf_0 14 rfl rfl)
theorem dX2_nextOf_15 : decode cX2_nextOf 15 = .ok (.getfield 25, 3) := dk_180 0 25 (dk_at dksX2_nextOf_0 15 rfl rfl)
theorem dX2_nextOf_18 : decode cX2_nextOf 18 = .ok (.iload_n 1, 1) := dk_27 (dk_at dksX2_nextOf_0 18 rfl rfl)
theorem dX2_nextOf_19 : decode cX2_nextOf 19 = .ok (.iaload, 1) := dk_46 (dk_at dksX2_nextOf_0 19 rfl rfl)
theorem dX2_nextOf_20 : decode cX2_nextOf 20 = .ok (.iload_n 3, 1) := dk_29 (dk_at dksX2_nextOf_0 20 rfl rfl)
theorem dX2_nextOf_21 : decode cX2_nextOf 21 = .ok (.iadd, 1) := dk_96 (dk_at dksX2_nextOf_0 21 rfl rfl)
theorem dX2_nextOf_22 : decode cX2_nextOf 22 = .ok (.aload_n 0, 1) := dk_42 (dk_at dksX2_nextOf_0 22 rfl rfl)
theorem dX2_nextOf_23 : decode cX2_nextOf 23 = .ok (.getfield 96, 3) := dk_180 0 96 (dk_at dksX2_nextOf_1 0 rfl rfl)
theorem dX2_nextOf_26 : decode cX2_nextOf 26 = .ok (.irem, 1) := dk_112 (dk_at dksX2_nextOf_1 3 rfl rfl)
theorem dX2_nextOf_27 : decode cX2_nextOf 27 = .ok (.iaload, 1) := dk_46 (dk_at dksX2_nextOf_1 4 rfl rfl)
theorem dX2_nextOf_28 : decode cX2_nextOf 28 = .ok (.istore 4, 2) := dk_54 4 (dk_at dksX2_nextOf_1 5 rfl rfl)
theorem dX2_nextOf_30 : decode cX2_nextOf 30 = .ok (.iload_n 2, 1) := dk_28 (dk_at dksX2_nextOf_1 7 rfl rfl)
theorem dX2_nextOf_31 : decode cX2_nextOf 31 = .ok (.iload 4, 2) := dk_21 4 (dk_at dksX2_nextOf_1 8 rfl rfl)
theorem dX2_nextOf_33 : decode cX2_nextOf 33 = .ok (.invokestatic 133, 3) := dk_184 0 133 (dk_at dksX2_nextOf_1 10 rfl rfl)
theorem dX2_nextOf_36 : decode cX2_nextOf 36 = .ok (.ifCond .eq 6, 3) := dk_153 0 6 (dk_at dksX2_nextOf_1 13 rfl rfl)
theorem dX2_nextOf_39 : decode cX2_nextOf 39 = .ok (.iload 4, 2) := dk_21 4 (dk_at dksX2_nextOf_1 16 rfl rfl)
theorem dX2_nextOf_41 : decode cX2_nextOf 41 = .ok (.ireturn, 1) := dk_172 (dk_at dksX2_nextOf_1 18 rfl rfl)
theorem dX2_nextOf_42 : decode cX2_nextOf 42 = .ok (.iinc 3 1, 3) := dk_132 3 1 (dk_at dksX2_nextOf_1 19 rfl rfl)
theorem dX2_nextOf_45 : decode cX2_nextOf 45 = .ok (.goto (-43), 3) := dk_167 255 213 (dk_at dksX2_nextOf_2 0 rfl rfl)
theorem dX2_nextOf_48 : decode cX2_nextOf 48 = .ok (.iload_n 1, 1) := dk_27 (dk_at dksX2_nextOf_2 3 rfl rfl)
theorem dX2_nextOf_49 : decode cX2_nextOf 49 = .ok (.ireturn, 1) := dk_172 (dk_at dksX2_nextOf_2 4 rfl rfl)
abbrev cX2_worthBy : ByteArray := prog_31_method_38_code
def yX2_worthBy : MethodName := ⟨RX2, "worthBy", "(IIIII)V"⟩
def dkwX2_worthBy_4 : List UInt8 := [133, 42, 180, 0, 47, 21, 6, 21, 9, 96, 47, 105, 97, 80, 132, 9, 1, 167, 255, 205, 177]
abbrev dktX2_worthBy_4 : List UInt8 := dkwX2_worthBy_4 ++ []
def dkwX2_worthBy_3 : List UInt8 := [180, 0, 56, 21, 9, 21, 5, 133, 42, 180, 0, 47, 21, 8, 21, 9, 96, 47, 105, 16, 12, 21, 5, 100]
abbrev dktX2_worthBy_3 : List UInt8 := dkwX2_worthBy_3 ++ dktX2_worthBy_4
def dkwX2_worthBy_2 : List UInt8 := [182, 0, 204, 184, 0, 207, 104, 54, 8, 3, 54, 9, 21, 9, 42, 180, 0, 96, 162, 0, 48, 42]
abbrev dktX2_worthBy_2 : List UInt8 := dkwX2_worthBy_2 ++ dktX2_worthBy_3
def dkwX2_worthBy_1 : List UInt8 := [28, 167, 0, 11, 28, 4, 21, 4, 120, 2, 130, 126, 54, 7, 7, 27, 4, 96, 21, 7, 42, 29, 21, 7]
abbrev dktX2_worthBy_1 : List UInt8 := dkwX2_worthBy_1 ++ dktX2_worthBy_2
def dkwX2_worthBy_0 : List UInt8 := [7, 27, 4, 96, 28, 42, 29, 28, 182, 0, 204, 184, 0, 207, 104, 54, 6, 21, 4, 16, 9, 160, 0, 7]
abbrev dktX2_worthBy_0 : List UInt8 := dkwX2_worthBy_0 ++ dktX2_worthBy_1
theorem dksX2_worthBy_0 : cX2_worthBy.data.toList.drop 0 = dktX2_worthBy_0 := by decide +kernel
theorem dksX2_worthBy_1 : cX2_worthBy.data.toList.drop 24 = dktX2_worthBy_1 := dk_seg dksX2_worthBy_0 24 rfl rfl
theorem dksX2_worthBy_2 : cX2_worthBy.data.toList.drop 48 = dktX2_worthBy_2 := dk_seg dksX2_worthBy_1 24 rfl rfl
theorem dksX2_worthBy_3 : cX2_worthBy.data.toList.drop 70 = dktX2_worthBy_3 := dk_seg dksX2_worthBy_2 22 rfl rfl
theorem dksX2_worthBy_4 : cX2_worthBy.data.toList.drop 94 = dktX2_worthBy_4 := dk_seg dksX2_worthBy_3 24 rfl rfl
theorem dX2_worthBy_0 : decode cX2_worthBy 0 = .ok (.iconst 4, 1) := dk_7 (dk_at dksX2_worthBy_0 0 rfl rfl)
theorem dX2_worthBy_1 : decode cX2_worthBy 1 = .ok (.iload_n 1, 1) := dk_27 (dk_at dksX2_worthBy_0 1 rfl rfl)
theorem dX2_worthBy_2 : decode cX2_worthBy 2 = .ok (.iconst 1, 1) := dk_4 (dk_at dksX2_worthBy_0 2 rfl rfl)
theorem dX2_worthBy_3 : decode cX2_worthBy 3 = .ok (.iadd, 1) := dk_96 (dk_at dksX2_worthBy_0 3 rfl rfl)
theorem dX2_worthBy_4 : decode cX2_worthBy 4 = .ok (.iload_n 2, 1) := dk_28 (dk_at dksX2_worthBy_0 4 rfl rfl)
theorem dX2_worthBy_5 : decode cX2_worthBy 5 = .ok (.aload_n 0, 1) := dk_42 (dk_at dksX2_worthBy_0 5 rfl rfl)
theorem dX2_worthBy_6 : decode cX2_worthBy 6 = .ok (.iload_n 3, 1) := dk_29 (dk_at dksX2_worthBy_0 6 rfl rfl)
theorem dX2_worthBy_7 : decode cX2_worthBy 7 = .ok (.iload_n 2, 1) := dk_28 (dk_at dksX2_worthBy_0 7 rfl rfl)
theorem dX2_worthBy_8 : decode cX2_worthBy 8 = .ok (.invokevirtual 204, 3) := dk_182 0 204 (dk_at dksX2_worthBy_0 8 rfl rfl)
theorem dX2_worthBy_11 : decode cX2_worthBy 11 = .ok (.invokestatic 207, 3) := dk_184 0 207 (dk_at dksX2_worthBy_0 11 rfl rfl)
theorem dX2_worthBy_14 : decode cX2_worthBy 14 = .ok (.imul, 1) := dk_104 (dk_at dksX2_worthBy_0 14 rfl rfl)
theorem dX2_worthBy_15 : decode cX2_worthBy 15 = .ok (.istore 6, 2) := dk_54 6 (dk_at dksX2_worthBy_0 15 rfl rfl)
theorem dX2_worthBy_17 : decode cX2_worthBy 17 = .ok (.iload 4, 2) := dk_21 4 (dk_at dksX2_worthBy_0 17 rfl rfl)
theorem dX2_worthBy_19 : decode cX2_worthBy 19 = .ok (.bipush 9, 2) := dk_16 9 (dk_at dksX2_worthBy_0 19 rfl rfl)
theorem dX2_worthBy_21 : decode cX2_worthBy 21 = .ok (.if_icmp .ne 7, 3) := dk_160 0 7 (dk_at dksX2_worthBy_0 21 rfl rfl)
theorem dX2_worthBy_24 : decode cX2_worthBy 24 = .ok (.iload_n 2, 1) := dk_28 (dk_at dksX2_worthBy_1 0 rfl rfl)
theorem dX2_worthBy_25 : decode cX2_worthBy 25 = .ok (.goto 11, 3) := dk_167 0 11 (dk_at dksX2_worthBy_1 1 rfl rfl)
theorem dX2_worthBy_28 : decode cX2_worthBy 28 = .ok (.iload_n 2, 1) := dk_28 (dk_at dksX2_worthBy_1 4 rfl rfl)
theorem dX2_worthBy_29 : decode cX2_worthBy 29 = .ok (.iconst 1, 1) := dk_4 (dk_at dksX2_worthBy_1 5 rfl rfl)
theorem dX2_worthBy_30 : decode cX2_worthBy 30 = .ok (.iload 4, 2) := dk_21 4 (dk_at dksX2_worthBy_1 6 rfl rfl)
theorem dX2_worthBy_32 : decode cX2_worthBy 32 = .ok (.ishl, 1) := dk_120 (dk_at dksX2_worthBy_1 8 rfl rfl)
theorem dX2_worthBy_33 : decode cX2_worthBy 33 = .ok (.iconst (-1), 1) := dk_2 (dk_at dksX2_worthBy_1 9 rfl rfl)
theorem dX2_worthBy_34 : decode cX2_worthBy 34 = .ok (.ixor, 1) := dk_130 (dk_at dksX2_worthBy_1 10 rfl rfl)
theorem dX2_worthBy_35 : decode cX2_worthBy 35 = .ok (.iand, 1) := dk_126 (dk_at dksX2_worthBy_1 11 rfl rfl)
theorem dX2_worthBy_36 : decode cX2_worthBy 36 = .ok (.istore 7, 2) := dk_54 7 (dk_at dksX2_worthBy_1 12 rfl rfl)
theorem dX2_worthBy_38 : decode cX2_worthBy 38 = .ok (.iconst 4, 1) := dk_7 (dk_at dksX2_worthBy_1 14 rfl rfl)
theorem dX2_worthBy_39 : decode cX2_worthBy 39 = .ok (.iload_n 1, 1) := dk_27 (dk_at dksX2_worthBy_1 15 rfl rfl)
theorem dX2_worthBy_40 : decode cX2_worthBy 40 = .ok (.iconst 1, 1) := dk_4 (dk_at dksX2_worthBy_1 16 rfl rfl)
theorem dX2_worthBy_41 : decode cX2_worthBy 41 = .ok (.iadd, 1) := dk_96 (dk_at dksX2_worthBy_1 17 rfl rfl)
theorem dX2_worthBy_42 : decode cX2_worthBy 42 = .ok (.iload 7, 2) := dk_21 7 (dk_at dksX2_worthBy_1 18 rfl rfl)
theorem dX2_worthBy_44 : decode cX2_worthBy 44 = .ok (.aload_n 0, 1) := dk_42 (dk_at dksX2_worthBy_1 20 rfl rfl)
theorem dX2_worthBy_45 : decode cX2_worthBy 45 = .ok (.iload_n 3, 1) := dk_29 (dk_at dksX2_worthBy_1 21 rfl rfl)
theorem dX2_worthBy_46 : decode cX2_worthBy 46 = .ok (.iload 7, 2) := dk_21 7 (dk_at dksX2_worthBy_1 22 rfl rfl)
theorem dX2_worthBy_48 : decode cX2_worthBy 48 = .ok (.invokevirtual 204, 3) := dk_182 0 204 (dk_at dksX2_worthBy_2 0 rfl rfl)
theorem dX2_worthBy_51 : decode cX2_worthBy 51 = .ok (.invokestatic 207, 3) := dk_184 0 207 (dk_at dksX2_worthBy_2 3 rfl rfl)
theorem dX2_worthBy_54 : decode cX2_worthBy 54 = .ok (.imul, 1) := dk_104 (dk_at dksX2_worthBy_2 6 rfl rfl)
theorem dX2_worthBy_55 : decode cX2_worthBy 55 = .ok (.istore 8, 2) := dk_54 8 (dk_at dksX2_worthBy_2 7 rfl rfl)
theorem dX2_worthBy_57 : decode cX2_worthBy 57 = .ok (.iconst 0, 1) := dk_3 (dk_at dksX2_worthBy_2 9 rfl rfl)
theorem dX2_worthBy_58 : decode cX2_worthBy 58 = .ok (.istore 9, 2) := dk_54 9 (dk_at dksX2_worthBy_2 10 rfl rfl)
theorem dX2_worthBy_60 : decode cX2_worthBy 60 = .ok (.iload 9, 2) := dk_21 9 (dk_at dksX2_worthBy_2 12 rfl rfl)
theorem dX2_worthBy_62 : decode cX2_worthBy 62 = .ok (.aload_n 0, 1) := dk_42 (dk_at dksX2_worthBy_2 14 rfl rfl)
theorem dX2_worthBy_63 : decode cX2_worthBy 63 = .ok (.getfield 96, 3) := dk_180 0 96 (dk_at dksX2_worthBy_2 15 rfl rfl)
theorem dX2_worthBy_66 : decode cX2_worthBy 66 = .ok (.if_icmp .ge 48, 3) := dk_162 0 48 (dk_at dksX2_worthBy_2 18 rfl rfl)
theorem dX2_worthBy_69 : decode cX2_worthBy 69 = .ok (.aload_n 0, 1) := dk_42 (dk_at dksX2_worthBy_2 21 rfl rfl)
theorem dX2_worthBy_70 : decode cX2_worthBy 70 = .ok (.getfield 56, 3) := dk_180 0 56 (dk_at dksX2_worthBy_3 0 rfl rfl)
theorem dX2_worthBy_73 : decode cX2_worthBy 73 = .ok (.iload 9, 2) := dk_21 9 (dk_at dksX2_worthBy_3 3 rfl rfl)
theorem dX2_worthBy_75 : decode cX2_worthBy 75 = .ok (.iload 5, 2) := dk_21 5 (dk_at dksX2_worthBy_3 5 rfl rfl)
theorem dX2_worthBy_77 : decode cX2_worthBy 77 = .ok (.i2l, 1) := dk_133 (dk_at dksX2_worthBy_3 7 rfl rfl)
theorem dX2_worthBy_78 : decode cX2_worthBy 78 = .ok (.aload_n 0, 1) := dk_42 (dk_at dksX2_worthBy_3 8 rfl rfl)
theorem dX2_worthBy_79 : decode cX2_worthBy 79 = .ok (.getfield 47, 3) := dk_180 0 47 (dk_at dksX2_worthBy_3 9 rfl rfl)
theorem dX2_worthBy_82 : decode cX2_worthBy 82 = .ok (.iload 8, 2) := dk_21 8 (dk_at dksX2_worthBy_3 12 rfl rfl)
theorem dX2_worthBy_84 : decode cX2_worthBy 84 = .ok (.iload 9, 2) := dk_21 9 (dk_at dksX2_worthBy_3 14 rfl rfl)
theorem dX2_worthBy_86 : decode cX2_worthBy 86 = .ok (.iadd, 1) := dk_96 (dk_at dksX2_worthBy_3 16 rfl rfl)
theorem dX2_worthBy_87 : decode cX2_worthBy 87 = .ok (.laload, 1) := dk_47 (dk_at dksX2_worthBy_3 17 rfl rfl)
theorem dX2_worthBy_88 : decode cX2_worthBy 88 = .ok (.lmul, 1) := dk_105 (dk_at dksX2_worthBy_3 18 rfl rfl)
theorem dX2_worthBy_89 : decode cX2_worthBy 89 = .ok (.bipush 12, 2) := dk_16 12 (dk_at dksX2_worthBy_3 19 rfl rfl)
theorem dX2_worthBy_91 : decode cX2_worthBy 91 = .ok (.iload 5, 2) := dk_21 5 (dk_at dksX2_worthBy_3 21 rfl rfl)
theorem dX2_worthBy_93 : decode cX2_worthBy 93 = .ok (.isub, 1) := dk_100 (dk_at dksX2_worthBy_3 23 rfl rfl)
theorem dX2_worthBy_94 : decode cX2_worthBy 94 = .ok (.i2l, 1) := dk_133 (dk_at dksX2_worthBy_4 0 rfl rfl)
theorem dX2_worthBy_95 : decode cX2_worthBy 95 = .ok (.aload_n 0, 1) := dk_42 (dk_at dksX2_worthBy_4 1 rfl rfl)
theorem dX2_worthBy_96 : decode cX2_worthBy 96 = .ok (.getfield 47, 3) := dk_180 0 47 (dk_at dksX2_worthBy_4 2 rfl rfl)
theorem dX2_worthBy_99 : decode cX2_worthBy 99 = .ok (.iload 6, 2) := dk_21 6 (dk_at dksX2_worthBy_4 5 rfl rfl)
theorem dX2_worthBy_101 : decode cX2_worthBy 101 = .ok (.iload 9, 2) := dk_21 9 (dk_at dksX2_worthBy_4 7 rfl rfl)
theorem dX2_worthBy_103 : decode cX2_worthBy 103 = .ok (.iadd, 1) := dk_96 (dk_at dksX2_worthBy_4 9 rfl rfl)
theorem dX2_worthBy_104 : decode cX2_worthBy 104 = .ok (.laload, 1) := dk_47 (dk_at dksX2_worthBy_4 10 rfl rfl)
theorem dX2_worthBy_105 : decode cX2_worthBy 105 = .ok (.lmul, 1) := dk_105 (dk_at dksX2_worthBy_4 11 rfl rfl)
theorem dX2_worthBy_106 : decode cX2_worthBy 106 = .ok (.ladd, 1) := dk_97 (dk_at dksX2_worthBy_4 12 rfl rfl)
theorem dX2_worthBy_107 : decode cX2_worthBy 107 = .ok (.lastore, 1) := dk_80 (dk_at dksX2_worthBy_4 13 rfl rfl)
theorem dX2_worthBy_108 : decode cX2_worthBy 108 = .ok (.iinc 9 1, 3) := dk_132 9 1 (dk_at dksX2_worthBy_4 14 rfl rfl)
theorem dX2_worthBy_111 : decode cX2_worthBy 111 = .ok (.goto (-51), 3) := dk_167 255 205 (dk_at dksX2_worthBy_4 17 rfl rfl)
theorem dX2_worthBy_114 : decode cX2_worthBy 114 = .ok (.return_, 1) := dk_177 (dk_at dksX2_worthBy_4 20 rfl rfl)
abbrev cX2_hitsAt : ByteArray := prog_31_method_39_code
def yX2_hitsAt : MethodName := ⟨RX2, "hitsAt", "(IIII)I"⟩
def dkwX2_hitsAt_0 : List UInt8 := [21, 4, 16, 9, 160, 0, 7, 3, 167, 0, 15, 42, 29, 21, 4, 28, 184, 0, 197, 27, 182, 0, 211, 172]
abbrev dktX2_hitsAt_0 : List UInt8 := dkwX2_hitsAt_0 ++ []
theorem dksX2_hitsAt_0 : cX2_hitsAt.data.toList.drop 0 = dktX2_hitsAt_0 := by decide +kernel
theorem dX2_hitsAt_0 : decode cX2_hitsAt 0 = .ok (.iload 4, 2) := dk_21 4 (dk_at dksX2_hitsAt_0 0 rfl rfl)
theorem dX2_hitsAt_2 : decode cX2_hitsAt 2 = .ok (.bipush 9, 2) := dk_16 9 (dk_at dksX2_hitsAt_0 2 rfl rfl)
theorem dX2_hitsAt_4 : decode cX2_hitsAt 4 = .ok (.if_icmp .ne 7, 3) := dk_160 0 7 (dk_at dksX2_hitsAt_0 4 rfl rfl)
theorem dX2_hitsAt_7 : decode cX2_hitsAt 7 = .ok (.iconst 0, 1) := dk_3 (dk_at dksX2_hitsAt_0 7 rfl rfl)
theorem dX2_hitsAt_8 : decode cX2_hitsAt 8 = .ok (.goto 15, 3) := dk_167 0 15 (dk_at dksX2_hitsAt_0 8 rfl rfl)
theorem dX2_hitsAt_11 : decode cX2_hitsAt 11 = .ok (.aload_n 0, 1) := dk_42 (dk_at dksX2_hitsAt_0 11 rfl rfl)
theorem dX2_hitsAt_12 : decode cX2_hitsAt 12 = .ok (.iload_n 3, 1) := dk_29 (dk_at dksX2_hitsAt_0 12 rfl rfl)
theorem dX2_hitsAt_13 : decode cX2_hitsAt 13 = .ok (.iload 4, 2) := dk_21 4 (dk_at dksX2_hitsAt_0 13 rfl rfl)
theorem dX2_hitsAt_15 : decode cX2_hitsAt 15 = .ok (.iload_n 2, 1) := dk_28 (dk_at dksX2_hitsAt_0 15 rfl rfl)
theorem dX2_hitsAt_16 : decode cX2_hitsAt 16 = .ok (.invokestatic 197, 3) := dk_184 0 197 (dk_at dksX2_hitsAt_0 16 rfl rfl)
theorem dX2_hitsAt_19 : decode cX2_hitsAt 19 = .ok (.iload_n 1, 1) := dk_27 (dk_at dksX2_hitsAt_0 19 rfl rfl)
theorem dX2_hitsAt_20 : decode cX2_hitsAt 20 = .ok (.invokevirtual 211, 3) := dk_182 0 211 (dk_at dksX2_hitsAt_0 20 rfl rfl)
theorem dX2_hitsAt_23 : decode cX2_hitsAt 23 = .ok (.ireturn, 1) := dk_172 (dk_at dksX2_hitsAt_0 23 rfl rfl)
abbrev cX2_hitsOf : ByteArray := prog_31_method_32_code
def yX2_hitsOf : MethodName := ⟨RX2, "hitsOf", "(IIII)I"⟩
def dkwX2_hitsOf_3 : List UInt8 := [167, 0, 17, 21, 5, 16, 12, 164, 0, 8, 16, 12, 167, 0, 5, 21, 5, 172]
abbrev dktX2_hitsOf_3 : List UInt8 := dkwX2_hitsOf_3 ++ []
def dkwX2_hitsOf_2 : List UInt8 := [180, 0, 40, 7, 21, 4, 79, 42, 3, 42, 180, 0, 83, 182, 0, 194, 54, 5, 21, 5, 156, 0, 7, 3]
abbrev dktX2_hitsOf_2 : List UInt8 := dkwX2_hitsOf_2 ++ dktX2_hitsOf_3
def dkwX2_hitsOf_1 : List UInt8 := [46, 79, 42, 180, 0, 40, 4, 27, 79, 42, 180, 0, 40, 5, 28, 79, 42, 180, 0, 40, 6, 29, 79, 42]
abbrev dktX2_hitsOf_1 : List UInt8 := dkwX2_hitsOf_1 ++ dktX2_hitsOf_2
def dkwX2_hitsOf_0 : List UInt8 := [42, 180, 0, 83, 156, 0, 10, 42, 180, 0, 9, 27, 46, 172, 42, 180, 0, 40, 3, 42, 180, 0, 9, 27]
abbrev dktX2_hitsOf_0 : List UInt8 := dkwX2_hitsOf_0 ++ dktX2_hitsOf_1
theorem dksX2_hitsOf_0 : cX2_hitsOf.data.toList.drop 0 = dktX2_hitsOf_0 := by decide +kernel
theorem dksX2_hitsOf_1 : cX2_hitsOf.data.toList.drop 24 = dktX2_hitsOf_1 := dk_seg dksX2_hitsOf_0 24 rfl rfl
theorem dksX2_hitsOf_2 : cX2_hitsOf.data.toList.drop 48 = dktX2_hitsOf_2 := dk_seg dksX2_hitsOf_1 24 rfl rfl
theorem dksX2_hitsOf_3 : cX2_hitsOf.data.toList.drop 72 = dktX2_hitsOf_3 := dk_seg dksX2_hitsOf_2 24 rfl rfl
theorem dX2_hitsOf_0 : decode cX2_hitsOf 0 = .ok (.aload_n 0, 1) := dk_42 (dk_at dksX2_hitsOf_0 0 rfl rfl)
theorem dX2_hitsOf_1 : decode cX2_hitsOf 1 = .ok (.getfield 83, 3) := dk_180 0 83 (dk_at dksX2_hitsOf_0 1 rfl rfl)
theorem dX2_hitsOf_4 : decode cX2_hitsOf 4 = .ok (.ifCond .ge 10, 3) := dk_156 0 10 (dk_at dksX2_hitsOf_0 4 rfl rfl)
theorem dX2_hitsOf_7 : decode cX2_hitsOf 7 = .ok (.aload_n 0, 1) := dk_42 (dk_at dksX2_hitsOf_0 7 rfl rfl)
theorem dX2_hitsOf_8 : decode cX2_hitsOf 8 = .ok (.getfield 9, 3) := dk_180 0 9 (dk_at dksX2_hitsOf_0 8 rfl rfl)
theorem dX2_hitsOf_11 : decode cX2_hitsOf 11 = .ok (.iload_n 1, 1) := dk_27 (dk_at dksX2_hitsOf_0 11 rfl rfl)
theorem dX2_hitsOf_12 : decode cX2_hitsOf 12 = .ok (.iaload, 1) := dk_46 (dk_at dksX2_hitsOf_0 12 rfl rfl)
theorem dX2_hitsOf_13 : decode cX2_hitsOf 13 = .ok (.ireturn, 1) := dk_172 (dk_at dksX2_hitsOf_0 13 rfl rfl)
theorem dX2_hitsOf_14 : decode cX2_hitsOf 14 = .ok (.aload_n 0, 1) := dk_42 (dk_at dksX2_hitsOf_0 14 rfl rfl)
theorem dX2_hitsOf_15 : decode cX2_hitsOf 15 = .ok (.getfield 40, 3) := dk_180 0 40 (dk_at dksX2_hitsOf_0 15 rfl rfl)
theorem dX2_hitsOf_18 : decode cX2_hitsOf 18 = .ok (.iconst 0, 1) := dk_3 (dk_at dksX2_hitsOf_0 18 rfl rfl)
theorem dX2_hitsOf_19 : decode cX2_hitsOf 19 = .ok (.aload_n 0, 1) := dk_42 (dk_at dksX2_hitsOf_0 19 rfl rfl)
theorem dX2_hitsOf_20 : decode cX2_hitsOf 20 = .ok (.getfield 9, 3) := dk_180 0 9 (dk_at dksX2_hitsOf_0 20 rfl rfl)
theorem dX2_hitsOf_23 : decode cX2_hitsOf 23 = .ok (.iload_n 1, 1) := dk_27 (dk_at dksX2_hitsOf_0 23 rfl rfl)
theorem dX2_hitsOf_24 : decode cX2_hitsOf 24 = .ok (.iaload, 1) := dk_46 (dk_at dksX2_hitsOf_1 0 rfl rfl)
theorem dX2_hitsOf_25 : decode cX2_hitsOf 25 = .ok (.iastore, 1) := dk_79 (dk_at dksX2_hitsOf_1 1 rfl rfl)
theorem dX2_hitsOf_26 : decode cX2_hitsOf 26 = .ok (.aload_n 0, 1) := dk_42 (dk_at dksX2_hitsOf_1 2 rfl rfl)
theorem dX2_hitsOf_27 : decode cX2_hitsOf 27 = .ok (.getfield 40, 3) := dk_180 0 40 (dk_at dksX2_hitsOf_1 3 rfl rfl)
theorem dX2_hitsOf_30 : decode cX2_hitsOf 30 = .ok (.iconst 1, 1) := dk_4 (dk_at dksX2_hitsOf_1 6 rfl rfl)
theorem dX2_hitsOf_31 : decode cX2_hitsOf 31 = .ok (.iload_n 1, 1) := dk_27 (dk_at dksX2_hitsOf_1 7 rfl rfl)
theorem dX2_hitsOf_32 : decode cX2_hitsOf 32 = .ok (.iastore, 1) := dk_79 (dk_at dksX2_hitsOf_1 8 rfl rfl)
theorem dX2_hitsOf_33 : decode cX2_hitsOf 33 = .ok (.aload_n 0, 1) := dk_42 (dk_at dksX2_hitsOf_1 9 rfl rfl)
theorem dX2_hitsOf_34 : decode cX2_hitsOf 34 = .ok (.getfield 40, 3) := dk_180 0 40 (dk_at dksX2_hitsOf_1 10 rfl rfl)
theorem dX2_hitsOf_37 : decode cX2_hitsOf 37 = .ok (.iconst 2, 1) := dk_5 (dk_at dksX2_hitsOf_1 13 rfl rfl)
theorem dX2_hitsOf_38 : decode cX2_hitsOf 38 = .ok (.iload_n 2, 1) := dk_28 (dk_at dksX2_hitsOf_1 14 rfl rfl)
theorem dX2_hitsOf_39 : decode cX2_hitsOf 39 = .ok (.iastore, 1) := dk_79 (dk_at dksX2_hitsOf_1 15 rfl rfl)
theorem dX2_hitsOf_40 : decode cX2_hitsOf 40 = .ok (.aload_n 0, 1) := dk_42 (dk_at dksX2_hitsOf_1 16 rfl rfl)
theorem dX2_hitsOf_41 : decode cX2_hitsOf 41 = .ok (.getfield 40, 3) := dk_180 0 40 (dk_at dksX2_hitsOf_1 17 rfl rfl)
theorem dX2_hitsOf_44 : decode cX2_hitsOf 44 = .ok (.iconst 3, 1) := dk_6 (dk_at dksX2_hitsOf_1 20 rfl rfl)
theorem dX2_hitsOf_45 : decode cX2_hitsOf 45 = .ok (.iload_n 3, 1) := dk_29 (dk_at dksX2_hitsOf_1 21 rfl rfl)
theorem dX2_hitsOf_46 : decode cX2_hitsOf 46 = .ok (.iastore, 1) := dk_79 (dk_at dksX2_hitsOf_1 22 rfl rfl)
theorem dX2_hitsOf_47 : decode cX2_hitsOf 47 = .ok (.aload_n 0, 1) := dk_42 (dk_at dksX2_hitsOf_1 23 rfl rfl)
theorem dX2_hitsOf_48 : decode cX2_hitsOf 48 = .ok (.getfield 40, 3) := dk_180 0 40 (dk_at dksX2_hitsOf_2 0 rfl rfl)
theorem dX2_hitsOf_51 : decode cX2_hitsOf 51 = .ok (.iconst 4, 1) := dk_7 (dk_at dksX2_hitsOf_2 3 rfl rfl)
theorem dX2_hitsOf_52 : decode cX2_hitsOf 52 = .ok (.iload 4, 2) := dk_21 4 (dk_at dksX2_hitsOf_2 4 rfl rfl)
theorem dX2_hitsOf_54 : decode cX2_hitsOf 54 = .ok (.iastore, 1) := dk_79 (dk_at dksX2_hitsOf_2 6 rfl rfl)
theorem dX2_hitsOf_55 : decode cX2_hitsOf 55 = .ok (.aload_n 0, 1) := dk_42 (dk_at dksX2_hitsOf_2 7 rfl rfl)
theorem dX2_hitsOf_56 : decode cX2_hitsOf 56 = .ok (.iconst 0, 1) := dk_3 (dk_at dksX2_hitsOf_2 8 rfl rfl)
theorem dX2_hitsOf_57 : decode cX2_hitsOf 57 = .ok (.aload_n 0, 1) := dk_42 (dk_at dksX2_hitsOf_2 9 rfl rfl)
theorem dX2_hitsOf_58 : decode cX2_hitsOf 58 = .ok (.getfield 83, 3) := dk_180 0 83 (dk_at dksX2_hitsOf_2 10 rfl rfl)
theorem dX2_hitsOf_61 : decode cX2_hitsOf 61 = .ok (.invokevirtual 194, 3) := dk_182 0 194 (dk_at dksX2_hitsOf_2 13 rfl rfl)
theorem dX2_hitsOf_64 : decode cX2_hitsOf 64 = .ok (.istore 5, 2) := dk_54 5 (dk_at dksX2_hitsOf_2 16 rfl rfl)
theorem dX2_hitsOf_66 : decode cX2_hitsOf 66 = .ok (.iload 5, 2) := dk_21 5 (dk_at dksX2_hitsOf_2 18 rfl rfl)
theorem dX2_hitsOf_68 : decode cX2_hitsOf 68 = .ok (.ifCond .ge 7, 3) := dk_156 0 7 (dk_at dksX2_hitsOf_2 20 rfl rfl)
theorem dX2_hitsOf_71 : decode cX2_hitsOf 71 = .ok (.iconst 0, 1) := dk_3 (dk_at dksX2_hitsOf_2 23 rfl rfl)
theorem dX2_hitsOf_72 : decode cX2_hitsOf 72 = .ok (.goto 17, 3) := dk_167 0 17 (dk_at dksX2_hitsOf_3 0 rfl rfl)
theorem dX2_hitsOf_75 : decode cX2_hitsOf 75 = .ok (.iload 5, 2) := dk_21 5 (dk_at dksX2_hitsOf_3 3 rfl rfl)
theorem dX2_hitsOf_77 : decode cX2_hitsOf 77 = .ok (.bipush 12, 2) := dk_16 12 (dk_at dksX2_hitsOf_3 5 rfl rfl)
theorem dX2_hitsOf_79 : decode cX2_hitsOf 79 = .ok (.if_icmp .le 8, 3) := dk_164 0 8 (dk_at dksX2_hitsOf_3 7 rfl rfl)
theorem dX2_hitsOf_82 : decode cX2_hitsOf 82 = .ok (.bipush 12, 2) := dk_16 12 (dk_at dksX2_hitsOf_3 10 rfl rfl)
theorem dX2_hitsOf_84 : decode cX2_hitsOf 84 = .ok (.goto 5, 3) := dk_167 0 5 (dk_at dksX2_hitsOf_3 12 rfl rfl)
theorem dX2_hitsOf_87 : decode cX2_hitsOf 87 = .ok (.iload 5, 2) := dk_21 5 (dk_at dksX2_hitsOf_3 15 rfl rfl)
theorem dX2_hitsOf_89 : decode cX2_hitsOf 89 = .ok (.ireturn, 1) := dk_172 (dk_at dksX2_hitsOf_3 17 rfl rfl)
abbrev cX2_worthFrom : ByteArray := prog_31_method_44_code
def yX2_worthFrom : MethodName := ⟨RX2, "worthFrom", "(III)J"⟩
def dkwX2_worthFrom_0 : List UInt8 := [42, 180, 0, 47, 7, 3, 27, 42, 27, 28, 182, 0, 238, 184, 0, 207, 104, 29, 96, 47, 173]
abbrev dktX2_worthFrom_0 : List UInt8 := dkwX2_worthFrom_0 ++ []
theorem dksX2_worthFrom_0 : cX2_worthFrom.data.toList.drop 0 = dktX2_worthFrom_0 := by decide +kernel
theorem dX2_worthFrom_0 : decode cX2_worthFrom 0 = .ok (.aload_n 0, 1) := dk_42 (dk_at dksX2_worthFrom_0 0 rfl rfl)
theorem dX2_worthFrom_1 : decode cX2_worthFrom 1 = .ok (.getfield 47, 3) := dk_180 0 47 (dk_at dksX2_worthFrom_0 1 rfl rfl)
theorem dX2_worthFrom_4 : decode cX2_worthFrom 4 = .ok (.iconst 4, 1) := dk_7 (dk_at dksX2_worthFrom_0 4 rfl rfl)
theorem dX2_worthFrom_5 : decode cX2_worthFrom 5 = .ok (.iconst 0, 1) := dk_3 (dk_at dksX2_worthFrom_0 5 rfl rfl)
theorem dX2_worthFrom_6 : decode cX2_worthFrom 6 = .ok (.iload_n 1, 1) := dk_27 (dk_at dksX2_worthFrom_0 6 rfl rfl)
theorem dX2_worthFrom_7 : decode cX2_worthFrom 7 = .ok (.aload_n 0, 1) := dk_42 (dk_at dksX2_worthFrom_0 7 rfl rfl)
theorem dX2_worthFrom_8 : decode cX2_worthFrom 8 = .ok (.iload_n 1, 1) := dk_27 (dk_at dksX2_worthFrom_0 8 rfl rfl)
theorem dX2_worthFrom_9 : decode cX2_worthFrom 9 = .ok (.iload_n 2, 1) := dk_28 (dk_at dksX2_worthFrom_0 9 rfl rfl)
theorem dX2_worthFrom_10 : decode cX2_worthFrom 10 = .ok (.invokevirtual 238, 3) := dk_182 0 238 (dk_at dksX2_worthFrom_0 10 rfl rfl)
theorem dX2_worthFrom_13 : decode cX2_worthFrom 13 = .ok (.invokestatic 207, 3) := dk_184 0 207 (dk_at dksX2_worthFrom_0 13 rfl rfl)
theorem dX2_worthFrom_16 : decode cX2_worthFrom 16 = .ok (.imul, 1) := dk_104 (dk_at dksX2_worthFrom_0 16 rfl rfl)
theorem dX2_worthFrom_17 : decode cX2_worthFrom 17 = .ok (.iload_n 3, 1) := dk_29 (dk_at dksX2_worthFrom_0 17 rfl rfl)
theorem dX2_worthFrom_18 : decode cX2_worthFrom 18 = .ok (.iadd, 1) := dk_96 (dk_at dksX2_worthFrom_0 18 rfl rfl)
theorem dX2_worthFrom_19 : decode cX2_worthFrom 19 = .ok (.laload, 1) := dk_47 (dk_at dksX2_worthFrom_0 19 rfl rfl)
theorem dX2_worthFrom_20 : decode cX2_worthFrom 20 = .ok (.lreturn, 1) := dk_173 (dk_at dksX2_worthFrom_0 20 rfl rfl)
abbrev cX2_startOf : ByteArray := prog_31_method_43_code
def yX2_startOf : MethodName := ⟨RX2, "startOf", "(II)I"⟩
def dkwX2_startOf_1 : List UInt8 := [54, 4, 27, 21, 4, 184, 0, 133, 153, 0, 6, 21, 4, 172, 132, 3, 1, 167, 255, 218, 3, 172]
abbrev dktX2_startOf_1 : List UInt8 := dkwX2_startOf_1 ++ []
def dkwX2_startOf_0 : List UInt8 := [3, 62, 29, 42, 180, 0, 96, 162, 0, 36, 42, 180, 0, 22, 28, 29, 96, 42, 180, 0, 96, 112, 46]
abbrev dktX2_startOf_0 : List UInt8 := dkwX2_startOf_0 ++ dktX2_startOf_1
theorem dksX2_startOf_0 : cX2_startOf.data.toList.drop 0 = dktX2_startOf_0 := by decide +kernel
theorem dksX2_startOf_1 : cX2_startOf.data.toList.drop 23 = dktX2_startOf_1 := dk_seg dksX2_startOf_0 23 rfl rfl
theorem dX2_startOf_0 : decode cX2_startOf 0 = .ok (.iconst 0, 1) := dk_3 (dk_at dksX2_startOf_0 0 rfl rfl)
theorem dX2_startOf_1 : decode cX2_startOf 1 = .ok (.istore_n 3, 1) := dk_62 (dk_at dksX2_startOf_0 1 rfl rfl)
theorem dX2_startOf_2 : decode cX2_startOf 2 = .ok (.iload_n 3, 1) := dk_29 (dk_at dksX2_startOf_0 2 rfl rfl)
theorem dX2_startOf_3 : decode cX2_startOf 3 = .ok (.aload_n 0, 1) := dk_42 (dk_at dksX2_startOf_0 3 rfl rfl)
theorem dX2_startOf_4 : decode cX2_startOf 4 = .ok (.getfield 96, 3) := dk_180 0 96 (dk_at dksX2_startOf_0 4 rfl rfl)
theorem dX2_startOf_7 : decode cX2_startOf 7 = .ok (.if_icmp .ge 36, 3) := dk_162 0 36 (dk_at dksX2_startOf_0 7 rfl rfl)
theorem dX2_startOf_10 : decode cX2_startOf 10 = .ok (.aload_n 0, 1) := dk_42 (dk_at dksX2_startOf_0 10 rfl rfl)
theorem dX2_startOf_11 : decode cX2_startOf 11 = .ok (.getfield 22, 3) := dk_180 0 22 (dk_at dksX2_startOf_0 11 rfl rfl)
theorem dX2_startOf_14 : decode cX2_startOf 14 = .ok (.iload_n 2, 1) := dk_28 (dk_at dksX2_startOf_0 14 rfl rfl)
theorem dX2_startOf_15 : decode cX2_startOf 15 = .ok (.iload_n 3, 1) := dk_29 (dk_at dksX2_startOf_0 15 rfl rfl)
theorem dX2_startOf_16 : decode cX2_startOf 16 = .ok (.iadd, 1) := dk_96 (dk_at dksX2_startOf_0 16 rfl rfl)
theorem dX2_startOf_17 : decode cX2_startOf 17 = .ok (.aload_n 0, 1) := dk_42 (dk_at dksX2_startOf_0 17 rfl rfl)
theorem dX2_startOf_18 : decode cX2_startOf 18 = .ok (.getfield 96, 3) := dk_180 0 96 (dk_at dksX2_startOf_0 18 rfl rfl)
theorem dX2_startOf_21 : decode cX2_startOf 21 = .ok (.irem, 1) := dk_112 (dk_at dksX2_startOf_0 21 rfl rfl)
theorem dX2_startOf_22 : decode cX2_startOf 22 = .ok (.iaload, 1) := dk_46 (dk_at dksX2_startOf_0 22 rfl rfl)
theorem dX2_startOf_23 : decode cX2_startOf 23 = .ok (.istore 4, 2) := dk_54 4 (dk_at dksX2_startOf_1 0 rfl rfl)
theorem dX2_startOf_25 : decode cX2_startOf 25 = .ok (.iload_n 1, 1) := dk_27 (dk_at dksX2_startOf_1 2 rfl rfl)
theorem dX2_startOf_26 : decode cX2_startOf 26 = .ok (.iload 4, 2) := dk_21 4 (dk_at dksX2_startOf_1 3 rfl rfl)
theorem dX2_startOf_28 : decode cX2_startOf 28 = .ok (.invokestatic 133, 3) := dk_184 0 133 (dk_at dksX2_startOf_1 5 rfl rfl)
theorem dX2_startOf_31 : decode cX2_startOf 31 = .ok (.ifCond .eq 6, 3) := dk_153 0 6 (dk_at dksX2_startOf_1 8 rfl rfl)
theorem dX2_startOf_34 : decode cX2_startOf 34 = .ok (.iload 4, 2) := dk_21 4 (dk_at dksX2_startOf_1 11 rfl rfl)
theorem dX2_startOf_36 : decode cX2_startOf 36 = .ok (.ireturn, 1) := dk_172 (dk_at dksX2_startOf_1 13 rfl rfl)
theorem dX2_startOf_37 : decode cX2_startOf 37 = .ok (.iinc 3 1, 3) := dk_132 3 1 (dk_at dksX2_startOf_1 14 rfl rfl)
theorem dX2_startOf_40 : decode cX2_startOf 40 = .ok (.goto (-38), 3) := dk_167 255 218 (dk_at dksX2_startOf_1 17 rfl rfl)
theorem dX2_startOf_43 : decode cX2_startOf 43 = .ok (.iconst 0, 1) := dk_3 (dk_at dksX2_startOf_1 20 rfl rfl)
theorem dX2_startOf_44 : decode cX2_startOf 44 = .ok (.ireturn, 1) := dk_172 (dk_at dksX2_startOf_1 21 rfl rfl)
abbrev cX2_valueOf : ByteArray := prog_31_method_47_code
def yX2_valueOf : MethodName := ⟨RX2, "valueOf", "(II)J"⟩
def dkwX2_valueOf_11 : List UInt8 := [184, 0, 207, 47, 173]
abbrev dktX2_valueOf_11 : List UInt8 := dkwX2_valueOf_11 ++ []
def dkwX2_valueOf_10 : List UInt8 := [167, 255, 62, 132, 3, 255, 167, 255, 49, 42, 180, 0, 59, 3, 42, 182, 0, 225, 42, 180, 0, 22, 3, 46]
abbrev dktX2_valueOf_10 : List UInt8 := dkwX2_valueOf_10 ++ dktX2_valueOf_11
def dkwX2_valueOf_9 : List UInt8 := [21, 5, 21, 4, 182, 0, 204, 184, 0, 207, 47, 105, 97, 80, 132, 5, 1, 167, 255, 80, 132, 4, 1]
abbrev dktX2_valueOf_9 : List UInt8 := dkwX2_valueOf_9 ++ dktX2_valueOf_10
def dkwX2_valueOf_8 : List UInt8 := [47, 105, 16, 12, 42, 180, 0, 53, 21, 6, 46, 100, 133, 42, 180, 0, 59, 29, 4, 96, 21, 4, 42]
abbrev dktX2_valueOf_8 : List UInt8 := dkwX2_valueOf_8 ++ dktX2_valueOf_9
def dkwX2_valueOf_7 : List UInt8 := [21, 6, 46, 133, 42, 180, 0, 59, 29, 4, 96, 21, 8, 42, 21, 5, 21, 8, 182, 0, 204, 184, 0, 207]
abbrev dktX2_valueOf_7 : List UInt8 := dkwX2_valueOf_7 ++ dktX2_valueOf_8
def dkwX2_valueOf_6 : List UInt8 := [167, 0, 12, 21, 4, 4, 21, 7, 120, 2, 130, 126, 54, 8, 42, 180, 0, 59, 21, 6, 42, 180, 0, 53]
abbrev dktX2_valueOf_6 : List UInt8 := dkwX2_valueOf_6 ++ dktX2_valueOf_7
def dkwX2_valueOf_5 : List UInt8 := [184, 0, 133, 153, 0, 106, 42, 180, 0, 50, 21, 6, 46, 54, 7, 21, 7, 16, 9, 160, 0, 8, 21, 4]
abbrev dktX2_valueOf_5 : List UInt8 := dkwX2_valueOf_5 ++ dktX2_valueOf_6
def dkwX2_valueOf_4 : List UInt8 := [182, 0, 248, 42, 180, 0, 43, 42, 180, 0, 87, 29, 100, 47, 105, 80, 167, 0, 116, 21, 4, 21, 5]
abbrev dktX2_valueOf_4 : List UInt8 := dkwX2_valueOf_4 ++ dktX2_valueOf_5
def dkwX2_valueOf_3 : List UInt8 := [54, 6, 42, 29, 21, 4, 182, 0, 228, 153, 0, 34, 42, 180, 0, 59, 21, 6, 42, 29, 21, 4, 27, 28]
abbrev dktX2_valueOf_3 : List UInt8 := dkwX2_valueOf_3 ++ dktX2_valueOf_4
def dkwX2_valueOf_2 : List UInt8 := [163, 0, 191, 3, 54, 5, 21, 5, 42, 180, 0, 96, 162, 0, 173, 29, 21, 4, 21, 5, 184, 0, 207]
abbrev dktX2_valueOf_2 : List UInt8 := dkwX2_valueOf_2 ++ dktX2_valueOf_3
def dkwX2_valueOf_1 : List UInt8 := [47, 167, 0, 4, 9, 173, 42, 180, 0, 87, 62, 29, 155, 0, 209, 3, 54, 4, 21, 4, 42, 182, 0, 225]
abbrev dktX2_valueOf_1 : List UInt8 := dkwX2_valueOf_1 ++ dktX2_valueOf_2
def dkwX2_valueOf_0 : List UInt8 := [42, 182, 0, 241, 42, 180, 0, 96, 154, 0, 22, 27, 5, 160, 0, 15, 42, 180, 0, 43, 42, 180, 0, 87]
abbrev dktX2_valueOf_0 : List UInt8 := dkwX2_valueOf_0 ++ dktX2_valueOf_1
theorem dksX2_valueOf_0 : cX2_valueOf.data.toList.drop 0 = dktX2_valueOf_0 := by decide +kernel
theorem dksX2_valueOf_1 : cX2_valueOf.data.toList.drop 24 = dktX2_valueOf_1 := dk_seg dksX2_valueOf_0 24 rfl rfl
theorem dksX2_valueOf_2 : cX2_valueOf.data.toList.drop 48 = dktX2_valueOf_2 := dk_seg dksX2_valueOf_1 24 rfl rfl
theorem dksX2_valueOf_3 : cX2_valueOf.data.toList.drop 71 = dktX2_valueOf_3 := dk_seg dksX2_valueOf_2 23 rfl rfl
theorem dksX2_valueOf_4 : cX2_valueOf.data.toList.drop 95 = dktX2_valueOf_4 := dk_seg dksX2_valueOf_3 24 rfl rfl
theorem dksX2_valueOf_5 : cX2_valueOf.data.toList.drop 118 = dktX2_valueOf_5 := dk_seg dksX2_valueOf_4 23 rfl rfl
theorem dksX2_valueOf_6 : cX2_valueOf.data.toList.drop 142 = dktX2_valueOf_6 := dk_seg dksX2_valueOf_5 24 rfl rfl
theorem dksX2_valueOf_7 : cX2_valueOf.data.toList.drop 166 = dktX2_valueOf_7 := dk_seg dksX2_valueOf_6 24 rfl rfl
theorem dksX2_valueOf_8 : cX2_valueOf.data.toList.drop 190 = dktX2_valueOf_8 := dk_seg dksX2_valueOf_7 24 rfl rfl
theorem dksX2_valueOf_9 : cX2_valueOf.data.toList.drop 213 = dktX2_valueOf_9 := dk_seg dksX2_valueOf_8 23 rfl rfl
theorem dksX2_valueOf_10 : cX2_valueOf.data.toList.drop 236 = dktX2_valueOf_10 := dk_seg dksX2_valueOf_9 23 rfl rfl
theorem dksX2_valueOf_11 : cX2_valueOf.data.toList.drop 260 = dktX2_valueOf_11 := dk_seg dksX2_valueOf_10 24 rfl rfl
theorem dX2_valueOf_0 : decode cX2_valueOf 0 = .ok (.aload_n 0, 1) := dk_42 (dk_at dksX2_valueOf_0 0 rfl rfl)
theorem dX2_valueOf_1 : decode cX2_valueOf 1 = .ok (.invokevirtual 241, 3) := dk_182 0 241 (dk_at dksX2_valueOf_0 1 rfl rfl)
theorem dX2_valueOf_4 : decode cX2_valueOf 4 = .ok (.aload_n 0, 1) := dk_42 (dk_at dksX2_valueOf_0 4 rfl rfl)
theorem dX2_valueOf_5 : decode cX2_valueOf 5 = .ok (.getfield 96, 3) := dk_180 0 96 (dk_at dksX2_valueOf_0 5 rfl rfl)
theorem dX2_valueOf_8 : decode cX2_valueOf 8 = .ok (.ifCond .ne 22, 3) := dk_154 0 22 (dk_at dksX2_valueOf_0 8 rfl rfl)
theorem dX2_valueOf_11 : decode cX2_valueOf 11 = .ok (.iload_n 1, 1) := dk_27 (dk_at dksX2_valueOf_0 11 rfl rfl)
theorem dX2_valueOf_12 : decode cX2_valueOf 12 = .ok (.iconst 2, 1) := dk_5 (dk_at dksX2_valueOf_0 12 rfl rfl)
theorem dX2_valueOf_13 : decode cX2_valueOf 13 = .ok (.if_icmp .ne 15, 3) := dk_160 0 15 (dk_at dksX2_valueOf_0 13 rfl rfl)
theorem dX2_valueOf_16 : decode cX2_valueOf 16 = .ok (.aload_n 0, 1) := dk_42 (dk_at dksX2_valueOf_0 16 rfl rfl)
theorem dX2_valueOf_17 : decode cX2_valueOf 17 = .ok (.getfield 43, 3) := dk_180 0 43 (dk_at dksX2_valueOf_0 17 rfl rfl)
theorem dX2_valueOf_20 : decode cX2_valueOf 20 = .ok (.aload_n 0, 1) := dk_42 (dk_at dksX2_valueOf_0 20 rfl rfl)
theorem dX2_valueOf_21 : decode cX2_valueOf 21 = .ok (.getfield 87, 3) := dk_180 0 87 (dk_at dksX2_valueOf_0 21 rfl rfl)
theorem dX2_valueOf_24 : decode cX2_valueOf 24 = .ok (.laload, 1) := dk_47 (dk_at dksX2_valueOf_1 0 rfl rfl)
theorem dX2_valueOf_25 : decode cX2_valueOf 25 = .ok (.goto 4, 3) := dk_167 0 4 (dk_at dksX2_valueOf_1 1 rfl rfl)
theorem dX2_valueOf_28 : decode cX2_valueOf 28 = .ok (.lconst 0, 1) := dk_9 (dk_at dksX2_valueOf_1 4 rfl rfl)
theorem dX2_valueOf_29 : decode cX2_valueOf 29 = .ok (.lreturn, 1) := dk_173 (dk_at dksX2_valueOf_1 5 rfl rfl)
theorem dX2_valueOf_30 : decode cX2_valueOf 30 = .ok (.aload_n 0, 1) := dk_42 (dk_at dksX2_valueOf_1 6 rfl rfl)
theorem dX2_valueOf_31 : decode cX2_valueOf 31 = .ok (.getfield 87, 3) := dk_180 0 87 (dk_at dksX2_valueOf_1 7 rfl rfl)
theorem dX2_valueOf_34 : decode cX2_valueOf 34 = .ok (.istore_n 3, 1) := dk_62 (dk_at dksX2_valueOf_1 10 rfl rfl)
theorem dX2_valueOf_35 : decode cX2_valueOf 35 = .ok (.iload_n 3, 1) := dk_29 (dk_at dksX2_valueOf_1 11 rfl rfl)
theorem dX2_valueOf_36 : decode cX2_valueOf 36 = .ok (.ifCond .lt 209, 3) := dk_155 0 209 (dk_at dksX2_valueOf_1 12 rfl rfl)
theorem dX2_valueOf_39 : decode cX2_valueOf 39 = .ok (.iconst 0, 1) := dk_3 (dk_at dksX2_valueOf_1 15 rfl rfl)
theorem dX2_valueOf_40 : decode cX2_valueOf 40 = .ok (.istore 4, 2) := dk_54 4 (dk_at dksX2_valueOf_1 16 rfl rfl)
theorem dX2_valueOf_42 : decode cX2_valueOf 42 = .ok (.iload 4, 2) := dk_21 4 (dk_at dksX2_valueOf_1 18 rfl rfl)
theorem dX2_valueOf_44 : decode cX2_valueOf 44 = .ok (.aload_n 0, 1) := dk_42 (dk_at dksX2_valueOf_1 20 rfl rfl)
theorem dX2_valueOf_45 : decode cX2_valueOf 45 = .ok (.invokevirtual 225, 3) := dk_182 0 225 (dk_at dksX2_valueOf_1 21 rfl rfl)
theorem dX2_valueOf_48 : decode cX2_valueOf 48 = .ok (.if_icmp .gt 191, 3) := dk_163 0 191 (dk_at dksX2_valueOf_2 0 rfl rfl)
theorem dX2_valueOf_51 : decode cX2_valueOf 51 = .ok (.iconst 0, 1) := dk_3 (dk_at dksX2_valueOf_2 3 rfl rfl)
theorem dX2_valueOf_52 : decode cX2_valueOf 52 = .ok (.istore 5, 2) := dk_54 5 (dk_at dksX2_valueOf_2 4 rfl rfl)
theorem dX2_valueOf_54 : decode cX2_valueOf 54 = .ok (.iload 5, 2) := dk_21 5 (dk_at dksX2_valueOf_2 6 rfl rfl)
theorem dX2_valueOf_56 : decode cX2_valueOf 56 = .ok (.aload_n 0, 1) := dk_42 (dk_at dksX2_valueOf_2 8 rfl rfl)
theorem dX2_valueOf_57 : decode cX2_valueOf 57 = .ok (.getfield 96, 3) := dk_180 0 96 (dk_at dksX2_valueOf_2 9 rfl rfl)
theorem dX2_valueOf_60 : decode cX2_valueOf 60 = .ok (.if_icmp .ge 173, 3) := dk_162 0 173 (dk_at dksX2_valueOf_2 12 rfl rfl)
theorem dX2_valueOf_63 : decode cX2_valueOf 63 = .ok (.iload_n 3, 1) := dk_29 (dk_at dksX2_valueOf_2 15 rfl rfl)
theorem dX2_valueOf_64 : decode cX2_valueOf 64 = .ok (.iload 4, 2) := dk_21 4 (dk_at dksX2_valueOf_2 16 rfl rfl)
theorem dX2_valueOf_66 : decode cX2_valueOf 66 = .ok (.iload 5, 2) := dk_21 5 (dk_at dksX2_valueOf_2 18 rfl rfl)
theorem dX2_valueOf_68 : decode cX2_valueOf 68 = .ok (.invokestatic 207, 3) := dk_184 0 207 (dk_at dksX2_valueOf_2 20 rfl rfl)
theorem dX2_valueOf_71 : decode cX2_valueOf 71 = .ok (.istore 6, 2) := dk_54 6 (dk_at dksX2_valueOf_3 0 rfl rfl)
theorem dX2_valueOf_73 : decode cX2_valueOf 73 = .ok (.aload_n 0, 1) := dk_42 (dk_at dksX2_valueOf_3 2 rfl rfl)
theorem dX2_valueOf_74 : decode cX2_valueOf 74 = .ok (.iload_n 3, 1) := dk_29 (dk_at dksX2_valueOf_3 3 rfl rfl)
theorem dX2_valueOf_75 : decode cX2_valueOf 75 = .ok (.iload 4, 2) := dk_21 4 (dk_at dksX2_valueOf_3 4 rfl rfl)
theorem dX2_valueOf_77 : decode cX2_valueOf 77 = .ok (.invokevirtual 228, 3) := dk_182 0 228 (dk_at dksX2_valueOf_3 6 rfl rfl)
theorem dX2_valueOf_80 : decode cX2_valueOf 80 = .ok (.ifCond .eq 34, 3) := dk_153 0 34 (dk_at dksX2_valueOf_3 9 rfl rfl)
theorem dX2_valueOf_83 : decode cX2_valueOf 83 = .ok (.aload_n 0, 1) := dk_42 (dk_at dksX2_valueOf_3 12 rfl rfl)
theorem dX2_valueOf_84 : decode cX2_valueOf 84 = .ok (.getfield 59, 3) := dk_180 0 59 (dk_at dksX2_valueOf_3 13 rfl rfl)
theorem dX2_valueOf_87 : decode cX2_valueOf 87 = .ok (.iload 6, 2) := dk_21 6 (dk_at dksX2_valueOf_3 16 rfl rfl)
theorem dX2_valueOf_89 : decode cX2_valueOf 89 = .ok (.aload_n 0, 1) := dk_42 (dk_at dksX2_valueOf_3 18 rfl rfl)
theorem dX2_valueOf_90 : decode cX2_valueOf 90 = .ok (.iload_n 3, 1) := dk_29 (dk_at dksX2_valueOf_3 19 rfl rfl)
theorem dX2_valueOf_91 : decode cX2_valueOf 91 = .ok (.iload 4, 2) := dk_21 4 (dk_at dksX2_valueOf_3 20 rfl rfl)
theorem dX2_valueOf_93 : decode cX2_valueOf 93 = .ok (.iload_n 1, 1) := dk_27 (dk_at dksX2_valueOf_3 22 rfl rfl)
theorem dX2_valueOf_94 : decode cX2_valueOf 94 = .ok (.iload_n 2, 1) := dk_28 (dk_at dksX2_valueOf_3 23 rfl rfl)
theorem dX2_valueOf_95 : decode cX2_valueOf 95 = .ok (.invokevirtual 248, 3) := dk_182 0 248 (dk_at dksX2_valueOf_4 0 rfl rfl)
theorem dX2_valueOf_98 : decode cX2_valueOf 98 = .ok (.aload_n 0, 1) := dk_42 (dk_at dksX2_valueOf_4 3 rfl rfl)
theorem dX2_valueOf_99 : decode cX2_valueOf 99 = .ok (.getfield 43, 3) := dk_180 0 43 (dk_at dksX2_valueOf_4 4 rfl rfl)
theorem dX2_valueOf_102 : decode cX2_valueOf 102 = .ok (.aload_n 0, 1) := dk_42 (dk_at dksX2_valueOf_4 7 rfl rfl)
theorem dX2_valueOf_103 : decode cX2_valueOf 103 = .ok (.getfield 87, 3) := dk_180 0 87 (dk_at dksX2_valueOf_4 8 rfl rfl)
theorem dX2_valueOf_106 : decode cX2_valueOf 106 = .ok (.iload_n 3, 1) := dk_29 (dk_at dksX2_valueOf_4 11 rfl rfl)
theorem dX2_valueOf_107 : decode cX2_valueOf 107 = .ok (.isub, 1) := dk_100 (dk_at dksX2_valueOf_4 12 rfl rfl)
theorem dX2_valueOf_108 : decode cX2_valueOf 108 = .ok (.laload, 1) := dk_47 (dk_at dksX2_valueOf_4 13 rfl rfl)
theorem dX2_valueOf_109 : decode cX2_valueOf 109 = .ok (.lmul, 1) := dk_105 (dk_at dksX2_valueOf_4 14 rfl rfl)
theorem dX2_valueOf_110 : decode cX2_valueOf 110 = .ok (.lastore, 1) := dk_80 (dk_at dksX2_valueOf_4 15 rfl rfl)
theorem dX2_valueOf_111 : decode cX2_valueOf 111 = .ok (.goto 116, 3) := dk_167 0 116 (dk_at dksX2_valueOf_4 16 rfl rfl)
theorem dX2_valueOf_114 : decode cX2_valueOf 114 = .ok (.iload 4, 2) := dk_21 4 (dk_at dksX2_valueOf_4 19 rfl rfl)
theorem dX2_valueOf_116 : decode cX2_valueOf 116 = .ok (.iload 5, 2) := dk_21 5 (dk_at dksX2_valueOf_4 21 rfl rfl)
theorem dX2_valueOf_118 : decode cX2_valueOf 118 = .ok (.invokestatic 133, 3) := dk_184 0 133 (dk_at dksX2_valueOf_5 0 rfl rfl)
theorem dX2_valueOf_121 : decode cX2_valueOf 121 = .ok (.ifCond .eq 106, 3) := dk_153 0 106 (dk_at dksX2_valueOf_5 3 rfl rfl)
theorem dX2_valueOf_124 : decode cX2_valueOf 124 = .ok (.aload_n 0, 1) := dk_42 (dk_at dksX2_valueOf_5 6 rfl rfl)
theorem dX2_valueOf_125 : decode cX2_valueOf 125 = .ok (.getfield 50, 3) := dk_180 0 50 (dk_at dksX2_valueOf_5 7 rfl rfl)
theorem dX2_valueOf_128 : decode cX2_valueOf 128 = .ok (.iload 6, 2) := dk_21 6 (dk_at dksX2_valueOf_5 10 rfl rfl)
theorem dX2_valueOf_130 : decode cX2_valueOf 130 = .ok (.iaload, 1) := dk_46 (dk_at dksX2_valueOf_5 12 rfl rfl)
theorem dX2_valueOf_131 : decode cX2_valueOf 131 = .ok (.istore 7, 2) := dk_54 7 (dk_at dksX2_valueOf_5 13 rfl rfl)
theorem dX2_valueOf_133 : decode cX2_valueOf 133 = .ok (.iload 7, 2) := dk_21 7 (dk_at dksX2_valueOf_5 15 rfl rfl)
theorem dX2_valueOf_135 : decode cX2_valueOf 135 = .ok (.bipush 9, 2) := dk_16 9 (dk_at dksX2_valueOf_5 17 rfl rfl)
theorem dX2_valueOf_137 : decode cX2_valueOf 137 = .ok (.if_icmp .ne 8, 3) := dk_160 0 8 (dk_at dksX2_valueOf_5 19 rfl rfl)
theorem dX2_valueOf_140 : decode cX2_valueOf 140 = .ok (.iload 4, 2) := dk_21 4 (dk_at dksX2_valueOf_5 22 rfl rfl)
theorem dX2_valueOf_142 : decode cX2_valueOf 142 = .ok (.goto 12, 3) := dk_167 0 12 (dk_at dksX2_valueOf_6 0 rfl rfl)
theorem dX2_valueOf_145 : decode cX2_valueOf 145 = .ok (.iload 4, 2) := dk_21 4 (dk_at dksX2_valueOf_6 3 rfl rfl)
theorem dX2_valueOf_147 : decode cX2_valueOf 147 = .ok (.iconst 1, 1) := dk_4 (dk_at dksX2_valueOf_6 5 rfl rfl)
theorem dX2_valueOf_148 : decode cX2_valueOf 148 = .ok (.iload 7, 2) := dk_21 7 (dk_at dksX2_valueOf_6 6 rfl rfl)
theorem dX2_valueOf_150 : decode cX2_valueOf 150 = .ok (.ishl, 1) := dk_120 (dk_at dksX2_valueOf_6 8 rfl rfl)
theorem dX2_valueOf_151 : decode cX2_valueOf 151 = .ok (.iconst (-1), 1) := dk_2 (dk_at dksX2_valueOf_6 9 rfl rfl)
theorem dX2_valueOf_152 : decode cX2_valueOf 152 = .ok (.ixor, 1) := dk_130 (dk_at dksX2_valueOf_6 10 rfl rfl)
theorem dX2_valueOf_153 : decode cX2_valueOf 153 = .ok (.iand, 1) := dk_126 (dk_at dksX2_valueOf_6 11 rfl rfl)
theorem dX2_valueOf_154 : decode cX2_valueOf 154 = .ok (.istore 8, 2) := dk_54 8 (dk_at dksX2_valueOf_6 12 rfl rfl)
theorem dX2_valueOf_156 : decode cX2_valueOf 156 = .ok (.aload_n 0, 1) := dk_42 (dk_at dksX2_valueOf_6 14 rfl rfl)
theorem dX2_valueOf_157 : decode cX2_valueOf 157 = .ok (.getfield 59, 3) := dk_180 0 59 (dk_at dksX2_valueOf_6 15 rfl rfl)
theorem dX2_valueOf_160 : decode cX2_valueOf 160 = .ok (.iload 6, 2) := dk_21 6 (dk_at dksX2_valueOf_6 18 rfl rfl)
theorem dX2_valueOf_162 : decode cX2_valueOf 162 = .ok (.aload_n 0, 1) := dk_42 (dk_at dksX2_valueOf_6 20 rfl rfl)
theorem dX2_valueOf_163 : decode cX2_valueOf 163 = .ok (.getfield 53, 3) := dk_180 0 53 (dk_at dksX2_valueOf_6 21 rfl rfl)
theorem dX2_valueOf_166 : decode cX2_valueOf 166 = .ok (.iload 6, 2) := dk_21 6 (dk_at dksX2_valueOf_7 0 rfl rfl)
theorem dX2_valueOf_168 : decode cX2_valueOf 168 = .ok (.iaload, 1) := dk_46 (dk_at dksX2_valueOf_7 2 rfl rfl)
theorem dX2_valueOf_169 : decode cX2_valueOf 169 = .ok (.i2l, 1) := dk_133 (dk_at dksX2_valueOf_7 3 rfl rfl)
theorem dX2_valueOf_170 : decode cX2_valueOf 170 = .ok (.aload_n 0, 1) := dk_42 (dk_at dksX2_valueOf_7 4 rfl rfl)
theorem dX2_valueOf_171 : decode cX2_valueOf 171 = .ok (.getfield 59, 3) := dk_180 0 59 (dk_at dksX2_valueOf_7 5 rfl rfl)
theorem dX2_valueOf_174 : decode cX2_valueOf 174 = .ok (.iload_n 3, 1) := dk_29 (dk_at dksX2_valueOf_7 8 rfl rfl)
theorem dX2_valueOf_175 : decode cX2_valueOf 175 = .ok (.iconst 1, 1) := dk_4 (dk_at dksX2_valueOf_7 9 rfl rfl)
theorem dX2_valueOf_176 : decode cX2_valueOf 176 = .ok (.iadd, 1) := dk_96 (dk_at dksX2_valueOf_7 10 rfl rfl)
theorem dX2_valueOf_177 : decode cX2_valueOf 177 = .ok (.iload 8, 2) := dk_21 8 (dk_at dksX2_valueOf_7 11 rfl rfl)
theorem dX2_valueOf_179 : decode cX2_valueOf 179 = .ok (.aload_n 0, 1) := dk_42 (dk_at dksX2_valueOf_7 13 rfl rfl)
theorem dX2_valueOf_180 : decode cX2_valueOf 180 = .ok (.iload 5, 2) := dk_21 5 (dk_at dksX2_valueOf_7 14 rfl rfl)
theorem dX2_valueOf_182 : decode cX2_valueOf 182 = .ok (.iload 8, 2) := dk_21 8 (dk_at dksX2_valueOf_7 16 rfl rfl)
theorem dX2_valueOf_184 : decode cX2_valueOf 184 = .ok (.invokevirtual 204, 3) := dk_182 0 204 (dk_at dksX2_valueOf_7 18 rfl rfl)
theorem dX2_valueOf_187 : decode cX2_valueOf 187 = .ok (.invokestatic 207, 3) := dk_184 0 207 (dk_at dksX2_valueOf_7 21 rfl rfl)
theorem dX2_valueOf_190 : decode cX2_valueOf 190 = .ok (.laload, 1) := dk_47 (dk_at dksX2_valueOf_8 0 rfl rfl)
theorem dX2_valueOf_191 : decode cX2_valueOf 191 = .ok (.lmul, 1) := dk_105 (dk_at dksX2_valueOf_8 1 rfl rfl)
theorem dX2_valueOf_192 : decode cX2_valueOf 192 = .ok (.bipush 12, 2) := dk_16 12 (dk_at dksX2_valueOf_8 2 rfl rfl)
theorem dX2_valueOf_194 : decode cX2_valueOf 194 = .ok (.aload_n 0, 1) := dk_42 (dk_at dksX2_valueOf_8 4 rfl rfl)
theorem dX2_valueOf_195 : decode cX2_valueOf 195 = .ok (.getfield 53, 3) := dk_180 0 53 (dk_at dksX2_valueOf_8 5 rfl rfl)
theorem dX2_valueOf_198 : decode cX2_valueOf 198 = .ok (.iload 6, 2) := dk_21 6 (dk_at dksX2_valueOf_8 8 rfl rfl)
theorem dX2_valueOf_200 : decode cX2_valueOf 200 = .ok (.iaload, 1) := dk_46 (dk_at dksX2_valueOf_8 10 rfl rfl)
theorem dX2_valueOf_201 : decode cX2_valueOf 201 = .ok (.isub, 1) := dk_100 (dk_at dksX2_valueOf_8 11 rfl rfl)
theorem dX2_valueOf_202 : decode cX2_valueOf 202 = .ok (.i2l, 1) := dk_133 (dk_at dksX2_valueOf_8 12 rfl rfl)
theorem dX2_valueOf_203 : decode cX2_valueOf 203 = .ok (.aload_n 0, 1) := dk_42 (dk_at dksX2_valueOf_8 13 rfl rfl)
theorem dX2_valueOf_204 : decode cX2_valueOf 204 = .ok (.getfield 59, 3) := dk_180 0 59 (dk_at dksX2_valueOf_8 14 rfl rfl)
theorem dX2_valueOf_207 : decode cX2_valueOf 207 = .ok (.iload_n 3, 1) := dk_29 (dk_at dksX2_valueOf_8 17 rfl rfl)
theorem dX2_valueOf_208 : decode cX2_valueOf 208 = .ok (.iconst 1, 1) := dk_4 (dk_at dksX2_valueOf_8 18 rfl rfl)
theorem dX2_valueOf_209 : decode cX2_valueOf 209 = .ok (.iadd, 1) := dk_96 (dk_at dksX2_valueOf_8 19 rfl rfl)
theorem dX2_valueOf_210 : decode cX2_valueOf 210 = .ok (.iload 4, 2) := dk_21 4 (dk_at dksX2_valueOf_8 20 rfl rfl)
theorem dX2_valueOf_212 : decode cX2_valueOf 212 = .ok (.aload_n 0, 1) := dk_42 (dk_at dksX2_valueOf_8 22 rfl rfl)
theorem dX2_valueOf_213 : decode cX2_valueOf 213 = .ok (.iload 5, 2) := dk_21 5 (dk_at dksX2_valueOf_9 0 rfl rfl)
theorem dX2_valueOf_215 : decode cX2_valueOf 215 = .ok (.iload 4, 2) := dk_21 4 (dk_at dksX2_valueOf_9 2 rfl rfl)
theorem dX2_valueOf_217 : decode cX2_valueOf 217 = .ok (.invokevirtual 204, 3) := dk_182 0 204 (dk_at dksX2_valueOf_9 4 rfl rfl)
theorem dX2_valueOf_220 : decode cX2_valueOf 220 = .ok (.invokestatic 207, 3) := dk_184 0 207 (dk_at dksX2_valueOf_9 7 rfl rfl)
theorem dX2_valueOf_223 : decode cX2_valueOf 223 = .ok (.laload, 1) := dk_47 (dk_at dksX2_valueOf_9 10 rfl rfl)
theorem dX2_valueOf_224 : decode cX2_valueOf 224 = .ok (.lmul, 1) := dk_105 (dk_at dksX2_valueOf_9 11 rfl rfl)
theorem dX2_valueOf_225 : decode cX2_valueOf 225 = .ok (.ladd, 1) := dk_97 (dk_at dksX2_valueOf_9 12 rfl rfl)
theorem dX2_valueOf_226 : decode cX2_valueOf 226 = .ok (.lastore, 1) := dk_80 (dk_at dksX2_valueOf_9 13 rfl rfl)
theorem dX2_valueOf_227 : decode cX2_valueOf 227 = .ok (.iinc 5 1, 3) := dk_132 5 1 (dk_at dksX2_valueOf_9 14 rfl rfl)
theorem dX2_valueOf_230 : decode cX2_valueOf 230 = .ok (.goto (-176), 3) := dk_167 255 80 (dk_at dksX2_valueOf_9 17 rfl rfl)
theorem dX2_valueOf_233 : decode cX2_valueOf 233 = .ok (.iinc 4 1, 3) := dk_132 4 1 (dk_at dksX2_valueOf_9 20 rfl rfl)
theorem dX2_valueOf_236 : decode cX2_valueOf 236 = .ok (.goto (-194), 3) := dk_167 255 62 (dk_at dksX2_valueOf_10 0 rfl rfl)
theorem dX2_valueOf_239 : decode cX2_valueOf 239 = .ok (.iinc 3 (-1), 3) := dk_132 3 255 (dk_at dksX2_valueOf_10 3 rfl rfl)
theorem dX2_valueOf_242 : decode cX2_valueOf 242 = .ok (.goto (-207), 3) := dk_167 255 49 (dk_at dksX2_valueOf_10 6 rfl rfl)
theorem dX2_valueOf_245 : decode cX2_valueOf 245 = .ok (.aload_n 0, 1) := dk_42 (dk_at dksX2_valueOf_10 9 rfl rfl)
theorem dX2_valueOf_246 : decode cX2_valueOf 246 = .ok (.getfield 59, 3) := dk_180 0 59 (dk_at dksX2_valueOf_10 10 rfl rfl)
theorem dX2_valueOf_249 : decode cX2_valueOf 249 = .ok (.iconst 0, 1) := dk_3 (dk_at dksX2_valueOf_10 13 rfl rfl)
theorem dX2_valueOf_250 : decode cX2_valueOf 250 = .ok (.aload_n 0, 1) := dk_42 (dk_at dksX2_valueOf_10 14 rfl rfl)
theorem dX2_valueOf_251 : decode cX2_valueOf 251 = .ok (.invokevirtual 225, 3) := dk_182 0 225 (dk_at dksX2_valueOf_10 15 rfl rfl)
theorem dX2_valueOf_254 : decode cX2_valueOf 254 = .ok (.aload_n 0, 1) := dk_42 (dk_at dksX2_valueOf_10 18 rfl rfl)
theorem dX2_valueOf_255 : decode cX2_valueOf 255 = .ok (.getfield 22, 3) := dk_180 0 22 (dk_at dksX2_valueOf_10 19 rfl rfl)
theorem dX2_valueOf_258 : decode cX2_valueOf 258 = .ok (.iconst 0, 1) := dk_3 (dk_at dksX2_valueOf_10 22 rfl rfl)
theorem dX2_valueOf_259 : decode cX2_valueOf 259 = .ok (.iaload, 1) := dk_46 (dk_at dksX2_valueOf_10 23 rfl rfl)
theorem dX2_valueOf_260 : decode cX2_valueOf 260 = .ok (.invokestatic 207, 3) := dk_184 0 207 (dk_at dksX2_valueOf_11 0 rfl rfl)
theorem dX2_valueOf_263 : decode cX2_valueOf 263 = .ok (.laload, 1) := dk_47 (dk_at dksX2_valueOf_11 3 rfl rfl)
theorem dX2_valueOf_264 : decode cX2_valueOf 264 = .ok (.lreturn, 1) := dk_173 (dk_at dksX2_valueOf_11 4 rfl rfl)
abbrev cX2_atEnd : ByteArray := prog_31_method_46_code
def yX2_atEnd : MethodName := ⟨RX2, "atEnd", "(IIII)J"⟩
def dkwX2_atEnd_3 : List UInt8 := [167, 0, 4, 9, 173, 28, 21, 4, 160, 0, 7, 10, 167, 0, 4, 9, 173, 27, 133, 173]
abbrev dktX2_atEnd_3 : List UInt8 := dkwX2_atEnd_3 ++ []
def dkwX2_atEnd_2 : List UInt8 := [28, 21, 4, 184, 0, 133, 153, 0, 7, 10, 167, 0, 4, 9, 173, 28, 4, 21, 4, 120, 160, 0, 7, 10]
abbrev dktX2_atEnd_2 : List UInt8 := dkwX2_atEnd_2 ++ dktX2_atEnd_3
def dkwX2_atEnd_1 : List UInt8 := [170, 0, 0, 0, 0, 0, 68, 0, 0, 0, 0, 0, 0, 0, 2, 0, 0, 0, 27, 0, 0, 0, 42, 0, 0, 0, 56]
abbrev dktX2_atEnd_1 : List UInt8 := dkwX2_atEnd_1 ++ dktX2_atEnd_2
def dkwX2_atEnd_0 : List UInt8 := [29]
abbrev dktX2_atEnd_0 : List UInt8 := dkwX2_atEnd_0 ++ dktX2_atEnd_1
theorem dksX2_atEnd_0 : cX2_atEnd.data.toList.drop 0 = dktX2_atEnd_0 := by decide +kernel
theorem dksX2_atEnd_1 : cX2_atEnd.data.toList.drop 1 = dktX2_atEnd_1 := dk_seg dksX2_atEnd_0 1 rfl rfl
theorem dksX2_atEnd_2 : cX2_atEnd.data.toList.drop 28 = dktX2_atEnd_2 := dk_seg dksX2_atEnd_1 27 rfl rfl
theorem dksX2_atEnd_3 : cX2_atEnd.data.toList.drop 52 = dktX2_atEnd_3 := dk_seg dksX2_atEnd_2 24 rfl rfl
theorem dX2_atEnd_0 : decode cX2_atEnd 0 = .ok (.iload_n 3, 1) := dk_29 (dk_at dksX2_atEnd_0 0 rfl rfl)
theorem dX2_atEnd_1 : decode cX2_atEnd 1 = .ok (.tableswitch 68 0 2 #[27, 42, 56], 27) := by decide +kernel
theorem dX2_atEnd_28 : decode cX2_atEnd 28 = .ok (.iload_n 2, 1) := dk_28 (dk_at dksX2_atEnd_2 0 rfl rfl)
theorem dX2_atEnd_29 : decode cX2_atEnd 29 = .ok (.iload 4, 2) := dk_21 4 (dk_at dksX2_atEnd_2 1 rfl rfl)
theorem dX2_atEnd_31 : decode cX2_atEnd 31 = .ok (.invokestatic 133, 3) := dk_184 0 133 (dk_at dksX2_atEnd_2 3 rfl rfl)
theorem dX2_atEnd_34 : decode cX2_atEnd 34 = .ok (.ifCond .eq 7, 3) := dk_153 0 7 (dk_at dksX2_atEnd_2 6 rfl rfl)
theorem dX2_atEnd_37 : decode cX2_atEnd 37 = .ok (.lconst 1, 1) := dk_10 (dk_at dksX2_atEnd_2 9 rfl rfl)
theorem dX2_atEnd_38 : decode cX2_atEnd 38 = .ok (.goto 4, 3) := dk_167 0 4 (dk_at dksX2_atEnd_2 10 rfl rfl)
theorem dX2_atEnd_41 : decode cX2_atEnd 41 = .ok (.lconst 0, 1) := dk_9 (dk_at dksX2_atEnd_2 13 rfl rfl)
theorem dX2_atEnd_42 : decode cX2_atEnd 42 = .ok (.lreturn, 1) := dk_173 (dk_at dksX2_atEnd_2 14 rfl rfl)
theorem dX2_atEnd_43 : decode cX2_atEnd 43 = .ok (.iload_n 2, 1) := dk_28 (dk_at dksX2_atEnd_2 15 rfl rfl)
theorem dX2_atEnd_44 : decode cX2_atEnd 44 = .ok (.iconst 1, 1) := dk_4 (dk_at dksX2_atEnd_2 16 rfl rfl)
theorem dX2_atEnd_45 : decode cX2_atEnd 45 = .ok (.iload 4, 2) := dk_21 4 (dk_at dksX2_atEnd_2 17 rfl rfl)
theorem dX2_atEnd_47 : decode cX2_atEnd 47 = .ok (.ishl, 1) := dk_120 (dk_at dksX2_atEnd_2 19 rfl rfl)
theorem dX2_atEnd_48 : decode cX2_atEnd 48 = .ok (.if_icmp .ne 7, 3) := dk_160 0 7 (dk_at dksX2_atEnd_2 20 rfl rfl)
theorem dX2_atEnd_51 : decode cX2_atEnd 51 = .ok (.lconst 1, 1) := dk_10 (dk_at dksX2_atEnd_2 23 rfl rfl)
theorem dX2_atEnd_52 : decode cX2_atEnd 52 = .ok (.goto 4, 3) := dk_167 0 4 (dk_at dksX2_atEnd_3 0 rfl rfl)
theorem dX2_atEnd_55 : decode cX2_atEnd 55 = .ok (.lconst 0, 1) := dk_9 (dk_at dksX2_atEnd_3 3 rfl rfl)
theorem dX2_atEnd_56 : decode cX2_atEnd 56 = .ok (.lreturn, 1) := dk_173 (dk_at dksX2_atEnd_3 4 rfl rfl)
theorem dX2_atEnd_57 : decode cX2_atEnd 57 = .ok (.iload_n 2, 1) := dk_28 (dk_at dksX2_atEnd_3 5 rfl rfl)
theorem dX2_atEnd_58 : decode cX2_atEnd 58 = .ok (.iload 4, 2) := dk_21 4 (dk_at dksX2_atEnd_3 6 rfl rfl)
theorem dX2_atEnd_60 : decode cX2_atEnd 60 = .ok (.if_icmp .ne 7, 3) := dk_160 0 7 (dk_at dksX2_atEnd_3 8 rfl rfl)
theorem dX2_atEnd_63 : decode cX2_atEnd 63 = .ok (.lconst 1, 1) := dk_10 (dk_at dksX2_atEnd_3 11 rfl rfl)
theorem dX2_atEnd_64 : decode cX2_atEnd 64 = .ok (.goto 4, 3) := dk_167 0 4 (dk_at dksX2_atEnd_3 12 rfl rfl)
theorem dX2_atEnd_67 : decode cX2_atEnd 67 = .ok (.lconst 0, 1) := dk_9 (dk_at dksX2_atEnd_3 15 rfl rfl)
theorem dX2_atEnd_68 : decode cX2_atEnd 68 = .ok (.lreturn, 1) := dk_173 (dk_at dksX2_atEnd_3 16 rfl rfl)
theorem dX2_atEnd_69 : decode cX2_atEnd 69 = .ok (.iload_n 1, 1) := dk_27 (dk_at dksX2_atEnd_3 17 rfl rfl)
theorem dX2_atEnd_70 : decode cX2_atEnd 70 = .ok (.i2l, 1) := dk_133 (dk_at dksX2_atEnd_3 18 rfl rfl)
theorem dX2_atEnd_71 : decode cX2_atEnd 71 = .ok (.lreturn, 1) := dk_173 (dk_at dksX2_atEnd_3 19 rfl rfl)
abbrev cX2_partOf : ByteArray := prog_31_method_49_code
def yX2_partOf : MethodName := ⟨RX2, "partOf", "(JI)J"⟩
def dkwX2_partOf_1 : List UInt8 := [29, 154, 0, 10, 31, 22, 4, 109, 167, 0, 15, 42, 180, 0, 43, 42, 180, 0, 87, 47, 22, 4, 109, 173]
abbrev dktX2_partOf_1 : List UInt8 := dkwX2_partOf_1 ++ []
def dkwX2_partOf_0 : List UInt8 := [31, 9, 148, 154, 0, 6, 29, 133, 173, 31, 42, 180, 0, 43, 42, 180, 0, 87, 47, 184, 0, 252, 55, 4]
abbrev dktX2_partOf_0 : List UInt8 := dkwX2_partOf_0 ++ dktX2_partOf_1
theorem dksX2_partOf_0 : cX2_partOf.data.toList.drop 0 = dktX2_partOf_0 := by decide +kernel
theorem dksX2_partOf_1 : cX2_partOf.data.toList.drop 24 = dktX2_partOf_1 := dk_seg dksX2_partOf_0 24 rfl rfl
theorem dX2_partOf_0 : decode cX2_partOf 0 = .ok (.lload_n 1, 1) := dk_31 (dk_at dksX2_partOf_0 0 rfl rfl)
theorem dX2_partOf_1 : decode cX2_partOf 1 = .ok (.lconst 0, 1) := dk_9 (dk_at dksX2_partOf_0 1 rfl rfl)
theorem dX2_partOf_2 : decode cX2_partOf 2 = .ok (.lcmp, 1) := dk_148 (dk_at dksX2_partOf_0 2 rfl rfl)
theorem dX2_partOf_3 : decode cX2_partOf 3 = .ok (.ifCond .ne 6, 3) := dk_154 0 6 (dk_at dksX2_partOf_0 3 rfl rfl)
theorem dX2_partOf_6 : decode cX2_partOf 6 = .ok (.iload_n 3, 1) := dk_29 (dk_at dksX2_partOf_0 6 rfl rfl)
theorem dX2_partOf_7 : decode cX2_partOf 7 = .ok (.i2l, 1) := dk_133 (dk_at dksX2_partOf_0 7 rfl rfl)
theorem dX2_partOf_8 : decode cX2_partOf 8 = .ok (.lreturn, 1) := dk_173 (dk_at dksX2_partOf_0 8 rfl rfl)
theorem dX2_partOf_9 : decode cX2_partOf 9 = .ok (.lload_n 1, 1) := dk_31 (dk_at dksX2_partOf_0 9 rfl rfl)
theorem dX2_partOf_10 : decode cX2_partOf 10 = .ok (.aload_n 0, 1) := dk_42 (dk_at dksX2_partOf_0 10 rfl rfl)
theorem dX2_partOf_11 : decode cX2_partOf 11 = .ok (.getfield 43, 3) := dk_180 0 43 (dk_at dksX2_partOf_0 11 rfl rfl)
theorem dX2_partOf_14 : decode cX2_partOf 14 = .ok (.aload_n 0, 1) := dk_42 (dk_at dksX2_partOf_0 14 rfl rfl)
theorem dX2_partOf_15 : decode cX2_partOf 15 = .ok (.getfield 87, 3) := dk_180 0 87 (dk_at dksX2_partOf_0 15 rfl rfl)
theorem dX2_partOf_18 : decode cX2_partOf 18 = .ok (.laload, 1) := dk_47 (dk_at dksX2_partOf_0 18 rfl rfl)
theorem dX2_partOf_19 : decode cX2_partOf 19 = .ok (.invokestatic 252, 3) := dk_184 0 252 (dk_at dksX2_partOf_0 19 rfl rfl)
theorem dX2_partOf_22 : decode cX2_partOf 22 = .ok (.lstore 4, 2) := dk_55 4 (dk_at dksX2_partOf_0 22 rfl rfl)
theorem dX2_partOf_24 : decode cX2_partOf 24 = .ok (.iload_n 3, 1) := dk_29 (dk_at dksX2_partOf_1 0 rfl rfl)
theorem dX2_partOf_25 : decode cX2_partOf 25 = .ok (.ifCond .ne 10, 3) := dk_154 0 10 (dk_at dksX2_partOf_1 1 rfl rfl)
theorem dX2_partOf_28 : decode cX2_partOf 28 = .ok (.lload_n 1, 1) := dk_31 (dk_at dksX2_partOf_1 4 rfl rfl)
theorem dX2_partOf_29 : decode cX2_partOf 29 = .ok (.lload 4, 2) := dk_22 4 (dk_at dksX2_partOf_1 5 rfl rfl)
theorem dX2_partOf_31 : decode cX2_partOf 31 = .ok (.ldiv, 1) := dk_109 (dk_at dksX2_partOf_1 7 rfl rfl)
theorem dX2_partOf_32 : decode cX2_partOf 32 = .ok (.goto 15, 3) := dk_167 0 15 (dk_at dksX2_partOf_1 8 rfl rfl)
theorem dX2_partOf_35 : decode cX2_partOf 35 = .ok (.aload_n 0, 1) := dk_42 (dk_at dksX2_partOf_1 11 rfl rfl)
theorem dX2_partOf_36 : decode cX2_partOf 36 = .ok (.getfield 43, 3) := dk_180 0 43 (dk_at dksX2_partOf_1 12 rfl rfl)
theorem dX2_partOf_39 : decode cX2_partOf 39 = .ok (.aload_n 0, 1) := dk_42 (dk_at dksX2_partOf_1 15 rfl rfl)
theorem dX2_partOf_40 : decode cX2_partOf 40 = .ok (.getfield 87, 3) := dk_180 0 87 (dk_at dksX2_partOf_1 16 rfl rfl)
theorem dX2_partOf_43 : decode cX2_partOf 43 = .ok (.laload, 1) := dk_47 (dk_at dksX2_partOf_1 19 rfl rfl)
theorem dX2_partOf_44 : decode cX2_partOf 44 = .ok (.lload 4, 2) := dk_22 4 (dk_at dksX2_partOf_1 20 rfl rfl)
theorem dX2_partOf_46 : decode cX2_partOf 46 = .ok (.ldiv, 1) := dk_109 (dk_at dksX2_partOf_1 22 rfl rfl)
theorem dX2_partOf_47 : decode cX2_partOf 47 = .ok (.lreturn, 1) := dk_173 (dk_at dksX2_partOf_1 23 rfl rfl)
abbrev cX2_common : ByteArray := prog_31_method_48_code
def yX2_common : MethodName := ⟨RX2, "common", "(JJ)J"⟩
def dkwX2_common_1 : List UInt8 := [22, 8, 55, 6, 167, 255, 234, 22, 4, 173]
abbrev dktX2_common_1 : List UInt8 := dkwX2_common_1 ++ []
def dkwX2_common_0 : List UInt8 := [30, 55, 4, 32, 55, 6, 22, 6, 9, 148, 153, 0, 21, 22, 4, 22, 6, 113, 55, 8, 22, 6, 55, 4]
abbrev dktX2_common_0 : List UInt8 := dkwX2_common_0 ++ dktX2_common_1
theorem dksX2_common_0 : cX2_common.data.toList.drop 0 = dktX2_common_0 := by decide +kernel
theorem dksX2_common_1 : cX2_common.data.toList.drop 24 = dktX2_common_1 := dk_seg dksX2_common_0 24 rfl rfl
theorem dX2_common_0 : decode cX2_common 0 = .ok (.lload_n 0, 1) := dk_30 (dk_at dksX2_common_0 0 rfl rfl)
theorem dX2_common_1 : decode cX2_common 1 = .ok (.lstore 4, 2) := dk_55 4 (dk_at dksX2_common_0 1 rfl rfl)
theorem dX2_common_3 : decode cX2_common 3 = .ok (.lload_n 2, 1) := dk_32 (dk_at dksX2_common_0 3 rfl rfl)
theorem dX2_common_4 : decode cX2_common 4 = .ok (.lstore 6, 2) := dk_55 6 (dk_at dksX2_common_0 4 rfl rfl)
theorem dX2_common_6 : decode cX2_common 6 = .ok (.lload 6, 2) := dk_22 6 (dk_at dksX2_common_0 6 rfl rfl)
theorem dX2_common_8 : decode cX2_common 8 = .ok (.lconst 0, 1) := dk_9 (dk_at dksX2_common_0 8 rfl rfl)
theorem dX2_common_9 : decode cX2_common 9 = .ok (.lcmp, 1) := dk_148 (dk_at dksX2_common_0 9 rfl rfl)
theorem dX2_common_10 : decode cX2_common 10 = .ok (.ifCond .eq 21, 3) := dk_153 0 21 (dk_at dksX2_common_0 10 rfl rfl)
theorem dX2_common_13 : decode cX2_common 13 = .ok (.lload 4, 2) := dk_22 4 (dk_at dksX2_common_0 13 rfl rfl)
theorem dX2_common_15 : decode cX2_common 15 = .ok (.lload 6, 2) := dk_22 6 (dk_at dksX2_common_0 15 rfl rfl)
theorem dX2_common_17 : decode cX2_common 17 = .ok (.lrem, 1) := dk_113 (dk_at dksX2_common_0 17 rfl rfl)
theorem dX2_common_18 : decode cX2_common 18 = .ok (.lstore 8, 2) := dk_55 8 (dk_at dksX2_common_0 18 rfl rfl)
theorem dX2_common_20 : decode cX2_common 20 = .ok (.lload 6, 2) := dk_22 6 (dk_at dksX2_common_0 20 rfl rfl)
theorem dX2_common_22 : decode cX2_common 22 = .ok (.lstore 4, 2) := dk_55 4 (dk_at dksX2_common_0 22 rfl rfl)
theorem dX2_common_24 : decode cX2_common 24 = .ok (.lload 8, 2) := dk_22 8 (dk_at dksX2_common_1 0 rfl rfl)
theorem dX2_common_26 : decode cX2_common 26 = .ok (.lstore 6, 2) := dk_55 6 (dk_at dksX2_common_1 2 rfl rfl)
theorem dX2_common_28 : decode cX2_common 28 = .ok (.goto (-22), 3) := dk_167 255 234 (dk_at dksX2_common_1 4 rfl rfl)
theorem dX2_common_31 : decode cX2_common 31 = .ok (.lload 4, 2) := dk_22 4 (dk_at dksX2_common_1 7 rfl rfl)
theorem dX2_common_33 : decode cX2_common 33 = .ok (.lreturn, 1) := dk_173 (dk_at dksX2_common_1 9 rfl rfl)
abbrev cX2_just : ByteArray := prog_31_method_51_code
def yX2_just : MethodName := ⟨RX2, "just", "(II)J"⟩
def dkwX2_just_2 : List UInt8 := [27, 182, 1, 10, 28, 182, 1, 14, 173]
abbrev dktX2_just_2 : List UInt8 := dkwX2_just_2 ++ []
def dkwX2_just_1 : List UInt8 := [154, 0, 7, 20, 1, 4, 173, 42, 27, 2, 160, 0, 12, 42, 6, 3, 182, 1, 10, 167, 0, 9, 42, 5]
abbrev dktX2_just_1 : List UInt8 := dkwX2_just_1 ++ dktX2_just_2
def dkwX2_just_0 : List UInt8 := [27, 133, 20, 1, 18, 42, 182, 0, 225, 133, 184, 0, 99, 153, 0, 13, 28, 133, 9, 10, 184, 0, 99]
abbrev dktX2_just_0 : List UInt8 := dkwX2_just_0 ++ dktX2_just_1
theorem dksX2_just_0 : cX2_just.data.toList.drop 0 = dktX2_just_0 := by decide +kernel
theorem dksX2_just_1 : cX2_just.data.toList.drop 23 = dktX2_just_1 := dk_seg dksX2_just_0 23 rfl rfl
theorem dksX2_just_2 : cX2_just.data.toList.drop 47 = dktX2_just_2 := dk_seg dksX2_just_1 24 rfl rfl
theorem dX2_just_0 : decode cX2_just 0 = .ok (.iload_n 1, 1) := dk_27 (dk_at dksX2_just_0 0 rfl rfl)
theorem dX2_just_1 : decode cX2_just 1 = .ok (.i2l, 1) := dk_133 (dk_at dksX2_just_0 1 rfl rfl)
theorem dX2_just_2 : decode cX2_just 2 = .ok (.ldc2_w 274, 3) := dk_20 1 18 (dk_at dksX2_just_0 2 rfl rfl)
theorem dX2_just_5 : decode cX2_just 5 = .ok (.aload_n 0, 1) := dk_42 (dk_at dksX2_just_0 5 rfl rfl)
theorem dX2_just_6 : decode cX2_just 6 = .ok (.invokevirtual 225, 3) := dk_182 0 225 (dk_at dksX2_just_0 6 rfl rfl)
theorem dX2_just_9 : decode cX2_just 9 = .ok (.i2l, 1) := dk_133 (dk_at dksX2_just_0 9 rfl rfl)
theorem dX2_just_10 : decode cX2_just 10 = .ok (.invokestatic 99, 3) := dk_184 0 99 (dk_at dksX2_just_0 10 rfl rfl)
theorem dX2_just_13 : decode cX2_just 13 = .ok (.ifCond .eq 13, 3) := dk_153 0 13 (dk_at dksX2_just_0 13 rfl rfl)
theorem dX2_just_16 : decode cX2_just 16 = .ok (.iload_n 2, 1) := dk_28 (dk_at dksX2_just_0 16 rfl rfl)
theorem dX2_just_17 : decode cX2_just 17 = .ok (.i2l, 1) := dk_133 (dk_at dksX2_just_0 17 rfl rfl)
theorem dX2_just_18 : decode cX2_just 18 = .ok (.lconst 0, 1) := dk_9 (dk_at dksX2_just_0 18 rfl rfl)
theorem dX2_just_19 : decode cX2_just 19 = .ok (.lconst 1, 1) := dk_10 (dk_at dksX2_just_0 19 rfl rfl)
theorem dX2_just_20 : decode cX2_just 20 = .ok (.invokestatic 99, 3) := dk_184 0 99 (dk_at dksX2_just_0 20 rfl rfl)
theorem dX2_just_23 : decode cX2_just 23 = .ok (.ifCond .ne 7, 3) := dk_154 0 7 (dk_at dksX2_just_1 0 rfl rfl)
theorem dX2_just_26 : decode cX2_just 26 = .ok (.ldc2_w 260, 3) := dk_20 1 4 (dk_at dksX2_just_1 3 rfl rfl)
theorem dX2_just_29 : decode cX2_just 29 = .ok (.lreturn, 1) := dk_173 (dk_at dksX2_just_1 6 rfl rfl)
theorem dX2_just_30 : decode cX2_just 30 = .ok (.aload_n 0, 1) := dk_42 (dk_at dksX2_just_1 7 rfl rfl)
theorem dX2_just_31 : decode cX2_just 31 = .ok (.iload_n 1, 1) := dk_27 (dk_at dksX2_just_1 8 rfl rfl)
theorem dX2_just_32 : decode cX2_just 32 = .ok (.iconst (-1), 1) := dk_2 (dk_at dksX2_just_1 9 rfl rfl)
theorem dX2_just_33 : decode cX2_just 33 = .ok (.if_icmp .ne 12, 3) := dk_160 0 12 (dk_at dksX2_just_1 10 rfl rfl)
theorem dX2_just_36 : decode cX2_just 36 = .ok (.aload_n 0, 1) := dk_42 (dk_at dksX2_just_1 13 rfl rfl)
theorem dX2_just_37 : decode cX2_just 37 = .ok (.iconst 3, 1) := dk_6 (dk_at dksX2_just_1 14 rfl rfl)
theorem dX2_just_38 : decode cX2_just 38 = .ok (.iconst 0, 1) := dk_3 (dk_at dksX2_just_1 15 rfl rfl)
theorem dX2_just_39 : decode cX2_just 39 = .ok (.invokevirtual 266, 3) := dk_182 1 10 (dk_at dksX2_just_1 16 rfl rfl)
theorem dX2_just_42 : decode cX2_just 42 = .ok (.goto 9, 3) := dk_167 0 9 (dk_at dksX2_just_1 19 rfl rfl)
theorem dX2_just_45 : decode cX2_just 45 = .ok (.aload_n 0, 1) := dk_42 (dk_at dksX2_just_1 22 rfl rfl)
theorem dX2_just_46 : decode cX2_just 46 = .ok (.iconst 2, 1) := dk_5 (dk_at dksX2_just_1 23 rfl rfl)
theorem dX2_just_47 : decode cX2_just 47 = .ok (.iload_n 1, 1) := dk_27 (dk_at dksX2_just_2 0 rfl rfl)
theorem dX2_just_48 : decode cX2_just 48 = .ok (.invokevirtual 266, 3) := dk_182 1 10 (dk_at dksX2_just_2 1 rfl rfl)
theorem dX2_just_51 : decode cX2_just 51 = .ok (.iload_n 2, 1) := dk_28 (dk_at dksX2_just_2 4 rfl rfl)
theorem dX2_just_52 : decode cX2_just 52 = .ok (.invokevirtual 270, 3) := dk_182 1 14 (dk_at dksX2_just_2 5 rfl rfl)
theorem dX2_just_55 : decode cX2_just 55 = .ok (.lreturn, 1) := dk_173 (dk_at dksX2_just_2 8 rfl rfl)
abbrev cX2_aims : ByteArray := prog_31_method_52_code
def yX2_aims : MethodName := ⟨RX2, "aims", "(III)I"⟩
def dkwX2_aims_3 : List UInt8 := [16, 254, 167, 0, 5, 21, 4, 172]
abbrev dktX2_aims_3 : List UInt8 := dkwX2_aims_3 ++ []
def dkwX2_aims_2 : List UInt8 := [42, 182, 0, 241, 42, 180, 0, 50, 29, 28, 27, 184, 0, 207, 46, 54, 4, 21, 4, 16, 9, 160, 0, 8]
abbrev dktX2_aims_2 : List UInt8 := dkwX2_aims_2 ++ dktX2_aims_3
def dkwX2_aims_1 : List UInt8 := [184, 0, 133, 153, 0, 19, 29, 133, 9, 42, 180, 0, 87, 4, 100, 133, 184, 0, 99, 154, 0, 5, 2, 172]
abbrev dktX2_aims_1 : List UInt8 := dkwX2_aims_1 ++ dktX2_aims_2
def dkwX2_aims_0 : List UInt8 := [42, 27, 182, 0, 124, 153, 0, 41, 28, 133, 9, 42, 182, 0, 225, 133, 184, 0, 99, 153, 0, 27, 28, 27]
abbrev dktX2_aims_0 : List UInt8 := dkwX2_aims_0 ++ dktX2_aims_1
theorem dksX2_aims_0 : cX2_aims.data.toList.drop 0 = dktX2_aims_0 := by decide +kernel
theorem dksX2_aims_1 : cX2_aims.data.toList.drop 24 = dktX2_aims_1 := dk_seg dksX2_aims_0 24 rfl rfl
theorem dksX2_aims_2 : cX2_aims.data.toList.drop 48 = dktX2_aims_2 := dk_seg dksX2_aims_1 24 rfl rfl
theorem dksX2_aims_3 : cX2_aims.data.toList.drop 72 = dktX2_aims_3 := dk_seg dksX2_aims_2 24 rfl rfl
theorem dX2_aims_0 : decode cX2_aims 0 = .ok (.aload_n 0, 1) := dk_42 (dk_at dksX2_aims_0 0 rfl rfl)
theorem dX2_aims_1 : decode cX2_aims 1 = .ok (.iload_n 1, 1) := dk_27 (dk_at dksX2_aims_0 1 rfl rfl)
theorem dX2_aims_2 : decode cX2_aims 2 = .ok (.invokevirtual 124, 3) := dk_182 0 124 (dk_at dksX2_aims_0 2 rfl rfl)
theorem dX2_aims_5 : decode cX2_aims 5 = .ok (.ifCond .eq 41, 3) := dk_153 0 41 (dk_at dksX2_aims_0 5 rfl rfl)
theorem dX2_aims_8 : decode cX2_aims 8 = .ok (.iload_n 2, 1) := dk_28 (dk_at dksX2_aims_0 8 rfl rfl)
theorem dX2_aims_9 : decode cX2_aims 9 = .ok (.i2l, 1) := dk_133 (dk_at dksX2_aims_0 9 rfl rfl)
theorem dX2_aims_10 : decode cX2_aims 10 = .ok (.lconst 0, 1) := dk_9 (dk_at dksX2_aims_0 10 rfl rfl)
theorem dX2_aims_11 : decode cX2_aims 11 = .ok (.aload_n 0, 1) := dk_42 (dk_at dksX2_aims_0 11 rfl rfl)
theorem dX2_aims_12 : decode cX2_aims 12 = .ok (.invokevirtual 225, 3) := dk_182 0 225 (dk_at dksX2_aims_0 12 rfl rfl)
theorem dX2_aims_15 : decode cX2_aims 15 = .ok (.i2l, 1) := dk_133 (dk_at dksX2_aims_0 15 rfl rfl)
theorem dX2_aims_16 : decode cX2_aims 16 = .ok (.invokestatic 99, 3) := dk_184 0 99 (dk_at dksX2_aims_0 16 rfl rfl)
theorem dX2_aims_19 : decode cX2_aims 19 = .ok (.ifCond .eq 27, 3) := dk_153 0 27 (dk_at dksX2_aims_0 19 rfl rfl)
theorem dX2_aims_22 : decode cX2_aims 22 = .ok (.iload_n 2, 1) := dk_28 (dk_at dksX2_aims_0 22 rfl rfl)
theorem dX2_aims_23 : decode cX2_aims 23 = .ok (.iload_n 1, 1) := dk_27 (dk_at dksX2_aims_0 23 rfl rfl)
theorem dX2_aims_24 : decode cX2_aims 24 = .ok (.invokestatic 133, 3) := dk_184 0 133 (dk_at dksX2_aims_1 0 rfl rfl)
theorem dX2_aims_27 : decode cX2_aims 27 = .ok (.ifCond .eq 19, 3) := dk_153 0 19 (dk_at dksX2_aims_1 3 rfl rfl)
theorem dX2_aims_30 : decode cX2_aims 30 = .ok (.iload_n 3, 1) := dk_29 (dk_at dksX2_aims_1 6 rfl rfl)
theorem dX2_aims_31 : decode cX2_aims 31 = .ok (.i2l, 1) := dk_133 (dk_at dksX2_aims_1 7 rfl rfl)
theorem dX2_aims_32 : decode cX2_aims 32 = .ok (.lconst 0, 1) := dk_9 (dk_at dksX2_aims_1 8 rfl rfl)
theorem dX2_aims_33 : decode cX2_aims 33 = .ok (.aload_n 0, 1) := dk_42 (dk_at dksX2_aims_1 9 rfl rfl)
theorem dX2_aims_34 : decode cX2_aims 34 = .ok (.getfield 87, 3) := dk_180 0 87 (dk_at dksX2_aims_1 10 rfl rfl)
theorem dX2_aims_37 : decode cX2_aims 37 = .ok (.iconst 1, 1) := dk_4 (dk_at dksX2_aims_1 13 rfl rfl)
theorem dX2_aims_38 : decode cX2_aims 38 = .ok (.isub, 1) := dk_100 (dk_at dksX2_aims_1 14 rfl rfl)
theorem dX2_aims_39 : decode cX2_aims 39 = .ok (.i2l, 1) := dk_133 (dk_at dksX2_aims_1 15 rfl rfl)
theorem dX2_aims_40 : decode cX2_aims 40 = .ok (.invokestatic 99, 3) := dk_184 0 99 (dk_at dksX2_aims_1 16 rfl rfl)
theorem dX2_aims_43 : decode cX2_aims 43 = .ok (.ifCond .ne 5, 3) := dk_154 0 5 (dk_at dksX2_aims_1 19 rfl rfl)
theorem dX2_aims_46 : decode cX2_aims 46 = .ok (.iconst (-1), 1) := dk_2 (dk_at dksX2_aims_1 22 rfl rfl)
theorem dX2_aims_47 : decode cX2_aims 47 = .ok (.ireturn, 1) := dk_172 (dk_at dksX2_aims_1 23 rfl rfl)
theorem dX2_aims_48 : decode cX2_aims 48 = .ok (.aload_n 0, 1) := dk_42 (dk_at dksX2_aims_2 0 rfl rfl)
theorem dX2_aims_49 : decode cX2_aims 49 = .ok (.invokevirtual 241, 3) := dk_182 0 241 (dk_at dksX2_aims_2 1 rfl rfl)
theorem dX2_aims_52 : decode cX2_aims 52 = .ok (.aload_n 0, 1) := dk_42 (dk_at dksX2_aims_2 4 rfl rfl)
theorem dX2_aims_53 : decode cX2_aims 53 = .ok (.getfield 50, 3) := dk_180 0 50 (dk_at dksX2_aims_2 5 rfl rfl)
theorem dX2_aims_56 : decode cX2_aims 56 = .ok (.iload_n 3, 1) := dk_29 (dk_at dksX2_aims_2 8 rfl rfl)
theorem dX2_aims_57 : decode cX2_aims 57 = .ok (.iload_n 2, 1) := dk_28 (dk_at dksX2_aims_2 9 rfl rfl)
theorem dX2_aims_58 : decode cX2_aims 58 = .ok (.iload_n 1, 1) := dk_27 (dk_at dksX2_aims_2 10 rfl rfl)
theorem dX2_aims_59 : decode cX2_aims 59 = .ok (.invokestatic 207, 3) := dk_184 0 207 (dk_at dksX2_aims_2 11 rfl rfl)
theorem dX2_aims_62 : decode cX2_aims 62 = .ok (.iaload, 1) := dk_46 (dk_at dksX2_aims_2 14 rfl rfl)
theorem dX2_aims_63 : decode cX2_aims 63 = .ok (.istore 4, 2) := dk_54 4 (dk_at dksX2_aims_2 15 rfl rfl)
theorem dX2_aims_65 : decode cX2_aims 65 = .ok (.iload 4, 2) := dk_21 4 (dk_at dksX2_aims_2 17 rfl rfl)
theorem dX2_aims_67 : decode cX2_aims 67 = .ok (.bipush 9, 2) := dk_16 9 (dk_at dksX2_aims_2 19 rfl rfl)
theorem dX2_aims_69 : decode cX2_aims 69 = .ok (.if_icmp .ne 8, 3) := dk_160 0 8 (dk_at dksX2_aims_2 21 rfl rfl)
theorem dX2_aims_72 : decode cX2_aims 72 = .ok (.bipush (-2), 2) := dk_16 254 (dk_at dksX2_aims_3 0 rfl rfl)
theorem dX2_aims_74 : decode cX2_aims 74 = .ok (.goto 5, 3) := dk_167 0 5 (dk_at dksX2_aims_3 2 rfl rfl)
theorem dX2_aims_77 : decode cX2_aims 77 = .ok (.iload 4, 2) := dk_21 4 (dk_at dksX2_aims_3 5 rfl rfl)
theorem dX2_aims_79 : decode cX2_aims 79 = .ok (.ireturn, 1) := dk_172 (dk_at dksX2_aims_3 7 rfl rfl)
abbrev cX2_begin : ByteArray := prog_31_method_53_code
def yX2_begin : MethodName := ⟨RX2, "begin", "(I)I"⟩
def dkwX2_begin_2 : List UInt8 := [158, 0, 7, 29, 167, 0, 4, 28, 61, 132, 3, 1, 167, 255, 215, 28, 172]
abbrev dktX2_begin_2 : List UInt8 := dkwX2_begin_2 ++ []
def dkwX2_begin_1 : List UInt8 := [162, 0, 39, 42, 42, 182, 0, 225, 29, 27, 182, 0, 244, 42, 42, 182, 0, 225, 28, 27, 182, 0, 244, 148]
abbrev dktX2_begin_1 : List UInt8 := dkwX2_begin_1 ++ dktX2_begin_2
def dkwX2_begin_0 : List UInt8 := [42, 27, 182, 0, 124, 154, 0, 5, 2, 172, 42, 182, 0, 241, 3, 61, 4, 62, 29, 42, 180, 0, 96]
abbrev dktX2_begin_0 : List UInt8 := dkwX2_begin_0 ++ dktX2_begin_1
theorem dksX2_begin_0 : cX2_begin.data.toList.drop 0 = dktX2_begin_0 := by decide +kernel
theorem dksX2_begin_1 : cX2_begin.data.toList.drop 23 = dktX2_begin_1 := dk_seg dksX2_begin_0 23 rfl rfl
theorem dksX2_begin_2 : cX2_begin.data.toList.drop 47 = dktX2_begin_2 := dk_seg dksX2_begin_1 24 rfl rfl
theorem dX2_begin_0 : decode cX2_begin 0 = .ok (.aload_n 0, 1) := dk_42 (dk_at dksX2_begin_0 0 rfl rfl)
theorem dX2_begin_1 : decode cX2_begin 1 = .ok (.iload_n 1, 1) := dk_27 (dk_at dksX2_begin_0 1 rfl rfl)
theorem dX2_begin_2 : decode cX2_begin 2 = .ok (.invokevirtual 124, 3) := dk_182 0 124 (dk_at dksX2_begin_0 2 rfl rfl)
theorem dX2_begin_5 : decode cX2_begin 5 = .ok (.ifCond .ne 5, 3) := dk_154 0 5 (dk_at dksX2_begin_0 5 rfl rfl)
theorem dX2_begin_8 : decode cX2_begin 8 = .ok (.iconst (-1), 1) := dk_2 (dk_at dksX2_begin_0 8 rfl rfl)
theorem dX2_begin_9 : decode cX2_begin 9 = .ok (.ireturn, 1) := dk_172 (dk_at dksX2_begin_0 9 rfl rfl)
theorem dX2_begin_10 : decode cX2_begin 10 = .ok (.aload_n 0, 1) := dk_42 (dk_at dksX2_begin_0 10 rfl rfl)
theorem dX2_begin_11 : decode cX2_begin 11 = .ok (.invokevirtual 241, 3) := dk_182 0 241 (dk_at dksX2_begin_0 11 rfl rfl)
theorem dX2_begin_14 : decode cX2_begin 14 = .ok (.iconst 0, 1) := dk_3 (dk_at dksX2_begin_0 14 rfl rfl)
theorem dX2_begin_15 : decode cX2_begin 15 = .ok (.istore_n 2, 1) := dk_61 (dk_at dksX2_begin_0 15 rfl rfl)
theorem dX2_begin_16 : decode cX2_begin 16 = .ok (.iconst 1, 1) := dk_4 (dk_at dksX2_begin_0 16 rfl rfl)
theorem dX2_begin_17 : decode cX2_begin 17 = .ok (.istore_n 3, 1) := dk_62 (dk_at dksX2_begin_0 17 rfl rfl)
theorem dX2_begin_18 : decode cX2_begin 18 = .ok (.iload_n 3, 1) := dk_29 (dk_at dksX2_begin_0 18 rfl rfl)
theorem dX2_begin_19 : decode cX2_begin 19 = .ok (.aload_n 0, 1) := dk_42 (dk_at dksX2_begin_0 19 rfl rfl)
theorem dX2_begin_20 : decode cX2_begin 20 = .ok (.getfield 96, 3) := dk_180 0 96 (dk_at dksX2_begin_0 20 rfl rfl)
theorem dX2_begin_23 : decode cX2_begin 23 = .ok (.if_icmp .ge 39, 3) := dk_162 0 39 (dk_at dksX2_begin_1 0 rfl rfl)
theorem dX2_begin_26 : decode cX2_begin 26 = .ok (.aload_n 0, 1) := dk_42 (dk_at dksX2_begin_1 3 rfl rfl)
theorem dX2_begin_27 : decode cX2_begin 27 = .ok (.aload_n 0, 1) := dk_42 (dk_at dksX2_begin_1 4 rfl rfl)
theorem dX2_begin_28 : decode cX2_begin 28 = .ok (.invokevirtual 225, 3) := dk_182 0 225 (dk_at dksX2_begin_1 5 rfl rfl)
theorem dX2_begin_31 : decode cX2_begin 31 = .ok (.iload_n 3, 1) := dk_29 (dk_at dksX2_begin_1 8 rfl rfl)
theorem dX2_begin_32 : decode cX2_begin 32 = .ok (.iload_n 1, 1) := dk_27 (dk_at dksX2_begin_1 9 rfl rfl)
theorem dX2_begin_33 : decode cX2_begin 33 = .ok (.invokevirtual 244, 3) := dk_182 0 244 (dk_at dksX2_begin_1 10 rfl rfl)
theorem dX2_begin_36 : decode cX2_begin 36 = .ok (.aload_n 0, 1) := dk_42 (dk_at dksX2_begin_1 13 rfl rfl)
theorem dX2_begin_37 : decode cX2_begin 37 = .ok (.aload_n 0, 1) := dk_42 (dk_at dksX2_begin_1 14 rfl rfl)
theorem dX2_begin_38 : decode cX2_begin 38 = .ok (.invokevirtual 225, 3) := dk_182 0 225 (dk_at dksX2_begin_1 15 rfl rfl)
theorem dX2_begin_41 : decode cX2_begin 41 = .ok (.iload_n 2, 1) := dk_28 (dk_at dksX2_begin_1 18 rfl rfl)
theorem dX2_begin_42 : decode cX2_begin 42 = .ok (.iload_n 1, 1) := dk_27 (dk_at dksX2_begin_1 19 rfl rfl)
theorem dX2_begin_43 : decode cX2_begin 43 = .ok (.invokevirtual 244, 3) := dk_182 0 244 (dk_at dksX2_begin_1 20 rfl rfl)
theorem dX2_begin_46 : decode cX2_begin 46 = .ok (.lcmp, 1) := dk_148 (dk_at dksX2_begin_1 23 rfl rfl)
theorem dX2_begin_47 : decode cX2_begin 47 = .ok (.ifCond .le 7, 3) := dk_158 0 7 (dk_at dksX2_begin_2 0 rfl rfl)
theorem dX2_begin_50 : decode cX2_begin 50 = .ok (.iload_n 3, 1) := dk_29 (dk_at dksX2_begin_2 3 rfl rfl)
theorem dX2_begin_51 : decode cX2_begin 51 = .ok (.goto 4, 3) := dk_167 0 4 (dk_at dksX2_begin_2 4 rfl rfl)
theorem dX2_begin_54 : decode cX2_begin 54 = .ok (.iload_n 2, 1) := dk_28 (dk_at dksX2_begin_2 7 rfl rfl)
theorem dX2_begin_55 : decode cX2_begin 55 = .ok (.istore_n 2, 1) := dk_61 (dk_at dksX2_begin_2 8 rfl rfl)
theorem dX2_begin_56 : decode cX2_begin 56 = .ok (.iinc 3 1, 3) := dk_132 3 1 (dk_at dksX2_begin_2 9 rfl rfl)
theorem dX2_begin_59 : decode cX2_begin 59 = .ok (.goto (-41), 3) := dk_167 255 215 (dk_at dksX2_begin_2 12 rfl rfl)
theorem dX2_begin_62 : decode cX2_begin 62 = .ok (.iload_n 2, 1) := dk_28 (dk_at dksX2_begin_2 15 rfl rfl)
theorem dX2_begin_63 : decode cX2_begin 63 = .ok (.ireturn, 1) := dk_172 (dk_at dksX2_begin_2 16 rfl rfl)
abbrev cX2_fair : ByteArray := prog_31_method_54_code
def yX2_fair : MethodName := ⟨RX2, "fair", "()I"⟩
def dkwX2_fair_6 : List UInt8 := [172]
abbrev dktX2_fair_6 : List UInt8 := dkwX2_fair_6 ++ []
def dkwX2_fair_5 : List UInt8 := [22, 5, 101, 32, 148, 156, 0, 12, 21, 4, 60, 22, 7, 22, 5, 101, 65, 132, 4, 1, 167, 255, 138, 27]
abbrev dktX2_fair_5 : List UInt8 := dkwX2_fair_5 ++ dktX2_fair_6
def dkwX2_fair_4 : List UInt8 := [158, 0, 8, 22, 10, 167, 0, 5, 22, 7, 55, 7, 132, 9, 1, 167, 255, 196, 27, 155, 0, 13, 22, 7]
abbrev dktX2_fair_4 : List UInt8 := dkwX2_fair_4 ++ dktX2_fair_5
def dkwX2_fair_3 : List UInt8 := [55, 10, 22, 10, 22, 5, 148, 156, 0, 8, 22, 10, 167, 0, 5, 22, 5, 55, 5, 22, 10, 22, 7, 148]
abbrev dktX2_fair_3 : List UInt8 := dkwX2_fair_3 ++ dktX2_fair_4
def dkwX2_fair_2 : List UInt8 := [54, 9, 21, 9, 42, 180, 0, 96, 162, 0, 57, 42, 42, 182, 0, 225, 21, 4, 21, 9, 182, 0, 244]
abbrev dktX2_fair_2 : List UInt8 := dkwX2_fair_2 ++ dktX2_fair_3
def dkwX2_fair_1 : List UInt8 := [180, 0, 96, 162, 0, 115, 42, 42, 182, 0, 225, 21, 4, 3, 182, 0, 244, 55, 5, 22, 5, 55, 7, 4]
abbrev dktX2_fair_1 : List UInt8 := dkwX2_fair_1 ++ dktX2_fair_2
def dkwX2_fair_0 : List UInt8 := [42, 180, 0, 96, 154, 0, 6, 16, 251, 172, 42, 182, 0, 241, 2, 60, 9, 65, 3, 54, 4, 21, 4, 42]
abbrev dktX2_fair_0 : List UInt8 := dkwX2_fair_0 ++ dktX2_fair_1
theorem dksX2_fair_0 : cX2_fair.data.toList.drop 0 = dktX2_fair_0 := by decide +kernel
theorem dksX2_fair_1 : cX2_fair.data.toList.drop 24 = dktX2_fair_1 := dk_seg dksX2_fair_0 24 rfl rfl
theorem dksX2_fair_2 : cX2_fair.data.toList.drop 48 = dktX2_fair_2 := dk_seg dksX2_fair_1 24 rfl rfl
theorem dksX2_fair_3 : cX2_fair.data.toList.drop 71 = dktX2_fair_3 := dk_seg dksX2_fair_2 23 rfl rfl
theorem dksX2_fair_4 : cX2_fair.data.toList.drop 95 = dktX2_fair_4 := dk_seg dksX2_fair_3 24 rfl rfl
theorem dksX2_fair_5 : cX2_fair.data.toList.drop 119 = dktX2_fair_5 := dk_seg dksX2_fair_4 24 rfl rfl
theorem dksX2_fair_6 : cX2_fair.data.toList.drop 143 = dktX2_fair_6 := dk_seg dksX2_fair_5 24 rfl rfl
theorem dX2_fair_0 : decode cX2_fair 0 = .ok (.aload_n 0, 1) := dk_42 (dk_at dksX2_fair_0 0 rfl rfl)
theorem dX2_fair_1 : decode cX2_fair 1 = .ok (.getfield 96, 3) := dk_180 0 96 (dk_at dksX2_fair_0 1 rfl rfl)
theorem dX2_fair_4 : decode cX2_fair 4 = .ok (.ifCond .ne 6, 3) := dk_154 0 6 (dk_at dksX2_fair_0 4 rfl rfl)
theorem dX2_fair_7 : decode cX2_fair 7 = .ok (.bipush (-5), 2) := dk_16 251 (dk_at dksX2_fair_0 7 rfl rfl)
theorem dX2_fair_9 : decode cX2_fair 9 = .ok (.ireturn, 1) := dk_172 (dk_at dksX2_fair_0 9 rfl rfl)
theorem dX2_fair_10 : decode cX2_fair 10 = .ok (.aload_n 0, 1) := dk_42 (dk_at dksX2_fair_0 10 rfl rfl)
theorem dX2_fair_11 : decode cX2_fair 11 = .ok (.invokevirtual 241, 3) := dk_182 0 241 (dk_at dksX2_fair_0 11 rfl rfl)
theorem dX2_fair_14 : decode cX2_fair 14 = .ok (.iconst (-1), 1) := dk_2 (dk_at dksX2_fair_0 14 rfl rfl)
theorem dX2_fair_15 : decode cX2_fair 15 = .ok (.istore_n 1, 1) := dk_60 (dk_at dksX2_fair_0 15 rfl rfl)
theorem dX2_fair_16 : decode cX2_fair 16 = .ok (.lconst 0, 1) := dk_9 (dk_at dksX2_fair_0 16 rfl rfl)
theorem dX2_fair_17 : decode cX2_fair 17 = .ok (.lstore_n 2, 1) := dk_65 (dk_at dksX2_fair_0 17 rfl rfl)
theorem dX2_fair_18 : decode cX2_fair 18 = .ok (.iconst 0, 1) := dk_3 (dk_at dksX2_fair_0 18 rfl rfl)
theorem dX2_fair_19 : decode cX2_fair 19 = .ok (.istore 4, 2) := dk_54 4 (dk_at dksX2_fair_0 19 rfl rfl)
theorem dX2_fair_21 : decode cX2_fair 21 = .ok (.iload 4, 2) := dk_21 4 (dk_at dksX2_fair_0 21 rfl rfl)
theorem dX2_fair_23 : decode cX2_fair 23 = .ok (.aload_n 0, 1) := dk_42 (dk_at dksX2_fair_0 23 rfl rfl)
theorem dX2_fair_24 : decode cX2_fair 24 = .ok (.getfield 96, 3) := dk_180 0 96 (dk_at dksX2_fair_1 0 rfl rfl)
theorem dX2_fair_27 : decode cX2_fair 27 = .ok (.if_icmp .ge 115, 3) := dk_162 0 115 (dk_at dksX2_fair_1 3 rfl rfl)
theorem dX2_fair_30 : decode cX2_fair 30 = .ok (.aload_n 0, 1) := dk_42 (dk_at dksX2_fair_1 6 rfl rfl)
theorem dX2_fair_31 : decode cX2_fair 31 = .ok (.aload_n 0, 1) := dk_42 (dk_at dksX2_fair_1 7 rfl rfl)
theorem dX2_fair_32 : decode cX2_fair 32 = .ok (.invokevirtual 225, 3) := dk_182 0 225 (dk_at dksX2_fair_1 8 rfl rfl)
theorem dX2_fair_35 : decode cX2_fair 35 = .ok (.iload 4, 2) := dk_21 4 (dk_at dksX2_fair_1 11 rfl rfl)
theorem dX2_fair_37 : decode cX2_fair 37 = .ok (.iconst 0, 1) := dk_3 (dk_at dksX2_fair_1 13 rfl rfl)
theorem dX2_fair_38 : decode cX2_fair 38 = .ok (.invokevirtual 244, 3) := dk_182 0 244 (dk_at dksX2_fair_1 14 rfl rfl)
theorem dX2_fair_41 : decode cX2_fair 41 = .ok (.lstore 5, 2) := dk_55 5 (dk_at dksX2_fair_1 17 rfl rfl)
theorem dX2_fair_43 : decode cX2_fair 43 = .ok (.lload 5, 2) := dk_22 5 (dk_at dksX2_fair_1 19 rfl rfl)
theorem dX2_fair_45 : decode cX2_fair 45 = .ok (.lstore 7, 2) := dk_55 7 (dk_at dksX2_fair_1 21 rfl rfl)
theorem dX2_fair_47 : decode cX2_fair 47 = .ok (.iconst 1, 1) := dk_4 (dk_at dksX2_fair_1 23 rfl rfl)
theorem dX2_fair_48 : decode cX2_fair 48 = .ok (.istore 9, 2) := dk_54 9 (dk_at dksX2_fair_2 0 rfl rfl)
theorem dX2_fair_50 : decode cX2_fair 50 = .ok (.iload 9, 2) := dk_21 9 (dk_at dksX2_fair_2 2 rfl rfl)
theorem dX2_fair_52 : decode cX2_fair 52 = .ok (.aload_n 0, 1) := dk_42 (dk_at dksX2_fair_2 4 rfl rfl)
theorem dX2_fair_53 : decode cX2_fair 53 = .ok (.getfield 96, 3) := dk_180 0 96 (dk_at dksX2_fair_2 5 rfl rfl)
theorem dX2_fair_56 : decode cX2_fair 56 = .ok (.if_icmp .ge 57, 3) := dk_162 0 57 (dk_at dksX2_fair_2 8 rfl rfl)
theorem dX2_fair_59 : decode cX2_fair 59 = .ok (.aload_n 0, 1) := dk_42 (dk_at dksX2_fair_2 11 rfl rfl)
theorem dX2_fair_60 : decode cX2_fair 60 = .ok (.aload_n 0, 1) := dk_42 (dk_at dksX2_fair_2 12 rfl rfl)
theorem dX2_fair_61 : decode cX2_fair 61 = .ok (.invokevirtual 225, 3) := dk_182 0 225 (dk_at dksX2_fair_2 13 rfl rfl)
theorem dX2_fair_64 : decode cX2_fair 64 = .ok (.iload 4, 2) := dk_21 4 (dk_at dksX2_fair_2 16 rfl rfl)
theorem dX2_fair_66 : decode cX2_fair 66 = .ok (.iload 9, 2) := dk_21 9 (dk_at dksX2_fair_2 18 rfl rfl)
theorem dX2_fair_68 : decode cX2_fair 68 = .ok (.invokevirtual 244, 3) := dk_182 0 244 (dk_at dksX2_fair_2 20 rfl rfl)
theorem dX2_fair_71 : decode cX2_fair 71 = .ok (.lstore 10, 2) := dk_55 10 (dk_at dksX2_fair_3 0 rfl rfl)
theorem dX2_fair_73 : decode cX2_fair 73 = .ok (.lload 10, 2) := dk_22 10 (dk_at dksX2_fair_3 2 rfl rfl)
theorem dX2_fair_75 : decode cX2_fair 75 = .ok (.lload 5, 2) := dk_22 5 (dk_at dksX2_fair_3 4 rfl rfl)
theorem dX2_fair_77 : decode cX2_fair 77 = .ok (.lcmp, 1) := dk_148 (dk_at dksX2_fair_3 6 rfl rfl)
theorem dX2_fair_78 : decode cX2_fair 78 = .ok (.ifCond .ge 8, 3) := dk_156 0 8 (dk_at dksX2_fair_3 7 rfl rfl)
theorem dX2_fair_81 : decode cX2_fair 81 = .ok (.lload 10, 2) := dk_22 10 (dk_at dksX2_fair_3 10 rfl rfl)
theorem dX2_fair_83 : decode cX2_fair 83 = .ok (.goto 5, 3) := dk_167 0 5 (dk_at dksX2_fair_3 12 rfl rfl)
theorem dX2_fair_86 : decode cX2_fair 86 = .ok (.lload 5, 2) := dk_22 5 (dk_at dksX2_fair_3 15 rfl rfl)
theorem dX2_fair_88 : decode cX2_fair 88 = .ok (.lstore 5, 2) := dk_55 5 (dk_at dksX2_fair_3 17 rfl rfl)
theorem dX2_fair_90 : decode cX2_fair 90 = .ok (.lload 10, 2) := dk_22 10 (dk_at dksX2_fair_3 19 rfl rfl)
theorem dX2_fair_92 : decode cX2_fair 92 = .ok (.lload 7, 2) := dk_22 7 (dk_at dksX2_fair_3 21 rfl rfl)
theorem dX2_fair_94 : decode cX2_fair 94 = .ok (.lcmp, 1) := dk_148 (dk_at dksX2_fair_3 23 rfl rfl)
theorem dX2_fair_95 : decode cX2_fair 95 = .ok (.ifCond .le 8, 3) := dk_158 0 8 (dk_at dksX2_fair_4 0 rfl rfl)
theorem dX2_fair_98 : decode cX2_fair 98 = .ok (.lload 10, 2) := dk_22 10 (dk_at dksX2_fair_4 3 rfl rfl)
theorem dX2_fair_100 : decode cX2_fair 100 = .ok (.goto 5, 3) := dk_167 0 5 (dk_at dksX2_fair_4 5 rfl rfl)
theorem dX2_fair_103 : decode cX2_fair 103 = .ok (.lload 7, 2) := dk_22 7 (dk_at dksX2_fair_4 8 rfl rfl)
theorem dX2_fair_105 : decode cX2_fair 105 = .ok (.lstore 7, 2) := dk_55 7 (dk_at dksX2_fair_4 10 rfl rfl)
theorem dX2_fair_107 : decode cX2_fair 107 = .ok (.iinc 9 1, 3) := dk_132 9 1 (dk_at dksX2_fair_4 12 rfl rfl)
theorem dX2_fair_110 : decode cX2_fair 110 = .ok (.goto (-60), 3) := dk_167 255 196 (dk_at dksX2_fair_4 15 rfl rfl)
theorem dX2_fair_113 : decode cX2_fair 113 = .ok (.iload_n 1, 1) := dk_27 (dk_at dksX2_fair_4 18 rfl rfl)
theorem dX2_fair_114 : decode cX2_fair 114 = .ok (.ifCond .lt 13, 3) := dk_155 0 13 (dk_at dksX2_fair_4 19 rfl rfl)
theorem dX2_fair_117 : decode cX2_fair 117 = .ok (.lload 7, 2) := dk_22 7 (dk_at dksX2_fair_4 22 rfl rfl)
theorem dX2_fair_119 : decode cX2_fair 119 = .ok (.lload 5, 2) := dk_22 5 (dk_at dksX2_fair_5 0 rfl rfl)
theorem dX2_fair_121 : decode cX2_fair 121 = .ok (.lsub, 1) := dk_101 (dk_at dksX2_fair_5 2 rfl rfl)
theorem dX2_fair_122 : decode cX2_fair 122 = .ok (.lload_n 2, 1) := dk_32 (dk_at dksX2_fair_5 3 rfl rfl)
theorem dX2_fair_123 : decode cX2_fair 123 = .ok (.lcmp, 1) := dk_148 (dk_at dksX2_fair_5 4 rfl rfl)
theorem dX2_fair_124 : decode cX2_fair 124 = .ok (.ifCond .ge 12, 3) := dk_156 0 12 (dk_at dksX2_fair_5 5 rfl rfl)
theorem dX2_fair_127 : decode cX2_fair 127 = .ok (.iload 4, 2) := dk_21 4 (dk_at dksX2_fair_5 8 rfl rfl)
theorem dX2_fair_129 : decode cX2_fair 129 = .ok (.istore_n 1, 1) := dk_60 (dk_at dksX2_fair_5 10 rfl rfl)
theorem dX2_fair_130 : decode cX2_fair 130 = .ok (.lload 7, 2) := dk_22 7 (dk_at dksX2_fair_5 11 rfl rfl)
theorem dX2_fair_132 : decode cX2_fair 132 = .ok (.lload 5, 2) := dk_22 5 (dk_at dksX2_fair_5 13 rfl rfl)
theorem dX2_fair_134 : decode cX2_fair 134 = .ok (.lsub, 1) := dk_101 (dk_at dksX2_fair_5 15 rfl rfl)
theorem dX2_fair_135 : decode cX2_fair 135 = .ok (.lstore_n 2, 1) := dk_65 (dk_at dksX2_fair_5 16 rfl rfl)
theorem dX2_fair_136 : decode cX2_fair 136 = .ok (.iinc 4 1, 3) := dk_132 4 1 (dk_at dksX2_fair_5 17 rfl rfl)
theorem dX2_fair_139 : decode cX2_fair 139 = .ok (.goto (-118), 3) := dk_167 255 138 (dk_at dksX2_fair_5 20 rfl rfl)
theorem dX2_fair_142 : decode cX2_fair 142 = .ok (.iload_n 1, 1) := dk_27 (dk_at dksX2_fair_5 23 rfl rfl)
theorem dX2_fair_143 : decode cX2_fair 143 = .ok (.ireturn, 1) := dk_172 (dk_at dksX2_fair_6 0 rfl rfl)
abbrev cX2_would : ByteArray := prog_31_method_56_code
def yX2_would : MethodName := ⟨RX2, "would", "(I)I"⟩
def dkwX2_would_0 : List UInt8 := [42, 27, 182, 0, 124, 153, 0, 11, 42, 27, 182, 1, 20, 167, 0, 4, 2, 172]
abbrev dktX2_would_0 : List UInt8 := dkwX2_would_0 ++ []
theorem dksX2_would_0 : cX2_would.data.toList.drop 0 = dktX2_would_0 := by decide +kernel
theorem dX2_would_0 : decode cX2_would 0 = .ok (.aload_n 0, 1) := dk_42 (dk_at dksX2_would_0 0 rfl rfl)
theorem dX2_would_1 : decode cX2_would 1 = .ok (.iload_n 1, 1) := dk_27 (dk_at dksX2_would_0 1 rfl rfl)
theorem dX2_would_2 : decode cX2_would 2 = .ok (.invokevirtual 124, 3) := dk_182 0 124 (dk_at dksX2_would_0 2 rfl rfl)
theorem dX2_would_5 : decode cX2_would 5 = .ok (.ifCond .eq 11, 3) := dk_153 0 11 (dk_at dksX2_would_0 5 rfl rfl)
theorem dX2_would_8 : decode cX2_would 8 = .ok (.aload_n 0, 1) := dk_42 (dk_at dksX2_would_0 8 rfl rfl)
theorem dX2_would_9 : decode cX2_would 9 = .ok (.iload_n 1, 1) := dk_27 (dk_at dksX2_would_0 9 rfl rfl)
theorem dX2_would_10 : decode cX2_would 10 = .ok (.invokevirtual 276, 3) := dk_182 1 20 (dk_at dksX2_would_0 10 rfl rfl)
theorem dX2_would_13 : decode cX2_would 13 = .ok (.goto 4, 3) := dk_167 0 4 (dk_at dksX2_would_0 13 rfl rfl)
theorem dX2_would_16 : decode cX2_would 16 = .ok (.iconst (-1), 1) := dk_2 (dk_at dksX2_would_0 16 rfl rfl)
theorem dX2_would_17 : decode cX2_would 17 = .ok (.ireturn, 1) := dk_172 (dk_at dksX2_would_0 17 rfl rfl)
abbrev cX2_wouldOf : ByteArray := prog_31_method_55_code
def yX2_wouldOf : MethodName := ⟨RX2, "wouldOf", "(I)I"⟩
def dkwX2_wouldOf_3 : List UInt8 := [167, 0, 4, 33, 66, 132, 6, 1, 167, 255, 199, 42, 180, 0, 9, 7, 27, 96, 28, 79, 21, 5, 172]
abbrev dktX2_wouldOf_3 : List UInt8 := dkwX2_wouldOf_3 ++ []
def dkwX2_wouldOf_2 : List UInt8 := [33, 148, 158, 0, 8, 21, 6, 167, 0, 5, 21, 5, 54, 5, 22, 7, 33, 148, 158, 0, 8, 22, 7]
abbrev dktX2_wouldOf_2 : List UInt8 := dkwX2_wouldOf_2 ++ dktX2_wouldOf_3
def dkwX2_wouldOf_1 : List UInt8 := [16, 6, 162, 0, 56, 42, 180, 0, 9, 7, 27, 96, 21, 6, 79, 42, 27, 182, 1, 6, 55, 7, 22, 7]
abbrev dktX2_wouldOf_1 : List UInt8 := dkwX2_wouldOf_1 ++ dktX2_wouldOf_2
def dkwX2_wouldOf_0 : List UInt8 := [42, 180, 0, 9, 7, 27, 96, 46, 61, 42, 27, 182, 1, 6, 66, 28, 54, 5, 3, 54, 6, 21, 6]
abbrev dktX2_wouldOf_0 : List UInt8 := dkwX2_wouldOf_0 ++ dktX2_wouldOf_1
theorem dksX2_wouldOf_0 : cX2_wouldOf.data.toList.drop 0 = dktX2_wouldOf_0 := by decide +kernel
theorem dksX2_wouldOf_1 : cX2_wouldOf.data.toList.drop 23 = dktX2_wouldOf_1 := dk_seg dksX2_wouldOf_0 23 rfl rfl
theorem dksX2_wouldOf_2 : cX2_wouldOf.data.toList.drop 47 = dktX2_wouldOf_2 := dk_seg dksX2_wouldOf_1 24 rfl rfl
theorem dksX2_wouldOf_3 : cX2_wouldOf.data.toList.drop 70 = dktX2_wouldOf_3 := dk_seg dksX2_wouldOf_2 23 rfl rfl
theorem dX2_wouldOf_0 : decode cX2_wouldOf 0 = .ok (.aload_n 0, 1) := dk_42 (dk_at dksX2_wouldOf_0 0 rfl rfl)
theorem dX2_wouldOf_1 : decode cX2_wouldOf 1 = .ok (.getfield 9, 3) := dk_180 0 9 (dk_at dksX2_wouldOf_0 1 rfl rfl)
theorem dX2_wouldOf_4 : decode cX2_wouldOf 4 = .ok (.iconst 4, 1) := dk_7 (dk_at dksX2_wouldOf_0 4 rfl rfl)
theorem dX2_wouldOf_5 : decode cX2_wouldOf 5 = .ok (.iload_n 1, 1) := dk_27 (dk_at dksX2_wouldOf_0 5 rfl rfl)
theorem dX2_wouldOf_6 : decode cX2_wouldOf 6 = .ok (.iadd, 1) := dk_96 (dk_at dksX2_wouldOf_0 6 rfl rfl)
theorem dX2_wouldOf_7 : decode cX2_wouldOf 7 = .ok (.iaload, 1) := dk_46 (dk_at dksX2_wouldOf_0 7 rfl rfl)
theorem dX2_wouldOf_8 : decode cX2_wouldOf 8 = .ok (.istore_n 2, 1) := dk_61 (dk_at dksX2_wouldOf_0 8 rfl rfl)
theorem dX2_wouldOf_9 : decode cX2_wouldOf 9 = .ok (.aload_n 0, 1) := dk_42 (dk_at dksX2_wouldOf_0 9 rfl rfl)
theorem dX2_wouldOf_10 : decode cX2_wouldOf 10 = .ok (.iload_n 1, 1) := dk_27 (dk_at dksX2_wouldOf_0 10 rfl rfl)
theorem dX2_wouldOf_11 : decode cX2_wouldOf 11 = .ok (.invokevirtual 262, 3) := dk_182 1 6 (dk_at dksX2_wouldOf_0 11 rfl rfl)
theorem dX2_wouldOf_14 : decode cX2_wouldOf 14 = .ok (.lstore_n 3, 1) := dk_66 (dk_at dksX2_wouldOf_0 14 rfl rfl)
theorem dX2_wouldOf_15 : decode cX2_wouldOf 15 = .ok (.iload_n 2, 1) := dk_28 (dk_at dksX2_wouldOf_0 15 rfl rfl)
theorem dX2_wouldOf_16 : decode cX2_wouldOf 16 = .ok (.istore 5, 2) := dk_54 5 (dk_at dksX2_wouldOf_0 16 rfl rfl)
theorem dX2_wouldOf_18 : decode cX2_wouldOf 18 = .ok (.iconst 0, 1) := dk_3 (dk_at dksX2_wouldOf_0 18 rfl rfl)
theorem dX2_wouldOf_19 : decode cX2_wouldOf 19 = .ok (.istore 6, 2) := dk_54 6 (dk_at dksX2_wouldOf_0 19 rfl rfl)
theorem dX2_wouldOf_21 : decode cX2_wouldOf 21 = .ok (.iload 6, 2) := dk_21 6 (dk_at dksX2_wouldOf_0 21 rfl rfl)
theorem dX2_wouldOf_23 : decode cX2_wouldOf 23 = .ok (.bipush 6, 2) := dk_16 6 (dk_at dksX2_wouldOf_1 0 rfl rfl)
theorem dX2_wouldOf_25 : decode cX2_wouldOf 25 = .ok (.if_icmp .ge 56, 3) := dk_162 0 56 (dk_at dksX2_wouldOf_1 2 rfl rfl)
theorem dX2_wouldOf_28 : decode cX2_wouldOf 28 = .ok (.aload_n 0, 1) := dk_42 (dk_at dksX2_wouldOf_1 5 rfl rfl)
theorem dX2_wouldOf_29 : decode cX2_wouldOf 29 = .ok (.getfield 9, 3) := dk_180 0 9 (dk_at dksX2_wouldOf_1 6 rfl rfl)
theorem dX2_wouldOf_32 : decode cX2_wouldOf 32 = .ok (.iconst 4, 1) := dk_7 (dk_at dksX2_wouldOf_1 9 rfl rfl)
theorem dX2_wouldOf_33 : decode cX2_wouldOf 33 = .ok (.iload_n 1, 1) := dk_27 (dk_at dksX2_wouldOf_1 10 rfl rfl)
theorem dX2_wouldOf_34 : decode cX2_wouldOf 34 = .ok (.iadd, 1) := dk_96 (dk_at dksX2_wouldOf_1 11 rfl rfl)
theorem dX2_wouldOf_35 : decode cX2_wouldOf 35 = .ok (.iload 6, 2) := dk_21 6 (dk_at dksX2_wouldOf_1 12 rfl rfl)
theorem dX2_wouldOf_37 : decode cX2_wouldOf 37 = .ok (.iastore, 1) := dk_79 (dk_at dksX2_wouldOf_1 14 rfl rfl)
theorem dX2_wouldOf_38 : decode cX2_wouldOf 38 = .ok (.aload_n 0, 1) := dk_42 (dk_at dksX2_wouldOf_1 15 rfl rfl)
theorem dX2_wouldOf_39 : decode cX2_wouldOf 39 = .ok (.iload_n 1, 1) := dk_27 (dk_at dksX2_wouldOf_1 16 rfl rfl)
theorem dX2_wouldOf_40 : decode cX2_wouldOf 40 = .ok (.invokevirtual 262, 3) := dk_182 1 6 (dk_at dksX2_wouldOf_1 17 rfl rfl)
theorem dX2_wouldOf_43 : decode cX2_wouldOf 43 = .ok (.lstore 7, 2) := dk_55 7 (dk_at dksX2_wouldOf_1 20 rfl rfl)
theorem dX2_wouldOf_45 : decode cX2_wouldOf 45 = .ok (.lload 7, 2) := dk_22 7 (dk_at dksX2_wouldOf_1 22 rfl rfl)
theorem dX2_wouldOf_47 : decode cX2_wouldOf 47 = .ok (.lload_n 3, 1) := dk_33 (dk_at dksX2_wouldOf_2 0 rfl rfl)
theorem dX2_wouldOf_48 : decode cX2_wouldOf 48 = .ok (.lcmp, 1) := dk_148 (dk_at dksX2_wouldOf_2 1 rfl rfl)
theorem dX2_wouldOf_49 : decode cX2_wouldOf 49 = .ok (.ifCond .le 8, 3) := dk_158 0 8 (dk_at dksX2_wouldOf_2 2 rfl rfl)
theorem dX2_wouldOf_52 : decode cX2_wouldOf 52 = .ok (.iload 6, 2) := dk_21 6 (dk_at dksX2_wouldOf_2 5 rfl rfl)
theorem dX2_wouldOf_54 : decode cX2_wouldOf 54 = .ok (.goto 5, 3) := dk_167 0 5 (dk_at dksX2_wouldOf_2 7 rfl rfl)
theorem dX2_wouldOf_57 : decode cX2_wouldOf 57 = .ok (.iload 5, 2) := dk_21 5 (dk_at dksX2_wouldOf_2 10 rfl rfl)
theorem dX2_wouldOf_59 : decode cX2_wouldOf 59 = .ok (.istore 5, 2) := dk_54 5 (dk_at dksX2_wouldOf_2 12 rfl rfl)
theorem dX2_wouldOf_61 : decode cX2_wouldOf 61 = .ok (.lload 7, 2) := dk_22 7 (dk_at dksX2_wouldOf_2 14 rfl rfl)
theorem dX2_wouldOf_63 : decode cX2_wouldOf 63 = .ok (.lload_n 3, 1) := dk_33 (dk_at dksX2_wouldOf_2 16 rfl rfl)
theorem dX2_wouldOf_64 : decode cX2_wouldOf 64 = .ok (.lcmp, 1) := dk_148 (dk_at dksX2_wouldOf_2 17 rfl rfl)
theorem dX2_wouldOf_65 : decode cX2_wouldOf 65 = .ok (.ifCond .le 8, 3) := dk_158 0 8 (dk_at dksX2_wouldOf_2 18 rfl rfl)
theorem dX2_wouldOf_68 : decode cX2_wouldOf 68 = .ok (.lload 7, 2) := dk_22 7 (dk_at dksX2_wouldOf_2 21 rfl rfl)
theorem dX2_wouldOf_70 : decode cX2_wouldOf 70 = .ok (.goto 4, 3) := dk_167 0 4 (dk_at dksX2_wouldOf_3 0 rfl rfl)
theorem dX2_wouldOf_73 : decode cX2_wouldOf 73 = .ok (.lload_n 3, 1) := dk_33 (dk_at dksX2_wouldOf_3 3 rfl rfl)
theorem dX2_wouldOf_74 : decode cX2_wouldOf 74 = .ok (.lstore_n 3, 1) := dk_66 (dk_at dksX2_wouldOf_3 4 rfl rfl)
theorem dX2_wouldOf_75 : decode cX2_wouldOf 75 = .ok (.iinc 6 1, 3) := dk_132 6 1 (dk_at dksX2_wouldOf_3 5 rfl rfl)
theorem dX2_wouldOf_78 : decode cX2_wouldOf 78 = .ok (.goto (-57), 3) := dk_167 255 199 (dk_at dksX2_wouldOf_3 8 rfl rfl)
theorem dX2_wouldOf_81 : decode cX2_wouldOf 81 = .ok (.aload_n 0, 1) := dk_42 (dk_at dksX2_wouldOf_3 11 rfl rfl)
theorem dX2_wouldOf_82 : decode cX2_wouldOf 82 = .ok (.getfield 9, 3) := dk_180 0 9 (dk_at dksX2_wouldOf_3 12 rfl rfl)
theorem dX2_wouldOf_85 : decode cX2_wouldOf 85 = .ok (.iconst 4, 1) := dk_7 (dk_at dksX2_wouldOf_3 15 rfl rfl)
theorem dX2_wouldOf_86 : decode cX2_wouldOf 86 = .ok (.iload_n 1, 1) := dk_27 (dk_at dksX2_wouldOf_3 16 rfl rfl)
theorem dX2_wouldOf_87 : decode cX2_wouldOf 87 = .ok (.iadd, 1) := dk_96 (dk_at dksX2_wouldOf_3 17 rfl rfl)
theorem dX2_wouldOf_88 : decode cX2_wouldOf 88 = .ok (.iload_n 2, 1) := dk_28 (dk_at dksX2_wouldOf_3 18 rfl rfl)
theorem dX2_wouldOf_89 : decode cX2_wouldOf 89 = .ok (.iastore, 1) := dk_79 (dk_at dksX2_wouldOf_3 19 rfl rfl)
theorem dX2_wouldOf_90 : decode cX2_wouldOf 90 = .ok (.iload 5, 2) := dk_21 5 (dk_at dksX2_wouldOf_3 20 rfl rfl)
theorem dX2_wouldOf_92 : decode cX2_wouldOf 92 = .ok (.ireturn, 1) := dk_172 (dk_at dksX2_wouldOf_3 22 rfl rfl)
abbrev cX2_rest : ByteArray := prog_31_method_57_code
def yX2_rest : MethodName := ⟨RX2, "rest", "()I"⟩
def dkwX2_rest_1 : List UInt8 := [159, 0, 5, 27, 172, 132, 1, 1, 167, 255, 227, 16, 254, 172]
abbrev dktX2_rest_1 : List UInt8 := dkwX2_rest_1 ++ []
def dkwX2_rest_0 : List UInt8 := [3, 60, 27, 42, 180, 0, 96, 162, 0, 27, 42, 27, 182, 1, 20, 42, 180, 0, 9, 7, 27, 96, 46]
abbrev dktX2_rest_0 : List UInt8 := dkwX2_rest_0 ++ dktX2_rest_1
theorem dksX2_rest_0 : cX2_rest.data.toList.drop 0 = dktX2_rest_0 := by decide +kernel
theorem dksX2_rest_1 : cX2_rest.data.toList.drop 23 = dktX2_rest_1 := dk_seg dksX2_rest_0 23 rfl rfl
theorem dX2_rest_0 : decode cX2_rest 0 = .ok (.iconst 0, 1) := dk_3 (dk_at dksX2_rest_0 0 rfl rfl)
theorem dX2_rest_1 : decode cX2_rest 1 = .ok (.istore_n 1, 1) := dk_60 (dk_at dksX2_rest_0 1 rfl rfl)
theorem dX2_rest_2 : decode cX2_rest 2 = .ok (.iload_n 1, 1) := dk_27 (dk_at dksX2_rest_0 2 rfl rfl)
theorem dX2_rest_3 : decode cX2_rest 3 = .ok (.aload_n 0, 1) := dk_42 (dk_at dksX2_rest_0 3 rfl rfl)
theorem dX2_rest_4 : decode cX2_rest 4 = .ok (.getfield 96, 3) := dk_180 0 96 (dk_at dksX2_rest_0 4 rfl rfl)
theorem dX2_rest_7 : decode cX2_rest 7 = .ok (.if_icmp .ge 27, 3) := dk_162 0 27 (dk_at dksX2_rest_0 7 rfl rfl)
theorem dX2_rest_10 : decode cX2_rest 10 = .ok (.aload_n 0, 1) := dk_42 (dk_at dksX2_rest_0 10 rfl rfl)
theorem dX2_rest_11 : decode cX2_rest 11 = .ok (.iload_n 1, 1) := dk_27 (dk_at dksX2_rest_0 11 rfl rfl)
theorem dX2_rest_12 : decode cX2_rest 12 = .ok (.invokevirtual 276, 3) := dk_182 1 20 (dk_at dksX2_rest_0 12 rfl rfl)
theorem dX2_rest_15 : decode cX2_rest 15 = .ok (.aload_n 0, 1) := dk_42 (dk_at dksX2_rest_0 15 rfl rfl)
theorem dX2_rest_16 : decode cX2_rest 16 = .ok (.getfield 9, 3) := dk_180 0 9 (dk_at dksX2_rest_0 16 rfl rfl)
theorem dX2_rest_19 : decode cX2_rest 19 = .ok (.iconst 4, 1) := dk_7 (dk_at dksX2_rest_0 19 rfl rfl)
theorem dX2_rest_20 : decode cX2_rest 20 = .ok (.iload_n 1, 1) := dk_27 (dk_at dksX2_rest_0 20 rfl rfl)
theorem dX2_rest_21 : decode cX2_rest 21 = .ok (.iadd, 1) := dk_96 (dk_at dksX2_rest_0 21 rfl rfl)
theorem dX2_rest_22 : decode cX2_rest 22 = .ok (.iaload, 1) := dk_46 (dk_at dksX2_rest_0 22 rfl rfl)
theorem dX2_rest_23 : decode cX2_rest 23 = .ok (.if_icmp .eq 5, 3) := dk_159 0 5 (dk_at dksX2_rest_1 0 rfl rfl)
theorem dX2_rest_26 : decode cX2_rest 26 = .ok (.iload_n 1, 1) := dk_27 (dk_at dksX2_rest_1 3 rfl rfl)
theorem dX2_rest_27 : decode cX2_rest 27 = .ok (.ireturn, 1) := dk_172 (dk_at dksX2_rest_1 4 rfl rfl)
theorem dX2_rest_28 : decode cX2_rest 28 = .ok (.iinc 1 1, 3) := dk_132 1 1 (dk_at dksX2_rest_1 5 rfl rfl)
theorem dX2_rest_31 : decode cX2_rest 31 = .ok (.goto (-29), 3) := dk_167 255 227 (dk_at dksX2_rest_1 8 rfl rfl)
theorem dX2_rest_34 : decode cX2_rest 34 = .ok (.bipush (-2), 2) := dk_16 254 (dk_at dksX2_rest_1 11 rfl rfl)
theorem dX2_rest_36 : decode cX2_rest 36 = .ok (.ireturn, 1) := dk_172 (dk_at dksX2_rest_1 13 rfl rfl)
abbrev cX2_settle : ByteArray := prog_31_method_58_code
def yX2_settle : MethodName := ⟨RX2, "settle", "(I)I"⟩
def dkwX2_settle_6 : List UInt8 := [167, 255, 228, 29, 155, 0, 8, 16, 254, 167, 0, 5, 21, 4, 172]
abbrev dktX2_settle_6 : List UInt8 := dkwX2_settle_6 ++ []
def dkwX2_settle_5 : List UInt8 := [162, 0, 25, 42, 180, 0, 9, 7, 21, 5, 96, 42, 180, 0, 62, 21, 5, 46, 79, 132, 5, 1]
abbrev dktX2_settle_5 : List UInt8 := dkwX2_settle_5 ++ dktX2_settle_6
def dkwX2_settle_4 : List UInt8 := [167, 0, 11, 42, 180, 0, 9, 7, 27, 96, 46, 54, 4, 3, 54, 5, 21, 5, 42, 180, 0, 96]
abbrev dktX2_settle_4 : List UInt8 := dkwX2_settle_4 ++ dktX2_settle_5
def dkwX2_settle_3 : List UInt8 := [29, 182, 1, 20, 79, 132, 2, 1, 42, 182, 1, 23, 62, 167, 255, 225, 27, 2, 160, 0, 7, 28]
abbrev dktX2_settle_3 : List UInt8 := dkwX2_settle_3 ++ dktX2_settle_4
def dkwX2_settle_2 : List UInt8 := [61, 42, 182, 1, 23, 62, 29, 155, 0, 33, 28, 16, 8, 162, 0, 27, 42, 180, 0, 9, 7, 29, 96, 42]
abbrev dktX2_settle_2 : List UInt8 := dkwX2_settle_2 ++ dktX2_settle_3
def dkwX2_settle_1 : List UInt8 := [162, 0, 23, 42, 180, 0, 62, 28, 42, 180, 0, 9, 7, 28, 96, 46, 79, 132, 2, 1, 167, 255, 231, 3]
abbrev dktX2_settle_1 : List UInt8 := dkwX2_settle_1 ++ dktX2_settle_2
def dkwX2_settle_0 : List UInt8 := [27, 2, 159, 0, 13, 42, 27, 182, 0, 124, 154, 0, 5, 2, 172, 3, 61, 28, 42, 180, 0, 96]
abbrev dktX2_settle_0 : List UInt8 := dkwX2_settle_0 ++ dktX2_settle_1
theorem dksX2_settle_0 : cX2_settle.data.toList.drop 0 = dktX2_settle_0 := by decide +kernel
theorem dksX2_settle_1 : cX2_settle.data.toList.drop 22 = dktX2_settle_1 := dk_seg dksX2_settle_0 22 rfl rfl
theorem dksX2_settle_2 : cX2_settle.data.toList.drop 46 = dktX2_settle_2 := dk_seg dksX2_settle_1 24 rfl rfl
theorem dksX2_settle_3 : cX2_settle.data.toList.drop 70 = dktX2_settle_3 := dk_seg dksX2_settle_2 24 rfl rfl
theorem dksX2_settle_4 : cX2_settle.data.toList.drop 92 = dktX2_settle_4 := dk_seg dksX2_settle_3 22 rfl rfl
theorem dksX2_settle_5 : cX2_settle.data.toList.drop 114 = dktX2_settle_5 := dk_seg dksX2_settle_4 22 rfl rfl
theorem dksX2_settle_6 : cX2_settle.data.toList.drop 136 = dktX2_settle_6 := dk_seg dksX2_settle_5 22 rfl rfl
theorem dX2_settle_0 : decode cX2_settle 0 = .ok (.iload_n 1, 1) := dk_27 (dk_at dksX2_settle_0 0 rfl rfl)
theorem dX2_settle_1 : decode cX2_settle 1 = .ok (.iconst (-1), 1) := dk_2 (dk_at dksX2_settle_0 1 rfl rfl)
theorem dX2_settle_2 : decode cX2_settle 2 = .ok (.if_icmp .eq 13, 3) := dk_159 0 13 (dk_at dksX2_settle_0 2 rfl rfl)
theorem dX2_settle_5 : decode cX2_settle 5 = .ok (.aload_n 0, 1) := dk_42 (dk_at dksX2_settle_0 5 rfl rfl)
theorem dX2_settle_6 : decode cX2_settle 6 = .ok (.iload_n 1, 1) := dk_27 (dk_at dksX2_settle_0 6 rfl rfl)
theorem dX2_settle_7 : decode cX2_settle 7 = .ok (.invokevirtual 124, 3) := dk_182 0 124 (dk_at dksX2_settle_0 7 rfl rfl)
theorem dX2_settle_10 : decode cX2_settle 10 = .ok (.ifCond .ne 5, 3) := dk_154 0 5 (dk_at dksX2_settle_0 10 rfl rfl)
theorem dX2_settle_13 : decode cX2_settle 13 = .ok (.iconst (-1), 1) := dk_2 (dk_at dksX2_settle_0 13 rfl rfl)
theorem dX2_settle_14 : decode cX2_settle 14 = .ok (.ireturn, 1) := dk_172 (dk_at dksX2_settle_0 14 rfl rfl)
theorem dX2_settle_15 : decode cX2_settle 15 = .ok (.iconst 0, 1) := dk_3 (dk_at dksX2_settle_0 15 rfl rfl)
theorem dX2_settle_16 : decode cX2_settle 16 = .ok (.istore_n 2, 1) := dk_61 (dk_at dksX2_settle_0 16 rfl rfl)
theorem dX2_settle_17 : decode cX2_settle 17 = .ok (.iload_n 2, 1) := dk_28 (dk_at dksX2_settle_0 17 rfl rfl)
theorem dX2_settle_18 : decode cX2_settle 18 = .ok (.aload_n 0, 1) := dk_42 (dk_at dksX2_settle_0 18 rfl rfl)
theorem dX2_settle_19 : decode cX2_settle 19 = .ok (.getfield 96, 3) := dk_180 0 96 (dk_at dksX2_settle_0 19 rfl rfl)
theorem dX2_settle_22 : decode cX2_settle 22 = .ok (.if_icmp .ge 23, 3) := dk_162 0 23 (dk_at dksX2_settle_1 0 rfl rfl)
theorem dX2_settle_25 : decode cX2_settle 25 = .ok (.aload_n 0, 1) := dk_42 (dk_at dksX2_settle_1 3 rfl rfl)
theorem dX2_settle_26 : decode cX2_settle 26 = .ok (.getfield 62, 3) := dk_180 0 62 (dk_at dksX2_settle_1 4 rfl rfl)
theorem dX2_settle_29 : decode cX2_settle 29 = .ok (.iload_n 2, 1) := dk_28 (dk_at dksX2_settle_1 7 rfl rfl)
theorem dX2_settle_30 : decode cX2_settle 30 = .ok (.aload_n 0, 1) := dk_42 (dk_at dksX2_settle_1 8 rfl rfl)
theorem dX2_settle_31 : decode cX2_settle 31 = .ok (.getfield 9, 3) := dk_180 0 9 (dk_at dksX2_settle_1 9 rfl rfl)
theorem dX2_settle_34 : decode cX2_settle 34 = .ok (.iconst 4, 1) := dk_7 (dk_at dksX2_settle_1 12 rfl rfl)
theorem dX2_settle_35 : decode cX2_settle 35 = .ok (.iload_n 2, 1) := dk_28 (dk_at dksX2_settle_1 13 rfl rfl)
theorem dX2_settle_36 : decode cX2_settle 36 = .ok (.iadd, 1) := dk_96 (dk_at dksX2_settle_1 14 rfl rfl)
theorem dX2_settle_37 : decode cX2_settle 37 = .ok (.iaload, 1) := dk_46 (dk_at dksX2_settle_1 15 rfl rfl)
theorem dX2_settle_38 : decode cX2_settle 38 = .ok (.iastore, 1) := dk_79 (dk_at dksX2_settle_1 16 rfl rfl)
theorem dX2_settle_39 : decode cX2_settle 39 = .ok (.iinc 2 1, 3) := dk_132 2 1 (dk_at dksX2_settle_1 17 rfl rfl)
theorem dX2_settle_42 : decode cX2_settle 42 = .ok (.goto (-25), 3) := dk_167 255 231 (dk_at dksX2_settle_1 20 rfl rfl)
theorem dX2_settle_45 : decode cX2_settle 45 = .ok (.iconst 0, 1) := dk_3 (dk_at dksX2_settle_1 23 rfl rfl)
theorem dX2_settle_46 : decode cX2_settle 46 = .ok (.istore_n 2, 1) := dk_61 (dk_at dksX2_settle_2 0 rfl rfl)
theorem dX2_settle_47 : decode cX2_settle 47 = .ok (.aload_n 0, 1) := dk_42 (dk_at dksX2_settle_2 1 rfl rfl)
theorem dX2_settle_48 : decode cX2_settle 48 = .ok (.invokevirtual 279, 3) := dk_182 1 23 (dk_at dksX2_settle_2 2 rfl rfl)
theorem dX2_settle_51 : decode cX2_settle 51 = .ok (.istore_n 3, 1) := dk_62 (dk_at dksX2_settle_2 5 rfl rfl)
theorem dX2_settle_52 : decode cX2_settle 52 = .ok (.iload_n 3, 1) := dk_29 (dk_at dksX2_settle_2 6 rfl rfl)
theorem dX2_settle_53 : decode cX2_settle 53 = .ok (.ifCond .lt 33, 3) := dk_155 0 33 (dk_at dksX2_settle_2 7 rfl rfl)
theorem dX2_settle_56 : decode cX2_settle 56 = .ok (.iload_n 2, 1) := dk_28 (dk_at dksX2_settle_2 10 rfl rfl)
theorem dX2_settle_57 : decode cX2_settle 57 = .ok (.bipush 8, 2) := dk_16 8 (dk_at dksX2_settle_2 11 rfl rfl)
theorem dX2_settle_59 : decode cX2_settle 59 = .ok (.if_icmp .ge 27, 3) := dk_162 0 27 (dk_at dksX2_settle_2 13 rfl rfl)
theorem dX2_settle_62 : decode cX2_settle 62 = .ok (.aload_n 0, 1) := dk_42 (dk_at dksX2_settle_2 16 rfl rfl)
theorem dX2_settle_63 : decode cX2_settle 63 = .ok (.getfield 9, 3) := dk_180 0 9 (dk_at dksX2_settle_2 17 rfl rfl)
theorem dX2_settle_66 : decode cX2_settle 66 = .ok (.iconst 4, 1) := dk_7 (dk_at dksX2_settle_2 20 rfl rfl)
theorem dX2_settle_67 : decode cX2_settle 67 = .ok (.iload_n 3, 1) := dk_29 (dk_at dksX2_settle_2 21 rfl rfl)
theorem dX2_settle_68 : decode cX2_settle 68 = .ok (.iadd, 1) := dk_96 (dk_at dksX2_settle_2 22 rfl rfl)
theorem dX2_settle_69 : decode cX2_settle 69 = .ok (.aload_n 0, 1) := dk_42 (dk_at dksX2_settle_2 23 rfl rfl)
theorem dX2_settle_70 : decode cX2_settle 70 = .ok (.iload_n 3, 1) := dk_29 (dk_at dksX2_settle_3 0 rfl rfl)
theorem dX2_settle_71 : decode cX2_settle 71 = .ok (.invokevirtual 276, 3) := dk_182 1 20 (dk_at dksX2_settle_3 1 rfl rfl)
theorem dX2_settle_74 : decode cX2_settle 74 = .ok (.iastore, 1) := dk_79 (dk_at dksX2_settle_3 4 rfl rfl)
theorem dX2_settle_75 : decode cX2_settle 75 = .ok (.iinc 2 1, 3) := dk_132 2 1 (dk_at dksX2_settle_3 5 rfl rfl)
theorem dX2_settle_78 : decode cX2_settle 78 = .ok (.aload_n 0, 1) := dk_42 (dk_at dksX2_settle_3 8 rfl rfl)
theorem dX2_settle_79 : decode cX2_settle 79 = .ok (.invokevirtual 279, 3) := dk_182 1 23 (dk_at dksX2_settle_3 9 rfl rfl)
theorem dX2_settle_82 : decode cX2_settle 82 = .ok (.istore_n 3, 1) := dk_62 (dk_at dksX2_settle_3 12 rfl rfl)
theorem dX2_settle_83 : decode cX2_settle 83 = .ok (.goto (-31), 3) := dk_167 255 225 (dk_at dksX2_settle_3 13 rfl rfl)
theorem dX2_settle_86 : decode cX2_settle 86 = .ok (.iload_n 1, 1) := dk_27 (dk_at dksX2_settle_3 16 rfl rfl)
theorem dX2_settle_87 : decode cX2_settle 87 = .ok (.iconst (-1), 1) := dk_2 (dk_at dksX2_settle_3 17 rfl rfl)
theorem dX2_settle_88 : decode cX2_settle 88 = .ok (.if_icmp .ne 7, 3) := dk_160 0 7 (dk_at dksX2_settle_3 18 rfl rfl)
theorem dX2_settle_91 : decode cX2_settle 91 = .ok (.iload_n 2, 1) := dk_28 (dk_at dksX2_settle_3 21 rfl rfl)
theorem dX2_settle_92 : decode cX2_settle 92 = .ok (.goto 11, 3) := dk_167 0 11 (dk_at dksX2_settle_4 0 rfl rfl)
theorem dX2_settle_95 : decode cX2_settle 95 = .ok (.aload_n 0, 1) := dk_42 (dk_at dksX2_settle_4 3 rfl rfl)
theorem dX2_settle_96 : decode cX2_settle 96 = .ok (.getfield 9, 3) := dk_180 0 9 (dk_at dksX2_settle_4 4 rfl rfl)
theorem dX2_settle_99 : decode cX2_settle 99 = .ok (.iconst 4, 1) := dk_7 (dk_at dksX2_settle_4 7 rfl rfl)
theorem dX2_settle_100 : decode cX2_settle 100 = .ok (.iload_n 1, 1) := dk_27 (dk_at dksX2_settle_4 8 rfl rfl)
theorem dX2_settle_101 : decode cX2_settle 101 = .ok (.iadd, 1) := dk_96 (dk_at dksX2_settle_4 9 rfl rfl)
theorem dX2_settle_102 : decode cX2_settle 102 = .ok (.iaload, 1) := dk_46 (dk_at dksX2_settle_4 10 rfl rfl)
theorem dX2_settle_103 : decode cX2_settle 103 = .ok (.istore 4, 2) := dk_54 4 (dk_at dksX2_settle_4 11 rfl rfl)
theorem dX2_settle_105 : decode cX2_settle 105 = .ok (.iconst 0, 1) := dk_3 (dk_at dksX2_settle_4 13 rfl rfl)
theorem dX2_settle_106 : decode cX2_settle 106 = .ok (.istore 5, 2) := dk_54 5 (dk_at dksX2_settle_4 14 rfl rfl)
theorem dX2_settle_108 : decode cX2_settle 108 = .ok (.iload 5, 2) := dk_21 5 (dk_at dksX2_settle_4 16 rfl rfl)
theorem dX2_settle_110 : decode cX2_settle 110 = .ok (.aload_n 0, 1) := dk_42 (dk_at dksX2_settle_4 18 rfl rfl)
theorem dX2_settle_111 : decode cX2_settle 111 = .ok (.getfield 96, 3) := dk_180 0 96 (dk_at dksX2_settle_4 19 rfl rfl)
theorem dX2_settle_114 : decode cX2_settle 114 = .ok (.if_icmp .ge 25, 3) := dk_162 0 25 (dk_at dksX2_settle_5 0 rfl rfl)
theorem dX2_settle_117 : decode cX2_settle 117 = .ok (.aload_n 0, 1) := dk_42 (dk_at dksX2_settle_5 3 rfl rfl)
theorem dX2_settle_118 : decode cX2_settle 118 = .ok (.getfield 9, 3) := dk_180 0 9 (dk_at dksX2_settle_5 4 rfl rfl)
theorem dX2_settle_121 : decode cX2_settle 121 = .ok (.iconst 4, 1) := dk_7 (dk_at dksX2_settle_5 7 rfl rfl)
theorem dX2_settle_122 : decode cX2_settle 122 = .ok (.iload 5, 2) := dk_21 5 (dk_at dksX2_settle_5 8 rfl rfl)
theorem dX2_settle_124 : decode cX2_settle 124 = .ok (.iadd, 1) := dk_96 (dk_at dksX2_settle_5 10 rfl rfl)
theorem dX2_settle_125 : decode cX2_settle 125 = .ok (.aload_n 0, 1) := dk_42 (dk_at dksX2_settle_5 11 rfl rfl)
theorem dX2_settle_126 : decode cX2_settle 126 = .ok (.getfield 62, 3) := dk_180 0 62 (dk_at dksX2_settle_5 12 rfl rfl)
theorem dX2_settle_129 : decode cX2_settle 129 = .ok (.iload 5, 2) := dk_21 5 (dk_at dksX2_settle_5 15 rfl rfl)
theorem dX2_settle_131 : decode cX2_settle 131 = .ok (.iaload, 1) := dk_46 (dk_at dksX2_settle_5 17 rfl rfl)
theorem dX2_settle_132 : decode cX2_settle 132 = .ok (.iastore, 1) := dk_79 (dk_at dksX2_settle_5 18 rfl rfl)
theorem dX2_settle_133 : decode cX2_settle 133 = .ok (.iinc 5 1, 3) := dk_132 5 1 (dk_at dksX2_settle_5 19 rfl rfl)
theorem dX2_settle_136 : decode cX2_settle 136 = .ok (.goto (-28), 3) := dk_167 255 228 (dk_at dksX2_settle_6 0 rfl rfl)
theorem dX2_settle_139 : decode cX2_settle 139 = .ok (.iload_n 3, 1) := dk_29 (dk_at dksX2_settle_6 3 rfl rfl)
theorem dX2_settle_140 : decode cX2_settle 140 = .ok (.ifCond .lt 8, 3) := dk_155 0 8 (dk_at dksX2_settle_6 4 rfl rfl)
theorem dX2_settle_143 : decode cX2_settle 143 = .ok (.bipush (-2), 2) := dk_16 254 (dk_at dksX2_settle_6 7 rfl rfl)
theorem dX2_settle_145 : decode cX2_settle 145 = .ok (.goto 5, 3) := dk_167 0 5 (dk_at dksX2_settle_6 9 rfl rfl)
theorem dX2_settle_148 : decode cX2_settle 148 = .ok (.iload 4, 2) := dk_21 4 (dk_at dksX2_settle_6 12 rfl rfl)
theorem dX2_settle_150 : decode cX2_settle 150 = .ok (.ireturn, 1) := dk_172 (dk_at dksX2_settle_6 14 rfl rfl)
abbrev cX2_even : ByteArray := prog_31_method_59_code
def yX2_even : MethodName := ⟨RX2, "even", "(I)I"⟩
def dkwX2_even_6 : List UInt8 := [42, 180, 0, 9, 27, 28, 79, 29, 172]
abbrev dktX2_even_6 : List UInt8 := dkwX2_even_6 ++ []
def dkwX2_even_5 : List UInt8 := [155, 0, 11, 22, 7, 22, 4, 148, 156, 0, 10, 21, 6, 62, 22, 7, 55, 4, 132, 6, 1, 167, 255, 146]
abbrev dktX2_even_5 : List UInt8 := dkwX2_even_5 ++ dktX2_even_6
def dkwX2_even_4 : List UInt8 := [132, 9, 1, 167, 255, 228, 22, 7, 9, 148, 156, 0, 9, 22, 7, 117, 167, 0, 5, 22, 7, 55, 7, 29]
abbrev dktX2_even_4 : List UInt8 := dkwX2_even_4 ++ dktX2_even_5
def dkwX2_even_3 : List UInt8 := [180, 0, 96, 162, 0, 25, 22, 7, 42, 42, 182, 0, 225, 3, 21, 9, 182, 0, 244, 101, 55, 7]
abbrev dktX2_even_3 : List UInt8 := dkwX2_even_3 ++ dktX2_even_4
def dkwX2_even_2 : List UInt8 := [180, 0, 96, 133, 42, 42, 182, 0, 225, 3, 27, 182, 0, 244, 105, 55, 7, 3, 54, 9, 21, 9, 42]
abbrev dktX2_even_2 : List UInt8 := dkwX2_even_2 ++ dktX2_even_3
def dkwX2_even_1 : List UInt8 := [54, 6, 21, 6, 16, 12, 163, 0, 109, 42, 180, 0, 9, 27, 21, 6, 79, 42, 182, 0, 241, 42]
abbrev dktX2_even_1 : List UInt8 := dkwX2_even_1 ++ dktX2_even_2
def dkwX2_even_0 : List UInt8 := [42, 27, 182, 0, 124, 154, 0, 5, 2, 172, 42, 180, 0, 9, 27, 46, 61, 2, 62, 9, 55, 4, 3]
abbrev dktX2_even_0 : List UInt8 := dkwX2_even_0 ++ dktX2_even_1
theorem dksX2_even_0 : cX2_even.data.toList.drop 0 = dktX2_even_0 := by decide +kernel
theorem dksX2_even_1 : cX2_even.data.toList.drop 23 = dktX2_even_1 := dk_seg dksX2_even_0 23 rfl rfl
theorem dksX2_even_2 : cX2_even.data.toList.drop 45 = dktX2_even_2 := dk_seg dksX2_even_1 22 rfl rfl
theorem dksX2_even_3 : cX2_even.data.toList.drop 68 = dktX2_even_3 := dk_seg dksX2_even_2 23 rfl rfl
theorem dksX2_even_4 : cX2_even.data.toList.drop 90 = dktX2_even_4 := dk_seg dksX2_even_3 22 rfl rfl
theorem dksX2_even_5 : cX2_even.data.toList.drop 114 = dktX2_even_5 := dk_seg dksX2_even_4 24 rfl rfl
theorem dksX2_even_6 : cX2_even.data.toList.drop 138 = dktX2_even_6 := dk_seg dksX2_even_5 24 rfl rfl
theorem dX2_even_0 : decode cX2_even 0 = .ok (.aload_n 0, 1) := dk_42 (dk_at dksX2_even_0 0 rfl rfl)
theorem dX2_even_1 : decode cX2_even 1 = .ok (.iload_n 1, 1) := dk_27 (dk_at dksX2_even_0 1 rfl rfl)
theorem dX2_even_2 : decode cX2_even 2 = .ok (.invokevirtual 124, 3) := dk_182 0 124 (dk_at dksX2_even_0 2 rfl rfl)
theorem dX2_even_5 : decode cX2_even 5 = .ok (.ifCond .ne 5, 3) := dk_154 0 5 (dk_at dksX2_even_0 5 rfl rfl)
theorem dX2_even_8 : decode cX2_even 8 = .ok (.iconst (-1), 1) := dk_2 (dk_at dksX2_even_0 8 rfl rfl)
theorem dX2_even_9 : decode cX2_even 9 = .ok (.ireturn, 1) := dk_172 (dk_at dksX2_even_0 9 rfl rfl)
theorem dX2_even_10 : decode cX2_even 10 = .ok (.aload_n 0, 1) := dk_42 (dk_at dksX2_even_0 10 rfl rfl)
theorem dX2_even_11 : decode cX2_even 11 = .ok (.getfield 9, 3) := dk_180 0 9 (dk_at dksX2_even_0 11 rfl rfl)
theorem dX2_even_14 : decode cX2_even 14 = .ok (.iload_n 1, 1) := dk_27 (dk_at dksX2_even_0 14 rfl rfl)
theorem dX2_even_15 : decode cX2_even 15 = .ok (.iaload, 1) := dk_46 (dk_at dksX2_even_0 15 rfl rfl)
theorem dX2_even_16 : decode cX2_even 16 = .ok (.istore_n 2, 1) := dk_61 (dk_at dksX2_even_0 16 rfl rfl)
theorem dX2_even_17 : decode cX2_even 17 = .ok (.iconst (-1), 1) := dk_2 (dk_at dksX2_even_0 17 rfl rfl)
theorem dX2_even_18 : decode cX2_even 18 = .ok (.istore_n 3, 1) := dk_62 (dk_at dksX2_even_0 18 rfl rfl)
theorem dX2_even_19 : decode cX2_even 19 = .ok (.lconst 0, 1) := dk_9 (dk_at dksX2_even_0 19 rfl rfl)
theorem dX2_even_20 : decode cX2_even 20 = .ok (.lstore 4, 2) := dk_55 4 (dk_at dksX2_even_0 20 rfl rfl)
theorem dX2_even_22 : decode cX2_even 22 = .ok (.iconst 0, 1) := dk_3 (dk_at dksX2_even_0 22 rfl rfl)
theorem dX2_even_23 : decode cX2_even 23 = .ok (.istore 6, 2) := dk_54 6 (dk_at dksX2_even_1 0 rfl rfl)
theorem dX2_even_25 : decode cX2_even 25 = .ok (.iload 6, 2) := dk_21 6 (dk_at dksX2_even_1 2 rfl rfl)
theorem dX2_even_27 : decode cX2_even 27 = .ok (.bipush 12, 2) := dk_16 12 (dk_at dksX2_even_1 4 rfl rfl)
theorem dX2_even_29 : decode cX2_even 29 = .ok (.if_icmp .gt 109, 3) := dk_163 0 109 (dk_at dksX2_even_1 6 rfl rfl)
theorem dX2_even_32 : decode cX2_even 32 = .ok (.aload_n 0, 1) := dk_42 (dk_at dksX2_even_1 9 rfl rfl)
theorem dX2_even_33 : decode cX2_even 33 = .ok (.getfield 9, 3) := dk_180 0 9 (dk_at dksX2_even_1 10 rfl rfl)
theorem dX2_even_36 : decode cX2_even 36 = .ok (.iload_n 1, 1) := dk_27 (dk_at dksX2_even_1 13 rfl rfl)
theorem dX2_even_37 : decode cX2_even 37 = .ok (.iload 6, 2) := dk_21 6 (dk_at dksX2_even_1 14 rfl rfl)
theorem dX2_even_39 : decode cX2_even 39 = .ok (.iastore, 1) := dk_79 (dk_at dksX2_even_1 16 rfl rfl)
theorem dX2_even_40 : decode cX2_even 40 = .ok (.aload_n 0, 1) := dk_42 (dk_at dksX2_even_1 17 rfl rfl)
theorem dX2_even_41 : decode cX2_even 41 = .ok (.invokevirtual 241, 3) := dk_182 0 241 (dk_at dksX2_even_1 18 rfl rfl)
theorem dX2_even_44 : decode cX2_even 44 = .ok (.aload_n 0, 1) := dk_42 (dk_at dksX2_even_1 21 rfl rfl)
theorem dX2_even_45 : decode cX2_even 45 = .ok (.getfield 96, 3) := dk_180 0 96 (dk_at dksX2_even_2 0 rfl rfl)
theorem dX2_even_48 : decode cX2_even 48 = .ok (.i2l, 1) := dk_133 (dk_at dksX2_even_2 3 rfl rfl)
theorem dX2_even_49 : decode cX2_even 49 = .ok (.aload_n 0, 1) := dk_42 (dk_at dksX2_even_2 4 rfl rfl)
theorem dX2_even_50 : decode cX2_even 50 = .ok (.aload_n 0, 1) := dk_42 (dk_at dksX2_even_2 5 rfl rfl)
theorem dX2_even_51 : decode cX2_even 51 = .ok (.invokevirtual 225, 3) := dk_182 0 225 (dk_at dksX2_even_2 6 rfl rfl)
theorem dX2_even_54 : decode cX2_even 54 = .ok (.iconst 0, 1) := dk_3 (dk_at dksX2_even_2 9 rfl rfl)
theorem dX2_even_55 : decode cX2_even 55 = .ok (.iload_n 1, 1) := dk_27 (dk_at dksX2_even_2 10 rfl rfl)
theorem dX2_even_56 : decode cX2_even 56 = .ok (.invokevirtual 244, 3) := dk_182 0 244 (dk_at dksX2_even_2 11 rfl rfl)
theorem dX2_even_59 : decode cX2_even 59 = .ok (.lmul, 1) := dk_105 (dk_at dksX2_even_2 14 rfl rfl)
theorem dX2_even_60 : decode cX2_even 60 = .ok (.lstore 7, 2) := dk_55 7 (dk_at dksX2_even_2 15 rfl rfl)
theorem dX2_even_62 : decode cX2_even 62 = .ok (.iconst 0, 1) := dk_3 (dk_at dksX2_even_2 17 rfl rfl)
theorem dX2_even_63 : decode cX2_even 63 = .ok (.istore 9, 2) := dk_54 9 (dk_at dksX2_even_2 18 rfl rfl)
theorem dX2_even_65 : decode cX2_even 65 = .ok (.iload 9, 2) := dk_21 9 (dk_at dksX2_even_2 20 rfl rfl)
theorem dX2_even_67 : decode cX2_even 67 = .ok (.aload_n 0, 1) := dk_42 (dk_at dksX2_even_2 22 rfl rfl)
theorem dX2_even_68 : decode cX2_even 68 = .ok (.getfield 96, 3) := dk_180 0 96 (dk_at dksX2_even_3 0 rfl rfl)
theorem dX2_even_71 : decode cX2_even 71 = .ok (.if_icmp .ge 25, 3) := dk_162 0 25 (dk_at dksX2_even_3 3 rfl rfl)
theorem dX2_even_74 : decode cX2_even 74 = .ok (.lload 7, 2) := dk_22 7 (dk_at dksX2_even_3 6 rfl rfl)
theorem dX2_even_76 : decode cX2_even 76 = .ok (.aload_n 0, 1) := dk_42 (dk_at dksX2_even_3 8 rfl rfl)
theorem dX2_even_77 : decode cX2_even 77 = .ok (.aload_n 0, 1) := dk_42 (dk_at dksX2_even_3 9 rfl rfl)
theorem dX2_even_78 : decode cX2_even 78 = .ok (.invokevirtual 225, 3) := dk_182 0 225 (dk_at dksX2_even_3 10 rfl rfl)
theorem dX2_even_81 : decode cX2_even 81 = .ok (.iconst 0, 1) := dk_3 (dk_at dksX2_even_3 13 rfl rfl)
theorem dX2_even_82 : decode cX2_even 82 = .ok (.iload 9, 2) := dk_21 9 (dk_at dksX2_even_3 14 rfl rfl)
theorem dX2_even_84 : decode cX2_even 84 = .ok (.invokevirtual 244, 3) := dk_182 0 244 (dk_at dksX2_even_3 16 rfl rfl)
theorem dX2_even_87 : decode cX2_even 87 = .ok (.lsub, 1) := dk_101 (dk_at dksX2_even_3 19 rfl rfl)
theorem dX2_even_88 : decode cX2_even 88 = .ok (.lstore 7, 2) := dk_55 7 (dk_at dksX2_even_3 20 rfl rfl)
theorem dX2_even_90 : decode cX2_even 90 = .ok (.iinc 9 1, 3) := dk_132 9 1 (dk_at dksX2_even_4 0 rfl rfl)
theorem dX2_even_93 : decode cX2_even 93 = .ok (.goto (-28), 3) := dk_167 255 228 (dk_at dksX2_even_4 3 rfl rfl)
theorem dX2_even_96 : decode cX2_even 96 = .ok (.lload 7, 2) := dk_22 7 (dk_at dksX2_even_4 6 rfl rfl)
theorem dX2_even_98 : decode cX2_even 98 = .ok (.lconst 0, 1) := dk_9 (dk_at dksX2_even_4 8 rfl rfl)
theorem dX2_even_99 : decode cX2_even 99 = .ok (.lcmp, 1) := dk_148 (dk_at dksX2_even_4 9 rfl rfl)
theorem dX2_even_100 : decode cX2_even 100 = .ok (.ifCond .ge 9, 3) := dk_156 0 9 (dk_at dksX2_even_4 10 rfl rfl)
theorem dX2_even_103 : decode cX2_even 103 = .ok (.lload 7, 2) := dk_22 7 (dk_at dksX2_even_4 13 rfl rfl)
theorem dX2_even_105 : decode cX2_even 105 = .ok (.lneg, 1) := dk_117 (dk_at dksX2_even_4 15 rfl rfl)
theorem dX2_even_106 : decode cX2_even 106 = .ok (.goto 5, 3) := dk_167 0 5 (dk_at dksX2_even_4 16 rfl rfl)
theorem dX2_even_109 : decode cX2_even 109 = .ok (.lload 7, 2) := dk_22 7 (dk_at dksX2_even_4 19 rfl rfl)
theorem dX2_even_111 : decode cX2_even 111 = .ok (.lstore 7, 2) := dk_55 7 (dk_at dksX2_even_4 21 rfl rfl)
theorem dX2_even_113 : decode cX2_even 113 = .ok (.iload_n 3, 1) := dk_29 (dk_at dksX2_even_4 23 rfl rfl)
theorem dX2_even_114 : decode cX2_even 114 = .ok (.ifCond .lt 11, 3) := dk_155 0 11 (dk_at dksX2_even_5 0 rfl rfl)
theorem dX2_even_117 : decode cX2_even 117 = .ok (.lload 7, 2) := dk_22 7 (dk_at dksX2_even_5 3 rfl rfl)
theorem dX2_even_119 : decode cX2_even 119 = .ok (.lload 4, 2) := dk_22 4 (dk_at dksX2_even_5 5 rfl rfl)
theorem dX2_even_121 : decode cX2_even 121 = .ok (.lcmp, 1) := dk_148 (dk_at dksX2_even_5 7 rfl rfl)
theorem dX2_even_122 : decode cX2_even 122 = .ok (.ifCond .ge 10, 3) := dk_156 0 10 (dk_at dksX2_even_5 8 rfl rfl)
theorem dX2_even_125 : decode cX2_even 125 = .ok (.iload 6, 2) := dk_21 6 (dk_at dksX2_even_5 11 rfl rfl)
theorem dX2_even_127 : decode cX2_even 127 = .ok (.istore_n 3, 1) := dk_62 (dk_at dksX2_even_5 13 rfl rfl)
theorem dX2_even_128 : decode cX2_even 128 = .ok (.lload 7, 2) := dk_22 7 (dk_at dksX2_even_5 14 rfl rfl)
theorem dX2_even_130 : decode cX2_even 130 = .ok (.lstore 4, 2) := dk_55 4 (dk_at dksX2_even_5 16 rfl rfl)
theorem dX2_even_132 : decode cX2_even 132 = .ok (.iinc 6 1, 3) := dk_132 6 1 (dk_at dksX2_even_5 18 rfl rfl)
theorem dX2_even_135 : decode cX2_even 135 = .ok (.goto (-110), 3) := dk_167 255 146 (dk_at dksX2_even_5 21 rfl rfl)
theorem dX2_even_138 : decode cX2_even 138 = .ok (.aload_n 0, 1) := dk_42 (dk_at dksX2_even_6 0 rfl rfl)
theorem dX2_even_139 : decode cX2_even 139 = .ok (.getfield 9, 3) := dk_180 0 9 (dk_at dksX2_even_6 1 rfl rfl)
theorem dX2_even_142 : decode cX2_even 142 = .ok (.iload_n 1, 1) := dk_27 (dk_at dksX2_even_6 4 rfl rfl)
theorem dX2_even_143 : decode cX2_even 143 = .ok (.iload_n 2, 1) := dk_28 (dk_at dksX2_even_6 5 rfl rfl)
theorem dX2_even_144 : decode cX2_even 144 = .ok (.iastore, 1) := dk_79 (dk_at dksX2_even_6 6 rfl rfl)
theorem dX2_even_145 : decode cX2_even 145 = .ok (.iload_n 3, 1) := dk_29 (dk_at dksX2_even_6 7 rfl rfl)
theorem dX2_even_146 : decode cX2_even 146 = .ok (.ireturn, 1) := dk_172 (dk_at dksX2_even_6 8 rfl rfl)
abbrev cX2_league : ByteArray := prog_31_method_61_code
def yX2_league : MethodName := ⟨RX2, "league", "(I)I"⟩
def dkwX2_league_2 : List UInt8 := [112, 182, 1, 26, 172]
abbrev dktX2_league_2 : List UInt8 := dkwX2_league_2 ++ []
def dkwX2_league_1 : List UInt8 := [153, 0, 14, 27, 16, 10, 108, 27, 16, 10, 112, 160, 0, 5, 2, 172, 42, 27, 16, 10, 108, 27, 16, 10]
abbrev dktX2_league_1 : List UInt8 := dkwX2_league_1 ++ dktX2_league_2
def dkwX2_league_0 : List UInt8 := [27, 155, 0, 36, 42, 27, 16, 10, 108, 182, 0, 124, 153, 0, 25, 42, 27, 16, 10, 112, 182, 0, 124]
abbrev dktX2_league_0 : List UInt8 := dkwX2_league_0 ++ dktX2_league_1
theorem dksX2_league_0 : cX2_league.data.toList.drop 0 = dktX2_league_0 := by decide +kernel
theorem dksX2_league_1 : cX2_league.data.toList.drop 23 = dktX2_league_1 := dk_seg dksX2_league_0 23 rfl rfl
theorem dksX2_league_2 : cX2_league.data.toList.drop 47 = dktX2_league_2 := dk_seg dksX2_league_1 24 rfl rfl
theorem dX2_league_0 : decode cX2_league 0 = .ok (.iload_n 1, 1) := dk_27 (dk_at dksX2_league_0 0 rfl rfl)
theorem dX2_league_1 : decode cX2_league 1 = .ok (.ifCond .lt 36, 3) := dk_155 0 36 (dk_at dksX2_league_0 1 rfl rfl)
theorem dX2_league_4 : decode cX2_league 4 = .ok (.aload_n 0, 1) := dk_42 (dk_at dksX2_league_0 4 rfl rfl)
theorem dX2_league_5 : decode cX2_league 5 = .ok (.iload_n 1, 1) := dk_27 (dk_at dksX2_league_0 5 rfl rfl)
theorem dX2_league_6 : decode cX2_league 6 = .ok (.bipush 10, 2) := dk_16 10 (dk_at dksX2_league_0 6 rfl rfl)
theorem dX2_league_8 : decode cX2_league 8 = .ok (.idiv, 1) := dk_108 (dk_at dksX2_league_0 8 rfl rfl)
theorem dX2_league_9 : decode cX2_league 9 = .ok (.invokevirtual 124, 3) := dk_182 0 124 (dk_at dksX2_league_0 9 rfl rfl)
theorem dX2_league_12 : decode cX2_league 12 = .ok (.ifCond .eq 25, 3) := dk_153 0 25 (dk_at dksX2_league_0 12 rfl rfl)
theorem dX2_league_15 : decode cX2_league 15 = .ok (.aload_n 0, 1) := dk_42 (dk_at dksX2_league_0 15 rfl rfl)
theorem dX2_league_16 : decode cX2_league 16 = .ok (.iload_n 1, 1) := dk_27 (dk_at dksX2_league_0 16 rfl rfl)
theorem dX2_league_17 : decode cX2_league 17 = .ok (.bipush 10, 2) := dk_16 10 (dk_at dksX2_league_0 17 rfl rfl)
theorem dX2_league_19 : decode cX2_league 19 = .ok (.irem, 1) := dk_112 (dk_at dksX2_league_0 19 rfl rfl)
theorem dX2_league_20 : decode cX2_league 20 = .ok (.invokevirtual 124, 3) := dk_182 0 124 (dk_at dksX2_league_0 20 rfl rfl)
theorem dX2_league_23 : decode cX2_league 23 = .ok (.ifCond .eq 14, 3) := dk_153 0 14 (dk_at dksX2_league_1 0 rfl rfl)
theorem dX2_league_26 : decode cX2_league 26 = .ok (.iload_n 1, 1) := dk_27 (dk_at dksX2_league_1 3 rfl rfl)
theorem dX2_league_27 : decode cX2_league 27 = .ok (.bipush 10, 2) := dk_16 10 (dk_at dksX2_league_1 4 rfl rfl)
theorem dX2_league_29 : decode cX2_league 29 = .ok (.idiv, 1) := dk_108 (dk_at dksX2_league_1 6 rfl rfl)
theorem dX2_league_30 : decode cX2_league 30 = .ok (.iload_n 1, 1) := dk_27 (dk_at dksX2_league_1 7 rfl rfl)
theorem dX2_league_31 : decode cX2_league 31 = .ok (.bipush 10, 2) := dk_16 10 (dk_at dksX2_league_1 8 rfl rfl)
theorem dX2_league_33 : decode cX2_league 33 = .ok (.irem, 1) := dk_112 (dk_at dksX2_league_1 10 rfl rfl)
theorem dX2_league_34 : decode cX2_league 34 = .ok (.if_icmp .ne 5, 3) := dk_160 0 5 (dk_at dksX2_league_1 11 rfl rfl)
theorem dX2_league_37 : decode cX2_league 37 = .ok (.iconst (-1), 1) := dk_2 (dk_at dksX2_league_1 14 rfl rfl)
theorem dX2_league_38 : decode cX2_league 38 = .ok (.ireturn, 1) := dk_172 (dk_at dksX2_league_1 15 rfl rfl)
theorem dX2_league_39 : decode cX2_league 39 = .ok (.aload_n 0, 1) := dk_42 (dk_at dksX2_league_1 16 rfl rfl)
theorem dX2_league_40 : decode cX2_league 40 = .ok (.iload_n 1, 1) := dk_27 (dk_at dksX2_league_1 17 rfl rfl)
theorem dX2_league_41 : decode cX2_league 41 = .ok (.bipush 10, 2) := dk_16 10 (dk_at dksX2_league_1 18 rfl rfl)
theorem dX2_league_43 : decode cX2_league 43 = .ok (.idiv, 1) := dk_108 (dk_at dksX2_league_1 20 rfl rfl)
theorem dX2_league_44 : decode cX2_league 44 = .ok (.iload_n 1, 1) := dk_27 (dk_at dksX2_league_1 21 rfl rfl)
theorem dX2_league_45 : decode cX2_league 45 = .ok (.bipush 10, 2) := dk_16 10 (dk_at dksX2_league_1 22 rfl rfl)
theorem dX2_league_47 : decode cX2_league 47 = .ok (.irem, 1) := dk_112 (dk_at dksX2_league_2 0 rfl rfl)
theorem dX2_league_48 : decode cX2_league 48 = .ok (.invokevirtual 282, 3) := dk_182 1 26 (dk_at dksX2_league_2 1 rfl rfl)
theorem dX2_league_51 : decode cX2_league 51 = .ok (.ireturn, 1) := dk_172 (dk_at dksX2_league_2 4 rfl rfl)
abbrev cX2_leagueOf : ByteArray := prog_31_method_60_code
def yX2_leagueOf : MethodName := ⟨RX2, "leagueOf", "(II)I"⟩
def dkwX2_leagueOf_2 : List UInt8 := [156, 0, 7, 5, 167, 0, 4, 3, 172]
abbrev dktX2_leagueOf_2 : List UInt8 := dkwX2_leagueOf_2 ++ []
def dkwX2_leagueOf_1 : List UInt8 := [28, 182, 0, 244, 55, 6, 22, 4, 22, 6, 148, 158, 0, 7, 4, 167, 0, 16, 22, 4, 22, 6, 148]
abbrev dktX2_leagueOf_1 : List UInt8 := dkwX2_leagueOf_1 ++ dktX2_leagueOf_2
def dkwX2_leagueOf_0 : List UInt8 := [42, 182, 0, 241, 4, 27, 120, 4, 28, 120, 128, 62, 42, 29, 3, 27, 182, 0, 244, 55, 4, 42, 29, 3]
abbrev dktX2_leagueOf_0 : List UInt8 := dkwX2_leagueOf_0 ++ dktX2_leagueOf_1
theorem dksX2_leagueOf_0 : cX2_leagueOf.data.toList.drop 0 = dktX2_leagueOf_0 := by decide +kernel
theorem dksX2_leagueOf_1 : cX2_leagueOf.data.toList.drop 24 = dktX2_leagueOf_1 := dk_seg dksX2_leagueOf_0 24 rfl rfl
theorem dksX2_leagueOf_2 : cX2_leagueOf.data.toList.drop 47 = dktX2_leagueOf_2 := dk_seg dksX2_leagueOf_1 23 rfl rfl
theorem dX2_leagueOf_0 : decode cX2_leagueOf 0 = .ok (.aload_n 0, 1) := dk_42 (dk_at dksX2_leagueOf_0 0 rfl rfl)
theorem dX2_leagueOf_1 : decode cX2_leagueOf 1 = .ok (.invokevirtual 241, 3) := dk_182 0 241 (dk_at dksX2_leagueOf_0 1 rfl rfl)
theorem dX2_leagueOf_4 : decode cX2_leagueOf 4 = .ok (.iconst 1, 1) := dk_4 (dk_at dksX2_leagueOf_0 4 rfl rfl)
theorem dX2_leagueOf_5 : decode cX2_leagueOf 5 = .ok (.iload_n 1, 1) := dk_27 (dk_at dksX2_leagueOf_0 5 rfl rfl)
theorem dX2_leagueOf_6 : decode cX2_leagueOf 6 = .ok (.ishl, 1) := dk_120 (dk_at dksX2_leagueOf_0 6 rfl rfl)
theorem dX2_leagueOf_7 : decode cX2_leagueOf 7 = .ok (.iconst 1, 1) := dk_4 (dk_at dksX2_leagueOf_0 7 rfl rfl)
theorem dX2_leagueOf_8 : decode cX2_leagueOf 8 = .ok (.iload_n 2, 1) := dk_28 (dk_at dksX2_leagueOf_0 8 rfl rfl)
theorem dX2_leagueOf_9 : decode cX2_leagueOf 9 = .ok (.ishl, 1) := dk_120 (dk_at dksX2_leagueOf_0 9 rfl rfl)
theorem dX2_leagueOf_10 : decode cX2_leagueOf 10 = .ok (.ior, 1) := dk_128 (dk_at dksX2_leagueOf_0 10 rfl rfl)
theorem dX2_leagueOf_11 : decode cX2_leagueOf 11 = .ok (.istore_n 3, 1) := dk_62 (dk_at dksX2_leagueOf_0 11 rfl rfl)
theorem dX2_leagueOf_12 : decode cX2_leagueOf 12 = .ok (.aload_n 0, 1) := dk_42 (dk_at dksX2_leagueOf_0 12 rfl rfl)
theorem dX2_leagueOf_13 : decode cX2_leagueOf 13 = .ok (.iload_n 3, 1) := dk_29 (dk_at dksX2_leagueOf_0 13 rfl rfl)
theorem dX2_leagueOf_14 : decode cX2_leagueOf 14 = .ok (.iconst 0, 1) := dk_3 (dk_at dksX2_leagueOf_0 14 rfl rfl)
theorem dX2_leagueOf_15 : decode cX2_leagueOf 15 = .ok (.iload_n 1, 1) := dk_27 (dk_at dksX2_leagueOf_0 15 rfl rfl)
theorem dX2_leagueOf_16 : decode cX2_leagueOf 16 = .ok (.invokevirtual 244, 3) := dk_182 0 244 (dk_at dksX2_leagueOf_0 16 rfl rfl)
theorem dX2_leagueOf_19 : decode cX2_leagueOf 19 = .ok (.lstore 4, 2) := dk_55 4 (dk_at dksX2_leagueOf_0 19 rfl rfl)
theorem dX2_leagueOf_21 : decode cX2_leagueOf 21 = .ok (.aload_n 0, 1) := dk_42 (dk_at dksX2_leagueOf_0 21 rfl rfl)
theorem dX2_leagueOf_22 : decode cX2_leagueOf 22 = .ok (.iload_n 3, 1) := dk_29 (dk_at dksX2_leagueOf_0 22 rfl rfl)
theorem dX2_leagueOf_23 : decode cX2_leagueOf 23 = .ok (.iconst 0, 1) := dk_3 (dk_at dksX2_leagueOf_0 23 rfl rfl)
theorem dX2_leagueOf_24 : decode cX2_leagueOf 24 = .ok (.iload_n 2, 1) := dk_28 (dk_at dksX2_leagueOf_1 0 rfl rfl)
theorem dX2_leagueOf_25 : decode cX2_leagueOf 25 = .ok (.invokevirtual 244, 3) := dk_182 0 244 (dk_at dksX2_leagueOf_1 1 rfl rfl)
theorem dX2_leagueOf_28 : decode cX2_leagueOf 28 = .ok (.lstore 6, 2) := dk_55 6 (dk_at dksX2_leagueOf_1 4 rfl rfl)
theorem dX2_leagueOf_30 : decode cX2_leagueOf 30 = .ok (.lload 4, 2) := dk_22 4 (dk_at dksX2_leagueOf_1 6 rfl rfl)
theorem dX2_leagueOf_32 : decode cX2_leagueOf 32 = .ok (.lload 6, 2) := dk_22 6 (dk_at dksX2_leagueOf_1 8 rfl rfl)
theorem dX2_leagueOf_34 : decode cX2_leagueOf 34 = .ok (.lcmp, 1) := dk_148 (dk_at dksX2_leagueOf_1 10 rfl rfl)
theorem dX2_leagueOf_35 : decode cX2_leagueOf 35 = .ok (.ifCond .le 7, 3) := dk_158 0 7 (dk_at dksX2_leagueOf_1 11 rfl rfl)
theorem dX2_leagueOf_38 : decode cX2_leagueOf 38 = .ok (.iconst 1, 1) := dk_4 (dk_at dksX2_leagueOf_1 14 rfl rfl)
theorem dX2_leagueOf_39 : decode cX2_leagueOf 39 = .ok (.goto 16, 3) := dk_167 0 16 (dk_at dksX2_leagueOf_1 15 rfl rfl)
theorem dX2_leagueOf_42 : decode cX2_leagueOf 42 = .ok (.lload 4, 2) := dk_22 4 (dk_at dksX2_leagueOf_1 18 rfl rfl)
theorem dX2_leagueOf_44 : decode cX2_leagueOf 44 = .ok (.lload 6, 2) := dk_22 6 (dk_at dksX2_leagueOf_1 20 rfl rfl)
theorem dX2_leagueOf_46 : decode cX2_leagueOf 46 = .ok (.lcmp, 1) := dk_148 (dk_at dksX2_leagueOf_1 22 rfl rfl)
theorem dX2_leagueOf_47 : decode cX2_leagueOf 47 = .ok (.ifCond .ge 7, 3) := dk_156 0 7 (dk_at dksX2_leagueOf_2 0 rfl rfl)
theorem dX2_leagueOf_50 : decode cX2_leagueOf 50 = .ok (.iconst 2, 1) := dk_5 (dk_at dksX2_leagueOf_2 3 rfl rfl)
theorem dX2_leagueOf_51 : decode cX2_leagueOf 51 = .ok (.goto 4, 3) := dk_167 0 4 (dk_at dksX2_leagueOf_2 4 rfl rfl)
theorem dX2_leagueOf_54 : decode cX2_leagueOf 54 = .ok (.iconst 0, 1) := dk_3 (dk_at dksX2_leagueOf_2 7 rfl rfl)
theorem dX2_leagueOf_55 : decode cX2_leagueOf 55 = .ok (.ireturn, 1) := dk_172 (dk_at dksX2_leagueOf_2 8 rfl rfl)
abbrev cX2_points : ByteArray := prog_31_method_62_code
def yX2_points : MethodName := ⟨RX2, "points", "(I)I"⟩
def dkwX2_points_2 : List UInt8 := [167, 0, 13, 21, 4, 154, 0, 7, 4, 167, 0, 4, 3, 96, 61, 132, 3, 1, 167, 255, 205, 28, 172]
abbrev dktX2_points_2 : List UInt8 := dkwX2_points_2 ++ []
def dkwX2_points_1 : List UInt8 := [160, 0, 7, 5, 167, 0, 9, 42, 27, 29, 182, 1, 26, 54, 4, 28, 21, 4, 4, 160, 0, 7, 5]
abbrev dktX2_points_1 : List UInt8 := dkwX2_points_1 ++ dktX2_points_2
def dkwX2_points_0 : List UInt8 := [42, 27, 182, 0, 124, 154, 0, 5, 2, 172, 3, 61, 3, 62, 29, 42, 180, 0, 96, 162, 0, 49, 29, 27]
abbrev dktX2_points_0 : List UInt8 := dkwX2_points_0 ++ dktX2_points_1
theorem dksX2_points_0 : cX2_points.data.toList.drop 0 = dktX2_points_0 := by decide +kernel
theorem dksX2_points_1 : cX2_points.data.toList.drop 24 = dktX2_points_1 := dk_seg dksX2_points_0 24 rfl rfl
theorem dksX2_points_2 : cX2_points.data.toList.drop 47 = dktX2_points_2 := dk_seg dksX2_points_1 23 rfl rfl
theorem dX2_points_0 : decode cX2_points 0 = .ok (.aload_n 0, 1) := dk_42 (dk_at dksX2_points_0 0 rfl rfl)
theorem dX2_points_1 : decode cX2_points 1 = .ok (.iload_n 1, 1) := dk_27 (dk_at dksX2_points_0 1 rfl rfl)
theorem dX2_points_2 : decode cX2_points 2 = .ok (.invokevirtual 124, 3) := dk_182 0 124 (dk_at dksX2_points_0 2 rfl rfl)
theorem dX2_points_5 : decode cX2_points 5 = .ok (.ifCond .ne 5, 3) := dk_154 0 5 (dk_at dksX2_points_0 5 rfl rfl)
theorem dX2_points_8 : decode cX2_points 8 = .ok (.iconst (-1), 1) := dk_2 (dk_at dksX2_points_0 8 rfl rfl)
theorem dX2_points_9 : decode cX2_points 9 = .ok (.ireturn, 1) := dk_172 (dk_at dksX2_points_0 9 rfl rfl)
theorem dX2_points_10 : decode cX2_points 10 = .ok (.iconst 0, 1) := dk_3 (dk_at dksX2_points_0 10 rfl rfl)
theorem dX2_points_11 : decode cX2_points 11 = .ok (.istore_n 2, 1) := dk_61 (dk_at dksX2_points_0 11 rfl rfl)
theorem dX2_points_12 : decode cX2_points 12 = .ok (.iconst 0, 1) := dk_3 (dk_at dksX2_points_0 12 rfl rfl)
theorem dX2_points_13 : decode cX2_points 13 = .ok (.istore_n 3, 1) := dk_62 (dk_at dksX2_points_0 13 rfl rfl)
theorem dX2_points_14 : decode cX2_points 14 = .ok (.iload_n 3, 1) := dk_29 (dk_at dksX2_points_0 14 rfl rfl)
theorem dX2_points_15 : decode cX2_points 15 = .ok (.aload_n 0, 1) := dk_42 (dk_at dksX2_points_0 15 rfl rfl)
theorem dX2_points_16 : decode cX2_points 16 = .ok (.getfield 96, 3) := dk_180 0 96 (dk_at dksX2_points_0 16 rfl rfl)
theorem dX2_points_19 : decode cX2_points 19 = .ok (.if_icmp .ge 49, 3) := dk_162 0 49 (dk_at dksX2_points_0 19 rfl rfl)
theorem dX2_points_22 : decode cX2_points 22 = .ok (.iload_n 3, 1) := dk_29 (dk_at dksX2_points_0 22 rfl rfl)
theorem dX2_points_23 : decode cX2_points 23 = .ok (.iload_n 1, 1) := dk_27 (dk_at dksX2_points_0 23 rfl rfl)
theorem dX2_points_24 : decode cX2_points 24 = .ok (.if_icmp .ne 7, 3) := dk_160 0 7 (dk_at dksX2_points_1 0 rfl rfl)
theorem dX2_points_27 : decode cX2_points 27 = .ok (.iconst 2, 1) := dk_5 (dk_at dksX2_points_1 3 rfl rfl)
theorem dX2_points_28 : decode cX2_points 28 = .ok (.goto 9, 3) := dk_167 0 9 (dk_at dksX2_points_1 4 rfl rfl)
theorem dX2_points_31 : decode cX2_points 31 = .ok (.aload_n 0, 1) := dk_42 (dk_at dksX2_points_1 7 rfl rfl)
theorem dX2_points_32 : decode cX2_points 32 = .ok (.iload_n 1, 1) := dk_27 (dk_at dksX2_points_1 8 rfl rfl)
theorem dX2_points_33 : decode cX2_points 33 = .ok (.iload_n 3, 1) := dk_29 (dk_at dksX2_points_1 9 rfl rfl)
theorem dX2_points_34 : decode cX2_points 34 = .ok (.invokevirtual 282, 3) := dk_182 1 26 (dk_at dksX2_points_1 10 rfl rfl)
theorem dX2_points_37 : decode cX2_points 37 = .ok (.istore 4, 2) := dk_54 4 (dk_at dksX2_points_1 13 rfl rfl)
theorem dX2_points_39 : decode cX2_points 39 = .ok (.iload_n 2, 1) := dk_28 (dk_at dksX2_points_1 15 rfl rfl)
theorem dX2_points_40 : decode cX2_points 40 = .ok (.iload 4, 2) := dk_21 4 (dk_at dksX2_points_1 16 rfl rfl)
theorem dX2_points_42 : decode cX2_points 42 = .ok (.iconst 1, 1) := dk_4 (dk_at dksX2_points_1 18 rfl rfl)
theorem dX2_points_43 : decode cX2_points 43 = .ok (.if_icmp .ne 7, 3) := dk_160 0 7 (dk_at dksX2_points_1 19 rfl rfl)
theorem dX2_points_46 : decode cX2_points 46 = .ok (.iconst 2, 1) := dk_5 (dk_at dksX2_points_1 22 rfl rfl)
theorem dX2_points_47 : decode cX2_points 47 = .ok (.goto 13, 3) := dk_167 0 13 (dk_at dksX2_points_2 0 rfl rfl)
theorem dX2_points_50 : decode cX2_points 50 = .ok (.iload 4, 2) := dk_21 4 (dk_at dksX2_points_2 3 rfl rfl)
theorem dX2_points_52 : decode cX2_points 52 = .ok (.ifCond .ne 7, 3) := dk_154 0 7 (dk_at dksX2_points_2 5 rfl rfl)
theorem dX2_points_55 : decode cX2_points 55 = .ok (.iconst 1, 1) := dk_4 (dk_at dksX2_points_2 8 rfl rfl)
theorem dX2_points_56 : decode cX2_points 56 = .ok (.goto 4, 3) := dk_167 0 4 (dk_at dksX2_points_2 9 rfl rfl)
theorem dX2_points_59 : decode cX2_points 59 = .ok (.iconst 0, 1) := dk_3 (dk_at dksX2_points_2 12 rfl rfl)
theorem dX2_points_60 : decode cX2_points 60 = .ok (.iadd, 1) := dk_96 (dk_at dksX2_points_2 13 rfl rfl)
theorem dX2_points_61 : decode cX2_points 61 = .ok (.istore_n 2, 1) := dk_61 (dk_at dksX2_points_2 14 rfl rfl)
theorem dX2_points_62 : decode cX2_points 62 = .ok (.iinc 3 1, 3) := dk_132 3 1 (dk_at dksX2_points_2 15 rfl rfl)
theorem dX2_points_65 : decode cX2_points 65 = .ok (.goto (-51), 3) := dk_167 255 205 (dk_at dksX2_points_2 18 rfl rfl)
theorem dX2_points_68 : decode cX2_points 68 = .ok (.iload_n 2, 1) := dk_28 (dk_at dksX2_points_2 21 rfl rfl)
theorem dX2_points_69 : decode cX2_points 69 = .ok (.ireturn, 1) := dk_172 (dk_at dksX2_points_2 22 rfl rfl)
abbrev cX2_judge : ByteArray := prog_31_method_65_code
def yX2_judge : MethodName := ⟨RX2, "judge", "(II)I"⟩
def dkwX2_judge_3 : List UInt8 := [167, 0, 7, 42, 180, 1, 32, 172]
abbrev dktX2_judge_3 : List UInt8 := dkwX2_judge_3 ++ []
def dkwX2_judge_2 : List UInt8 := [182, 1, 46, 28, 154, 0, 10, 42, 180, 1, 29, 167, 0, 19, 42, 180, 1, 29, 155, 0, 8, 16, 254]
abbrev dktX2_judge_2 : List UInt8 := dkwX2_judge_2 ++ dktX2_judge_3
def dkwX2_judge_1 : List UInt8 := [46, 156, 0, 6, 16, 245, 172, 42, 180, 0, 71, 27, 46, 16, 50, 159, 0, 6, 16, 244, 172, 42, 27]
abbrev dktX2_judge_1 : List UInt8 := dkwX2_judge_1 ++ dktX2_judge_2
def dkwX2_judge_0 : List UInt8 := [27, 184, 0, 118, 153, 0, 13, 28, 133, 9, 10, 184, 0, 99, 154, 0, 5, 2, 172, 42, 180, 0, 71, 27]
abbrev dktX2_judge_0 : List UInt8 := dkwX2_judge_0 ++ dktX2_judge_1
theorem dksX2_judge_0 : cX2_judge.data.toList.drop 0 = dktX2_judge_0 := by decide +kernel
theorem dksX2_judge_1 : cX2_judge.data.toList.drop 24 = dktX2_judge_1 := dk_seg dksX2_judge_0 24 rfl rfl
theorem dksX2_judge_2 : cX2_judge.data.toList.drop 47 = dktX2_judge_2 := dk_seg dksX2_judge_1 23 rfl rfl
theorem dksX2_judge_3 : cX2_judge.data.toList.drop 70 = dktX2_judge_3 := dk_seg dksX2_judge_2 23 rfl rfl
theorem dX2_judge_0 : decode cX2_judge 0 = .ok (.iload_n 1, 1) := dk_27 (dk_at dksX2_judge_0 0 rfl rfl)
theorem dX2_judge_1 : decode cX2_judge 1 = .ok (.invokestatic 118, 3) := dk_184 0 118 (dk_at dksX2_judge_0 1 rfl rfl)
theorem dX2_judge_4 : decode cX2_judge 4 = .ok (.ifCond .eq 13, 3) := dk_153 0 13 (dk_at dksX2_judge_0 4 rfl rfl)
theorem dX2_judge_7 : decode cX2_judge 7 = .ok (.iload_n 2, 1) := dk_28 (dk_at dksX2_judge_0 7 rfl rfl)
theorem dX2_judge_8 : decode cX2_judge 8 = .ok (.i2l, 1) := dk_133 (dk_at dksX2_judge_0 8 rfl rfl)
theorem dX2_judge_9 : decode cX2_judge 9 = .ok (.lconst 0, 1) := dk_9 (dk_at dksX2_judge_0 9 rfl rfl)
theorem dX2_judge_10 : decode cX2_judge 10 = .ok (.lconst 1, 1) := dk_10 (dk_at dksX2_judge_0 10 rfl rfl)
theorem dX2_judge_11 : decode cX2_judge 11 = .ok (.invokestatic 99, 3) := dk_184 0 99 (dk_at dksX2_judge_0 11 rfl rfl)
theorem dX2_judge_14 : decode cX2_judge 14 = .ok (.ifCond .ne 5, 3) := dk_154 0 5 (dk_at dksX2_judge_0 14 rfl rfl)
theorem dX2_judge_17 : decode cX2_judge 17 = .ok (.iconst (-1), 1) := dk_2 (dk_at dksX2_judge_0 17 rfl rfl)
theorem dX2_judge_18 : decode cX2_judge 18 = .ok (.ireturn, 1) := dk_172 (dk_at dksX2_judge_0 18 rfl rfl)
theorem dX2_judge_19 : decode cX2_judge 19 = .ok (.aload_n 0, 1) := dk_42 (dk_at dksX2_judge_0 19 rfl rfl)
theorem dX2_judge_20 : decode cX2_judge 20 = .ok (.getfield 71, 3) := dk_180 0 71 (dk_at dksX2_judge_0 20 rfl rfl)
theorem dX2_judge_23 : decode cX2_judge 23 = .ok (.iload_n 1, 1) := dk_27 (dk_at dksX2_judge_0 23 rfl rfl)
theorem dX2_judge_24 : decode cX2_judge 24 = .ok (.iaload, 1) := dk_46 (dk_at dksX2_judge_1 0 rfl rfl)
theorem dX2_judge_25 : decode cX2_judge 25 = .ok (.ifCond .ge 6, 3) := dk_156 0 6 (dk_at dksX2_judge_1 1 rfl rfl)
theorem dX2_judge_28 : decode cX2_judge 28 = .ok (.bipush (-11), 2) := dk_16 245 (dk_at dksX2_judge_1 4 rfl rfl)
theorem dX2_judge_30 : decode cX2_judge 30 = .ok (.ireturn, 1) := dk_172 (dk_at dksX2_judge_1 6 rfl rfl)
theorem dX2_judge_31 : decode cX2_judge 31 = .ok (.aload_n 0, 1) := dk_42 (dk_at dksX2_judge_1 7 rfl rfl)
theorem dX2_judge_32 : decode cX2_judge 32 = .ok (.getfield 71, 3) := dk_180 0 71 (dk_at dksX2_judge_1 8 rfl rfl)
theorem dX2_judge_35 : decode cX2_judge 35 = .ok (.iload_n 1, 1) := dk_27 (dk_at dksX2_judge_1 11 rfl rfl)
theorem dX2_judge_36 : decode cX2_judge 36 = .ok (.iaload, 1) := dk_46 (dk_at dksX2_judge_1 12 rfl rfl)
theorem dX2_judge_37 : decode cX2_judge 37 = .ok (.bipush 50, 2) := dk_16 50 (dk_at dksX2_judge_1 13 rfl rfl)
theorem dX2_judge_39 : decode cX2_judge 39 = .ok (.if_icmp .eq 6, 3) := dk_159 0 6 (dk_at dksX2_judge_1 15 rfl rfl)
theorem dX2_judge_42 : decode cX2_judge 42 = .ok (.bipush (-12), 2) := dk_16 244 (dk_at dksX2_judge_1 18 rfl rfl)
theorem dX2_judge_44 : decode cX2_judge 44 = .ok (.ireturn, 1) := dk_172 (dk_at dksX2_judge_1 20 rfl rfl)
theorem dX2_judge_45 : decode cX2_judge 45 = .ok (.aload_n 0, 1) := dk_42 (dk_at dksX2_judge_1 21 rfl rfl)
theorem dX2_judge_46 : decode cX2_judge 46 = .ok (.iload_n 1, 1) := dk_27 (dk_at dksX2_judge_1 22 rfl rfl)
theorem dX2_judge_47 : decode cX2_judge 47 = .ok (.invokevirtual 302, 3) := dk_182 1 46 (dk_at dksX2_judge_2 0 rfl rfl)
theorem dX2_judge_50 : decode cX2_judge 50 = .ok (.iload_n 2, 1) := dk_28 (dk_at dksX2_judge_2 3 rfl rfl)
theorem dX2_judge_51 : decode cX2_judge 51 = .ok (.ifCond .ne 10, 3) := dk_154 0 10 (dk_at dksX2_judge_2 4 rfl rfl)
theorem dX2_judge_54 : decode cX2_judge 54 = .ok (.aload_n 0, 1) := dk_42 (dk_at dksX2_judge_2 7 rfl rfl)
theorem dX2_judge_55 : decode cX2_judge 55 = .ok (.getfield 285, 3) := dk_180 1 29 (dk_at dksX2_judge_2 8 rfl rfl)
theorem dX2_judge_58 : decode cX2_judge 58 = .ok (.goto 19, 3) := dk_167 0 19 (dk_at dksX2_judge_2 11 rfl rfl)
theorem dX2_judge_61 : decode cX2_judge 61 = .ok (.aload_n 0, 1) := dk_42 (dk_at dksX2_judge_2 14 rfl rfl)
theorem dX2_judge_62 : decode cX2_judge 62 = .ok (.getfield 285, 3) := dk_180 1 29 (dk_at dksX2_judge_2 15 rfl rfl)
theorem dX2_judge_65 : decode cX2_judge 65 = .ok (.ifCond .lt 8, 3) := dk_155 0 8 (dk_at dksX2_judge_2 18 rfl rfl)
theorem dX2_judge_68 : decode cX2_judge 68 = .ok (.bipush (-2), 2) := dk_16 254 (dk_at dksX2_judge_2 21 rfl rfl)
theorem dX2_judge_70 : decode cX2_judge 70 = .ok (.goto 7, 3) := dk_167 0 7 (dk_at dksX2_judge_3 0 rfl rfl)
theorem dX2_judge_73 : decode cX2_judge 73 = .ok (.aload_n 0, 1) := dk_42 (dk_at dksX2_judge_3 3 rfl rfl)
theorem dX2_judge_74 : decode cX2_judge 74 = .ok (.getfield 288, 3) := dk_180 1 32 (dk_at dksX2_judge_3 4 rfl rfl)
theorem dX2_judge_77 : decode cX2_judge 77 = .ok (.ireturn, 1) := dk_172 (dk_at dksX2_judge_3 7 rfl rfl)
abbrev cX2_looksAt : ByteArray := prog_31_method_64_code
def yX2_looksAt : MethodName := ⟨RX2, "looksAt", "(I)V"⟩
def dkwX2_looksAt_12 : List UInt8 := [2, 130, 126, 167, 0, 4, 28, 61, 42, 29, 28, 182, 0, 204, 62, 132, 4, 1, 167, 255, 7, 177]
abbrev dktX2_looksAt_12 : List UInt8 := dkwX2_looksAt_12 ++ []
def dkwX2_looksAt_11 : List UInt8 := [89, 180, 1, 39, 20, 0, 103, 105, 181, 1, 39, 22, 8, 10, 148, 154, 0, 15, 28, 4, 22, 5, 136, 120]
abbrev dktX2_looksAt_11 : List UInt8 := dkwX2_looksAt_11 ++ dktX2_looksAt_12
def dkwX2_looksAt_10 : List UInt8 := [22, 8, 10, 148, 154, 0, 9, 21, 10, 133, 167, 0, 9, 16, 12, 21, 10, 100, 133, 105, 181, 1, 35, 42]
abbrev dktX2_looksAt_10 : List UInt8 := dkwX2_looksAt_10 ++ dktX2_looksAt_11
def dkwX2_looksAt_9 : List UInt8 := [153, 0, 59, 42, 29, 22, 5, 136, 28, 184, 0, 197, 21, 4, 182, 0, 211, 54, 10, 42, 89, 180, 1, 35]
abbrev dktX2_looksAt_9 : List UInt8 := dkwX2_looksAt_9 ++ dktX2_looksAt_10
def dkwX2_looksAt_8 : List UInt8 := [22, 5, 148, 153, 0, 8, 21, 4, 167, 0, 7, 42, 180, 1, 32, 181, 1, 32, 22, 5, 20, 0, 137, 148]
abbrev dktX2_looksAt_8 : List UInt8 := dkwX2_looksAt_8 ++ dktX2_looksAt_9
def dkwX2_looksAt_7 : List UInt8 := [167, 0, 135, 42, 42, 180, 1, 32, 156, 0, 27, 42, 180, 0, 50, 21, 4, 28, 29, 184, 0, 207, 46, 133]
abbrev dktX2_looksAt_7 : List UInt8 := dkwX2_looksAt_7 ++ dktX2_looksAt_8
def dkwX2_looksAt_6 : List UInt8 := [153, 0, 18, 42, 21, 4, 28, 29, 22, 5, 22, 8, 182, 1, 42, 154, 0, 12, 42, 21, 4, 181, 1, 29]
abbrev dktX2_looksAt_6 : List UInt8 := dkwX2_looksAt_6 ++ dktX2_looksAt_7
def dkwX2_looksAt_5 : List UInt8 := [180, 0, 77, 16, 60, 27, 104, 5, 21, 4, 104, 96, 4, 96, 47, 167, 0, 4, 9, 55, 8, 21, 7]
abbrev dktX2_looksAt_5 : List UInt8 := dkwX2_looksAt_5 ++ dktX2_looksAt_6
def dkwX2_looksAt_4 : List UInt8 := [96, 42, 180, 0, 74, 27, 46, 162, 0, 7, 4, 167, 0, 4, 3, 54, 7, 21, 7, 153, 0, 22, 42]
abbrev dktX2_looksAt_4 : List UInt8 := dkwX2_looksAt_4 ++ dktX2_looksAt_5
def dkwX2_looksAt_3 : List UInt8 := [156, 0, 235, 42, 180, 0, 77, 16, 60, 27, 104, 5, 21, 4, 104, 96, 47, 55, 5, 5, 21, 4, 104, 4]
abbrev dktX2_looksAt_3 : List UInt8 := dkwX2_looksAt_3 ++ dktX2_looksAt_4
def dkwX2_looksAt_2 : List UInt8 := [46, 62, 3, 54, 4, 5, 21, 4, 104, 42, 180, 0, 74, 27, 46, 162, 0, 242, 42, 180, 1, 29]
abbrev dktX2_looksAt_2 : List UInt8 := dkwX2_looksAt_2 ++ dktX2_looksAt_3
def dkwX2_looksAt_1 : List UInt8 := [181, 1, 39, 42, 182, 0, 225, 61, 42, 180, 0, 96, 154, 0, 7, 3, 167, 0, 9, 42, 180, 0, 22, 3]
abbrev dktX2_looksAt_1 : List UInt8 := dkwX2_looksAt_1 ++ dktX2_looksAt_2
def dkwX2_looksAt_0 : List UInt8 := [42, 182, 0, 241, 42, 16, 254, 181, 1, 29, 42, 16, 254, 181, 1, 32, 42, 10, 181, 1, 35, 42, 10]
abbrev dktX2_looksAt_0 : List UInt8 := dkwX2_looksAt_0 ++ dktX2_looksAt_1
theorem dksX2_looksAt_0 : cX2_looksAt.data.toList.drop 0 = dktX2_looksAt_0 := by decide +kernel
theorem dksX2_looksAt_1 : cX2_looksAt.data.toList.drop 23 = dktX2_looksAt_1 := dk_seg dksX2_looksAt_0 23 rfl rfl
theorem dksX2_looksAt_2 : cX2_looksAt.data.toList.drop 47 = dktX2_looksAt_2 := dk_seg dksX2_looksAt_1 24 rfl rfl
theorem dksX2_looksAt_3 : cX2_looksAt.data.toList.drop 69 = dktX2_looksAt_3 := dk_seg dksX2_looksAt_2 22 rfl rfl
theorem dksX2_looksAt_4 : cX2_looksAt.data.toList.drop 93 = dktX2_looksAt_4 := dk_seg dksX2_looksAt_3 24 rfl rfl
theorem dksX2_looksAt_5 : cX2_looksAt.data.toList.drop 116 = dktX2_looksAt_5 := dk_seg dksX2_looksAt_4 23 rfl rfl
theorem dksX2_looksAt_6 : cX2_looksAt.data.toList.drop 139 = dktX2_looksAt_6 := dk_seg dksX2_looksAt_5 23 rfl rfl
theorem dksX2_looksAt_7 : cX2_looksAt.data.toList.drop 163 = dktX2_looksAt_7 := dk_seg dksX2_looksAt_6 24 rfl rfl
theorem dksX2_looksAt_8 : cX2_looksAt.data.toList.drop 187 = dktX2_looksAt_8 := dk_seg dksX2_looksAt_7 24 rfl rfl
theorem dksX2_looksAt_9 : cX2_looksAt.data.toList.drop 211 = dktX2_looksAt_9 := dk_seg dksX2_looksAt_8 24 rfl rfl
theorem dksX2_looksAt_10 : cX2_looksAt.data.toList.drop 235 = dktX2_looksAt_10 := dk_seg dksX2_looksAt_9 24 rfl rfl
theorem dksX2_looksAt_11 : cX2_looksAt.data.toList.drop 259 = dktX2_looksAt_11 := dk_seg dksX2_looksAt_10 24 rfl rfl
theorem dksX2_looksAt_12 : cX2_looksAt.data.toList.drop 283 = dktX2_looksAt_12 := dk_seg dksX2_looksAt_11 24 rfl rfl
theorem dX2_looksAt_0 : decode cX2_looksAt 0 = .ok (.aload_n 0, 1) := dk_42 (dk_at dksX2_looksAt_0 0 rfl rfl)
theorem dX2_looksAt_1 : decode cX2_looksAt 1 = .ok (.invokevirtual 241, 3) := dk_182 0 241 (dk_at dksX2_looksAt_0 1 rfl rfl)
theorem dX2_looksAt_4 : decode cX2_looksAt 4 = .ok (.aload_n 0, 1) := dk_42 (dk_at dksX2_looksAt_0 4 rfl rfl)
theorem dX2_looksAt_5 : decode cX2_looksAt 5 = .ok (.bipush (-2), 2) := dk_16 254 (dk_at dksX2_looksAt_0 5 rfl rfl)
theorem dX2_looksAt_7 : decode cX2_looksAt 7 = .ok (.putfield 285, 3) := dk_181 1 29 (dk_at dksX2_looksAt_0 7 rfl rfl)
theorem dX2_looksAt_10 : decode cX2_looksAt 10 = .ok (.aload_n 0, 1) := dk_42 (dk_at dksX2_looksAt_0 10 rfl rfl)
theorem dX2_looksAt_11 : decode cX2_looksAt 11 = .ok (.bipush (-2), 2) := dk_16 254 (dk_at dksX2_looksAt_0 11 rfl rfl)
theorem dX2_looksAt_13 : decode cX2_looksAt 13 = .ok (.putfield 288, 3) := dk_181 1 32 (dk_at dksX2_looksAt_0 13 rfl rfl)
theorem dX2_looksAt_16 : decode cX2_looksAt 16 = .ok (.aload_n 0, 1) := dk_42 (dk_at dksX2_looksAt_0 16 rfl rfl)
theorem dX2_looksAt_17 : decode cX2_looksAt 17 = .ok (.lconst 1, 1) := dk_10 (dk_at dksX2_looksAt_0 17 rfl rfl)
theorem dX2_looksAt_18 : decode cX2_looksAt 18 = .ok (.putfield 291, 3) := dk_181 1 35 (dk_at dksX2_looksAt_0 18 rfl rfl)
theorem dX2_looksAt_21 : decode cX2_looksAt 21 = .ok (.aload_n 0, 1) := dk_42 (dk_at dksX2_looksAt_0 21 rfl rfl)
theorem dX2_looksAt_22 : decode cX2_looksAt 22 = .ok (.lconst 1, 1) := dk_10 (dk_at dksX2_looksAt_0 22 rfl rfl)
theorem dX2_looksAt_23 : decode cX2_looksAt 23 = .ok (.putfield 295, 3) := dk_181 1 39 (dk_at dksX2_looksAt_1 0 rfl rfl)
theorem dX2_looksAt_26 : decode cX2_looksAt 26 = .ok (.aload_n 0, 1) := dk_42 (dk_at dksX2_looksAt_1 3 rfl rfl)
theorem dX2_looksAt_27 : decode cX2_looksAt 27 = .ok (.invokevirtual 225, 3) := dk_182 0 225 (dk_at dksX2_looksAt_1 4 rfl rfl)
theorem dX2_looksAt_30 : decode cX2_looksAt 30 = .ok (.istore_n 2, 1) := dk_61 (dk_at dksX2_looksAt_1 7 rfl rfl)
theorem dX2_looksAt_31 : decode cX2_looksAt 31 = .ok (.aload_n 0, 1) := dk_42 (dk_at dksX2_looksAt_1 8 rfl rfl)
theorem dX2_looksAt_32 : decode cX2_looksAt 32 = .ok (.getfield 96, 3) := dk_180 0 96 (dk_at dksX2_looksAt_1 9 rfl rfl)
theorem dX2_looksAt_35 : decode cX2_looksAt 35 = .ok (.ifCond .ne 7, 3) := dk_154 0 7 (dk_at dksX2_looksAt_1 12 rfl rfl)
theorem dX2_looksAt_38 : decode cX2_looksAt 38 = .ok (.iconst 0, 1) := dk_3 (dk_at dksX2_looksAt_1 15 rfl rfl)
theorem dX2_looksAt_39 : decode cX2_looksAt 39 = .ok (.goto 9, 3) := dk_167 0 9 (dk_at dksX2_looksAt_1 16 rfl rfl)
theorem dX2_looksAt_42 : decode cX2_looksAt 42 = .ok (.aload_n 0, 1) := dk_42 (dk_at dksX2_looksAt_1 19 rfl rfl)
theorem dX2_looksAt_43 : decode cX2_looksAt 43 = .ok (.getfield 22, 3) := dk_180 0 22 (dk_at dksX2_looksAt_1 20 rfl rfl)
theorem dX2_looksAt_46 : decode cX2_looksAt 46 = .ok (.iconst 0, 1) := dk_3 (dk_at dksX2_looksAt_1 23 rfl rfl)
theorem dX2_looksAt_47 : decode cX2_looksAt 47 = .ok (.iaload, 1) := dk_46 (dk_at dksX2_looksAt_2 0 rfl rfl)
theorem dX2_looksAt_48 : decode cX2_looksAt 48 = .ok (.istore_n 3, 1) := dk_62 (dk_at dksX2_looksAt_2 1 rfl rfl)
theorem dX2_looksAt_49 : decode cX2_looksAt 49 = .ok (.iconst 0, 1) := dk_3 (dk_at dksX2_looksAt_2 2 rfl rfl)
theorem dX2_looksAt_50 : decode cX2_looksAt 50 = .ok (.istore 4, 2) := dk_54 4 (dk_at dksX2_looksAt_2 3 rfl rfl)
theorem dX2_looksAt_52 : decode cX2_looksAt 52 = .ok (.iconst 2, 1) := dk_5 (dk_at dksX2_looksAt_2 5 rfl rfl)
theorem dX2_looksAt_53 : decode cX2_looksAt 53 = .ok (.iload 4, 2) := dk_21 4 (dk_at dksX2_looksAt_2 6 rfl rfl)
theorem dX2_looksAt_55 : decode cX2_looksAt 55 = .ok (.imul, 1) := dk_104 (dk_at dksX2_looksAt_2 8 rfl rfl)
theorem dX2_looksAt_56 : decode cX2_looksAt 56 = .ok (.aload_n 0, 1) := dk_42 (dk_at dksX2_looksAt_2 9 rfl rfl)
theorem dX2_looksAt_57 : decode cX2_looksAt 57 = .ok (.getfield 74, 3) := dk_180 0 74 (dk_at dksX2_looksAt_2 10 rfl rfl)
theorem dX2_looksAt_60 : decode cX2_looksAt 60 = .ok (.iload_n 1, 1) := dk_27 (dk_at dksX2_looksAt_2 13 rfl rfl)
theorem dX2_looksAt_61 : decode cX2_looksAt 61 = .ok (.iaload, 1) := dk_46 (dk_at dksX2_looksAt_2 14 rfl rfl)
theorem dX2_looksAt_62 : decode cX2_looksAt 62 = .ok (.if_icmp .ge 242, 3) := dk_162 0 242 (dk_at dksX2_looksAt_2 15 rfl rfl)
theorem dX2_looksAt_65 : decode cX2_looksAt 65 = .ok (.aload_n 0, 1) := dk_42 (dk_at dksX2_looksAt_2 18 rfl rfl)
theorem dX2_looksAt_66 : decode cX2_looksAt 66 = .ok (.getfield 285, 3) := dk_180 1 29 (dk_at dksX2_looksAt_2 19 rfl rfl)
theorem dX2_looksAt_69 : decode cX2_looksAt 69 = .ok (.ifCond .ge 235, 3) := dk_156 0 235 (dk_at dksX2_looksAt_3 0 rfl rfl)
theorem dX2_looksAt_72 : decode cX2_looksAt 72 = .ok (.aload_n 0, 1) := dk_42 (dk_at dksX2_looksAt_3 3 rfl rfl)
theorem dX2_looksAt_73 : decode cX2_looksAt 73 = .ok (.getfield 77, 3) := dk_180 0 77 (dk_at dksX2_looksAt_3 4 rfl rfl)
theorem dX2_looksAt_76 : decode cX2_looksAt 76 = .ok (.bipush 60, 2) := dk_16 60 (dk_at dksX2_looksAt_3 7 rfl rfl)
theorem dX2_looksAt_78 : decode cX2_looksAt 78 = .ok (.iload_n 1, 1) := dk_27 (dk_at dksX2_looksAt_3 9 rfl rfl)
theorem dX2_looksAt_79 : decode cX2_looksAt 79 = .ok (.imul, 1) := dk_104 (dk_at dksX2_looksAt_3 10 rfl rfl)
theorem dX2_looksAt_80 : decode cX2_looksAt 80 = .ok (.iconst 2, 1) := dk_5 (dk_at dksX2_looksAt_3 11 rfl rfl)
theorem dX2_looksAt_81 : decode cX2_looksAt 81 = .ok (.iload 4, 2) := dk_21 4 (dk_at dksX2_looksAt_3 12 rfl rfl)
theorem dX2_looksAt_83 : decode cX2_looksAt 83 = .ok (.imul, 1) := dk_104 (dk_at dksX2_looksAt_3 14 rfl rfl)
theorem dX2_looksAt_84 : decode cX2_looksAt 84 = .ok (.iadd, 1) := dk_96 (dk_at dksX2_looksAt_3 15 rfl rfl)
theorem dX2_looksAt_85 : decode cX2_looksAt 85 = .ok (.laload, 1) := dk_47 (dk_at dksX2_looksAt_3 16 rfl rfl)
theorem dX2_looksAt_86 : decode cX2_looksAt 86 = .ok (.lstore 5, 2) := dk_55 5 (dk_at dksX2_looksAt_3 17 rfl rfl)
theorem dX2_looksAt_88 : decode cX2_looksAt 88 = .ok (.iconst 2, 1) := dk_5 (dk_at dksX2_looksAt_3 19 rfl rfl)
theorem dX2_looksAt_89 : decode cX2_looksAt 89 = .ok (.iload 4, 2) := dk_21 4 (dk_at dksX2_looksAt_3 20 rfl rfl)
theorem dX2_looksAt_91 : decode cX2_looksAt 91 = .ok (.imul, 1) := dk_104 (dk_at dksX2_looksAt_3 22 rfl rfl)
theorem dX2_looksAt_92 : decode cX2_looksAt 92 = .ok (.iconst 1, 1) := dk_4 (dk_at dksX2_looksAt_3 23 rfl rfl)
theorem dX2_looksAt_93 : decode cX2_looksAt 93 = .ok (.iadd, 1) := dk_96 (dk_at dksX2_looksAt_4 0 rfl rfl)
theorem dX2_looksAt_94 : decode cX2_looksAt 94 = .ok (.aload_n 0, 1) := dk_42 (dk_at dksX2_looksAt_4 1 rfl rfl)
theorem dX2_looksAt_95 : decode cX2_looksAt 95 = .ok (.getfield 74, 3) := dk_180 0 74 (dk_at dksX2_looksAt_4 2 rfl rfl)
theorem dX2_looksAt_98 : decode cX2_looksAt 98 = .ok (.iload_n 1, 1) := dk_27 (dk_at dksX2_looksAt_4 5 rfl rfl)
theorem dX2_looksAt_99 : decode cX2_looksAt 99 = .ok (.iaload, 1) := dk_46 (dk_at dksX2_looksAt_4 6 rfl rfl)
theorem dX2_looksAt_100 : decode cX2_looksAt 100 = .ok (.if_icmp .ge 7, 3) := dk_162 0 7 (dk_at dksX2_looksAt_4 7 rfl rfl)
theorem dX2_looksAt_103 : decode cX2_looksAt 103 = .ok (.iconst 1, 1) := dk_4 (dk_at dksX2_looksAt_4 10 rfl rfl)
theorem dX2_looksAt_104 : decode cX2_looksAt 104 = .ok (.goto 4, 3) := dk_167 0 4 (dk_at dksX2_looksAt_4 11 rfl rfl)
theorem dX2_looksAt_107 : decode cX2_looksAt 107 = .ok (.iconst 0, 1) := dk_3 (dk_at dksX2_looksAt_4 14 rfl rfl)
theorem dX2_looksAt_108 : decode cX2_looksAt 108 = .ok (.istore 7, 2) := dk_54 7 (dk_at dksX2_looksAt_4 15 rfl rfl)
theorem dX2_looksAt_110 : decode cX2_looksAt 110 = .ok (.iload 7, 2) := dk_21 7 (dk_at dksX2_looksAt_4 17 rfl rfl)
theorem dX2_looksAt_112 : decode cX2_looksAt 112 = .ok (.ifCond .eq 22, 3) := dk_153 0 22 (dk_at dksX2_looksAt_4 19 rfl rfl)
theorem dX2_looksAt_115 : decode cX2_looksAt 115 = .ok (.aload_n 0, 1) := dk_42 (dk_at dksX2_looksAt_4 22 rfl rfl)
theorem dX2_looksAt_116 : decode cX2_looksAt 116 = .ok (.getfield 77, 3) := dk_180 0 77 (dk_at dksX2_looksAt_5 0 rfl rfl)
theorem dX2_looksAt_119 : decode cX2_looksAt 119 = .ok (.bipush 60, 2) := dk_16 60 (dk_at dksX2_looksAt_5 3 rfl rfl)
theorem dX2_looksAt_121 : decode cX2_looksAt 121 = .ok (.iload_n 1, 1) := dk_27 (dk_at dksX2_looksAt_5 5 rfl rfl)
theorem dX2_looksAt_122 : decode cX2_looksAt 122 = .ok (.imul, 1) := dk_104 (dk_at dksX2_looksAt_5 6 rfl rfl)
theorem dX2_looksAt_123 : decode cX2_looksAt 123 = .ok (.iconst 2, 1) := dk_5 (dk_at dksX2_looksAt_5 7 rfl rfl)
theorem dX2_looksAt_124 : decode cX2_looksAt 124 = .ok (.iload 4, 2) := dk_21 4 (dk_at dksX2_looksAt_5 8 rfl rfl)
theorem dX2_looksAt_126 : decode cX2_looksAt 126 = .ok (.imul, 1) := dk_104 (dk_at dksX2_looksAt_5 10 rfl rfl)
theorem dX2_looksAt_127 : decode cX2_looksAt 127 = .ok (.iadd, 1) := dk_96 (dk_at dksX2_looksAt_5 11 rfl rfl)
theorem dX2_looksAt_128 : decode cX2_looksAt 128 = .ok (.iconst 1, 1) := dk_4 (dk_at dksX2_looksAt_5 12 rfl rfl)
theorem dX2_looksAt_129 : decode cX2_looksAt 129 = .ok (.iadd, 1) := dk_96 (dk_at dksX2_looksAt_5 13 rfl rfl)
theorem dX2_looksAt_130 : decode cX2_looksAt 130 = .ok (.laload, 1) := dk_47 (dk_at dksX2_looksAt_5 14 rfl rfl)
theorem dX2_looksAt_131 : decode cX2_looksAt 131 = .ok (.goto 4, 3) := dk_167 0 4 (dk_at dksX2_looksAt_5 15 rfl rfl)
theorem dX2_looksAt_134 : decode cX2_looksAt 134 = .ok (.lconst 0, 1) := dk_9 (dk_at dksX2_looksAt_5 18 rfl rfl)
theorem dX2_looksAt_135 : decode cX2_looksAt 135 = .ok (.lstore 8, 2) := dk_55 8 (dk_at dksX2_looksAt_5 19 rfl rfl)
theorem dX2_looksAt_137 : decode cX2_looksAt 137 = .ok (.iload 7, 2) := dk_21 7 (dk_at dksX2_looksAt_5 21 rfl rfl)
theorem dX2_looksAt_139 : decode cX2_looksAt 139 = .ok (.ifCond .eq 18, 3) := dk_153 0 18 (dk_at dksX2_looksAt_6 0 rfl rfl)
theorem dX2_looksAt_142 : decode cX2_looksAt 142 = .ok (.aload_n 0, 1) := dk_42 (dk_at dksX2_looksAt_6 3 rfl rfl)
theorem dX2_looksAt_143 : decode cX2_looksAt 143 = .ok (.iload 4, 2) := dk_21 4 (dk_at dksX2_looksAt_6 4 rfl rfl)
theorem dX2_looksAt_145 : decode cX2_looksAt 145 = .ok (.iload_n 2, 1) := dk_28 (dk_at dksX2_looksAt_6 6 rfl rfl)
theorem dX2_looksAt_146 : decode cX2_looksAt 146 = .ok (.iload_n 3, 1) := dk_29 (dk_at dksX2_looksAt_6 7 rfl rfl)
theorem dX2_looksAt_147 : decode cX2_looksAt 147 = .ok (.lload 5, 2) := dk_22 5 (dk_at dksX2_looksAt_6 8 rfl rfl)
theorem dX2_looksAt_149 : decode cX2_looksAt 149 = .ok (.lload 8, 2) := dk_22 8 (dk_at dksX2_looksAt_6 10 rfl rfl)
theorem dX2_looksAt_151 : decode cX2_looksAt 151 = .ok (.invokevirtual 298, 3) := dk_182 1 42 (dk_at dksX2_looksAt_6 12 rfl rfl)
theorem dX2_looksAt_154 : decode cX2_looksAt 154 = .ok (.ifCond .ne 12, 3) := dk_154 0 12 (dk_at dksX2_looksAt_6 15 rfl rfl)
theorem dX2_looksAt_157 : decode cX2_looksAt 157 = .ok (.aload_n 0, 1) := dk_42 (dk_at dksX2_looksAt_6 18 rfl rfl)
theorem dX2_looksAt_158 : decode cX2_looksAt 158 = .ok (.iload 4, 2) := dk_21 4 (dk_at dksX2_looksAt_6 19 rfl rfl)
theorem dX2_looksAt_160 : decode cX2_looksAt 160 = .ok (.putfield 285, 3) := dk_181 1 29 (dk_at dksX2_looksAt_6 21 rfl rfl)
theorem dX2_looksAt_163 : decode cX2_looksAt 163 = .ok (.goto 135, 3) := dk_167 0 135 (dk_at dksX2_looksAt_7 0 rfl rfl)
theorem dX2_looksAt_166 : decode cX2_looksAt 166 = .ok (.aload_n 0, 1) := dk_42 (dk_at dksX2_looksAt_7 3 rfl rfl)
theorem dX2_looksAt_167 : decode cX2_looksAt 167 = .ok (.aload_n 0, 1) := dk_42 (dk_at dksX2_looksAt_7 4 rfl rfl)
theorem dX2_looksAt_168 : decode cX2_looksAt 168 = .ok (.getfield 288, 3) := dk_180 1 32 (dk_at dksX2_looksAt_7 5 rfl rfl)
theorem dX2_looksAt_171 : decode cX2_looksAt 171 = .ok (.ifCond .ge 27, 3) := dk_156 0 27 (dk_at dksX2_looksAt_7 8 rfl rfl)
theorem dX2_looksAt_174 : decode cX2_looksAt 174 = .ok (.aload_n 0, 1) := dk_42 (dk_at dksX2_looksAt_7 11 rfl rfl)
theorem dX2_looksAt_175 : decode cX2_looksAt 175 = .ok (.getfield 50, 3) := dk_180 0 50 (dk_at dksX2_looksAt_7 12 rfl rfl)
theorem dX2_looksAt_178 : decode cX2_looksAt 178 = .ok (.iload 4, 2) := dk_21 4 (dk_at dksX2_looksAt_7 15 rfl rfl)
theorem dX2_looksAt_180 : decode cX2_looksAt 180 = .ok (.iload_n 2, 1) := dk_28 (dk_at dksX2_looksAt_7 17 rfl rfl)
theorem dX2_looksAt_181 : decode cX2_looksAt 181 = .ok (.iload_n 3, 1) := dk_29 (dk_at dksX2_looksAt_7 18 rfl rfl)
theorem dX2_looksAt_182 : decode cX2_looksAt 182 = .ok (.invokestatic 207, 3) := dk_184 0 207 (dk_at dksX2_looksAt_7 19 rfl rfl)
theorem dX2_looksAt_185 : decode cX2_looksAt 185 = .ok (.iaload, 1) := dk_46 (dk_at dksX2_looksAt_7 22 rfl rfl)
theorem dX2_looksAt_186 : decode cX2_looksAt 186 = .ok (.i2l, 1) := dk_133 (dk_at dksX2_looksAt_7 23 rfl rfl)
theorem dX2_looksAt_187 : decode cX2_looksAt 187 = .ok (.lload 5, 2) := dk_22 5 (dk_at dksX2_looksAt_8 0 rfl rfl)
theorem dX2_looksAt_189 : decode cX2_looksAt 189 = .ok (.lcmp, 1) := dk_148 (dk_at dksX2_looksAt_8 2 rfl rfl)
theorem dX2_looksAt_190 : decode cX2_looksAt 190 = .ok (.ifCond .eq 8, 3) := dk_153 0 8 (dk_at dksX2_looksAt_8 3 rfl rfl)
theorem dX2_looksAt_193 : decode cX2_looksAt 193 = .ok (.iload 4, 2) := dk_21 4 (dk_at dksX2_looksAt_8 6 rfl rfl)
theorem dX2_looksAt_195 : decode cX2_looksAt 195 = .ok (.goto 7, 3) := dk_167 0 7 (dk_at dksX2_looksAt_8 8 rfl rfl)
theorem dX2_looksAt_198 : decode cX2_looksAt 198 = .ok (.aload_n 0, 1) := dk_42 (dk_at dksX2_looksAt_8 11 rfl rfl)
theorem dX2_looksAt_199 : decode cX2_looksAt 199 = .ok (.getfield 288, 3) := dk_180 1 32 (dk_at dksX2_looksAt_8 12 rfl rfl)
theorem dX2_looksAt_202 : decode cX2_looksAt 202 = .ok (.putfield 288, 3) := dk_181 1 32 (dk_at dksX2_looksAt_8 15 rfl rfl)
theorem dX2_looksAt_205 : decode cX2_looksAt 205 = .ok (.lload 5, 2) := dk_22 5 (dk_at dksX2_looksAt_8 18 rfl rfl)
theorem dX2_looksAt_207 : decode cX2_looksAt 207 = .ok (.ldc2_w 137, 3) := dk_20 0 137 (dk_at dksX2_looksAt_8 20 rfl rfl)
theorem dX2_looksAt_210 : decode cX2_looksAt 210 = .ok (.lcmp, 1) := dk_148 (dk_at dksX2_looksAt_8 23 rfl rfl)
theorem dX2_looksAt_211 : decode cX2_looksAt 211 = .ok (.ifCond .eq 59, 3) := dk_153 0 59 (dk_at dksX2_looksAt_9 0 rfl rfl)
theorem dX2_looksAt_214 : decode cX2_looksAt 214 = .ok (.aload_n 0, 1) := dk_42 (dk_at dksX2_looksAt_9 3 rfl rfl)
theorem dX2_looksAt_215 : decode cX2_looksAt 215 = .ok (.iload_n 3, 1) := dk_29 (dk_at dksX2_looksAt_9 4 rfl rfl)
theorem dX2_looksAt_216 : decode cX2_looksAt 216 = .ok (.lload 5, 2) := dk_22 5 (dk_at dksX2_looksAt_9 5 rfl rfl)
theorem dX2_looksAt_218 : decode cX2_looksAt 218 = .ok (.l2i, 1) := dk_136 (dk_at dksX2_looksAt_9 7 rfl rfl)
theorem dX2_looksAt_219 : decode cX2_looksAt 219 = .ok (.iload_n 2, 1) := dk_28 (dk_at dksX2_looksAt_9 8 rfl rfl)
theorem dX2_looksAt_220 : decode cX2_looksAt 220 = .ok (.invokestatic 197, 3) := dk_184 0 197 (dk_at dksX2_looksAt_9 9 rfl rfl)
theorem dX2_looksAt_223 : decode cX2_looksAt 223 = .ok (.iload 4, 2) := dk_21 4 (dk_at dksX2_looksAt_9 12 rfl rfl)
theorem dX2_looksAt_225 : decode cX2_looksAt 225 = .ok (.invokevirtual 211, 3) := dk_182 0 211 (dk_at dksX2_looksAt_9 14 rfl rfl)
theorem dX2_looksAt_228 : decode cX2_looksAt 228 = .ok (.istore 10, 2) := dk_54 10 (dk_at dksX2_looksAt_9 17 rfl rfl)
theorem dX2_looksAt_230 : decode cX2_looksAt 230 = .ok (.aload_n 0, 1) := dk_42 (dk_at dksX2_looksAt_9 19 rfl rfl)
theorem dX2_looksAt_231 : decode cX2_looksAt 231 = .ok (.dup, 1) := dk_89 (dk_at dksX2_looksAt_9 20 rfl rfl)
theorem dX2_looksAt_232 : decode cX2_looksAt 232 = .ok (.getfield 291, 3) := dk_180 1 35 (dk_at dksX2_looksAt_9 21 rfl rfl)
theorem dX2_looksAt_235 : decode cX2_looksAt 235 = .ok (.lload 8, 2) := dk_22 8 (dk_at dksX2_looksAt_10 0 rfl rfl)
theorem dX2_looksAt_237 : decode cX2_looksAt 237 = .ok (.lconst 1, 1) := dk_10 (dk_at dksX2_looksAt_10 2 rfl rfl)
theorem dX2_looksAt_238 : decode cX2_looksAt 238 = .ok (.lcmp, 1) := dk_148 (dk_at dksX2_looksAt_10 3 rfl rfl)
theorem dX2_looksAt_239 : decode cX2_looksAt 239 = .ok (.ifCond .ne 9, 3) := dk_154 0 9 (dk_at dksX2_looksAt_10 4 rfl rfl)
theorem dX2_looksAt_242 : decode cX2_looksAt 242 = .ok (.iload 10, 2) := dk_21 10 (dk_at dksX2_looksAt_10 7 rfl rfl)
theorem dX2_looksAt_244 : decode cX2_looksAt 244 = .ok (.i2l, 1) := dk_133 (dk_at dksX2_looksAt_10 9 rfl rfl)
theorem dX2_looksAt_245 : decode cX2_looksAt 245 = .ok (.goto 9, 3) := dk_167 0 9 (dk_at dksX2_looksAt_10 10 rfl rfl)
theorem dX2_looksAt_248 : decode cX2_looksAt 248 = .ok (.bipush 12, 2) := dk_16 12 (dk_at dksX2_looksAt_10 13 rfl rfl)
theorem dX2_looksAt_250 : decode cX2_looksAt 250 = .ok (.iload 10, 2) := dk_21 10 (dk_at dksX2_looksAt_10 15 rfl rfl)
theorem dX2_looksAt_252 : decode cX2_looksAt 252 = .ok (.isub, 1) := dk_100 (dk_at dksX2_looksAt_10 17 rfl rfl)
theorem dX2_looksAt_253 : decode cX2_looksAt 253 = .ok (.i2l, 1) := dk_133 (dk_at dksX2_looksAt_10 18 rfl rfl)
theorem dX2_looksAt_254 : decode cX2_looksAt 254 = .ok (.lmul, 1) := dk_105 (dk_at dksX2_looksAt_10 19 rfl rfl)
theorem dX2_looksAt_255 : decode cX2_looksAt 255 = .ok (.putfield 291, 3) := dk_181 1 35 (dk_at dksX2_looksAt_10 20 rfl rfl)
theorem dX2_looksAt_258 : decode cX2_looksAt 258 = .ok (.aload_n 0, 1) := dk_42 (dk_at dksX2_looksAt_10 23 rfl rfl)
theorem dX2_looksAt_259 : decode cX2_looksAt 259 = .ok (.dup, 1) := dk_89 (dk_at dksX2_looksAt_11 0 rfl rfl)
theorem dX2_looksAt_260 : decode cX2_looksAt 260 = .ok (.getfield 295, 3) := dk_180 1 39 (dk_at dksX2_looksAt_11 1 rfl rfl)
theorem dX2_looksAt_263 : decode cX2_looksAt 263 = .ok (.ldc2_w 103, 3) := dk_20 0 103 (dk_at dksX2_looksAt_11 4 rfl rfl)
theorem dX2_looksAt_266 : decode cX2_looksAt 266 = .ok (.lmul, 1) := dk_105 (dk_at dksX2_looksAt_11 7 rfl rfl)
theorem dX2_looksAt_267 : decode cX2_looksAt 267 = .ok (.putfield 295, 3) := dk_181 1 39 (dk_at dksX2_looksAt_11 8 rfl rfl)
theorem dX2_looksAt_270 : decode cX2_looksAt 270 = .ok (.lload 8, 2) := dk_22 8 (dk_at dksX2_looksAt_11 11 rfl rfl)
theorem dX2_looksAt_272 : decode cX2_looksAt 272 = .ok (.lconst 1, 1) := dk_10 (dk_at dksX2_looksAt_11 13 rfl rfl)
theorem dX2_looksAt_273 : decode cX2_looksAt 273 = .ok (.lcmp, 1) := dk_148 (dk_at dksX2_looksAt_11 14 rfl rfl)
theorem dX2_looksAt_274 : decode cX2_looksAt 274 = .ok (.ifCond .ne 15, 3) := dk_154 0 15 (dk_at dksX2_looksAt_11 15 rfl rfl)
theorem dX2_looksAt_277 : decode cX2_looksAt 277 = .ok (.iload_n 2, 1) := dk_28 (dk_at dksX2_looksAt_11 18 rfl rfl)
theorem dX2_looksAt_278 : decode cX2_looksAt 278 = .ok (.iconst 1, 1) := dk_4 (dk_at dksX2_looksAt_11 19 rfl rfl)
theorem dX2_looksAt_279 : decode cX2_looksAt 279 = .ok (.lload 5, 2) := dk_22 5 (dk_at dksX2_looksAt_11 20 rfl rfl)
theorem dX2_looksAt_281 : decode cX2_looksAt 281 = .ok (.l2i, 1) := dk_136 (dk_at dksX2_looksAt_11 22 rfl rfl)
theorem dX2_looksAt_282 : decode cX2_looksAt 282 = .ok (.ishl, 1) := dk_120 (dk_at dksX2_looksAt_11 23 rfl rfl)
theorem dX2_looksAt_283 : decode cX2_looksAt 283 = .ok (.iconst (-1), 1) := dk_2 (dk_at dksX2_looksAt_12 0 rfl rfl)
theorem dX2_looksAt_284 : decode cX2_looksAt 284 = .ok (.ixor, 1) := dk_130 (dk_at dksX2_looksAt_12 1 rfl rfl)
theorem dX2_looksAt_285 : decode cX2_looksAt 285 = .ok (.iand, 1) := dk_126 (dk_at dksX2_looksAt_12 2 rfl rfl)
theorem dX2_looksAt_286 : decode cX2_looksAt 286 = .ok (.goto 4, 3) := dk_167 0 4 (dk_at dksX2_looksAt_12 3 rfl rfl)
theorem dX2_looksAt_289 : decode cX2_looksAt 289 = .ok (.iload_n 2, 1) := dk_28 (dk_at dksX2_looksAt_12 6 rfl rfl)
theorem dX2_looksAt_290 : decode cX2_looksAt 290 = .ok (.istore_n 2, 1) := dk_61 (dk_at dksX2_looksAt_12 7 rfl rfl)
theorem dX2_looksAt_291 : decode cX2_looksAt 291 = .ok (.aload_n 0, 1) := dk_42 (dk_at dksX2_looksAt_12 8 rfl rfl)
theorem dX2_looksAt_292 : decode cX2_looksAt 292 = .ok (.iload_n 3, 1) := dk_29 (dk_at dksX2_looksAt_12 9 rfl rfl)
theorem dX2_looksAt_293 : decode cX2_looksAt 293 = .ok (.iload_n 2, 1) := dk_28 (dk_at dksX2_looksAt_12 10 rfl rfl)
theorem dX2_looksAt_294 : decode cX2_looksAt 294 = .ok (.invokevirtual 204, 3) := dk_182 0 204 (dk_at dksX2_looksAt_12 11 rfl rfl)
theorem dX2_looksAt_297 : decode cX2_looksAt 297 = .ok (.istore_n 3, 1) := dk_62 (dk_at dksX2_looksAt_12 14 rfl rfl)
theorem dX2_looksAt_298 : decode cX2_looksAt 298 = .ok (.iinc 4 1, 3) := dk_132 4 1 (dk_at dksX2_looksAt_12 15 rfl rfl)
theorem dX2_looksAt_301 : decode cX2_looksAt 301 = .ok (.goto (-249), 3) := dk_167 255 7 (dk_at dksX2_looksAt_12 18 rfl rfl)
theorem dX2_looksAt_304 : decode cX2_looksAt 304 = .ok (.return_, 1) := dk_177 (dk_at dksX2_looksAt_12 21 rfl rfl)
abbrev cX2_mayThrow : ByteArray := prog_31_method_63_code
def yX2_mayThrow : MethodName := ⟨RX2, "mayThrow", "(IIIJJ)Z"⟩
def dkwX2_mayThrow_5 : List UInt8 := [162, 0, 7, 4, 167, 0, 4, 3, 172]
abbrev dktX2_mayThrow_5 : List UInt8 := dkwX2_mayThrow_5 ++ []
def dkwX2_mayThrow_4 : List UInt8 := [22, 6, 10, 148, 154, 0, 16, 21, 8, 158, 0, 7, 4, 167, 0, 19, 3, 167, 0, 15, 21, 8, 16, 12]
abbrev dktX2_mayThrow_4 : List UInt8 := dkwX2_mayThrow_4 ++ dktX2_mayThrow_5
def dkwX2_mayThrow_3 : List UInt8 := [184, 0, 133, 154, 0, 5, 3, 172, 42, 29, 22, 4, 136, 28, 184, 0, 197, 27, 182, 0, 211, 54, 8]
abbrev dktX2_mayThrow_3 : List UInt8 := dkwX2_mayThrow_3 ++ dktX2_mayThrow_4
def dkwX2_mayThrow_2 : List UInt8 := [180, 0, 96, 4, 100, 133, 184, 0, 99, 153, 0, 21, 22, 4, 29, 133, 148, 153, 0, 13, 28, 22, 4, 136]
abbrev dktX2_mayThrow_2 : List UInt8 := dkwX2_mayThrow_2 ++ dktX2_mayThrow_3
def dkwX2_mayThrow_1 : List UInt8 := [20, 0, 137, 148, 154, 0, 16, 22, 6, 9, 148, 154, 0, 7, 4, 167, 0, 4, 3, 172, 22, 4, 9, 42]
abbrev dktX2_mayThrow_1 : List UInt8 := dkwX2_mayThrow_1 ++ dktX2_mayThrow_2
def dkwX2_mayThrow_0 : List UInt8 := [42, 27, 28, 182, 0, 228, 154, 0, 13, 22, 6, 9, 10, 184, 0, 99, 154, 0, 5, 3, 172, 22, 4]
abbrev dktX2_mayThrow_0 : List UInt8 := dkwX2_mayThrow_0 ++ dktX2_mayThrow_1
theorem dksX2_mayThrow_0 : cX2_mayThrow.data.toList.drop 0 = dktX2_mayThrow_0 := by decide +kernel
theorem dksX2_mayThrow_1 : cX2_mayThrow.data.toList.drop 23 = dktX2_mayThrow_1 := dk_seg dksX2_mayThrow_0 23 rfl rfl
theorem dksX2_mayThrow_2 : cX2_mayThrow.data.toList.drop 47 = dktX2_mayThrow_2 := dk_seg dksX2_mayThrow_1 24 rfl rfl
theorem dksX2_mayThrow_3 : cX2_mayThrow.data.toList.drop 71 = dktX2_mayThrow_3 := dk_seg dksX2_mayThrow_2 24 rfl rfl
theorem dksX2_mayThrow_4 : cX2_mayThrow.data.toList.drop 94 = dktX2_mayThrow_4 := dk_seg dksX2_mayThrow_3 23 rfl rfl
theorem dksX2_mayThrow_5 : cX2_mayThrow.data.toList.drop 118 = dktX2_mayThrow_5 := dk_seg dksX2_mayThrow_4 24 rfl rfl
theorem dX2_mayThrow_0 : decode cX2_mayThrow 0 = .ok (.aload_n 0, 1) := dk_42 (dk_at dksX2_mayThrow_0 0 rfl rfl)
theorem dX2_mayThrow_1 : decode cX2_mayThrow 1 = .ok (.iload_n 1, 1) := dk_27 (dk_at dksX2_mayThrow_0 1 rfl rfl)
theorem dX2_mayThrow_2 : decode cX2_mayThrow 2 = .ok (.iload_n 2, 1) := dk_28 (dk_at dksX2_mayThrow_0 2 rfl rfl)
theorem dX2_mayThrow_3 : decode cX2_mayThrow 3 = .ok (.invokevirtual 228, 3) := dk_182 0 228 (dk_at dksX2_mayThrow_0 3 rfl rfl)
theorem dX2_mayThrow_6 : decode cX2_mayThrow 6 = .ok (.ifCond .ne 13, 3) := dk_154 0 13 (dk_at dksX2_mayThrow_0 6 rfl rfl)
theorem dX2_mayThrow_9 : decode cX2_mayThrow 9 = .ok (.lload 6, 2) := dk_22 6 (dk_at dksX2_mayThrow_0 9 rfl rfl)
theorem dX2_mayThrow_11 : decode cX2_mayThrow 11 = .ok (.lconst 0, 1) := dk_9 (dk_at dksX2_mayThrow_0 11 rfl rfl)
theorem dX2_mayThrow_12 : decode cX2_mayThrow 12 = .ok (.lconst 1, 1) := dk_10 (dk_at dksX2_mayThrow_0 12 rfl rfl)
theorem dX2_mayThrow_13 : decode cX2_mayThrow 13 = .ok (.invokestatic 99, 3) := dk_184 0 99 (dk_at dksX2_mayThrow_0 13 rfl rfl)
theorem dX2_mayThrow_16 : decode cX2_mayThrow 16 = .ok (.ifCond .ne 5, 3) := dk_154 0 5 (dk_at dksX2_mayThrow_0 16 rfl rfl)
theorem dX2_mayThrow_19 : decode cX2_mayThrow 19 = .ok (.iconst 0, 1) := dk_3 (dk_at dksX2_mayThrow_0 19 rfl rfl)
theorem dX2_mayThrow_20 : decode cX2_mayThrow 20 = .ok (.ireturn, 1) := dk_172 (dk_at dksX2_mayThrow_0 20 rfl rfl)
theorem dX2_mayThrow_21 : decode cX2_mayThrow 21 = .ok (.lload 4, 2) := dk_22 4 (dk_at dksX2_mayThrow_0 21 rfl rfl)
theorem dX2_mayThrow_23 : decode cX2_mayThrow 23 = .ok (.ldc2_w 137, 3) := dk_20 0 137 (dk_at dksX2_mayThrow_1 0 rfl rfl)
theorem dX2_mayThrow_26 : decode cX2_mayThrow 26 = .ok (.lcmp, 1) := dk_148 (dk_at dksX2_mayThrow_1 3 rfl rfl)
theorem dX2_mayThrow_27 : decode cX2_mayThrow 27 = .ok (.ifCond .ne 16, 3) := dk_154 0 16 (dk_at dksX2_mayThrow_1 4 rfl rfl)
theorem dX2_mayThrow_30 : decode cX2_mayThrow 30 = .ok (.lload 6, 2) := dk_22 6 (dk_at dksX2_mayThrow_1 7 rfl rfl)
theorem dX2_mayThrow_32 : decode cX2_mayThrow 32 = .ok (.lconst 0, 1) := dk_9 (dk_at dksX2_mayThrow_1 9 rfl rfl)
theorem dX2_mayThrow_33 : decode cX2_mayThrow 33 = .ok (.lcmp, 1) := dk_148 (dk_at dksX2_mayThrow_1 10 rfl rfl)
theorem dX2_mayThrow_34 : decode cX2_mayThrow 34 = .ok (.ifCond .ne 7, 3) := dk_154 0 7 (dk_at dksX2_mayThrow_1 11 rfl rfl)
theorem dX2_mayThrow_37 : decode cX2_mayThrow 37 = .ok (.iconst 1, 1) := dk_4 (dk_at dksX2_mayThrow_1 14 rfl rfl)
theorem dX2_mayThrow_38 : decode cX2_mayThrow 38 = .ok (.goto 4, 3) := dk_167 0 4 (dk_at dksX2_mayThrow_1 15 rfl rfl)
theorem dX2_mayThrow_41 : decode cX2_mayThrow 41 = .ok (.iconst 0, 1) := dk_3 (dk_at dksX2_mayThrow_1 18 rfl rfl)
theorem dX2_mayThrow_42 : decode cX2_mayThrow 42 = .ok (.ireturn, 1) := dk_172 (dk_at dksX2_mayThrow_1 19 rfl rfl)
theorem dX2_mayThrow_43 : decode cX2_mayThrow 43 = .ok (.lload 4, 2) := dk_22 4 (dk_at dksX2_mayThrow_1 20 rfl rfl)
theorem dX2_mayThrow_45 : decode cX2_mayThrow 45 = .ok (.lconst 0, 1) := dk_9 (dk_at dksX2_mayThrow_1 22 rfl rfl)
theorem dX2_mayThrow_46 : decode cX2_mayThrow 46 = .ok (.aload_n 0, 1) := dk_42 (dk_at dksX2_mayThrow_1 23 rfl rfl)
theorem dX2_mayThrow_47 : decode cX2_mayThrow 47 = .ok (.getfield 96, 3) := dk_180 0 96 (dk_at dksX2_mayThrow_2 0 rfl rfl)
theorem dX2_mayThrow_50 : decode cX2_mayThrow 50 = .ok (.iconst 1, 1) := dk_4 (dk_at dksX2_mayThrow_2 3 rfl rfl)
theorem dX2_mayThrow_51 : decode cX2_mayThrow 51 = .ok (.isub, 1) := dk_100 (dk_at dksX2_mayThrow_2 4 rfl rfl)
theorem dX2_mayThrow_52 : decode cX2_mayThrow 52 = .ok (.i2l, 1) := dk_133 (dk_at dksX2_mayThrow_2 5 rfl rfl)
theorem dX2_mayThrow_53 : decode cX2_mayThrow 53 = .ok (.invokestatic 99, 3) := dk_184 0 99 (dk_at dksX2_mayThrow_2 6 rfl rfl)
theorem dX2_mayThrow_56 : decode cX2_mayThrow 56 = .ok (.ifCond .eq 21, 3) := dk_153 0 21 (dk_at dksX2_mayThrow_2 9 rfl rfl)
theorem dX2_mayThrow_59 : decode cX2_mayThrow 59 = .ok (.lload 4, 2) := dk_22 4 (dk_at dksX2_mayThrow_2 12 rfl rfl)
theorem dX2_mayThrow_61 : decode cX2_mayThrow 61 = .ok (.iload_n 3, 1) := dk_29 (dk_at dksX2_mayThrow_2 14 rfl rfl)
theorem dX2_mayThrow_62 : decode cX2_mayThrow 62 = .ok (.i2l, 1) := dk_133 (dk_at dksX2_mayThrow_2 15 rfl rfl)
theorem dX2_mayThrow_63 : decode cX2_mayThrow 63 = .ok (.lcmp, 1) := dk_148 (dk_at dksX2_mayThrow_2 16 rfl rfl)
theorem dX2_mayThrow_64 : decode cX2_mayThrow 64 = .ok (.ifCond .eq 13, 3) := dk_153 0 13 (dk_at dksX2_mayThrow_2 17 rfl rfl)
theorem dX2_mayThrow_67 : decode cX2_mayThrow 67 = .ok (.iload_n 2, 1) := dk_28 (dk_at dksX2_mayThrow_2 20 rfl rfl)
theorem dX2_mayThrow_68 : decode cX2_mayThrow 68 = .ok (.lload 4, 2) := dk_22 4 (dk_at dksX2_mayThrow_2 21 rfl rfl)
theorem dX2_mayThrow_70 : decode cX2_mayThrow 70 = .ok (.l2i, 1) := dk_136 (dk_at dksX2_mayThrow_2 23 rfl rfl)
theorem dX2_mayThrow_71 : decode cX2_mayThrow 71 = .ok (.invokestatic 133, 3) := dk_184 0 133 (dk_at dksX2_mayThrow_3 0 rfl rfl)
theorem dX2_mayThrow_74 : decode cX2_mayThrow 74 = .ok (.ifCond .ne 5, 3) := dk_154 0 5 (dk_at dksX2_mayThrow_3 3 rfl rfl)
theorem dX2_mayThrow_77 : decode cX2_mayThrow 77 = .ok (.iconst 0, 1) := dk_3 (dk_at dksX2_mayThrow_3 6 rfl rfl)
theorem dX2_mayThrow_78 : decode cX2_mayThrow 78 = .ok (.ireturn, 1) := dk_172 (dk_at dksX2_mayThrow_3 7 rfl rfl)
theorem dX2_mayThrow_79 : decode cX2_mayThrow 79 = .ok (.aload_n 0, 1) := dk_42 (dk_at dksX2_mayThrow_3 8 rfl rfl)
theorem dX2_mayThrow_80 : decode cX2_mayThrow 80 = .ok (.iload_n 3, 1) := dk_29 (dk_at dksX2_mayThrow_3 9 rfl rfl)
theorem dX2_mayThrow_81 : decode cX2_mayThrow 81 = .ok (.lload 4, 2) := dk_22 4 (dk_at dksX2_mayThrow_3 10 rfl rfl)
theorem dX2_mayThrow_83 : decode cX2_mayThrow 83 = .ok (.l2i, 1) := dk_136 (dk_at dksX2_mayThrow_3 12 rfl rfl)
theorem dX2_mayThrow_84 : decode cX2_mayThrow 84 = .ok (.iload_n 2, 1) := dk_28 (dk_at dksX2_mayThrow_3 13 rfl rfl)
theorem dX2_mayThrow_85 : decode cX2_mayThrow 85 = .ok (.invokestatic 197, 3) := dk_184 0 197 (dk_at dksX2_mayThrow_3 14 rfl rfl)
theorem dX2_mayThrow_88 : decode cX2_mayThrow 88 = .ok (.iload_n 1, 1) := dk_27 (dk_at dksX2_mayThrow_3 17 rfl rfl)
theorem dX2_mayThrow_89 : decode cX2_mayThrow 89 = .ok (.invokevirtual 211, 3) := dk_182 0 211 (dk_at dksX2_mayThrow_3 18 rfl rfl)
theorem dX2_mayThrow_92 : decode cX2_mayThrow 92 = .ok (.istore 8, 2) := dk_54 8 (dk_at dksX2_mayThrow_3 21 rfl rfl)
theorem dX2_mayThrow_94 : decode cX2_mayThrow 94 = .ok (.lload 6, 2) := dk_22 6 (dk_at dksX2_mayThrow_4 0 rfl rfl)
theorem dX2_mayThrow_96 : decode cX2_mayThrow 96 = .ok (.lconst 1, 1) := dk_10 (dk_at dksX2_mayThrow_4 2 rfl rfl)
theorem dX2_mayThrow_97 : decode cX2_mayThrow 97 = .ok (.lcmp, 1) := dk_148 (dk_at dksX2_mayThrow_4 3 rfl rfl)
theorem dX2_mayThrow_98 : decode cX2_mayThrow 98 = .ok (.ifCond .ne 16, 3) := dk_154 0 16 (dk_at dksX2_mayThrow_4 4 rfl rfl)
theorem dX2_mayThrow_101 : decode cX2_mayThrow 101 = .ok (.iload 8, 2) := dk_21 8 (dk_at dksX2_mayThrow_4 7 rfl rfl)
theorem dX2_mayThrow_103 : decode cX2_mayThrow 103 = .ok (.ifCond .le 7, 3) := dk_158 0 7 (dk_at dksX2_mayThrow_4 9 rfl rfl)
theorem dX2_mayThrow_106 : decode cX2_mayThrow 106 = .ok (.iconst 1, 1) := dk_4 (dk_at dksX2_mayThrow_4 12 rfl rfl)
theorem dX2_mayThrow_107 : decode cX2_mayThrow 107 = .ok (.goto 19, 3) := dk_167 0 19 (dk_at dksX2_mayThrow_4 13 rfl rfl)
theorem dX2_mayThrow_110 : decode cX2_mayThrow 110 = .ok (.iconst 0, 1) := dk_3 (dk_at dksX2_mayThrow_4 16 rfl rfl)
theorem dX2_mayThrow_111 : decode cX2_mayThrow 111 = .ok (.goto 15, 3) := dk_167 0 15 (dk_at dksX2_mayThrow_4 17 rfl rfl)
theorem dX2_mayThrow_114 : decode cX2_mayThrow 114 = .ok (.iload 8, 2) := dk_21 8 (dk_at dksX2_mayThrow_4 20 rfl rfl)
theorem dX2_mayThrow_116 : decode cX2_mayThrow 116 = .ok (.bipush 12, 2) := dk_16 12 (dk_at dksX2_mayThrow_4 22 rfl rfl)
theorem dX2_mayThrow_118 : decode cX2_mayThrow 118 = .ok (.if_icmp .ge 7, 3) := dk_162 0 7 (dk_at dksX2_mayThrow_5 0 rfl rfl)
theorem dX2_mayThrow_121 : decode cX2_mayThrow 121 = .ok (.iconst 1, 1) := dk_4 (dk_at dksX2_mayThrow_5 3 rfl rfl)
theorem dX2_mayThrow_122 : decode cX2_mayThrow 122 = .ok (.goto 4, 3) := dk_167 0 4 (dk_at dksX2_mayThrow_5 4 rfl rfl)
theorem dX2_mayThrow_125 : decode cX2_mayThrow 125 = .ok (.iconst 0, 1) := dk_3 (dk_at dksX2_mayThrow_5 7 rfl rfl)
theorem dX2_mayThrow_126 : decode cX2_mayThrow 126 = .ok (.ireturn, 1) := dk_172 (dk_at dksX2_mayThrow_5 8 rfl rfl)
abbrev cX2_chance : ByteArray := prog_31_method_66_code
def yX2_chance : MethodName := ⟨RX2, "chance", "(II)J"⟩
def dkwX2_chance_3 : List UInt8 := [167, 0, 9, 42, 180, 1, 39, 33, 109, 173]
abbrev dktX2_chance_3 : List UInt8 := dkwX2_chance_3 ++ []
def dkwX2_chance_2 : List UInt8 := [42, 180, 1, 35, 42, 180, 1, 39, 184, 0, 252, 66, 28, 154, 0, 12, 42, 180, 1, 35, 33, 109]
abbrev dktX2_chance_2 : List UInt8 := dkwX2_chance_2 ++ dktX2_chance_3
def dkwX2_chance_1 : List UInt8 := [16, 50, 159, 0, 7, 20, 1, 4, 173, 42, 27, 182, 1, 46, 42, 180, 1, 29, 155, 0, 6, 28, 133, 173]
abbrev dktX2_chance_1 : List UInt8 := dkwX2_chance_1 ++ dktX2_chance_2
def dkwX2_chance_0 : List UInt8 := [27, 184, 0, 118, 153, 0, 24, 28, 133, 9, 10, 184, 0, 99, 153, 0, 14, 42, 180, 0, 71, 27, 46]
abbrev dktX2_chance_0 : List UInt8 := dkwX2_chance_0 ++ dktX2_chance_1
theorem dksX2_chance_0 : cX2_chance.data.toList.drop 0 = dktX2_chance_0 := by decide +kernel
theorem dksX2_chance_1 : cX2_chance.data.toList.drop 23 = dktX2_chance_1 := dk_seg dksX2_chance_0 23 rfl rfl
theorem dksX2_chance_2 : cX2_chance.data.toList.drop 47 = dktX2_chance_2 := dk_seg dksX2_chance_1 24 rfl rfl
theorem dksX2_chance_3 : cX2_chance.data.toList.drop 69 = dktX2_chance_3 := dk_seg dksX2_chance_2 22 rfl rfl
theorem dX2_chance_0 : decode cX2_chance 0 = .ok (.iload_n 1, 1) := dk_27 (dk_at dksX2_chance_0 0 rfl rfl)
theorem dX2_chance_1 : decode cX2_chance 1 = .ok (.invokestatic 118, 3) := dk_184 0 118 (dk_at dksX2_chance_0 1 rfl rfl)
theorem dX2_chance_4 : decode cX2_chance 4 = .ok (.ifCond .eq 24, 3) := dk_153 0 24 (dk_at dksX2_chance_0 4 rfl rfl)
theorem dX2_chance_7 : decode cX2_chance 7 = .ok (.iload_n 2, 1) := dk_28 (dk_at dksX2_chance_0 7 rfl rfl)
theorem dX2_chance_8 : decode cX2_chance 8 = .ok (.i2l, 1) := dk_133 (dk_at dksX2_chance_0 8 rfl rfl)
theorem dX2_chance_9 : decode cX2_chance 9 = .ok (.lconst 0, 1) := dk_9 (dk_at dksX2_chance_0 9 rfl rfl)
theorem dX2_chance_10 : decode cX2_chance 10 = .ok (.lconst 1, 1) := dk_10 (dk_at dksX2_chance_0 10 rfl rfl)
theorem dX2_chance_11 : decode cX2_chance 11 = .ok (.invokestatic 99, 3) := dk_184 0 99 (dk_at dksX2_chance_0 11 rfl rfl)
theorem dX2_chance_14 : decode cX2_chance 14 = .ok (.ifCond .eq 14, 3) := dk_153 0 14 (dk_at dksX2_chance_0 14 rfl rfl)
theorem dX2_chance_17 : decode cX2_chance 17 = .ok (.aload_n 0, 1) := dk_42 (dk_at dksX2_chance_0 17 rfl rfl)
theorem dX2_chance_18 : decode cX2_chance 18 = .ok (.getfield 71, 3) := dk_180 0 71 (dk_at dksX2_chance_0 18 rfl rfl)
theorem dX2_chance_21 : decode cX2_chance 21 = .ok (.iload_n 1, 1) := dk_27 (dk_at dksX2_chance_0 21 rfl rfl)
theorem dX2_chance_22 : decode cX2_chance 22 = .ok (.iaload, 1) := dk_46 (dk_at dksX2_chance_0 22 rfl rfl)
theorem dX2_chance_23 : decode cX2_chance 23 = .ok (.bipush 50, 2) := dk_16 50 (dk_at dksX2_chance_1 0 rfl rfl)
theorem dX2_chance_25 : decode cX2_chance 25 = .ok (.if_icmp .eq 7, 3) := dk_159 0 7 (dk_at dksX2_chance_1 2 rfl rfl)
theorem dX2_chance_28 : decode cX2_chance 28 = .ok (.ldc2_w 260, 3) := dk_20 1 4 (dk_at dksX2_chance_1 5 rfl rfl)
theorem dX2_chance_31 : decode cX2_chance 31 = .ok (.lreturn, 1) := dk_173 (dk_at dksX2_chance_1 8 rfl rfl)
theorem dX2_chance_32 : decode cX2_chance 32 = .ok (.aload_n 0, 1) := dk_42 (dk_at dksX2_chance_1 9 rfl rfl)
theorem dX2_chance_33 : decode cX2_chance 33 = .ok (.iload_n 1, 1) := dk_27 (dk_at dksX2_chance_1 10 rfl rfl)
theorem dX2_chance_34 : decode cX2_chance 34 = .ok (.invokevirtual 302, 3) := dk_182 1 46 (dk_at dksX2_chance_1 11 rfl rfl)
theorem dX2_chance_37 : decode cX2_chance 37 = .ok (.aload_n 0, 1) := dk_42 (dk_at dksX2_chance_1 14 rfl rfl)
theorem dX2_chance_38 : decode cX2_chance 38 = .ok (.getfield 285, 3) := dk_180 1 29 (dk_at dksX2_chance_1 15 rfl rfl)
theorem dX2_chance_41 : decode cX2_chance 41 = .ok (.ifCond .lt 6, 3) := dk_155 0 6 (dk_at dksX2_chance_1 18 rfl rfl)
theorem dX2_chance_44 : decode cX2_chance 44 = .ok (.iload_n 2, 1) := dk_28 (dk_at dksX2_chance_1 21 rfl rfl)
theorem dX2_chance_45 : decode cX2_chance 45 = .ok (.i2l, 1) := dk_133 (dk_at dksX2_chance_1 22 rfl rfl)
theorem dX2_chance_46 : decode cX2_chance 46 = .ok (.lreturn, 1) := dk_173 (dk_at dksX2_chance_1 23 rfl rfl)
theorem dX2_chance_47 : decode cX2_chance 47 = .ok (.aload_n 0, 1) := dk_42 (dk_at dksX2_chance_2 0 rfl rfl)
theorem dX2_chance_48 : decode cX2_chance 48 = .ok (.getfield 291, 3) := dk_180 1 35 (dk_at dksX2_chance_2 1 rfl rfl)
theorem dX2_chance_51 : decode cX2_chance 51 = .ok (.aload_n 0, 1) := dk_42 (dk_at dksX2_chance_2 4 rfl rfl)
theorem dX2_chance_52 : decode cX2_chance 52 = .ok (.getfield 295, 3) := dk_180 1 39 (dk_at dksX2_chance_2 5 rfl rfl)
theorem dX2_chance_55 : decode cX2_chance 55 = .ok (.invokestatic 252, 3) := dk_184 0 252 (dk_at dksX2_chance_2 8 rfl rfl)
theorem dX2_chance_58 : decode cX2_chance 58 = .ok (.lstore_n 3, 1) := dk_66 (dk_at dksX2_chance_2 11 rfl rfl)
theorem dX2_chance_59 : decode cX2_chance 59 = .ok (.iload_n 2, 1) := dk_28 (dk_at dksX2_chance_2 12 rfl rfl)
theorem dX2_chance_60 : decode cX2_chance 60 = .ok (.ifCond .ne 12, 3) := dk_154 0 12 (dk_at dksX2_chance_2 13 rfl rfl)
theorem dX2_chance_63 : decode cX2_chance 63 = .ok (.aload_n 0, 1) := dk_42 (dk_at dksX2_chance_2 16 rfl rfl)
theorem dX2_chance_64 : decode cX2_chance 64 = .ok (.getfield 291, 3) := dk_180 1 35 (dk_at dksX2_chance_2 17 rfl rfl)
theorem dX2_chance_67 : decode cX2_chance 67 = .ok (.lload_n 3, 1) := dk_33 (dk_at dksX2_chance_2 20 rfl rfl)
theorem dX2_chance_68 : decode cX2_chance 68 = .ok (.ldiv, 1) := dk_109 (dk_at dksX2_chance_2 21 rfl rfl)
theorem dX2_chance_69 : decode cX2_chance 69 = .ok (.goto 9, 3) := dk_167 0 9 (dk_at dksX2_chance_3 0 rfl rfl)
theorem dX2_chance_72 : decode cX2_chance 72 = .ok (.aload_n 0, 1) := dk_42 (dk_at dksX2_chance_3 3 rfl rfl)
theorem dX2_chance_73 : decode cX2_chance 73 = .ok (.getfield 295, 3) := dk_180 1 39 (dk_at dksX2_chance_3 4 rfl rfl)
theorem dX2_chance_76 : decode cX2_chance 76 = .ok (.lload_n 3, 1) := dk_33 (dk_at dksX2_chance_3 7 rfl rfl)
theorem dX2_chance_77 : decode cX2_chance 77 = .ok (.ldiv, 1) := dk_109 (dk_at dksX2_chance_3 8 rfl rfl)
theorem dX2_chance_78 : decode cX2_chance 78 = .ok (.lreturn, 1) := dk_173 (dk_at dksX2_chance_3 9 rfl rfl)
abbrev cX2_seen : ByteArray := prog_31_method_67_code
def yX2_seen : MethodName := ⟨RX2, "seen", "(II)I"⟩
def dkwX2_seen_5 : List UInt8 := [167, 255, 173, 29, 172]
abbrev dktX2_seen_5 : List UInt8 := dkwX2_seen_5 ++ []
def dkwX2_seen_4 : List UInt8 := [29, 62, 22, 7, 22, 4, 148, 158, 0, 8, 22, 7, 167, 0, 5, 22, 4, 55, 4, 132, 6, 1]
abbrev dktX2_seen_4 : List UInt8 := dkwX2_seen_4 ++ dktX2_seen_5
def dkwX2_seen_3 : List UInt8 := [100, 133, 105, 55, 7, 132, 9, 1, 167, 255, 224, 22, 7, 22, 4, 148, 158, 0, 8, 21, 6, 167, 0, 4]
abbrev dktX2_seen_3 : List UInt8 := dkwX2_seen_3 ++ dktX2_seen_4
def dkwX2_seen_2 : List UInt8 := [21, 9, 28, 162, 0, 32, 22, 7, 21, 9, 27, 162, 0, 9, 21, 6, 133, 167, 0, 9, 16, 12, 21, 6]
abbrev dktX2_seen_2 : List UInt8 := dkwX2_seen_2 ++ dktX2_seen_3
def dkwX2_seen_1 : List UInt8 := [172, 3, 62, 20, 1, 18, 55, 4, 3, 54, 6, 21, 6, 16, 12, 163, 0, 82, 10, 55, 7, 3, 54, 9]
abbrev dktX2_seen_1 : List UInt8 := dkwX2_seen_1 ++ dktX2_seen_2
def dkwX2_seen_0 : List UInt8 := [28, 133, 9, 20, 0, 103, 184, 0, 99, 153, 0, 14, 27, 133, 9, 28, 133, 184, 0, 99, 154, 0, 5, 2]
abbrev dktX2_seen_0 : List UInt8 := dkwX2_seen_0 ++ dktX2_seen_1
theorem dksX2_seen_0 : cX2_seen.data.toList.drop 0 = dktX2_seen_0 := by decide +kernel
theorem dksX2_seen_1 : cX2_seen.data.toList.drop 24 = dktX2_seen_1 := dk_seg dksX2_seen_0 24 rfl rfl
theorem dksX2_seen_2 : cX2_seen.data.toList.drop 48 = dktX2_seen_2 := dk_seg dksX2_seen_1 24 rfl rfl
theorem dksX2_seen_3 : cX2_seen.data.toList.drop 72 = dktX2_seen_3 := dk_seg dksX2_seen_2 24 rfl rfl
theorem dksX2_seen_4 : cX2_seen.data.toList.drop 96 = dktX2_seen_4 := dk_seg dksX2_seen_3 24 rfl rfl
theorem dksX2_seen_5 : cX2_seen.data.toList.drop 118 = dktX2_seen_5 := dk_seg dksX2_seen_4 22 rfl rfl
theorem dX2_seen_0 : decode cX2_seen 0 = .ok (.iload_n 2, 1) := dk_28 (dk_at dksX2_seen_0 0 rfl rfl)
theorem dX2_seen_1 : decode cX2_seen 1 = .ok (.i2l, 1) := dk_133 (dk_at dksX2_seen_0 1 rfl rfl)
theorem dX2_seen_2 : decode cX2_seen 2 = .ok (.lconst 0, 1) := dk_9 (dk_at dksX2_seen_0 2 rfl rfl)
theorem dX2_seen_3 : decode cX2_seen 3 = .ok (.ldc2_w 103, 3) := dk_20 0 103 (dk_at dksX2_seen_0 3 rfl rfl)
theorem dX2_seen_6 : decode cX2_seen 6 = .ok (.invokestatic 99, 3) := dk_184 0 99 (dk_at dksX2_seen_0 6 rfl rfl)
theorem dX2_seen_9 : decode cX2_seen 9 = .ok (.ifCond .eq 14, 3) := dk_153 0 14 (dk_at dksX2_seen_0 9 rfl rfl)
theorem dX2_seen_12 : decode cX2_seen 12 = .ok (.iload_n 1, 1) := dk_27 (dk_at dksX2_seen_0 12 rfl rfl)
theorem dX2_seen_13 : decode cX2_seen 13 = .ok (.i2l, 1) := dk_133 (dk_at dksX2_seen_0 13 rfl rfl)
theorem dX2_seen_14 : decode cX2_seen 14 = .ok (.lconst 0, 1) := dk_9 (dk_at dksX2_seen_0 14 rfl rfl)
theorem dX2_seen_15 : decode cX2_seen 15 = .ok (.iload_n 2, 1) := dk_28 (dk_at dksX2_seen_0 15 rfl rfl)
theorem dX2_seen_16 : decode cX2_seen 16 = .ok (.i2l, 1) := dk_133 (dk_at dksX2_seen_0 16 rfl rfl)
theorem dX2_seen_17 : decode cX2_seen 17 = .ok (.invokestatic 99, 3) := dk_184 0 99 (dk_at dksX2_seen_0 17 rfl rfl)
theorem dX2_seen_20 : decode cX2_seen 20 = .ok (.ifCond .ne 5, 3) := dk_154 0 5 (dk_at dksX2_seen_0 20 rfl rfl)
theorem dX2_seen_23 : decode cX2_seen 23 = .ok (.iconst (-1), 1) := dk_2 (dk_at dksX2_seen_0 23 rfl rfl)
theorem dX2_seen_24 : decode cX2_seen 24 = .ok (.ireturn, 1) := dk_172 (dk_at dksX2_seen_1 0 rfl rfl)
theorem dX2_seen_25 : decode cX2_seen 25 = .ok (.iconst 0, 1) := dk_3 (dk_at dksX2_seen_1 1 rfl rfl)
theorem dX2_seen_26 : decode cX2_seen 26 = .ok (.istore_n 3, 1) := dk_62 (dk_at dksX2_seen_1 2 rfl rfl)
theorem dX2_seen_27 : decode cX2_seen 27 = .ok (.ldc2_w 274, 3) := dk_20 1 18 (dk_at dksX2_seen_1 3 rfl rfl)
theorem dX2_seen_30 : decode cX2_seen 30 = .ok (.lstore 4, 2) := dk_55 4 (dk_at dksX2_seen_1 6 rfl rfl)
theorem dX2_seen_32 : decode cX2_seen 32 = .ok (.iconst 0, 1) := dk_3 (dk_at dksX2_seen_1 8 rfl rfl)
theorem dX2_seen_33 : decode cX2_seen 33 = .ok (.istore 6, 2) := dk_54 6 (dk_at dksX2_seen_1 9 rfl rfl)
theorem dX2_seen_35 : decode cX2_seen 35 = .ok (.iload 6, 2) := dk_21 6 (dk_at dksX2_seen_1 11 rfl rfl)
theorem dX2_seen_37 : decode cX2_seen 37 = .ok (.bipush 12, 2) := dk_16 12 (dk_at dksX2_seen_1 13 rfl rfl)
theorem dX2_seen_39 : decode cX2_seen 39 = .ok (.if_icmp .gt 82, 3) := dk_163 0 82 (dk_at dksX2_seen_1 15 rfl rfl)
theorem dX2_seen_42 : decode cX2_seen 42 = .ok (.lconst 1, 1) := dk_10 (dk_at dksX2_seen_1 18 rfl rfl)
theorem dX2_seen_43 : decode cX2_seen 43 = .ok (.lstore 7, 2) := dk_55 7 (dk_at dksX2_seen_1 19 rfl rfl)
theorem dX2_seen_45 : decode cX2_seen 45 = .ok (.iconst 0, 1) := dk_3 (dk_at dksX2_seen_1 21 rfl rfl)
theorem dX2_seen_46 : decode cX2_seen 46 = .ok (.istore 9, 2) := dk_54 9 (dk_at dksX2_seen_1 22 rfl rfl)
theorem dX2_seen_48 : decode cX2_seen 48 = .ok (.iload 9, 2) := dk_21 9 (dk_at dksX2_seen_2 0 rfl rfl)
theorem dX2_seen_50 : decode cX2_seen 50 = .ok (.iload_n 2, 1) := dk_28 (dk_at dksX2_seen_2 2 rfl rfl)
theorem dX2_seen_51 : decode cX2_seen 51 = .ok (.if_icmp .ge 32, 3) := dk_162 0 32 (dk_at dksX2_seen_2 3 rfl rfl)
theorem dX2_seen_54 : decode cX2_seen 54 = .ok (.lload 7, 2) := dk_22 7 (dk_at dksX2_seen_2 6 rfl rfl)
theorem dX2_seen_56 : decode cX2_seen 56 = .ok (.iload 9, 2) := dk_21 9 (dk_at dksX2_seen_2 8 rfl rfl)
theorem dX2_seen_58 : decode cX2_seen 58 = .ok (.iload_n 1, 1) := dk_27 (dk_at dksX2_seen_2 10 rfl rfl)
theorem dX2_seen_59 : decode cX2_seen 59 = .ok (.if_icmp .ge 9, 3) := dk_162 0 9 (dk_at dksX2_seen_2 11 rfl rfl)
theorem dX2_seen_62 : decode cX2_seen 62 = .ok (.iload 6, 2) := dk_21 6 (dk_at dksX2_seen_2 14 rfl rfl)
theorem dX2_seen_64 : decode cX2_seen 64 = .ok (.i2l, 1) := dk_133 (dk_at dksX2_seen_2 16 rfl rfl)
theorem dX2_seen_65 : decode cX2_seen 65 = .ok (.goto 9, 3) := dk_167 0 9 (dk_at dksX2_seen_2 17 rfl rfl)
theorem dX2_seen_68 : decode cX2_seen 68 = .ok (.bipush 12, 2) := dk_16 12 (dk_at dksX2_seen_2 20 rfl rfl)
theorem dX2_seen_70 : decode cX2_seen 70 = .ok (.iload 6, 2) := dk_21 6 (dk_at dksX2_seen_2 22 rfl rfl)
theorem dX2_seen_72 : decode cX2_seen 72 = .ok (.isub, 1) := dk_100 (dk_at dksX2_seen_3 0 rfl rfl)
theorem dX2_seen_73 : decode cX2_seen 73 = .ok (.i2l, 1) := dk_133 (dk_at dksX2_seen_3 1 rfl rfl)
theorem dX2_seen_74 : decode cX2_seen 74 = .ok (.lmul, 1) := dk_105 (dk_at dksX2_seen_3 2 rfl rfl)
theorem dX2_seen_75 : decode cX2_seen 75 = .ok (.lstore 7, 2) := dk_55 7 (dk_at dksX2_seen_3 3 rfl rfl)
theorem dX2_seen_77 : decode cX2_seen 77 = .ok (.iinc 9 1, 3) := dk_132 9 1 (dk_at dksX2_seen_3 5 rfl rfl)
theorem dX2_seen_80 : decode cX2_seen 80 = .ok (.goto (-32), 3) := dk_167 255 224 (dk_at dksX2_seen_3 8 rfl rfl)
theorem dX2_seen_83 : decode cX2_seen 83 = .ok (.lload 7, 2) := dk_22 7 (dk_at dksX2_seen_3 11 rfl rfl)
theorem dX2_seen_85 : decode cX2_seen 85 = .ok (.lload 4, 2) := dk_22 4 (dk_at dksX2_seen_3 13 rfl rfl)
theorem dX2_seen_87 : decode cX2_seen 87 = .ok (.lcmp, 1) := dk_148 (dk_at dksX2_seen_3 15 rfl rfl)
theorem dX2_seen_88 : decode cX2_seen 88 = .ok (.ifCond .le 8, 3) := dk_158 0 8 (dk_at dksX2_seen_3 16 rfl rfl)
theorem dX2_seen_91 : decode cX2_seen 91 = .ok (.iload 6, 2) := dk_21 6 (dk_at dksX2_seen_3 19 rfl rfl)
theorem dX2_seen_93 : decode cX2_seen 93 = .ok (.goto 4, 3) := dk_167 0 4 (dk_at dksX2_seen_3 21 rfl rfl)
theorem dX2_seen_96 : decode cX2_seen 96 = .ok (.iload_n 3, 1) := dk_29 (dk_at dksX2_seen_4 0 rfl rfl)
theorem dX2_seen_97 : decode cX2_seen 97 = .ok (.istore_n 3, 1) := dk_62 (dk_at dksX2_seen_4 1 rfl rfl)
theorem dX2_seen_98 : decode cX2_seen 98 = .ok (.lload 7, 2) := dk_22 7 (dk_at dksX2_seen_4 2 rfl rfl)
theorem dX2_seen_100 : decode cX2_seen 100 = .ok (.lload 4, 2) := dk_22 4 (dk_at dksX2_seen_4 4 rfl rfl)
theorem dX2_seen_102 : decode cX2_seen 102 = .ok (.lcmp, 1) := dk_148 (dk_at dksX2_seen_4 6 rfl rfl)
theorem dX2_seen_103 : decode cX2_seen 103 = .ok (.ifCond .le 8, 3) := dk_158 0 8 (dk_at dksX2_seen_4 7 rfl rfl)
theorem dX2_seen_106 : decode cX2_seen 106 = .ok (.lload 7, 2) := dk_22 7 (dk_at dksX2_seen_4 10 rfl rfl)
theorem dX2_seen_108 : decode cX2_seen 108 = .ok (.goto 5, 3) := dk_167 0 5 (dk_at dksX2_seen_4 12 rfl rfl)
theorem dX2_seen_111 : decode cX2_seen 111 = .ok (.lload 4, 2) := dk_22 4 (dk_at dksX2_seen_4 15 rfl rfl)
theorem dX2_seen_113 : decode cX2_seen 113 = .ok (.lstore 4, 2) := dk_55 4 (dk_at dksX2_seen_4 17 rfl rfl)
theorem dX2_seen_115 : decode cX2_seen 115 = .ok (.iinc 6 1, 3) := dk_132 6 1 (dk_at dksX2_seen_4 19 rfl rfl)
theorem dX2_seen_118 : decode cX2_seen 118 = .ok (.goto (-83), 3) := dk_167 255 173 (dk_at dksX2_seen_5 0 rfl rfl)
theorem dX2_seen_121 : decode cX2_seen 121 = .ok (.iload_n 3, 1) := dk_29 (dk_at dksX2_seen_5 3 rfl rfl)
theorem dX2_seen_122 : decode cX2_seen 122 = .ok (.ireturn, 1) := dk_172 (dk_at dksX2_seen_5 4 rfl rfl)
abbrev cX2_drawn : ByteArray := prog_31_method_68_code
def yX2_drawn : MethodName := ⟨RX2, "drawn", "(III)I"⟩
def dkwX2_drawn_7 : List UInt8 := [184, 0, 133, 153, 0, 7, 4, 167, 0, 4, 3, 96, 54, 5, 132, 6, 1, 167, 255, 110, 21, 5, 172]
abbrev dktX2_drawn_7 : List UInt8 := dkwX2_drawn_7 ++ []
def dkwX2_drawn_6 : List UInt8 := [54, 7, 42, 21, 8, 21, 7, 182, 0, 204, 54, 8, 132, 9, 1, 167, 255, 158, 21, 5, 21, 7, 29]
abbrev dktX2_drawn_6 : List UInt8 := dkwX2_drawn_6 ++ dktX2_drawn_7
def dkwX2_drawn_5 : List UInt8 := [46, 162, 0, 20, 21, 7, 4, 42, 180, 0, 50, 21, 10, 46, 120, 2, 130, 126, 167, 0, 5, 21, 7]
abbrev dktX2_drawn_5 : List UInt8 := dkwX2_drawn_5 ++ dktX2_drawn_6
def dkwX2_drawn_4 : List UInt8 := [19, 1, 52, 104, 17, 48, 57, 96, 54, 4, 21, 4, 16, 8, 124, 16, 12, 112, 42, 180, 0, 53, 21, 10]
abbrev dktX2_drawn_4 : List UInt8 := dkwX2_drawn_4 ++ dktX2_drawn_5
def dkwX2_drawn_3 : List UInt8 := [21, 7, 21, 8, 184, 0, 207, 54, 10, 42, 180, 0, 50, 21, 10, 46, 16, 9, 159, 0, 54, 21, 4]
abbrev dktX2_drawn_3 : List UInt8 := dkwX2_drawn_3 ++ dktX2_drawn_4
def dkwX2_drawn_2 : List UInt8 := [42, 180, 0, 22, 3, 46, 54, 8, 3, 54, 9, 42, 21, 9, 21, 7, 182, 0, 228, 154, 0, 93, 21, 9]
abbrev dktX2_drawn_2 : List UInt8 := dkwX2_drawn_2 ++ dktX2_drawn_3
def dkwX2_drawn_1 : List UInt8 := [182, 0, 241, 27, 54, 4, 3, 54, 5, 3, 54, 6, 21, 6, 28, 162, 0, 146, 42, 182, 0, 225, 54, 7]
abbrev dktX2_drawn_1 : List UInt8 := dkwX2_drawn_1 ++ dktX2_drawn_2
def dkwX2_drawn_0 : List UInt8 := [28, 133, 10, 20, 1, 50, 184, 0, 99, 153, 0, 11, 42, 29, 182, 0, 124, 154, 0, 5, 2, 172, 42]
abbrev dktX2_drawn_0 : List UInt8 := dkwX2_drawn_0 ++ dktX2_drawn_1
theorem dksX2_drawn_0 : cX2_drawn.data.toList.drop 0 = dktX2_drawn_0 := by decide +kernel
theorem dksX2_drawn_1 : cX2_drawn.data.toList.drop 23 = dktX2_drawn_1 := dk_seg dksX2_drawn_0 23 rfl rfl
theorem dksX2_drawn_2 : cX2_drawn.data.toList.drop 47 = dktX2_drawn_2 := dk_seg dksX2_drawn_1 24 rfl rfl
theorem dksX2_drawn_3 : cX2_drawn.data.toList.drop 71 = dktX2_drawn_3 := dk_seg dksX2_drawn_2 24 rfl rfl
theorem dksX2_drawn_4 : cX2_drawn.data.toList.drop 94 = dktX2_drawn_4 := dk_seg dksX2_drawn_3 23 rfl rfl
theorem dksX2_drawn_5 : cX2_drawn.data.toList.drop 118 = dktX2_drawn_5 := dk_seg dksX2_drawn_4 24 rfl rfl
theorem dksX2_drawn_6 : cX2_drawn.data.toList.drop 141 = dktX2_drawn_6 := dk_seg dksX2_drawn_5 23 rfl rfl
theorem dksX2_drawn_7 : cX2_drawn.data.toList.drop 164 = dktX2_drawn_7 := dk_seg dksX2_drawn_6 23 rfl rfl
theorem dX2_drawn_0 : decode cX2_drawn 0 = .ok (.iload_n 2, 1) := dk_28 (dk_at dksX2_drawn_0 0 rfl rfl)
theorem dX2_drawn_1 : decode cX2_drawn 1 = .ok (.i2l, 1) := dk_133 (dk_at dksX2_drawn_0 1 rfl rfl)
theorem dX2_drawn_2 : decode cX2_drawn 2 = .ok (.lconst 1, 1) := dk_10 (dk_at dksX2_drawn_0 2 rfl rfl)
theorem dX2_drawn_3 : decode cX2_drawn 3 = .ok (.ldc2_w 306, 3) := dk_20 1 50 (dk_at dksX2_drawn_0 3 rfl rfl)
theorem dX2_drawn_6 : decode cX2_drawn 6 = .ok (.invokestatic 99, 3) := dk_184 0 99 (dk_at dksX2_drawn_0 6 rfl rfl)
theorem dX2_drawn_9 : decode cX2_drawn 9 = .ok (.ifCond .eq 11, 3) := dk_153 0 11 (dk_at dksX2_drawn_0 9 rfl rfl)
theorem dX2_drawn_12 : decode cX2_drawn 12 = .ok (.aload_n 0, 1) := dk_42 (dk_at dksX2_drawn_0 12 rfl rfl)
theorem dX2_drawn_13 : decode cX2_drawn 13 = .ok (.iload_n 3, 1) := dk_29 (dk_at dksX2_drawn_0 13 rfl rfl)
theorem dX2_drawn_14 : decode cX2_drawn 14 = .ok (.invokevirtual 124, 3) := dk_182 0 124 (dk_at dksX2_drawn_0 14 rfl rfl)
theorem dX2_drawn_17 : decode cX2_drawn 17 = .ok (.ifCond .ne 5, 3) := dk_154 0 5 (dk_at dksX2_drawn_0 17 rfl rfl)
theorem dX2_drawn_20 : decode cX2_drawn 20 = .ok (.iconst (-1), 1) := dk_2 (dk_at dksX2_drawn_0 20 rfl rfl)
theorem dX2_drawn_21 : decode cX2_drawn 21 = .ok (.ireturn, 1) := dk_172 (dk_at dksX2_drawn_0 21 rfl rfl)
theorem dX2_drawn_22 : decode cX2_drawn 22 = .ok (.aload_n 0, 1) := dk_42 (dk_at dksX2_drawn_0 22 rfl rfl)
theorem dX2_drawn_23 : decode cX2_drawn 23 = .ok (.invokevirtual 241, 3) := dk_182 0 241 (dk_at dksX2_drawn_1 0 rfl rfl)
theorem dX2_drawn_26 : decode cX2_drawn 26 = .ok (.iload_n 1, 1) := dk_27 (dk_at dksX2_drawn_1 3 rfl rfl)
theorem dX2_drawn_27 : decode cX2_drawn 27 = .ok (.istore 4, 2) := dk_54 4 (dk_at dksX2_drawn_1 4 rfl rfl)
theorem dX2_drawn_29 : decode cX2_drawn 29 = .ok (.iconst 0, 1) := dk_3 (dk_at dksX2_drawn_1 6 rfl rfl)
theorem dX2_drawn_30 : decode cX2_drawn 30 = .ok (.istore 5, 2) := dk_54 5 (dk_at dksX2_drawn_1 7 rfl rfl)
theorem dX2_drawn_32 : decode cX2_drawn 32 = .ok (.iconst 0, 1) := dk_3 (dk_at dksX2_drawn_1 9 rfl rfl)
theorem dX2_drawn_33 : decode cX2_drawn 33 = .ok (.istore 6, 2) := dk_54 6 (dk_at dksX2_drawn_1 10 rfl rfl)
theorem dX2_drawn_35 : decode cX2_drawn 35 = .ok (.iload 6, 2) := dk_21 6 (dk_at dksX2_drawn_1 12 rfl rfl)
theorem dX2_drawn_37 : decode cX2_drawn 37 = .ok (.iload_n 2, 1) := dk_28 (dk_at dksX2_drawn_1 14 rfl rfl)
theorem dX2_drawn_38 : decode cX2_drawn 38 = .ok (.if_icmp .ge 146, 3) := dk_162 0 146 (dk_at dksX2_drawn_1 15 rfl rfl)
theorem dX2_drawn_41 : decode cX2_drawn 41 = .ok (.aload_n 0, 1) := dk_42 (dk_at dksX2_drawn_1 18 rfl rfl)
theorem dX2_drawn_42 : decode cX2_drawn 42 = .ok (.invokevirtual 225, 3) := dk_182 0 225 (dk_at dksX2_drawn_1 19 rfl rfl)
theorem dX2_drawn_45 : decode cX2_drawn 45 = .ok (.istore 7, 2) := dk_54 7 (dk_at dksX2_drawn_1 22 rfl rfl)
theorem dX2_drawn_47 : decode cX2_drawn 47 = .ok (.aload_n 0, 1) := dk_42 (dk_at dksX2_drawn_2 0 rfl rfl)
theorem dX2_drawn_48 : decode cX2_drawn 48 = .ok (.getfield 22, 3) := dk_180 0 22 (dk_at dksX2_drawn_2 1 rfl rfl)
theorem dX2_drawn_51 : decode cX2_drawn 51 = .ok (.iconst 0, 1) := dk_3 (dk_at dksX2_drawn_2 4 rfl rfl)
theorem dX2_drawn_52 : decode cX2_drawn 52 = .ok (.iaload, 1) := dk_46 (dk_at dksX2_drawn_2 5 rfl rfl)
theorem dX2_drawn_53 : decode cX2_drawn 53 = .ok (.istore 8, 2) := dk_54 8 (dk_at dksX2_drawn_2 6 rfl rfl)
theorem dX2_drawn_55 : decode cX2_drawn 55 = .ok (.iconst 0, 1) := dk_3 (dk_at dksX2_drawn_2 8 rfl rfl)
theorem dX2_drawn_56 : decode cX2_drawn 56 = .ok (.istore 9, 2) := dk_54 9 (dk_at dksX2_drawn_2 9 rfl rfl)
theorem dX2_drawn_58 : decode cX2_drawn 58 = .ok (.aload_n 0, 1) := dk_42 (dk_at dksX2_drawn_2 11 rfl rfl)
theorem dX2_drawn_59 : decode cX2_drawn 59 = .ok (.iload 9, 2) := dk_21 9 (dk_at dksX2_drawn_2 12 rfl rfl)
theorem dX2_drawn_61 : decode cX2_drawn 61 = .ok (.iload 7, 2) := dk_21 7 (dk_at dksX2_drawn_2 14 rfl rfl)
theorem dX2_drawn_63 : decode cX2_drawn 63 = .ok (.invokevirtual 228, 3) := dk_182 0 228 (dk_at dksX2_drawn_2 16 rfl rfl)
theorem dX2_drawn_66 : decode cX2_drawn 66 = .ok (.ifCond .ne 93, 3) := dk_154 0 93 (dk_at dksX2_drawn_2 19 rfl rfl)
theorem dX2_drawn_69 : decode cX2_drawn 69 = .ok (.iload 9, 2) := dk_21 9 (dk_at dksX2_drawn_2 22 rfl rfl)
theorem dX2_drawn_71 : decode cX2_drawn 71 = .ok (.iload 7, 2) := dk_21 7 (dk_at dksX2_drawn_3 0 rfl rfl)
theorem dX2_drawn_73 : decode cX2_drawn 73 = .ok (.iload 8, 2) := dk_21 8 (dk_at dksX2_drawn_3 2 rfl rfl)
theorem dX2_drawn_75 : decode cX2_drawn 75 = .ok (.invokestatic 207, 3) := dk_184 0 207 (dk_at dksX2_drawn_3 4 rfl rfl)
theorem dX2_drawn_78 : decode cX2_drawn 78 = .ok (.istore 10, 2) := dk_54 10 (dk_at dksX2_drawn_3 7 rfl rfl)
theorem dX2_drawn_80 : decode cX2_drawn 80 = .ok (.aload_n 0, 1) := dk_42 (dk_at dksX2_drawn_3 9 rfl rfl)
theorem dX2_drawn_81 : decode cX2_drawn 81 = .ok (.getfield 50, 3) := dk_180 0 50 (dk_at dksX2_drawn_3 10 rfl rfl)
theorem dX2_drawn_84 : decode cX2_drawn 84 = .ok (.iload 10, 2) := dk_21 10 (dk_at dksX2_drawn_3 13 rfl rfl)
theorem dX2_drawn_86 : decode cX2_drawn 86 = .ok (.iaload, 1) := dk_46 (dk_at dksX2_drawn_3 15 rfl rfl)
theorem dX2_drawn_87 : decode cX2_drawn 87 = .ok (.bipush 9, 2) := dk_16 9 (dk_at dksX2_drawn_3 16 rfl rfl)
theorem dX2_drawn_89 : decode cX2_drawn 89 = .ok (.if_icmp .eq 54, 3) := dk_159 0 54 (dk_at dksX2_drawn_3 18 rfl rfl)
theorem dX2_drawn_92 : decode cX2_drawn 92 = .ok (.iload 4, 2) := dk_21 4 (dk_at dksX2_drawn_3 21 rfl rfl)
theorem dX2_drawn_94 : decode cX2_drawn 94 = .ok (.ldc_w 308, 3) := dk_19 1 52 (dk_at dksX2_drawn_4 0 rfl rfl)
theorem dX2_drawn_97 : decode cX2_drawn 97 = .ok (.imul, 1) := dk_104 (dk_at dksX2_drawn_4 3 rfl rfl)
theorem dX2_drawn_98 : decode cX2_drawn 98 = .ok (.sipush 12345, 3) := dk_17 48 57 (dk_at dksX2_drawn_4 4 rfl rfl)
theorem dX2_drawn_101 : decode cX2_drawn 101 = .ok (.iadd, 1) := dk_96 (dk_at dksX2_drawn_4 7 rfl rfl)
theorem dX2_drawn_102 : decode cX2_drawn 102 = .ok (.istore 4, 2) := dk_54 4 (dk_at dksX2_drawn_4 8 rfl rfl)
theorem dX2_drawn_104 : decode cX2_drawn 104 = .ok (.iload 4, 2) := dk_21 4 (dk_at dksX2_drawn_4 10 rfl rfl)
theorem dX2_drawn_106 : decode cX2_drawn 106 = .ok (.bipush 8, 2) := dk_16 8 (dk_at dksX2_drawn_4 12 rfl rfl)
theorem dX2_drawn_108 : decode cX2_drawn 108 = .ok (.iushr, 1) := dk_124 (dk_at dksX2_drawn_4 14 rfl rfl)
theorem dX2_drawn_109 : decode cX2_drawn 109 = .ok (.bipush 12, 2) := dk_16 12 (dk_at dksX2_drawn_4 15 rfl rfl)
theorem dX2_drawn_111 : decode cX2_drawn 111 = .ok (.irem, 1) := dk_112 (dk_at dksX2_drawn_4 17 rfl rfl)
theorem dX2_drawn_112 : decode cX2_drawn 112 = .ok (.aload_n 0, 1) := dk_42 (dk_at dksX2_drawn_4 18 rfl rfl)
theorem dX2_drawn_113 : decode cX2_drawn 113 = .ok (.getfield 53, 3) := dk_180 0 53 (dk_at dksX2_drawn_4 19 rfl rfl)
theorem dX2_drawn_116 : decode cX2_drawn 116 = .ok (.iload 10, 2) := dk_21 10 (dk_at dksX2_drawn_4 22 rfl rfl)
theorem dX2_drawn_118 : decode cX2_drawn 118 = .ok (.iaload, 1) := dk_46 (dk_at dksX2_drawn_5 0 rfl rfl)
theorem dX2_drawn_119 : decode cX2_drawn 119 = .ok (.if_icmp .ge 20, 3) := dk_162 0 20 (dk_at dksX2_drawn_5 1 rfl rfl)
theorem dX2_drawn_122 : decode cX2_drawn 122 = .ok (.iload 7, 2) := dk_21 7 (dk_at dksX2_drawn_5 4 rfl rfl)
theorem dX2_drawn_124 : decode cX2_drawn 124 = .ok (.iconst 1, 1) := dk_4 (dk_at dksX2_drawn_5 6 rfl rfl)
theorem dX2_drawn_125 : decode cX2_drawn 125 = .ok (.aload_n 0, 1) := dk_42 (dk_at dksX2_drawn_5 7 rfl rfl)
theorem dX2_drawn_126 : decode cX2_drawn 126 = .ok (.getfield 50, 3) := dk_180 0 50 (dk_at dksX2_drawn_5 8 rfl rfl)
theorem dX2_drawn_129 : decode cX2_drawn 129 = .ok (.iload 10, 2) := dk_21 10 (dk_at dksX2_drawn_5 11 rfl rfl)
theorem dX2_drawn_131 : decode cX2_drawn 131 = .ok (.iaload, 1) := dk_46 (dk_at dksX2_drawn_5 13 rfl rfl)
theorem dX2_drawn_132 : decode cX2_drawn 132 = .ok (.ishl, 1) := dk_120 (dk_at dksX2_drawn_5 14 rfl rfl)
theorem dX2_drawn_133 : decode cX2_drawn 133 = .ok (.iconst (-1), 1) := dk_2 (dk_at dksX2_drawn_5 15 rfl rfl)
theorem dX2_drawn_134 : decode cX2_drawn 134 = .ok (.ixor, 1) := dk_130 (dk_at dksX2_drawn_5 16 rfl rfl)
theorem dX2_drawn_135 : decode cX2_drawn 135 = .ok (.iand, 1) := dk_126 (dk_at dksX2_drawn_5 17 rfl rfl)
theorem dX2_drawn_136 : decode cX2_drawn 136 = .ok (.goto 5, 3) := dk_167 0 5 (dk_at dksX2_drawn_5 18 rfl rfl)
theorem dX2_drawn_139 : decode cX2_drawn 139 = .ok (.iload 7, 2) := dk_21 7 (dk_at dksX2_drawn_5 21 rfl rfl)
theorem dX2_drawn_141 : decode cX2_drawn 141 = .ok (.istore 7, 2) := dk_54 7 (dk_at dksX2_drawn_6 0 rfl rfl)
theorem dX2_drawn_143 : decode cX2_drawn 143 = .ok (.aload_n 0, 1) := dk_42 (dk_at dksX2_drawn_6 2 rfl rfl)
theorem dX2_drawn_144 : decode cX2_drawn 144 = .ok (.iload 8, 2) := dk_21 8 (dk_at dksX2_drawn_6 3 rfl rfl)
theorem dX2_drawn_146 : decode cX2_drawn 146 = .ok (.iload 7, 2) := dk_21 7 (dk_at dksX2_drawn_6 5 rfl rfl)
theorem dX2_drawn_148 : decode cX2_drawn 148 = .ok (.invokevirtual 204, 3) := dk_182 0 204 (dk_at dksX2_drawn_6 7 rfl rfl)
theorem dX2_drawn_151 : decode cX2_drawn 151 = .ok (.istore 8, 2) := dk_54 8 (dk_at dksX2_drawn_6 10 rfl rfl)
theorem dX2_drawn_153 : decode cX2_drawn 153 = .ok (.iinc 9 1, 3) := dk_132 9 1 (dk_at dksX2_drawn_6 12 rfl rfl)
theorem dX2_drawn_156 : decode cX2_drawn 156 = .ok (.goto (-98), 3) := dk_167 255 158 (dk_at dksX2_drawn_6 15 rfl rfl)
theorem dX2_drawn_159 : decode cX2_drawn 159 = .ok (.iload 5, 2) := dk_21 5 (dk_at dksX2_drawn_6 18 rfl rfl)
theorem dX2_drawn_161 : decode cX2_drawn 161 = .ok (.iload 7, 2) := dk_21 7 (dk_at dksX2_drawn_6 20 rfl rfl)
theorem dX2_drawn_163 : decode cX2_drawn 163 = .ok (.iload_n 3, 1) := dk_29 (dk_at dksX2_drawn_6 22 rfl rfl)
theorem dX2_drawn_164 : decode cX2_drawn 164 = .ok (.invokestatic 133, 3) := dk_184 0 133 (dk_at dksX2_drawn_7 0 rfl rfl)
theorem dX2_drawn_167 : decode cX2_drawn 167 = .ok (.ifCond .eq 7, 3) := dk_153 0 7 (dk_at dksX2_drawn_7 3 rfl rfl)
theorem dX2_drawn_170 : decode cX2_drawn 170 = .ok (.iconst 1, 1) := dk_4 (dk_at dksX2_drawn_7 6 rfl rfl)
theorem dX2_drawn_171 : decode cX2_drawn 171 = .ok (.goto 4, 3) := dk_167 0 4 (dk_at dksX2_drawn_7 7 rfl rfl)
theorem dX2_drawn_174 : decode cX2_drawn 174 = .ok (.iconst 0, 1) := dk_3 (dk_at dksX2_drawn_7 10 rfl rfl)
theorem dX2_drawn_175 : decode cX2_drawn 175 = .ok (.iadd, 1) := dk_96 (dk_at dksX2_drawn_7 11 rfl rfl)
theorem dX2_drawn_176 : decode cX2_drawn 176 = .ok (.istore 5, 2) := dk_54 5 (dk_at dksX2_drawn_7 12 rfl rfl)
theorem dX2_drawn_178 : decode cX2_drawn 178 = .ok (.iinc 6 1, 3) := dk_132 6 1 (dk_at dksX2_drawn_7 14 rfl rfl)
theorem dX2_drawn_181 : decode cX2_drawn 181 = .ok (.goto (-146), 3) := dk_167 255 110 (dk_at dksX2_drawn_7 17 rfl rfl)
theorem dX2_drawn_184 : decode cX2_drawn 184 = .ok (.iload 5, 2) := dk_21 5 (dk_at dksX2_drawn_7 20 rfl rfl)
theorem dX2_drawn_186 : decode cX2_drawn 186 = .ok (.ireturn, 1) := dk_172 (dk_at dksX2_drawn_7 22 rfl rfl)
abbrev cX2_step : ByteArray := prog_31_method_70_code
def yX2_step : MethodName := ⟨RX2, "step", "(I)I"⟩
def dkwX2_step_7 : List UInt8 := [167, 0, 4, 29, 172]
abbrev dktX2_step_7 : List UInt8 := dkwX2_step_7 ++ []
def dkwX2_step_6 : List UInt8 := [182, 0, 204, 181, 1, 57, 42, 89, 180, 1, 60, 4, 96, 181, 1, 60, 21, 4, 153, 0, 9, 29, 4, 96]
abbrev dktX2_step_6 : List UInt8 := dkwX2_step_6 ++ dktX2_step_7
def dkwX2_step_5 : List UInt8 := [2, 130, 126, 167, 0, 7, 42, 180, 0, 139, 181, 0, 139, 42, 42, 42, 180, 1, 57, 42, 180, 0, 139]
abbrev dktX2_step_5 : List UInt8 := dkwX2_step_5 ++ dktX2_step_6
def dkwX2_step_4 : List UInt8 := [167, 0, 4, 3, 54, 4, 42, 21, 4, 153, 0, 21, 42, 180, 0, 139, 4, 42, 180, 0, 50, 28, 46, 120]
abbrev dktX2_step_4 : List UInt8 := dkwX2_step_4 ++ dktX2_step_5
def dkwX2_step_3 : List UInt8 := [62, 42, 180, 0, 50, 28, 46, 16, 9, 159, 0, 17, 27, 42, 180, 0, 53, 28, 46, 162, 0, 7, 4]
abbrev dktX2_step_3 : List UInt8 := dkwX2_step_3 ++ dktX2_step_4
def dkwX2_step_2 : List UInt8 := [180, 1, 57, 184, 0, 207, 61, 16, 100, 42, 180, 1, 57, 104, 16, 10, 42, 180, 0, 50, 28, 46, 104, 96]
abbrev dktX2_step_2 : List UInt8 := dkwX2_step_2 ++ dktX2_step_3
def dkwX2_step_1 : List UInt8 := [182, 0, 228, 153, 0, 6, 16, 251, 172, 42, 182, 0, 241, 42, 180, 1, 60, 42, 180, 0, 139, 42]
abbrev dktX2_step_1 : List UInt8 := dkwX2_step_1 ++ dktX2_step_2
def dkwX2_step_0 : List UInt8 := [27, 133, 9, 20, 1, 63, 184, 0, 99, 154, 0, 5, 2, 172, 42, 42, 180, 1, 60, 42, 180, 0, 139]
abbrev dktX2_step_0 : List UInt8 := dkwX2_step_0 ++ dktX2_step_1
theorem dksX2_step_0 : cX2_step.data.toList.drop 0 = dktX2_step_0 := by decide +kernel
theorem dksX2_step_1 : cX2_step.data.toList.drop 23 = dktX2_step_1 := dk_seg dksX2_step_0 23 rfl rfl
theorem dksX2_step_2 : cX2_step.data.toList.drop 45 = dktX2_step_2 := dk_seg dksX2_step_1 22 rfl rfl
theorem dksX2_step_3 : cX2_step.data.toList.drop 69 = dktX2_step_3 := dk_seg dksX2_step_2 24 rfl rfl
theorem dksX2_step_4 : cX2_step.data.toList.drop 92 = dktX2_step_4 := dk_seg dksX2_step_3 23 rfl rfl
theorem dksX2_step_5 : cX2_step.data.toList.drop 116 = dktX2_step_5 := dk_seg dksX2_step_4 24 rfl rfl
theorem dksX2_step_6 : cX2_step.data.toList.drop 139 = dktX2_step_6 := dk_seg dksX2_step_5 23 rfl rfl
theorem dksX2_step_7 : cX2_step.data.toList.drop 163 = dktX2_step_7 := dk_seg dksX2_step_6 24 rfl rfl
theorem dX2_step_0 : decode cX2_step 0 = .ok (.iload_n 1, 1) := dk_27 (dk_at dksX2_step_0 0 rfl rfl)
theorem dX2_step_1 : decode cX2_step 1 = .ok (.i2l, 1) := dk_133 (dk_at dksX2_step_0 1 rfl rfl)
theorem dX2_step_2 : decode cX2_step 2 = .ok (.lconst 0, 1) := dk_9 (dk_at dksX2_step_0 2 rfl rfl)
theorem dX2_step_3 : decode cX2_step 3 = .ok (.ldc2_w 319, 3) := dk_20 1 63 (dk_at dksX2_step_0 3 rfl rfl)
theorem dX2_step_6 : decode cX2_step 6 = .ok (.invokestatic 99, 3) := dk_184 0 99 (dk_at dksX2_step_0 6 rfl rfl)
theorem dX2_step_9 : decode cX2_step 9 = .ok (.ifCond .ne 5, 3) := dk_154 0 5 (dk_at dksX2_step_0 9 rfl rfl)
theorem dX2_step_12 : decode cX2_step 12 = .ok (.iconst (-1), 1) := dk_2 (dk_at dksX2_step_0 12 rfl rfl)
theorem dX2_step_13 : decode cX2_step 13 = .ok (.ireturn, 1) := dk_172 (dk_at dksX2_step_0 13 rfl rfl)
theorem dX2_step_14 : decode cX2_step 14 = .ok (.aload_n 0, 1) := dk_42 (dk_at dksX2_step_0 14 rfl rfl)
theorem dX2_step_15 : decode cX2_step 15 = .ok (.aload_n 0, 1) := dk_42 (dk_at dksX2_step_0 15 rfl rfl)
theorem dX2_step_16 : decode cX2_step 16 = .ok (.getfield 316, 3) := dk_180 1 60 (dk_at dksX2_step_0 16 rfl rfl)
theorem dX2_step_19 : decode cX2_step 19 = .ok (.aload_n 0, 1) := dk_42 (dk_at dksX2_step_0 19 rfl rfl)
theorem dX2_step_20 : decode cX2_step 20 = .ok (.getfield 139, 3) := dk_180 0 139 (dk_at dksX2_step_0 20 rfl rfl)
theorem dX2_step_23 : decode cX2_step 23 = .ok (.invokevirtual 228, 3) := dk_182 0 228 (dk_at dksX2_step_1 0 rfl rfl)
theorem dX2_step_26 : decode cX2_step 26 = .ok (.ifCond .eq 6, 3) := dk_153 0 6 (dk_at dksX2_step_1 3 rfl rfl)
theorem dX2_step_29 : decode cX2_step 29 = .ok (.bipush (-5), 2) := dk_16 251 (dk_at dksX2_step_1 6 rfl rfl)
theorem dX2_step_31 : decode cX2_step 31 = .ok (.ireturn, 1) := dk_172 (dk_at dksX2_step_1 8 rfl rfl)
theorem dX2_step_32 : decode cX2_step 32 = .ok (.aload_n 0, 1) := dk_42 (dk_at dksX2_step_1 9 rfl rfl)
theorem dX2_step_33 : decode cX2_step 33 = .ok (.invokevirtual 241, 3) := dk_182 0 241 (dk_at dksX2_step_1 10 rfl rfl)
theorem dX2_step_36 : decode cX2_step 36 = .ok (.aload_n 0, 1) := dk_42 (dk_at dksX2_step_1 13 rfl rfl)
theorem dX2_step_37 : decode cX2_step 37 = .ok (.getfield 316, 3) := dk_180 1 60 (dk_at dksX2_step_1 14 rfl rfl)
theorem dX2_step_40 : decode cX2_step 40 = .ok (.aload_n 0, 1) := dk_42 (dk_at dksX2_step_1 17 rfl rfl)
theorem dX2_step_41 : decode cX2_step 41 = .ok (.getfield 139, 3) := dk_180 0 139 (dk_at dksX2_step_1 18 rfl rfl)
theorem dX2_step_44 : decode cX2_step 44 = .ok (.aload_n 0, 1) := dk_42 (dk_at dksX2_step_1 21 rfl rfl)
theorem dX2_step_45 : decode cX2_step 45 = .ok (.getfield 313, 3) := dk_180 1 57 (dk_at dksX2_step_2 0 rfl rfl)
theorem dX2_step_48 : decode cX2_step 48 = .ok (.invokestatic 207, 3) := dk_184 0 207 (dk_at dksX2_step_2 3 rfl rfl)
theorem dX2_step_51 : decode cX2_step 51 = .ok (.istore_n 2, 1) := dk_61 (dk_at dksX2_step_2 6 rfl rfl)
theorem dX2_step_52 : decode cX2_step 52 = .ok (.bipush 100, 2) := dk_16 100 (dk_at dksX2_step_2 7 rfl rfl)
theorem dX2_step_54 : decode cX2_step 54 = .ok (.aload_n 0, 1) := dk_42 (dk_at dksX2_step_2 9 rfl rfl)
theorem dX2_step_55 : decode cX2_step 55 = .ok (.getfield 313, 3) := dk_180 1 57 (dk_at dksX2_step_2 10 rfl rfl)
theorem dX2_step_58 : decode cX2_step 58 = .ok (.imul, 1) := dk_104 (dk_at dksX2_step_2 13 rfl rfl)
theorem dX2_step_59 : decode cX2_step 59 = .ok (.bipush 10, 2) := dk_16 10 (dk_at dksX2_step_2 14 rfl rfl)
theorem dX2_step_61 : decode cX2_step 61 = .ok (.aload_n 0, 1) := dk_42 (dk_at dksX2_step_2 16 rfl rfl)
theorem dX2_step_62 : decode cX2_step 62 = .ok (.getfield 50, 3) := dk_180 0 50 (dk_at dksX2_step_2 17 rfl rfl)
theorem dX2_step_65 : decode cX2_step 65 = .ok (.iload_n 2, 1) := dk_28 (dk_at dksX2_step_2 20 rfl rfl)
theorem dX2_step_66 : decode cX2_step 66 = .ok (.iaload, 1) := dk_46 (dk_at dksX2_step_2 21 rfl rfl)
theorem dX2_step_67 : decode cX2_step 67 = .ok (.imul, 1) := dk_104 (dk_at dksX2_step_2 22 rfl rfl)
theorem dX2_step_68 : decode cX2_step 68 = .ok (.iadd, 1) := dk_96 (dk_at dksX2_step_2 23 rfl rfl)
theorem dX2_step_69 : decode cX2_step 69 = .ok (.istore_n 3, 1) := dk_62 (dk_at dksX2_step_3 0 rfl rfl)
theorem dX2_step_70 : decode cX2_step 70 = .ok (.aload_n 0, 1) := dk_42 (dk_at dksX2_step_3 1 rfl rfl)
theorem dX2_step_71 : decode cX2_step 71 = .ok (.getfield 50, 3) := dk_180 0 50 (dk_at dksX2_step_3 2 rfl rfl)
theorem dX2_step_74 : decode cX2_step 74 = .ok (.iload_n 2, 1) := dk_28 (dk_at dksX2_step_3 5 rfl rfl)
theorem dX2_step_75 : decode cX2_step 75 = .ok (.iaload, 1) := dk_46 (dk_at dksX2_step_3 6 rfl rfl)
theorem dX2_step_76 : decode cX2_step 76 = .ok (.bipush 9, 2) := dk_16 9 (dk_at dksX2_step_3 7 rfl rfl)
theorem dX2_step_78 : decode cX2_step 78 = .ok (.if_icmp .eq 17, 3) := dk_159 0 17 (dk_at dksX2_step_3 9 rfl rfl)
theorem dX2_step_81 : decode cX2_step 81 = .ok (.iload_n 1, 1) := dk_27 (dk_at dksX2_step_3 12 rfl rfl)
theorem dX2_step_82 : decode cX2_step 82 = .ok (.aload_n 0, 1) := dk_42 (dk_at dksX2_step_3 13 rfl rfl)
theorem dX2_step_83 : decode cX2_step 83 = .ok (.getfield 53, 3) := dk_180 0 53 (dk_at dksX2_step_3 14 rfl rfl)
theorem dX2_step_86 : decode cX2_step 86 = .ok (.iload_n 2, 1) := dk_28 (dk_at dksX2_step_3 17 rfl rfl)
theorem dX2_step_87 : decode cX2_step 87 = .ok (.iaload, 1) := dk_46 (dk_at dksX2_step_3 18 rfl rfl)
theorem dX2_step_88 : decode cX2_step 88 = .ok (.if_icmp .ge 7, 3) := dk_162 0 7 (dk_at dksX2_step_3 19 rfl rfl)
theorem dX2_step_91 : decode cX2_step 91 = .ok (.iconst 1, 1) := dk_4 (dk_at dksX2_step_3 22 rfl rfl)
theorem dX2_step_92 : decode cX2_step 92 = .ok (.goto 4, 3) := dk_167 0 4 (dk_at dksX2_step_4 0 rfl rfl)
theorem dX2_step_95 : decode cX2_step 95 = .ok (.iconst 0, 1) := dk_3 (dk_at dksX2_step_4 3 rfl rfl)
theorem dX2_step_96 : decode cX2_step 96 = .ok (.istore 4, 2) := dk_54 4 (dk_at dksX2_step_4 4 rfl rfl)
theorem dX2_step_98 : decode cX2_step 98 = .ok (.aload_n 0, 1) := dk_42 (dk_at dksX2_step_4 6 rfl rfl)
theorem dX2_step_99 : decode cX2_step 99 = .ok (.iload 4, 2) := dk_21 4 (dk_at dksX2_step_4 7 rfl rfl)
theorem dX2_step_101 : decode cX2_step 101 = .ok (.ifCond .eq 21, 3) := dk_153 0 21 (dk_at dksX2_step_4 9 rfl rfl)
theorem dX2_step_104 : decode cX2_step 104 = .ok (.aload_n 0, 1) := dk_42 (dk_at dksX2_step_4 12 rfl rfl)
theorem dX2_step_105 : decode cX2_step 105 = .ok (.getfield 139, 3) := dk_180 0 139 (dk_at dksX2_step_4 13 rfl rfl)
theorem dX2_step_108 : decode cX2_step 108 = .ok (.iconst 1, 1) := dk_4 (dk_at dksX2_step_4 16 rfl rfl)
theorem dX2_step_109 : decode cX2_step 109 = .ok (.aload_n 0, 1) := dk_42 (dk_at dksX2_step_4 17 rfl rfl)
theorem dX2_step_110 : decode cX2_step 110 = .ok (.getfield 50, 3) := dk_180 0 50 (dk_at dksX2_step_4 18 rfl rfl)
theorem dX2_step_113 : decode cX2_step 113 = .ok (.iload_n 2, 1) := dk_28 (dk_at dksX2_step_4 21 rfl rfl)
theorem dX2_step_114 : decode cX2_step 114 = .ok (.iaload, 1) := dk_46 (dk_at dksX2_step_4 22 rfl rfl)
theorem dX2_step_115 : decode cX2_step 115 = .ok (.ishl, 1) := dk_120 (dk_at dksX2_step_4 23 rfl rfl)
theorem dX2_step_116 : decode cX2_step 116 = .ok (.iconst (-1), 1) := dk_2 (dk_at dksX2_step_5 0 rfl rfl)
theorem dX2_step_117 : decode cX2_step 117 = .ok (.ixor, 1) := dk_130 (dk_at dksX2_step_5 1 rfl rfl)
theorem dX2_step_118 : decode cX2_step 118 = .ok (.iand, 1) := dk_126 (dk_at dksX2_step_5 2 rfl rfl)
theorem dX2_step_119 : decode cX2_step 119 = .ok (.goto 7, 3) := dk_167 0 7 (dk_at dksX2_step_5 3 rfl rfl)
theorem dX2_step_122 : decode cX2_step 122 = .ok (.aload_n 0, 1) := dk_42 (dk_at dksX2_step_5 6 rfl rfl)
theorem dX2_step_123 : decode cX2_step 123 = .ok (.getfield 139, 3) := dk_180 0 139 (dk_at dksX2_step_5 7 rfl rfl)
theorem dX2_step_126 : decode cX2_step 126 = .ok (.putfield 139, 3) := dk_181 0 139 (dk_at dksX2_step_5 10 rfl rfl)
theorem dX2_step_129 : decode cX2_step 129 = .ok (.aload_n 0, 1) := dk_42 (dk_at dksX2_step_5 13 rfl rfl)
theorem dX2_step_130 : decode cX2_step 130 = .ok (.aload_n 0, 1) := dk_42 (dk_at dksX2_step_5 14 rfl rfl)
theorem dX2_step_131 : decode cX2_step 131 = .ok (.aload_n 0, 1) := dk_42 (dk_at dksX2_step_5 15 rfl rfl)
theorem dX2_step_132 : decode cX2_step 132 = .ok (.getfield 313, 3) := dk_180 1 57 (dk_at dksX2_step_5 16 rfl rfl)
theorem dX2_step_135 : decode cX2_step 135 = .ok (.aload_n 0, 1) := dk_42 (dk_at dksX2_step_5 19 rfl rfl)
theorem dX2_step_136 : decode cX2_step 136 = .ok (.getfield 139, 3) := dk_180 0 139 (dk_at dksX2_step_5 20 rfl rfl)
theorem dX2_step_139 : decode cX2_step 139 = .ok (.invokevirtual 204, 3) := dk_182 0 204 (dk_at dksX2_step_6 0 rfl rfl)
theorem dX2_step_142 : decode cX2_step 142 = .ok (.putfield 313, 3) := dk_181 1 57 (dk_at dksX2_step_6 3 rfl rfl)
theorem dX2_step_145 : decode cX2_step 145 = .ok (.aload_n 0, 1) := dk_42 (dk_at dksX2_step_6 6 rfl rfl)
theorem dX2_step_146 : decode cX2_step 146 = .ok (.dup, 1) := dk_89 (dk_at dksX2_step_6 7 rfl rfl)
theorem dX2_step_147 : decode cX2_step 147 = .ok (.getfield 316, 3) := dk_180 1 60 (dk_at dksX2_step_6 8 rfl rfl)
theorem dX2_step_150 : decode cX2_step 150 = .ok (.iconst 1, 1) := dk_4 (dk_at dksX2_step_6 11 rfl rfl)
theorem dX2_step_151 : decode cX2_step 151 = .ok (.iadd, 1) := dk_96 (dk_at dksX2_step_6 12 rfl rfl)
theorem dX2_step_152 : decode cX2_step 152 = .ok (.putfield 316, 3) := dk_181 1 60 (dk_at dksX2_step_6 13 rfl rfl)
theorem dX2_step_155 : decode cX2_step 155 = .ok (.iload 4, 2) := dk_21 4 (dk_at dksX2_step_6 16 rfl rfl)
theorem dX2_step_157 : decode cX2_step 157 = .ok (.ifCond .eq 9, 3) := dk_153 0 9 (dk_at dksX2_step_6 18 rfl rfl)
theorem dX2_step_160 : decode cX2_step 160 = .ok (.iload_n 3, 1) := dk_29 (dk_at dksX2_step_6 21 rfl rfl)
theorem dX2_step_161 : decode cX2_step 161 = .ok (.iconst 1, 1) := dk_4 (dk_at dksX2_step_6 22 rfl rfl)
theorem dX2_step_162 : decode cX2_step 162 = .ok (.iadd, 1) := dk_96 (dk_at dksX2_step_6 23 rfl rfl)
theorem dX2_step_163 : decode cX2_step 163 = .ok (.goto 4, 3) := dk_167 0 4 (dk_at dksX2_step_7 0 rfl rfl)
theorem dX2_step_166 : decode cX2_step 166 = .ok (.iload_n 3, 1) := dk_29 (dk_at dksX2_step_7 3 rfl rfl)
theorem dX2_step_167 : decode cX2_step 167 = .ok (.ireturn, 1) := dk_172 (dk_at dksX2_step_7 4 rfl rfl)
abbrev cX2_anew : ByteArray := prog_31_method_71_code
def yX2_anew : MethodName := ⟨RX2, "anew", "()I"⟩
def dkwX2_anew_1 : List UInt8 := [3, 181, 1, 60, 27, 172]
abbrev dktX2_anew_1 : List UInt8 := dkwX2_anew_1 ++ []
def dkwX2_anew_0 : List UInt8 := [42, 180, 1, 60, 60, 42, 42, 182, 0, 225, 181, 0, 139, 42, 42, 180, 0, 22, 3, 46, 181, 1, 57, 42]
abbrev dktX2_anew_0 : List UInt8 := dkwX2_anew_0 ++ dktX2_anew_1
theorem dksX2_anew_0 : cX2_anew.data.toList.drop 0 = dktX2_anew_0 := by decide +kernel
theorem dksX2_anew_1 : cX2_anew.data.toList.drop 24 = dktX2_anew_1 := dk_seg dksX2_anew_0 24 rfl rfl
theorem dX2_anew_0 : decode cX2_anew 0 = .ok (.aload_n 0, 1) := dk_42 (dk_at dksX2_anew_0 0 rfl rfl)
theorem dX2_anew_1 : decode cX2_anew 1 = .ok (.getfield 316, 3) := dk_180 1 60 (dk_at dksX2_anew_0 1 rfl rfl)
theorem dX2_anew_4 : decode cX2_anew 4 = .ok (.istore_n 1, 1) := dk_60 (dk_at dksX2_anew_0 4 rfl rfl)
theorem dX2_anew_5 : decode cX2_anew 5 = .ok (.aload_n 0, 1) := dk_42 (dk_at dksX2_anew_0 5 rfl rfl)
theorem dX2_anew_6 : decode cX2_anew 6 = .ok (.aload_n 0, 1) := dk_42 (dk_at dksX2_anew_0 6 rfl rfl)
theorem dX2_anew_7 : decode cX2_anew 7 = .ok (.invokevirtual 225, 3) := dk_182 0 225 (dk_at dksX2_anew_0 7 rfl rfl)
theorem dX2_anew_10 : decode cX2_anew 10 = .ok (.putfield 139, 3) := dk_181 0 139 (dk_at dksX2_anew_0 10 rfl rfl)
theorem dX2_anew_13 : decode cX2_anew 13 = .ok (.aload_n 0, 1) := dk_42 (dk_at dksX2_anew_0 13 rfl rfl)
theorem dX2_anew_14 : decode cX2_anew 14 = .ok (.aload_n 0, 1) := dk_42 (dk_at dksX2_anew_0 14 rfl rfl)
theorem dX2_anew_15 : decode cX2_anew 15 = .ok (.getfield 22, 3) := dk_180 0 22 (dk_at dksX2_anew_0 15 rfl rfl)
theorem dX2_anew_18 : decode cX2_anew 18 = .ok (.iconst 0, 1) := dk_3 (dk_at dksX2_anew_0 18 rfl rfl)
theorem dX2_anew_19 : decode cX2_anew 19 = .ok (.iaload, 1) := dk_46 (dk_at dksX2_anew_0 19 rfl rfl)
theorem dX2_anew_20 : decode cX2_anew 20 = .ok (.putfield 313, 3) := dk_181 1 57 (dk_at dksX2_anew_0 20 rfl rfl)
theorem dX2_anew_23 : decode cX2_anew 23 = .ok (.aload_n 0, 1) := dk_42 (dk_at dksX2_anew_0 23 rfl rfl)
theorem dX2_anew_24 : decode cX2_anew 24 = .ok (.iconst 0, 1) := dk_3 (dk_at dksX2_anew_1 0 rfl rfl)
theorem dX2_anew_25 : decode cX2_anew 25 = .ok (.putfield 316, 3) := dk_181 1 60 (dk_at dksX2_anew_1 1 rfl rfl)
theorem dX2_anew_28 : decode cX2_anew 28 = .ok (.iload_n 1, 1) := dk_27 (dk_at dksX2_anew_1 4 rfl rfl)
theorem dX2_anew_29 : decode cX2_anew 29 = .ok (.ireturn, 1) := dk_172 (dk_at dksX2_anew_1 5 rfl rfl)
abbrev cX2_image : ByteArray := prog_31_method_72_code
def yX2_image : MethodName := ⟨RX2, "image", "()I"⟩
def dkwX2_image_1 : List UInt8 := [180, 1, 60, 181, 1, 71, 42, 180, 1, 60, 172]
abbrev dktX2_image_1 : List UInt8 := dkwX2_image_1 ++ []
def dkwX2_image_0 : List UInt8 := [42, 4, 181, 1, 53, 42, 42, 180, 0, 139, 181, 1, 65, 42, 42, 180, 1, 57, 181, 1, 68, 42, 42]
abbrev dktX2_image_0 : List UInt8 := dkwX2_image_0 ++ dktX2_image_1
theorem dksX2_image_0 : cX2_image.data.toList.drop 0 = dktX2_image_0 := by decide +kernel
theorem dksX2_image_1 : cX2_image.data.toList.drop 23 = dktX2_image_1 := dk_seg dksX2_image_0 23 rfl rfl
theorem dX2_image_0 : decode cX2_image 0 = .ok (.aload_n 0, 1) := dk_42 (dk_at dksX2_image_0 0 rfl rfl)
theorem dX2_image_1 : decode cX2_image 1 = .ok (.iconst 1, 1) := dk_4 (dk_at dksX2_image_0 1 rfl rfl)
theorem dX2_image_2 : decode cX2_image 2 = .ok (.putfield 309, 3) := dk_181 1 53 (dk_at dksX2_image_0 2 rfl rfl)
theorem dX2_image_5 : decode cX2_image 5 = .ok (.aload_n 0, 1) := dk_42 (dk_at dksX2_image_0 5 rfl rfl)
theorem dX2_image_6 : decode cX2_image 6 = .ok (.aload_n 0, 1) := dk_42 (dk_at dksX2_image_0 6 rfl rfl)
theorem dX2_image_7 : decode cX2_image 7 = .ok (.getfield 139, 3) := dk_180 0 139 (dk_at dksX2_image_0 7 rfl rfl)
theorem dX2_image_10 : decode cX2_image 10 = .ok (.putfield 321, 3) := dk_181 1 65 (dk_at dksX2_image_0 10 rfl rfl)
theorem dX2_image_13 : decode cX2_image 13 = .ok (.aload_n 0, 1) := dk_42 (dk_at dksX2_image_0 13 rfl rfl)
theorem dX2_image_14 : decode cX2_image 14 = .ok (.aload_n 0, 1) := dk_42 (dk_at dksX2_image_0 14 rfl rfl)
theorem dX2_image_15 : decode cX2_image 15 = .ok (.getfield 313, 3) := dk_180 1 57 (dk_at dksX2_image_0 15 rfl rfl)
theorem dX2_image_18 : decode cX2_image 18 = .ok (.putfield 324, 3) := dk_181 1 68 (dk_at dksX2_image_0 18 rfl rfl)
theorem dX2_image_21 : decode cX2_image 21 = .ok (.aload_n 0, 1) := dk_42 (dk_at dksX2_image_0 21 rfl rfl)
theorem dX2_image_22 : decode cX2_image 22 = .ok (.aload_n 0, 1) := dk_42 (dk_at dksX2_image_0 22 rfl rfl)
theorem dX2_image_23 : decode cX2_image 23 = .ok (.getfield 316, 3) := dk_180 1 60 (dk_at dksX2_image_1 0 rfl rfl)
theorem dX2_image_26 : decode cX2_image 26 = .ok (.putfield 327, 3) := dk_181 1 71 (dk_at dksX2_image_1 3 rfl rfl)
theorem dX2_image_29 : decode cX2_image 29 = .ok (.aload_n 0, 1) := dk_42 (dk_at dksX2_image_1 6 rfl rfl)
theorem dX2_image_30 : decode cX2_image 30 = .ok (.getfield 316, 3) := dk_180 1 60 (dk_at dksX2_image_1 7 rfl rfl)
theorem dX2_image_33 : decode cX2_image 33 = .ok (.ireturn, 1) := dk_172 (dk_at dksX2_image_1 10 rfl rfl)
abbrev cX2_back : ByteArray := prog_31_method_73_code
def yX2_back : MethodName := ⟨RX2, "back", "()I"⟩
def dkwX2_back_1 : List UInt8 := [181, 1, 57, 42, 42, 180, 1, 71, 181, 1, 60, 42, 180, 1, 60, 172]
abbrev dktX2_back_1 : List UInt8 := dkwX2_back_1 ++ []
def dkwX2_back_0 : List UInt8 := [42, 180, 1, 53, 154, 0, 6, 16, 251, 172, 42, 42, 180, 1, 65, 181, 0, 139, 42, 42, 180, 1, 68]
abbrev dktX2_back_0 : List UInt8 := dkwX2_back_0 ++ dktX2_back_1
theorem dksX2_back_0 : cX2_back.data.toList.drop 0 = dktX2_back_0 := by decide +kernel
theorem dksX2_back_1 : cX2_back.data.toList.drop 23 = dktX2_back_1 := dk_seg dksX2_back_0 23 rfl rfl
theorem dX2_back_0 : decode cX2_back 0 = .ok (.aload_n 0, 1) := dk_42 (dk_at dksX2_back_0 0 rfl rfl)
theorem dX2_back_1 : decode cX2_back 1 = .ok (.getfield 309, 3) := dk_180 1 53 (dk_at dksX2_back_0 1 rfl rfl)
theorem dX2_back_4 : decode cX2_back 4 = .ok (.ifCond .ne 6, 3) := dk_154 0 6 (dk_at dksX2_back_0 4 rfl rfl)
theorem dX2_back_7 : decode cX2_back 7 = .ok (.bipush (-5), 2) := dk_16 251 (dk_at dksX2_back_0 7 rfl rfl)
theorem dX2_back_9 : decode cX2_back 9 = .ok (.ireturn, 1) := dk_172 (dk_at dksX2_back_0 9 rfl rfl)
theorem dX2_back_10 : decode cX2_back 10 = .ok (.aload_n 0, 1) := dk_42 (dk_at dksX2_back_0 10 rfl rfl)
theorem dX2_back_11 : decode cX2_back 11 = .ok (.aload_n 0, 1) := dk_42 (dk_at dksX2_back_0 11 rfl rfl)
theorem dX2_back_12 : decode cX2_back 12 = .ok (.getfield 321, 3) := dk_180 1 65 (dk_at dksX2_back_0 12 rfl rfl)
theorem dX2_back_15 : decode cX2_back 15 = .ok (.putfield 139, 3) := dk_181 0 139 (dk_at dksX2_back_0 15 rfl rfl)
theorem dX2_back_18 : decode cX2_back 18 = .ok (.aload_n 0, 1) := dk_42 (dk_at dksX2_back_0 18 rfl rfl)
theorem dX2_back_19 : decode cX2_back 19 = .ok (.aload_n 0, 1) := dk_42 (dk_at dksX2_back_0 19 rfl rfl)
theorem dX2_back_20 : decode cX2_back 20 = .ok (.getfield 324, 3) := dk_180 1 68 (dk_at dksX2_back_0 20 rfl rfl)
theorem dX2_back_23 : decode cX2_back 23 = .ok (.putfield 313, 3) := dk_181 1 57 (dk_at dksX2_back_1 0 rfl rfl)
theorem dX2_back_26 : decode cX2_back 26 = .ok (.aload_n 0, 1) := dk_42 (dk_at dksX2_back_1 3 rfl rfl)
theorem dX2_back_27 : decode cX2_back 27 = .ok (.aload_n 0, 1) := dk_42 (dk_at dksX2_back_1 4 rfl rfl)
theorem dX2_back_28 : decode cX2_back 28 = .ok (.getfield 327, 3) := dk_180 1 71 (dk_at dksX2_back_1 5 rfl rfl)
theorem dX2_back_31 : decode cX2_back 31 = .ok (.putfield 316, 3) := dk_181 1 60 (dk_at dksX2_back_1 8 rfl rfl)
theorem dX2_back_34 : decode cX2_back 34 = .ok (.aload_n 0, 1) := dk_42 (dk_at dksX2_back_1 11 rfl rfl)
theorem dX2_back_35 : decode cX2_back 35 = .ok (.getfield 316, 3) := dk_180 1 60 (dk_at dksX2_back_1 12 rfl rfl)
theorem dX2_back_38 : decode cX2_back 38 = .ok (.ireturn, 1) := dk_172 (dk_at dksX2_back_1 15 rfl rfl)
abbrev cX2_body : ByteArray := prog_31_method_76_code
def yX2_body : MethodName := ⟨RX2, "body", "(I)I"⟩
def dkwX2_body_2 : List UInt8 := [180, 1, 74, 4, 100, 172]
abbrev dktX2_body_2 : List UInt8 := dkwX2_body_2 ++ []
def dkwX2_body_1 : List UInt8 := [16, 253, 172, 42, 180, 0, 65, 42, 180, 1, 74, 27, 79, 42, 89, 180, 1, 74, 4, 96, 181, 1, 74, 42]
abbrev dktX2_body_1 : List UInt8 := dkwX2_body_1 ++ dktX2_body_2
def dkwX2_body_0 : List UInt8 := [27, 133, 9, 20, 1, 77, 184, 0, 99, 154, 0, 5, 2, 172, 42, 180, 1, 74, 16, 50, 160, 0, 6]
abbrev dktX2_body_0 : List UInt8 := dkwX2_body_0 ++ dktX2_body_1
theorem dksX2_body_0 : cX2_body.data.toList.drop 0 = dktX2_body_0 := by decide +kernel
theorem dksX2_body_1 : cX2_body.data.toList.drop 23 = dktX2_body_1 := dk_seg dksX2_body_0 23 rfl rfl
theorem dksX2_body_2 : cX2_body.data.toList.drop 47 = dktX2_body_2 := dk_seg dksX2_body_1 24 rfl rfl
theorem dX2_body_0 : decode cX2_body 0 = .ok (.iload_n 1, 1) := dk_27 (dk_at dksX2_body_0 0 rfl rfl)
theorem dX2_body_1 : decode cX2_body 1 = .ok (.i2l, 1) := dk_133 (dk_at dksX2_body_0 1 rfl rfl)
theorem dX2_body_2 : decode cX2_body 2 = .ok (.lconst 0, 1) := dk_9 (dk_at dksX2_body_0 2 rfl rfl)
theorem dX2_body_3 : decode cX2_body 3 = .ok (.ldc2_w 333, 3) := dk_20 1 77 (dk_at dksX2_body_0 3 rfl rfl)
theorem dX2_body_6 : decode cX2_body 6 = .ok (.invokestatic 99, 3) := dk_184 0 99 (dk_at dksX2_body_0 6 rfl rfl)
theorem dX2_body_9 : decode cX2_body 9 = .ok (.ifCond .ne 5, 3) := dk_154 0 5 (dk_at dksX2_body_0 9 rfl rfl)
theorem dX2_body_12 : decode cX2_body 12 = .ok (.iconst (-1), 1) := dk_2 (dk_at dksX2_body_0 12 rfl rfl)
theorem dX2_body_13 : decode cX2_body 13 = .ok (.ireturn, 1) := dk_172 (dk_at dksX2_body_0 13 rfl rfl)
theorem dX2_body_14 : decode cX2_body 14 = .ok (.aload_n 0, 1) := dk_42 (dk_at dksX2_body_0 14 rfl rfl)
theorem dX2_body_15 : decode cX2_body 15 = .ok (.getfield 330, 3) := dk_180 1 74 (dk_at dksX2_body_0 15 rfl rfl)
theorem dX2_body_18 : decode cX2_body 18 = .ok (.bipush 50, 2) := dk_16 50 (dk_at dksX2_body_0 18 rfl rfl)
theorem dX2_body_20 : decode cX2_body 20 = .ok (.if_icmp .ne 6, 3) := dk_160 0 6 (dk_at dksX2_body_0 20 rfl rfl)
theorem dX2_body_23 : decode cX2_body 23 = .ok (.bipush (-3), 2) := dk_16 253 (dk_at dksX2_body_1 0 rfl rfl)
theorem dX2_body_25 : decode cX2_body 25 = .ok (.ireturn, 1) := dk_172 (dk_at dksX2_body_1 2 rfl rfl)
theorem dX2_body_26 : decode cX2_body 26 = .ok (.aload_n 0, 1) := dk_42 (dk_at dksX2_body_1 3 rfl rfl)
theorem dX2_body_27 : decode cX2_body 27 = .ok (.getfield 65, 3) := dk_180 0 65 (dk_at dksX2_body_1 4 rfl rfl)
theorem dX2_body_30 : decode cX2_body 30 = .ok (.aload_n 0, 1) := dk_42 (dk_at dksX2_body_1 7 rfl rfl)
theorem dX2_body_31 : decode cX2_body 31 = .ok (.getfield 330, 3) := dk_180 1 74 (dk_at dksX2_body_1 8 rfl rfl)
theorem dX2_body_34 : decode cX2_body 34 = .ok (.iload_n 1, 1) := dk_27 (dk_at dksX2_body_1 11 rfl rfl)
theorem dX2_body_35 : decode cX2_body 35 = .ok (.iastore, 1) := dk_79 (dk_at dksX2_body_1 12 rfl rfl)
theorem dX2_body_36 : decode cX2_body 36 = .ok (.aload_n 0, 1) := dk_42 (dk_at dksX2_body_1 13 rfl rfl)
theorem dX2_body_37 : decode cX2_body 37 = .ok (.dup, 1) := dk_89 (dk_at dksX2_body_1 14 rfl rfl)
theorem dX2_body_38 : decode cX2_body 38 = .ok (.getfield 330, 3) := dk_180 1 74 (dk_at dksX2_body_1 15 rfl rfl)
theorem dX2_body_41 : decode cX2_body 41 = .ok (.iconst 1, 1) := dk_4 (dk_at dksX2_body_1 18 rfl rfl)
theorem dX2_body_42 : decode cX2_body 42 = .ok (.iadd, 1) := dk_96 (dk_at dksX2_body_1 19 rfl rfl)
theorem dX2_body_43 : decode cX2_body 43 = .ok (.putfield 330, 3) := dk_181 1 74 (dk_at dksX2_body_1 20 rfl rfl)
theorem dX2_body_46 : decode cX2_body 46 = .ok (.aload_n 0, 1) := dk_42 (dk_at dksX2_body_1 23 rfl rfl)
theorem dX2_body_47 : decode cX2_body 47 = .ok (.getfield 330, 3) := dk_180 1 74 (dk_at dksX2_body_2 0 rfl rfl)
theorem dX2_body_50 : decode cX2_body 50 = .ok (.iconst 1, 1) := dk_4 (dk_at dksX2_body_2 3 rfl rfl)
theorem dX2_body_51 : decode cX2_body 51 = .ok (.isub, 1) := dk_100 (dk_at dksX2_body_2 4 rfl rfl)
theorem dX2_body_52 : decode cX2_body 52 = .ok (.ireturn, 1) := dk_172 (dk_at dksX2_body_2 5 rfl rfl)
abbrev cX2_act : ByteArray := prog_31_method_83_code
def yX2_act : MethodName := ⟨RX2, "act", "(III)I"⟩
def dkwX2_act_4 : List UInt8 := [180, 1, 94, 29, 182, 1, 97, 172, 42, 42, 180, 1, 94, 29, 182, 1, 100, 172, 3, 172]
abbrev dktX2_act_4 : List UInt8 := dkwX2_act_4 ++ []
def dkwX2_act_3 : List UInt8 := [42, 42, 180, 1, 94, 29, 182, 1, 85, 172, 42, 42, 180, 1, 94, 29, 182, 1, 91, 172, 42, 42]
abbrev dktX2_act_3 : List UInt8 := dkwX2_act_3 ++ dktX2_act_4
def dkwX2_act_2 : List UInt8 := [170, 0, 0, 0, 69, 0, 0, 0, 0, 0, 0, 0, 3, 0, 0, 0, 29, 0, 0, 0, 39, 0, 0, 0, 49, 0, 0, 0, 59]
abbrev dktX2_act_2 : List UInt8 := dkwX2_act_2 ++ dktX2_act_3
def dkwX2_act_1 : List UInt8 := [181, 1, 94, 42, 27, 181, 1, 88, 28]
abbrev dktX2_act_1 : List UInt8 := dkwX2_act_1 ++ dktX2_act_2
def dkwX2_act_0 : List UInt8 := [42, 3, 181, 1, 79, 42, 27, 182, 1, 103, 154, 0, 5, 3, 172, 42, 42, 180, 0, 65, 27, 46]
abbrev dktX2_act_0 : List UInt8 := dkwX2_act_0 ++ dktX2_act_1
theorem dksX2_act_0 : cX2_act.data.toList.drop 0 = dktX2_act_0 := by decide +kernel
theorem dksX2_act_1 : cX2_act.data.toList.drop 22 = dktX2_act_1 := dk_seg dksX2_act_0 22 rfl rfl
theorem dksX2_act_2 : cX2_act.data.toList.drop 31 = dktX2_act_2 := dk_seg dksX2_act_1 9 rfl rfl
theorem dksX2_act_3 : cX2_act.data.toList.drop 60 = dktX2_act_3 := dk_seg dksX2_act_2 29 rfl rfl
theorem dksX2_act_4 : cX2_act.data.toList.drop 82 = dktX2_act_4 := dk_seg dksX2_act_3 22 rfl rfl
theorem dX2_act_0 : decode cX2_act 0 = .ok (.aload_n 0, 1) := dk_42 (dk_at dksX2_act_0 0 rfl rfl)
theorem dX2_act_1 : decode cX2_act 1 = .ok (.iconst 0, 1) := dk_3 (dk_at dksX2_act_0 1 rfl rfl)
theorem dX2_act_2 : decode cX2_act 2 = .ok (.putfield 335, 3) := dk_181 1 79 (dk_at dksX2_act_0 2 rfl rfl)
theorem dX2_act_5 : decode cX2_act 5 = .ok (.aload_n 0, 1) := dk_42 (dk_at dksX2_act_0 5 rfl rfl)
theorem dX2_act_6 : decode cX2_act 6 = .ok (.iload_n 1, 1) := dk_27 (dk_at dksX2_act_0 6 rfl rfl)
theorem dX2_act_7 : decode cX2_act 7 = .ok (.invokevirtual 359, 3) := dk_182 1 103 (dk_at dksX2_act_0 7 rfl rfl)
theorem dX2_act_10 : decode cX2_act 10 = .ok (.ifCond .ne 5, 3) := dk_154 0 5 (dk_at dksX2_act_0 10 rfl rfl)
theorem dX2_act_13 : decode cX2_act 13 = .ok (.iconst 0, 1) := dk_3 (dk_at dksX2_act_0 13 rfl rfl)
theorem dX2_act_14 : decode cX2_act 14 = .ok (.ireturn, 1) := dk_172 (dk_at dksX2_act_0 14 rfl rfl)
theorem dX2_act_15 : decode cX2_act 15 = .ok (.aload_n 0, 1) := dk_42 (dk_at dksX2_act_0 15 rfl rfl)
theorem dX2_act_16 : decode cX2_act 16 = .ok (.aload_n 0, 1) := dk_42 (dk_at dksX2_act_0 16 rfl rfl)
theorem dX2_act_17 : decode cX2_act 17 = .ok (.getfield 65, 3) := dk_180 0 65 (dk_at dksX2_act_0 17 rfl rfl)
theorem dX2_act_20 : decode cX2_act 20 = .ok (.iload_n 1, 1) := dk_27 (dk_at dksX2_act_0 20 rfl rfl)
theorem dX2_act_21 : decode cX2_act 21 = .ok (.iaload, 1) := dk_46 (dk_at dksX2_act_0 21 rfl rfl)
theorem dX2_act_22 : decode cX2_act 22 = .ok (.putfield 350, 3) := dk_181 1 94 (dk_at dksX2_act_1 0 rfl rfl)
theorem dX2_act_25 : decode cX2_act 25 = .ok (.aload_n 0, 1) := dk_42 (dk_at dksX2_act_1 3 rfl rfl)
theorem dX2_act_26 : decode cX2_act 26 = .ok (.iload_n 1, 1) := dk_27 (dk_at dksX2_act_1 4 rfl rfl)
theorem dX2_act_27 : decode cX2_act 27 = .ok (.putfield 344, 3) := dk_181 1 88 (dk_at dksX2_act_1 5 rfl rfl)
theorem dX2_act_30 : decode cX2_act 30 = .ok (.iload_n 2, 1) := dk_28 (dk_at dksX2_act_1 8 rfl rfl)
theorem dX2_act_31 : decode cX2_act 31 = .ok (.tableswitch 69 0 3 #[29, 39, 49, 59], 29) := by decide +kernel
theorem dX2_act_60 : decode cX2_act 60 = .ok (.aload_n 0, 1) := dk_42 (dk_at dksX2_act_3 0 rfl rfl)
theorem dX2_act_61 : decode cX2_act 61 = .ok (.aload_n 0, 1) := dk_42 (dk_at dksX2_act_3 1 rfl rfl)
theorem dX2_act_62 : decode cX2_act 62 = .ok (.getfield 350, 3) := dk_180 1 94 (dk_at dksX2_act_3 2 rfl rfl)
theorem dX2_act_65 : decode cX2_act 65 = .ok (.iload_n 3, 1) := dk_29 (dk_at dksX2_act_3 5 rfl rfl)
theorem dX2_act_66 : decode cX2_act 66 = .ok (.invokevirtual 341, 3) := dk_182 1 85 (dk_at dksX2_act_3 6 rfl rfl)
theorem dX2_act_69 : decode cX2_act 69 = .ok (.ireturn, 1) := dk_172 (dk_at dksX2_act_3 9 rfl rfl)
theorem dX2_act_70 : decode cX2_act 70 = .ok (.aload_n 0, 1) := dk_42 (dk_at dksX2_act_3 10 rfl rfl)
theorem dX2_act_71 : decode cX2_act 71 = .ok (.aload_n 0, 1) := dk_42 (dk_at dksX2_act_3 11 rfl rfl)
theorem dX2_act_72 : decode cX2_act 72 = .ok (.getfield 350, 3) := dk_180 1 94 (dk_at dksX2_act_3 12 rfl rfl)
theorem dX2_act_75 : decode cX2_act 75 = .ok (.iload_n 3, 1) := dk_29 (dk_at dksX2_act_3 15 rfl rfl)
theorem dX2_act_76 : decode cX2_act 76 = .ok (.invokevirtual 347, 3) := dk_182 1 91 (dk_at dksX2_act_3 16 rfl rfl)
theorem dX2_act_79 : decode cX2_act 79 = .ok (.ireturn, 1) := dk_172 (dk_at dksX2_act_3 19 rfl rfl)
theorem dX2_act_80 : decode cX2_act 80 = .ok (.aload_n 0, 1) := dk_42 (dk_at dksX2_act_3 20 rfl rfl)
theorem dX2_act_81 : decode cX2_act 81 = .ok (.aload_n 0, 1) := dk_42 (dk_at dksX2_act_3 21 rfl rfl)
theorem dX2_act_82 : decode cX2_act 82 = .ok (.getfield 350, 3) := dk_180 1 94 (dk_at dksX2_act_4 0 rfl rfl)
theorem dX2_act_85 : decode cX2_act 85 = .ok (.iload_n 3, 1) := dk_29 (dk_at dksX2_act_4 3 rfl rfl)
theorem dX2_act_86 : decode cX2_act 86 = .ok (.invokevirtual 353, 3) := dk_182 1 97 (dk_at dksX2_act_4 4 rfl rfl)
theorem dX2_act_89 : decode cX2_act 89 = .ok (.ireturn, 1) := dk_172 (dk_at dksX2_act_4 7 rfl rfl)
theorem dX2_act_90 : decode cX2_act 90 = .ok (.aload_n 0, 1) := dk_42 (dk_at dksX2_act_4 8 rfl rfl)
theorem dX2_act_91 : decode cX2_act 91 = .ok (.aload_n 0, 1) := dk_42 (dk_at dksX2_act_4 9 rfl rfl)
theorem dX2_act_92 : decode cX2_act 92 = .ok (.getfield 350, 3) := dk_180 1 94 (dk_at dksX2_act_4 10 rfl rfl)
theorem dX2_act_95 : decode cX2_act 95 = .ok (.iload_n 3, 1) := dk_29 (dk_at dksX2_act_4 13 rfl rfl)
theorem dX2_act_96 : decode cX2_act 96 = .ok (.invokevirtual 356, 3) := dk_182 1 100 (dk_at dksX2_act_4 14 rfl rfl)
theorem dX2_act_99 : decode cX2_act 99 = .ok (.ireturn, 1) := dk_172 (dk_at dksX2_act_4 17 rfl rfl)
theorem dX2_act_100 : decode cX2_act 100 = .ok (.iconst 0, 1) := dk_3 (dk_at dksX2_act_4 18 rfl rfl)
theorem dX2_act_101 : decode cX2_act 101 = .ok (.ireturn, 1) := dk_172 (dk_at dksX2_act_4 19 rfl rfl)
abbrev cX2_isBody : ByteArray := prog_31_method_74_code
def yX2_isBody : MethodName := ⟨RX2, "isBody", "(I)Z"⟩
def dkwX2_isBody_0 : List UInt8 := [27, 133, 9, 42, 180, 1, 74, 4, 100, 133, 184, 0, 99, 172]
abbrev dktX2_isBody_0 : List UInt8 := dkwX2_isBody_0 ++ []
theorem dksX2_isBody_0 : cX2_isBody.data.toList.drop 0 = dktX2_isBody_0 := by decide +kernel
theorem dX2_isBody_0 : decode cX2_isBody 0 = .ok (.iload_n 1, 1) := dk_27 (dk_at dksX2_isBody_0 0 rfl rfl)
theorem dX2_isBody_1 : decode cX2_isBody 1 = .ok (.i2l, 1) := dk_133 (dk_at dksX2_isBody_0 1 rfl rfl)
theorem dX2_isBody_2 : decode cX2_isBody 2 = .ok (.lconst 0, 1) := dk_9 (dk_at dksX2_isBody_0 2 rfl rfl)
theorem dX2_isBody_3 : decode cX2_isBody 3 = .ok (.aload_n 0, 1) := dk_42 (dk_at dksX2_isBody_0 3 rfl rfl)
theorem dX2_isBody_4 : decode cX2_isBody 4 = .ok (.getfield 330, 3) := dk_180 1 74 (dk_at dksX2_isBody_0 4 rfl rfl)
theorem dX2_isBody_7 : decode cX2_isBody 7 = .ok (.iconst 1, 1) := dk_4 (dk_at dksX2_isBody_0 7 rfl rfl)
theorem dX2_isBody_8 : decode cX2_isBody 8 = .ok (.isub, 1) := dk_100 (dk_at dksX2_isBody_0 8 rfl rfl)
theorem dX2_isBody_9 : decode cX2_isBody 9 = .ok (.i2l, 1) := dk_133 (dk_at dksX2_isBody_0 9 rfl rfl)
theorem dX2_isBody_10 : decode cX2_isBody 10 = .ok (.invokestatic 99, 3) := dk_184 0 99 (dk_at dksX2_isBody_0 10 rfl rfl)
theorem dX2_isBody_13 : decode cX2_isBody 13 = .ok (.ireturn, 1) := dk_172 (dk_at dksX2_isBody_0 13 rfl rfl)
abbrev cX2_aimsAs : ByteArray := prog_31_method_79_code
def yX2_aimsAs : MethodName := ⟨RX2, "aimsAs", "(II)I"⟩
def dkwX2_aimsAs_2 : List UInt8 := [182, 1, 85, 5, 104, 172, 42, 4, 182, 1, 82, 28, 42, 180, 1, 88, 96, 172]
abbrev dktX2_aimsAs_2 : List UInt8 := dkwX2_aimsAs_2 ++ []
def dkwX2_aimsAs_1 : List UInt8 := [28, 182, 1, 85, 6, 96, 172, 27, 16, 6, 160, 0, 18, 42, 16, 70, 182, 1, 82, 42, 3, 28]
abbrev dktX2_aimsAs_1 : List UInt8 := dkwX2_aimsAs_1 ++ dktX2_aimsAs_2
def dkwX2_aimsAs_0 : List UInt8 := [27, 4, 159, 0, 14, 27, 7, 159, 0, 9, 27, 16, 7, 160, 0, 18, 42, 16, 20, 182, 1, 82, 42, 3]
abbrev dktX2_aimsAs_0 : List UInt8 := dkwX2_aimsAs_0 ++ dktX2_aimsAs_1
theorem dksX2_aimsAs_0 : cX2_aimsAs.data.toList.drop 0 = dktX2_aimsAs_0 := by decide +kernel
theorem dksX2_aimsAs_1 : cX2_aimsAs.data.toList.drop 24 = dktX2_aimsAs_1 := dk_seg dksX2_aimsAs_0 24 rfl rfl
theorem dksX2_aimsAs_2 : cX2_aimsAs.data.toList.drop 46 = dktX2_aimsAs_2 := dk_seg dksX2_aimsAs_1 22 rfl rfl
theorem dX2_aimsAs_0 : decode cX2_aimsAs 0 = .ok (.iload_n 1, 1) := dk_27 (dk_at dksX2_aimsAs_0 0 rfl rfl)
theorem dX2_aimsAs_1 : decode cX2_aimsAs 1 = .ok (.iconst 1, 1) := dk_4 (dk_at dksX2_aimsAs_0 1 rfl rfl)
theorem dX2_aimsAs_2 : decode cX2_aimsAs 2 = .ok (.if_icmp .eq 14, 3) := dk_159 0 14 (dk_at dksX2_aimsAs_0 2 rfl rfl)
theorem dX2_aimsAs_5 : decode cX2_aimsAs 5 = .ok (.iload_n 1, 1) := dk_27 (dk_at dksX2_aimsAs_0 5 rfl rfl)
theorem dX2_aimsAs_6 : decode cX2_aimsAs 6 = .ok (.iconst 4, 1) := dk_7 (dk_at dksX2_aimsAs_0 6 rfl rfl)
theorem dX2_aimsAs_7 : decode cX2_aimsAs 7 = .ok (.if_icmp .eq 9, 3) := dk_159 0 9 (dk_at dksX2_aimsAs_0 7 rfl rfl)
theorem dX2_aimsAs_10 : decode cX2_aimsAs 10 = .ok (.iload_n 1, 1) := dk_27 (dk_at dksX2_aimsAs_0 10 rfl rfl)
theorem dX2_aimsAs_11 : decode cX2_aimsAs 11 = .ok (.bipush 7, 2) := dk_16 7 (dk_at dksX2_aimsAs_0 11 rfl rfl)
theorem dX2_aimsAs_13 : decode cX2_aimsAs 13 = .ok (.if_icmp .ne 18, 3) := dk_160 0 18 (dk_at dksX2_aimsAs_0 13 rfl rfl)
theorem dX2_aimsAs_16 : decode cX2_aimsAs 16 = .ok (.aload_n 0, 1) := dk_42 (dk_at dksX2_aimsAs_0 16 rfl rfl)
theorem dX2_aimsAs_17 : decode cX2_aimsAs 17 = .ok (.bipush 20, 2) := dk_16 20 (dk_at dksX2_aimsAs_0 17 rfl rfl)
theorem dX2_aimsAs_19 : decode cX2_aimsAs 19 = .ok (.invokevirtual 338, 3) := dk_182 1 82 (dk_at dksX2_aimsAs_0 19 rfl rfl)
theorem dX2_aimsAs_22 : decode cX2_aimsAs 22 = .ok (.aload_n 0, 1) := dk_42 (dk_at dksX2_aimsAs_0 22 rfl rfl)
theorem dX2_aimsAs_23 : decode cX2_aimsAs 23 = .ok (.iconst 0, 1) := dk_3 (dk_at dksX2_aimsAs_0 23 rfl rfl)
theorem dX2_aimsAs_24 : decode cX2_aimsAs 24 = .ok (.iload_n 2, 1) := dk_28 (dk_at dksX2_aimsAs_1 0 rfl rfl)
theorem dX2_aimsAs_25 : decode cX2_aimsAs 25 = .ok (.invokevirtual 341, 3) := dk_182 1 85 (dk_at dksX2_aimsAs_1 1 rfl rfl)
theorem dX2_aimsAs_28 : decode cX2_aimsAs 28 = .ok (.iconst 3, 1) := dk_6 (dk_at dksX2_aimsAs_1 4 rfl rfl)
theorem dX2_aimsAs_29 : decode cX2_aimsAs 29 = .ok (.iadd, 1) := dk_96 (dk_at dksX2_aimsAs_1 5 rfl rfl)
theorem dX2_aimsAs_30 : decode cX2_aimsAs 30 = .ok (.ireturn, 1) := dk_172 (dk_at dksX2_aimsAs_1 6 rfl rfl)
theorem dX2_aimsAs_31 : decode cX2_aimsAs 31 = .ok (.iload_n 1, 1) := dk_27 (dk_at dksX2_aimsAs_1 7 rfl rfl)
theorem dX2_aimsAs_32 : decode cX2_aimsAs 32 = .ok (.bipush 6, 2) := dk_16 6 (dk_at dksX2_aimsAs_1 8 rfl rfl)
theorem dX2_aimsAs_34 : decode cX2_aimsAs 34 = .ok (.if_icmp .ne 18, 3) := dk_160 0 18 (dk_at dksX2_aimsAs_1 10 rfl rfl)
theorem dX2_aimsAs_37 : decode cX2_aimsAs 37 = .ok (.aload_n 0, 1) := dk_42 (dk_at dksX2_aimsAs_1 13 rfl rfl)
theorem dX2_aimsAs_38 : decode cX2_aimsAs 38 = .ok (.bipush 70, 2) := dk_16 70 (dk_at dksX2_aimsAs_1 14 rfl rfl)
theorem dX2_aimsAs_40 : decode cX2_aimsAs 40 = .ok (.invokevirtual 338, 3) := dk_182 1 82 (dk_at dksX2_aimsAs_1 16 rfl rfl)
theorem dX2_aimsAs_43 : decode cX2_aimsAs 43 = .ok (.aload_n 0, 1) := dk_42 (dk_at dksX2_aimsAs_1 19 rfl rfl)
theorem dX2_aimsAs_44 : decode cX2_aimsAs 44 = .ok (.iconst 0, 1) := dk_3 (dk_at dksX2_aimsAs_1 20 rfl rfl)
theorem dX2_aimsAs_45 : decode cX2_aimsAs 45 = .ok (.iload_n 2, 1) := dk_28 (dk_at dksX2_aimsAs_1 21 rfl rfl)
theorem dX2_aimsAs_46 : decode cX2_aimsAs 46 = .ok (.invokevirtual 341, 3) := dk_182 1 85 (dk_at dksX2_aimsAs_2 0 rfl rfl)
theorem dX2_aimsAs_49 : decode cX2_aimsAs 49 = .ok (.iconst 2, 1) := dk_5 (dk_at dksX2_aimsAs_2 3 rfl rfl)
theorem dX2_aimsAs_50 : decode cX2_aimsAs 50 = .ok (.imul, 1) := dk_104 (dk_at dksX2_aimsAs_2 4 rfl rfl)
theorem dX2_aimsAs_51 : decode cX2_aimsAs 51 = .ok (.ireturn, 1) := dk_172 (dk_at dksX2_aimsAs_2 5 rfl rfl)
theorem dX2_aimsAs_52 : decode cX2_aimsAs 52 = .ok (.aload_n 0, 1) := dk_42 (dk_at dksX2_aimsAs_2 6 rfl rfl)
theorem dX2_aimsAs_53 : decode cX2_aimsAs 53 = .ok (.iconst 1, 1) := dk_4 (dk_at dksX2_aimsAs_2 7 rfl rfl)
theorem dX2_aimsAs_54 : decode cX2_aimsAs 54 = .ok (.invokevirtual 338, 3) := dk_182 1 82 (dk_at dksX2_aimsAs_2 8 rfl rfl)
theorem dX2_aimsAs_57 : decode cX2_aimsAs 57 = .ok (.iload_n 2, 1) := dk_28 (dk_at dksX2_aimsAs_2 11 rfl rfl)
theorem dX2_aimsAs_58 : decode cX2_aimsAs 58 = .ok (.aload_n 0, 1) := dk_42 (dk_at dksX2_aimsAs_2 12 rfl rfl)
theorem dX2_aimsAs_59 : decode cX2_aimsAs 59 = .ok (.getfield 344, 3) := dk_180 1 88 (dk_at dksX2_aimsAs_2 13 rfl rfl)
theorem dX2_aimsAs_62 : decode cX2_aimsAs 62 = .ok (.iadd, 1) := dk_96 (dk_at dksX2_aimsAs_2 16 rfl rfl)
theorem dX2_aimsAs_63 : decode cX2_aimsAs 63 = .ok (.ireturn, 1) := dk_172 (dk_at dksX2_aimsAs_2 17 rfl rfl)
abbrev cX2_begins : ByteArray := prog_31_method_78_code
def yX2_begins : MethodName := ⟨RX2, "begins", "(I)V"⟩
def dkwX2_begins_1 : List UInt8 := [4, 96, 181, 1, 79, 177]
abbrev dktX2_begins_1 : List UInt8 := dkwX2_begins_1 ++ []
def dkwX2_begins_0 : List UInt8 := [42, 180, 1, 79, 16, 24, 162, 0, 13, 42, 180, 0, 68, 42, 180, 1, 79, 27, 79, 42, 89, 180, 1, 79]
abbrev dktX2_begins_0 : List UInt8 := dkwX2_begins_0 ++ dktX2_begins_1
theorem dksX2_begins_0 : cX2_begins.data.toList.drop 0 = dktX2_begins_0 := by decide +kernel
theorem dksX2_begins_1 : cX2_begins.data.toList.drop 24 = dktX2_begins_1 := dk_seg dksX2_begins_0 24 rfl rfl
theorem dX2_begins_0 : decode cX2_begins 0 = .ok (.aload_n 0, 1) := dk_42 (dk_at dksX2_begins_0 0 rfl rfl)
theorem dX2_begins_1 : decode cX2_begins 1 = .ok (.getfield 335, 3) := dk_180 1 79 (dk_at dksX2_begins_0 1 rfl rfl)
theorem dX2_begins_4 : decode cX2_begins 4 = .ok (.bipush 24, 2) := dk_16 24 (dk_at dksX2_begins_0 4 rfl rfl)
theorem dX2_begins_6 : decode cX2_begins 6 = .ok (.if_icmp .ge 13, 3) := dk_162 0 13 (dk_at dksX2_begins_0 6 rfl rfl)
theorem dX2_begins_9 : decode cX2_begins 9 = .ok (.aload_n 0, 1) := dk_42 (dk_at dksX2_begins_0 9 rfl rfl)
theorem dX2_begins_10 : decode cX2_begins 10 = .ok (.getfield 68, 3) := dk_180 0 68 (dk_at dksX2_begins_0 10 rfl rfl)
theorem dX2_begins_13 : decode cX2_begins 13 = .ok (.aload_n 0, 1) := dk_42 (dk_at dksX2_begins_0 13 rfl rfl)
theorem dX2_begins_14 : decode cX2_begins 14 = .ok (.getfield 335, 3) := dk_180 1 79 (dk_at dksX2_begins_0 14 rfl rfl)
theorem dX2_begins_17 : decode cX2_begins 17 = .ok (.iload_n 1, 1) := dk_27 (dk_at dksX2_begins_0 17 rfl rfl)
theorem dX2_begins_18 : decode cX2_begins 18 = .ok (.iastore, 1) := dk_79 (dk_at dksX2_begins_0 18 rfl rfl)
theorem dX2_begins_19 : decode cX2_begins 19 = .ok (.aload_n 0, 1) := dk_42 (dk_at dksX2_begins_0 19 rfl rfl)
theorem dX2_begins_20 : decode cX2_begins 20 = .ok (.dup, 1) := dk_89 (dk_at dksX2_begins_0 20 rfl rfl)
theorem dX2_begins_21 : decode cX2_begins 21 = .ok (.getfield 335, 3) := dk_180 1 79 (dk_at dksX2_begins_0 21 rfl rfl)
theorem dX2_begins_24 : decode cX2_begins 24 = .ok (.iconst 1, 1) := dk_4 (dk_at dksX2_begins_1 0 rfl rfl)
theorem dX2_begins_25 : decode cX2_begins 25 = .ok (.iadd, 1) := dk_96 (dk_at dksX2_begins_1 1 rfl rfl)
theorem dX2_begins_26 : decode cX2_begins 26 = .ok (.putfield 335, 3) := dk_181 1 79 (dk_at dksX2_begins_1 2 rfl rfl)
theorem dX2_begins_29 : decode cX2_begins 29 = .ok (.return_, 1) := dk_177 (dk_at dksX2_begins_1 5 rfl rfl)
abbrev cX2_throwsAs : ByteArray := prog_31_method_80_code
def yX2_throwsAs : MethodName := ⟨RX2, "throwsAs", "(II)I"⟩
def dkwX2_throwsAs_3 : List UInt8 := [182, 1, 97, 96, 172, 42, 16, 10, 182, 1, 82, 42, 42, 180, 1, 94, 28, 182, 1, 85, 5, 104, 172]
abbrev dktX2_throwsAs_3 : List UInt8 := dkwX2_throwsAs_3 ++ []
def dkwX2_throwsAs_2 : List UInt8 := [160, 0, 28, 42, 16, 80, 182, 1, 82, 42, 7, 28, 182, 1, 91, 62, 29, 42, 42, 180, 1, 94, 5]
abbrev dktX2_throwsAs_2 : List UInt8 := dkwX2_throwsAs_2 ++ dktX2_throwsAs_3
def dkwX2_throwsAs_1 : List UInt8 := [172, 27, 5, 160, 0, 17, 42, 16, 30, 182, 1, 82, 42, 3, 28, 182, 1, 91, 116, 172, 27, 16, 7]
abbrev dktX2_throwsAs_1 : List UInt8 := dkwX2_throwsAs_1 ++ dktX2_throwsAs_2
def dkwX2_throwsAs_0 : List UInt8 := [27, 6, 159, 0, 8, 27, 8, 160, 0, 18, 42, 16, 41, 182, 1, 82, 42, 5, 28, 4, 96, 182, 1, 91]
abbrev dktX2_throwsAs_0 : List UInt8 := dkwX2_throwsAs_0 ++ dktX2_throwsAs_1
theorem dksX2_throwsAs_0 : cX2_throwsAs.data.toList.drop 0 = dktX2_throwsAs_0 := by decide +kernel
theorem dksX2_throwsAs_1 : cX2_throwsAs.data.toList.drop 24 = dktX2_throwsAs_1 := dk_seg dksX2_throwsAs_0 24 rfl rfl
theorem dksX2_throwsAs_2 : cX2_throwsAs.data.toList.drop 47 = dktX2_throwsAs_2 := dk_seg dksX2_throwsAs_1 23 rfl rfl
theorem dksX2_throwsAs_3 : cX2_throwsAs.data.toList.drop 70 = dktX2_throwsAs_3 := dk_seg dksX2_throwsAs_2 23 rfl rfl
theorem dX2_throwsAs_0 : decode cX2_throwsAs 0 = .ok (.iload_n 1, 1) := dk_27 (dk_at dksX2_throwsAs_0 0 rfl rfl)
theorem dX2_throwsAs_1 : decode cX2_throwsAs 1 = .ok (.iconst 3, 1) := dk_6 (dk_at dksX2_throwsAs_0 1 rfl rfl)
theorem dX2_throwsAs_2 : decode cX2_throwsAs 2 = .ok (.if_icmp .eq 8, 3) := dk_159 0 8 (dk_at dksX2_throwsAs_0 2 rfl rfl)
theorem dX2_throwsAs_5 : decode cX2_throwsAs 5 = .ok (.iload_n 1, 1) := dk_27 (dk_at dksX2_throwsAs_0 5 rfl rfl)
theorem dX2_throwsAs_6 : decode cX2_throwsAs 6 = .ok (.iconst 5, 1) := dk_8 (dk_at dksX2_throwsAs_0 6 rfl rfl)
theorem dX2_throwsAs_7 : decode cX2_throwsAs 7 = .ok (.if_icmp .ne 18, 3) := dk_160 0 18 (dk_at dksX2_throwsAs_0 7 rfl rfl)
theorem dX2_throwsAs_10 : decode cX2_throwsAs 10 = .ok (.aload_n 0, 1) := dk_42 (dk_at dksX2_throwsAs_0 10 rfl rfl)
theorem dX2_throwsAs_11 : decode cX2_throwsAs 11 = .ok (.bipush 41, 2) := dk_16 41 (dk_at dksX2_throwsAs_0 11 rfl rfl)
theorem dX2_throwsAs_13 : decode cX2_throwsAs 13 = .ok (.invokevirtual 338, 3) := dk_182 1 82 (dk_at dksX2_throwsAs_0 13 rfl rfl)
theorem dX2_throwsAs_16 : decode cX2_throwsAs 16 = .ok (.aload_n 0, 1) := dk_42 (dk_at dksX2_throwsAs_0 16 rfl rfl)
theorem dX2_throwsAs_17 : decode cX2_throwsAs 17 = .ok (.iconst 2, 1) := dk_5 (dk_at dksX2_throwsAs_0 17 rfl rfl)
theorem dX2_throwsAs_18 : decode cX2_throwsAs 18 = .ok (.iload_n 2, 1) := dk_28 (dk_at dksX2_throwsAs_0 18 rfl rfl)
theorem dX2_throwsAs_19 : decode cX2_throwsAs 19 = .ok (.iconst 1, 1) := dk_4 (dk_at dksX2_throwsAs_0 19 rfl rfl)
theorem dX2_throwsAs_20 : decode cX2_throwsAs 20 = .ok (.iadd, 1) := dk_96 (dk_at dksX2_throwsAs_0 20 rfl rfl)
theorem dX2_throwsAs_21 : decode cX2_throwsAs 21 = .ok (.invokevirtual 347, 3) := dk_182 1 91 (dk_at dksX2_throwsAs_0 21 rfl rfl)
theorem dX2_throwsAs_24 : decode cX2_throwsAs 24 = .ok (.ireturn, 1) := dk_172 (dk_at dksX2_throwsAs_1 0 rfl rfl)
theorem dX2_throwsAs_25 : decode cX2_throwsAs 25 = .ok (.iload_n 1, 1) := dk_27 (dk_at dksX2_throwsAs_1 1 rfl rfl)
theorem dX2_throwsAs_26 : decode cX2_throwsAs 26 = .ok (.iconst 2, 1) := dk_5 (dk_at dksX2_throwsAs_1 2 rfl rfl)
theorem dX2_throwsAs_27 : decode cX2_throwsAs 27 = .ok (.if_icmp .ne 17, 3) := dk_160 0 17 (dk_at dksX2_throwsAs_1 3 rfl rfl)
theorem dX2_throwsAs_30 : decode cX2_throwsAs 30 = .ok (.aload_n 0, 1) := dk_42 (dk_at dksX2_throwsAs_1 6 rfl rfl)
theorem dX2_throwsAs_31 : decode cX2_throwsAs 31 = .ok (.bipush 30, 2) := dk_16 30 (dk_at dksX2_throwsAs_1 7 rfl rfl)
theorem dX2_throwsAs_33 : decode cX2_throwsAs 33 = .ok (.invokevirtual 338, 3) := dk_182 1 82 (dk_at dksX2_throwsAs_1 9 rfl rfl)
theorem dX2_throwsAs_36 : decode cX2_throwsAs 36 = .ok (.aload_n 0, 1) := dk_42 (dk_at dksX2_throwsAs_1 12 rfl rfl)
theorem dX2_throwsAs_37 : decode cX2_throwsAs 37 = .ok (.iconst 0, 1) := dk_3 (dk_at dksX2_throwsAs_1 13 rfl rfl)
theorem dX2_throwsAs_38 : decode cX2_throwsAs 38 = .ok (.iload_n 2, 1) := dk_28 (dk_at dksX2_throwsAs_1 14 rfl rfl)
theorem dX2_throwsAs_39 : decode cX2_throwsAs 39 = .ok (.invokevirtual 347, 3) := dk_182 1 91 (dk_at dksX2_throwsAs_1 15 rfl rfl)
theorem dX2_throwsAs_42 : decode cX2_throwsAs 42 = .ok (.ineg, 1) := dk_116 (dk_at dksX2_throwsAs_1 18 rfl rfl)
theorem dX2_throwsAs_43 : decode cX2_throwsAs 43 = .ok (.ireturn, 1) := dk_172 (dk_at dksX2_throwsAs_1 19 rfl rfl)
theorem dX2_throwsAs_44 : decode cX2_throwsAs 44 = .ok (.iload_n 1, 1) := dk_27 (dk_at dksX2_throwsAs_1 20 rfl rfl)
theorem dX2_throwsAs_45 : decode cX2_throwsAs 45 = .ok (.bipush 7, 2) := dk_16 7 (dk_at dksX2_throwsAs_1 21 rfl rfl)
theorem dX2_throwsAs_47 : decode cX2_throwsAs 47 = .ok (.if_icmp .ne 28, 3) := dk_160 0 28 (dk_at dksX2_throwsAs_2 0 rfl rfl)
theorem dX2_throwsAs_50 : decode cX2_throwsAs 50 = .ok (.aload_n 0, 1) := dk_42 (dk_at dksX2_throwsAs_2 3 rfl rfl)
theorem dX2_throwsAs_51 : decode cX2_throwsAs 51 = .ok (.bipush 80, 2) := dk_16 80 (dk_at dksX2_throwsAs_2 4 rfl rfl)
theorem dX2_throwsAs_53 : decode cX2_throwsAs 53 = .ok (.invokevirtual 338, 3) := dk_182 1 82 (dk_at dksX2_throwsAs_2 6 rfl rfl)
theorem dX2_throwsAs_56 : decode cX2_throwsAs 56 = .ok (.aload_n 0, 1) := dk_42 (dk_at dksX2_throwsAs_2 9 rfl rfl)
theorem dX2_throwsAs_57 : decode cX2_throwsAs 57 = .ok (.iconst 4, 1) := dk_7 (dk_at dksX2_throwsAs_2 10 rfl rfl)
theorem dX2_throwsAs_58 : decode cX2_throwsAs 58 = .ok (.iload_n 2, 1) := dk_28 (dk_at dksX2_throwsAs_2 11 rfl rfl)
theorem dX2_throwsAs_59 : decode cX2_throwsAs 59 = .ok (.invokevirtual 347, 3) := dk_182 1 91 (dk_at dksX2_throwsAs_2 12 rfl rfl)
theorem dX2_throwsAs_62 : decode cX2_throwsAs 62 = .ok (.istore_n 3, 1) := dk_62 (dk_at dksX2_throwsAs_2 15 rfl rfl)
theorem dX2_throwsAs_63 : decode cX2_throwsAs 63 = .ok (.iload_n 3, 1) := dk_29 (dk_at dksX2_throwsAs_2 16 rfl rfl)
theorem dX2_throwsAs_64 : decode cX2_throwsAs 64 = .ok (.aload_n 0, 1) := dk_42 (dk_at dksX2_throwsAs_2 17 rfl rfl)
theorem dX2_throwsAs_65 : decode cX2_throwsAs 65 = .ok (.aload_n 0, 1) := dk_42 (dk_at dksX2_throwsAs_2 18 rfl rfl)
theorem dX2_throwsAs_66 : decode cX2_throwsAs 66 = .ok (.getfield 350, 3) := dk_180 1 94 (dk_at dksX2_throwsAs_2 19 rfl rfl)
theorem dX2_throwsAs_69 : decode cX2_throwsAs 69 = .ok (.iconst 2, 1) := dk_5 (dk_at dksX2_throwsAs_2 22 rfl rfl)
theorem dX2_throwsAs_70 : decode cX2_throwsAs 70 = .ok (.invokevirtual 353, 3) := dk_182 1 97 (dk_at dksX2_throwsAs_3 0 rfl rfl)
theorem dX2_throwsAs_73 : decode cX2_throwsAs 73 = .ok (.iadd, 1) := dk_96 (dk_at dksX2_throwsAs_3 3 rfl rfl)
theorem dX2_throwsAs_74 : decode cX2_throwsAs 74 = .ok (.ireturn, 1) := dk_172 (dk_at dksX2_throwsAs_3 4 rfl rfl)
theorem dX2_throwsAs_75 : decode cX2_throwsAs 75 = .ok (.aload_n 0, 1) := dk_42 (dk_at dksX2_throwsAs_3 5 rfl rfl)
theorem dX2_throwsAs_76 : decode cX2_throwsAs 76 = .ok (.bipush 10, 2) := dk_16 10 (dk_at dksX2_throwsAs_3 6 rfl rfl)
theorem dX2_throwsAs_78 : decode cX2_throwsAs 78 = .ok (.invokevirtual 338, 3) := dk_182 1 82 (dk_at dksX2_throwsAs_3 8 rfl rfl)
theorem dX2_throwsAs_81 : decode cX2_throwsAs 81 = .ok (.aload_n 0, 1) := dk_42 (dk_at dksX2_throwsAs_3 11 rfl rfl)
theorem dX2_throwsAs_82 : decode cX2_throwsAs 82 = .ok (.aload_n 0, 1) := dk_42 (dk_at dksX2_throwsAs_3 12 rfl rfl)
theorem dX2_throwsAs_83 : decode cX2_throwsAs 83 = .ok (.getfield 350, 3) := dk_180 1 94 (dk_at dksX2_throwsAs_3 13 rfl rfl)
theorem dX2_throwsAs_86 : decode cX2_throwsAs 86 = .ok (.iload_n 2, 1) := dk_28 (dk_at dksX2_throwsAs_3 16 rfl rfl)
theorem dX2_throwsAs_87 : decode cX2_throwsAs 87 = .ok (.invokevirtual 341, 3) := dk_182 1 85 (dk_at dksX2_throwsAs_3 17 rfl rfl)
theorem dX2_throwsAs_90 : decode cX2_throwsAs 90 = .ok (.iconst 2, 1) := dk_5 (dk_at dksX2_throwsAs_3 20 rfl rfl)
theorem dX2_throwsAs_91 : decode cX2_throwsAs 91 = .ok (.imul, 1) := dk_104 (dk_at dksX2_throwsAs_3 21 rfl rfl)
theorem dX2_throwsAs_92 : decode cX2_throwsAs 92 = .ok (.ireturn, 1) := dk_172 (dk_at dksX2_throwsAs_3 22 rfl rfl)
abbrev cX2_hitsAs : ByteArray := prog_31_method_81_code
def yX2_hitsAs : MethodName := ⟨RX2, "hitsAs", "(II)I"⟩
def dkwX2_hitsAs_3 : List UInt8 := [130, 172]
abbrev dktX2_hitsAs_3 : List UInt8 := dkwX2_hitsAs_3 ++ []
def dkwX2_hitsAs_2 : List UInt8 := [62, 29, 42, 42, 180, 1, 94, 5, 182, 1, 85, 100, 172, 42, 16, 11, 182, 1, 82, 28, 42, 180, 1, 88]
abbrev dktX2_hitsAs_2 : List UInt8 := dkwX2_hitsAs_2 ++ dktX2_hitsAs_3
def dkwX2_hitsAs_1 : List UInt8 := [172, 27, 7, 159, 0, 9, 27, 16, 7, 160, 0, 28, 42, 16, 50, 182, 1, 82, 42, 4, 28, 182, 1, 97]
abbrev dktX2_hitsAs_1 : List UInt8 := dkwX2_hitsAs_1 ++ dktX2_hitsAs_2
def dkwX2_hitsAs_0 : List UInt8 := [27, 6, 159, 0, 8, 27, 8, 160, 0, 18, 42, 16, 40, 182, 1, 82, 42, 5, 28, 182, 1, 97, 6, 104]
abbrev dktX2_hitsAs_0 : List UInt8 := dkwX2_hitsAs_0 ++ dktX2_hitsAs_1
theorem dksX2_hitsAs_0 : cX2_hitsAs.data.toList.drop 0 = dktX2_hitsAs_0 := by decide +kernel
theorem dksX2_hitsAs_1 : cX2_hitsAs.data.toList.drop 24 = dktX2_hitsAs_1 := dk_seg dksX2_hitsAs_0 24 rfl rfl
theorem dksX2_hitsAs_2 : cX2_hitsAs.data.toList.drop 48 = dktX2_hitsAs_2 := dk_seg dksX2_hitsAs_1 24 rfl rfl
theorem dksX2_hitsAs_3 : cX2_hitsAs.data.toList.drop 72 = dktX2_hitsAs_3 := dk_seg dksX2_hitsAs_2 24 rfl rfl
theorem dX2_hitsAs_0 : decode cX2_hitsAs 0 = .ok (.iload_n 1, 1) := dk_27 (dk_at dksX2_hitsAs_0 0 rfl rfl)
theorem dX2_hitsAs_1 : decode cX2_hitsAs 1 = .ok (.iconst 3, 1) := dk_6 (dk_at dksX2_hitsAs_0 1 rfl rfl)
theorem dX2_hitsAs_2 : decode cX2_hitsAs 2 = .ok (.if_icmp .eq 8, 3) := dk_159 0 8 (dk_at dksX2_hitsAs_0 2 rfl rfl)
theorem dX2_hitsAs_5 : decode cX2_hitsAs 5 = .ok (.iload_n 1, 1) := dk_27 (dk_at dksX2_hitsAs_0 5 rfl rfl)
theorem dX2_hitsAs_6 : decode cX2_hitsAs 6 = .ok (.iconst 5, 1) := dk_8 (dk_at dksX2_hitsAs_0 6 rfl rfl)
theorem dX2_hitsAs_7 : decode cX2_hitsAs 7 = .ok (.if_icmp .ne 18, 3) := dk_160 0 18 (dk_at dksX2_hitsAs_0 7 rfl rfl)
theorem dX2_hitsAs_10 : decode cX2_hitsAs 10 = .ok (.aload_n 0, 1) := dk_42 (dk_at dksX2_hitsAs_0 10 rfl rfl)
theorem dX2_hitsAs_11 : decode cX2_hitsAs 11 = .ok (.bipush 40, 2) := dk_16 40 (dk_at dksX2_hitsAs_0 11 rfl rfl)
theorem dX2_hitsAs_13 : decode cX2_hitsAs 13 = .ok (.invokevirtual 338, 3) := dk_182 1 82 (dk_at dksX2_hitsAs_0 13 rfl rfl)
theorem dX2_hitsAs_16 : decode cX2_hitsAs 16 = .ok (.aload_n 0, 1) := dk_42 (dk_at dksX2_hitsAs_0 16 rfl rfl)
theorem dX2_hitsAs_17 : decode cX2_hitsAs 17 = .ok (.iconst 2, 1) := dk_5 (dk_at dksX2_hitsAs_0 17 rfl rfl)
theorem dX2_hitsAs_18 : decode cX2_hitsAs 18 = .ok (.iload_n 2, 1) := dk_28 (dk_at dksX2_hitsAs_0 18 rfl rfl)
theorem dX2_hitsAs_19 : decode cX2_hitsAs 19 = .ok (.invokevirtual 353, 3) := dk_182 1 97 (dk_at dksX2_hitsAs_0 19 rfl rfl)
theorem dX2_hitsAs_22 : decode cX2_hitsAs 22 = .ok (.iconst 3, 1) := dk_6 (dk_at dksX2_hitsAs_0 22 rfl rfl)
theorem dX2_hitsAs_23 : decode cX2_hitsAs 23 = .ok (.imul, 1) := dk_104 (dk_at dksX2_hitsAs_0 23 rfl rfl)
theorem dX2_hitsAs_24 : decode cX2_hitsAs 24 = .ok (.ireturn, 1) := dk_172 (dk_at dksX2_hitsAs_1 0 rfl rfl)
theorem dX2_hitsAs_25 : decode cX2_hitsAs 25 = .ok (.iload_n 1, 1) := dk_27 (dk_at dksX2_hitsAs_1 1 rfl rfl)
theorem dX2_hitsAs_26 : decode cX2_hitsAs 26 = .ok (.iconst 4, 1) := dk_7 (dk_at dksX2_hitsAs_1 2 rfl rfl)
theorem dX2_hitsAs_27 : decode cX2_hitsAs 27 = .ok (.if_icmp .eq 9, 3) := dk_159 0 9 (dk_at dksX2_hitsAs_1 3 rfl rfl)
theorem dX2_hitsAs_30 : decode cX2_hitsAs 30 = .ok (.iload_n 1, 1) := dk_27 (dk_at dksX2_hitsAs_1 6 rfl rfl)
theorem dX2_hitsAs_31 : decode cX2_hitsAs 31 = .ok (.bipush 7, 2) := dk_16 7 (dk_at dksX2_hitsAs_1 7 rfl rfl)
theorem dX2_hitsAs_33 : decode cX2_hitsAs 33 = .ok (.if_icmp .ne 28, 3) := dk_160 0 28 (dk_at dksX2_hitsAs_1 9 rfl rfl)
theorem dX2_hitsAs_36 : decode cX2_hitsAs 36 = .ok (.aload_n 0, 1) := dk_42 (dk_at dksX2_hitsAs_1 12 rfl rfl)
theorem dX2_hitsAs_37 : decode cX2_hitsAs 37 = .ok (.bipush 50, 2) := dk_16 50 (dk_at dksX2_hitsAs_1 13 rfl rfl)
theorem dX2_hitsAs_39 : decode cX2_hitsAs 39 = .ok (.invokevirtual 338, 3) := dk_182 1 82 (dk_at dksX2_hitsAs_1 15 rfl rfl)
theorem dX2_hitsAs_42 : decode cX2_hitsAs 42 = .ok (.aload_n 0, 1) := dk_42 (dk_at dksX2_hitsAs_1 18 rfl rfl)
theorem dX2_hitsAs_43 : decode cX2_hitsAs 43 = .ok (.iconst 1, 1) := dk_4 (dk_at dksX2_hitsAs_1 19 rfl rfl)
theorem dX2_hitsAs_44 : decode cX2_hitsAs 44 = .ok (.iload_n 2, 1) := dk_28 (dk_at dksX2_hitsAs_1 20 rfl rfl)
theorem dX2_hitsAs_45 : decode cX2_hitsAs 45 = .ok (.invokevirtual 353, 3) := dk_182 1 97 (dk_at dksX2_hitsAs_1 21 rfl rfl)
theorem dX2_hitsAs_48 : decode cX2_hitsAs 48 = .ok (.istore_n 3, 1) := dk_62 (dk_at dksX2_hitsAs_2 0 rfl rfl)
theorem dX2_hitsAs_49 : decode cX2_hitsAs 49 = .ok (.iload_n 3, 1) := dk_29 (dk_at dksX2_hitsAs_2 1 rfl rfl)
theorem dX2_hitsAs_50 : decode cX2_hitsAs 50 = .ok (.aload_n 0, 1) := dk_42 (dk_at dksX2_hitsAs_2 2 rfl rfl)
theorem dX2_hitsAs_51 : decode cX2_hitsAs 51 = .ok (.aload_n 0, 1) := dk_42 (dk_at dksX2_hitsAs_2 3 rfl rfl)
theorem dX2_hitsAs_52 : decode cX2_hitsAs 52 = .ok (.getfield 350, 3) := dk_180 1 94 (dk_at dksX2_hitsAs_2 4 rfl rfl)
theorem dX2_hitsAs_55 : decode cX2_hitsAs 55 = .ok (.iconst 2, 1) := dk_5 (dk_at dksX2_hitsAs_2 7 rfl rfl)
theorem dX2_hitsAs_56 : decode cX2_hitsAs 56 = .ok (.invokevirtual 341, 3) := dk_182 1 85 (dk_at dksX2_hitsAs_2 8 rfl rfl)
theorem dX2_hitsAs_59 : decode cX2_hitsAs 59 = .ok (.isub, 1) := dk_100 (dk_at dksX2_hitsAs_2 11 rfl rfl)
theorem dX2_hitsAs_60 : decode cX2_hitsAs 60 = .ok (.ireturn, 1) := dk_172 (dk_at dksX2_hitsAs_2 12 rfl rfl)
theorem dX2_hitsAs_61 : decode cX2_hitsAs 61 = .ok (.aload_n 0, 1) := dk_42 (dk_at dksX2_hitsAs_2 13 rfl rfl)
theorem dX2_hitsAs_62 : decode cX2_hitsAs 62 = .ok (.bipush 11, 2) := dk_16 11 (dk_at dksX2_hitsAs_2 14 rfl rfl)
theorem dX2_hitsAs_64 : decode cX2_hitsAs 64 = .ok (.invokevirtual 338, 3) := dk_182 1 82 (dk_at dksX2_hitsAs_2 16 rfl rfl)
theorem dX2_hitsAs_67 : decode cX2_hitsAs 67 = .ok (.iload_n 2, 1) := dk_28 (dk_at dksX2_hitsAs_2 19 rfl rfl)
theorem dX2_hitsAs_68 : decode cX2_hitsAs 68 = .ok (.aload_n 0, 1) := dk_42 (dk_at dksX2_hitsAs_2 20 rfl rfl)
theorem dX2_hitsAs_69 : decode cX2_hitsAs 69 = .ok (.getfield 344, 3) := dk_180 1 88 (dk_at dksX2_hitsAs_2 21 rfl rfl)
theorem dX2_hitsAs_72 : decode cX2_hitsAs 72 = .ok (.ixor, 1) := dk_130 (dk_at dksX2_hitsAs_3 0 rfl rfl)
theorem dX2_hitsAs_73 : decode cX2_hitsAs 73 = .ok (.ireturn, 1) := dk_172 (dk_at dksX2_hitsAs_3 1 rfl rfl)
abbrev cX2_tellsAs : ByteArray := prog_31_method_82_code
def yX2_tellsAs : MethodName := ⟨RX2, "tellsAs", "(II)I"⟩
def dkwX2_tellsAs_2 : List UInt8 := [42, 180, 1, 94, 28, 182, 1, 91, 62, 29, 42, 42, 180, 1, 94, 4, 182, 1, 97, 100, 172]
abbrev dktX2_tellsAs_2 : List UInt8 := dkwX2_tellsAs_2 ++ []
def dkwX2_tellsAs_1 : List UInt8 := [160, 0, 18, 42, 16, 81, 182, 1, 82, 42, 7, 28, 182, 1, 100, 4, 100, 172, 42, 5, 182, 1, 82, 42]
abbrev dktX2_tellsAs_1 : List UInt8 := dkwX2_tellsAs_1 ++ dktX2_tellsAs_2
def dkwX2_tellsAs_0 : List UInt8 := [27, 8, 160, 0, 18, 42, 16, 60, 182, 1, 82, 42, 6, 28, 182, 1, 100, 8, 130, 172, 27, 16, 7]
abbrev dktX2_tellsAs_0 : List UInt8 := dkwX2_tellsAs_0 ++ dktX2_tellsAs_1
theorem dksX2_tellsAs_0 : cX2_tellsAs.data.toList.drop 0 = dktX2_tellsAs_0 := by decide +kernel
theorem dksX2_tellsAs_1 : cX2_tellsAs.data.toList.drop 23 = dktX2_tellsAs_1 := dk_seg dksX2_tellsAs_0 23 rfl rfl
theorem dksX2_tellsAs_2 : cX2_tellsAs.data.toList.drop 47 = dktX2_tellsAs_2 := dk_seg dksX2_tellsAs_1 24 rfl rfl
theorem dX2_tellsAs_0 : decode cX2_tellsAs 0 = .ok (.iload_n 1, 1) := dk_27 (dk_at dksX2_tellsAs_0 0 rfl rfl)
theorem dX2_tellsAs_1 : decode cX2_tellsAs 1 = .ok (.iconst 5, 1) := dk_8 (dk_at dksX2_tellsAs_0 1 rfl rfl)
theorem dX2_tellsAs_2 : decode cX2_tellsAs 2 = .ok (.if_icmp .ne 18, 3) := dk_160 0 18 (dk_at dksX2_tellsAs_0 2 rfl rfl)
theorem dX2_tellsAs_5 : decode cX2_tellsAs 5 = .ok (.aload_n 0, 1) := dk_42 (dk_at dksX2_tellsAs_0 5 rfl rfl)
theorem dX2_tellsAs_6 : decode cX2_tellsAs 6 = .ok (.bipush 60, 2) := dk_16 60 (dk_at dksX2_tellsAs_0 6 rfl rfl)
theorem dX2_tellsAs_8 : decode cX2_tellsAs 8 = .ok (.invokevirtual 338, 3) := dk_182 1 82 (dk_at dksX2_tellsAs_0 8 rfl rfl)
theorem dX2_tellsAs_11 : decode cX2_tellsAs 11 = .ok (.aload_n 0, 1) := dk_42 (dk_at dksX2_tellsAs_0 11 rfl rfl)
theorem dX2_tellsAs_12 : decode cX2_tellsAs 12 = .ok (.iconst 3, 1) := dk_6 (dk_at dksX2_tellsAs_0 12 rfl rfl)
theorem dX2_tellsAs_13 : decode cX2_tellsAs 13 = .ok (.iload_n 2, 1) := dk_28 (dk_at dksX2_tellsAs_0 13 rfl rfl)
theorem dX2_tellsAs_14 : decode cX2_tellsAs 14 = .ok (.invokevirtual 356, 3) := dk_182 1 100 (dk_at dksX2_tellsAs_0 14 rfl rfl)
theorem dX2_tellsAs_17 : decode cX2_tellsAs 17 = .ok (.iconst 5, 1) := dk_8 (dk_at dksX2_tellsAs_0 17 rfl rfl)
theorem dX2_tellsAs_18 : decode cX2_tellsAs 18 = .ok (.ixor, 1) := dk_130 (dk_at dksX2_tellsAs_0 18 rfl rfl)
theorem dX2_tellsAs_19 : decode cX2_tellsAs 19 = .ok (.ireturn, 1) := dk_172 (dk_at dksX2_tellsAs_0 19 rfl rfl)
theorem dX2_tellsAs_20 : decode cX2_tellsAs 20 = .ok (.iload_n 1, 1) := dk_27 (dk_at dksX2_tellsAs_0 20 rfl rfl)
theorem dX2_tellsAs_21 : decode cX2_tellsAs 21 = .ok (.bipush 7, 2) := dk_16 7 (dk_at dksX2_tellsAs_0 21 rfl rfl)
theorem dX2_tellsAs_23 : decode cX2_tellsAs 23 = .ok (.if_icmp .ne 18, 3) := dk_160 0 18 (dk_at dksX2_tellsAs_1 0 rfl rfl)
theorem dX2_tellsAs_26 : decode cX2_tellsAs 26 = .ok (.aload_n 0, 1) := dk_42 (dk_at dksX2_tellsAs_1 3 rfl rfl)
theorem dX2_tellsAs_27 : decode cX2_tellsAs 27 = .ok (.bipush 81, 2) := dk_16 81 (dk_at dksX2_tellsAs_1 4 rfl rfl)
theorem dX2_tellsAs_29 : decode cX2_tellsAs 29 = .ok (.invokevirtual 338, 3) := dk_182 1 82 (dk_at dksX2_tellsAs_1 6 rfl rfl)
theorem dX2_tellsAs_32 : decode cX2_tellsAs 32 = .ok (.aload_n 0, 1) := dk_42 (dk_at dksX2_tellsAs_1 9 rfl rfl)
theorem dX2_tellsAs_33 : decode cX2_tellsAs 33 = .ok (.iconst 4, 1) := dk_7 (dk_at dksX2_tellsAs_1 10 rfl rfl)
theorem dX2_tellsAs_34 : decode cX2_tellsAs 34 = .ok (.iload_n 2, 1) := dk_28 (dk_at dksX2_tellsAs_1 11 rfl rfl)
theorem dX2_tellsAs_35 : decode cX2_tellsAs 35 = .ok (.invokevirtual 356, 3) := dk_182 1 100 (dk_at dksX2_tellsAs_1 12 rfl rfl)
theorem dX2_tellsAs_38 : decode cX2_tellsAs 38 = .ok (.iconst 1, 1) := dk_4 (dk_at dksX2_tellsAs_1 15 rfl rfl)
theorem dX2_tellsAs_39 : decode cX2_tellsAs 39 = .ok (.isub, 1) := dk_100 (dk_at dksX2_tellsAs_1 16 rfl rfl)
theorem dX2_tellsAs_40 : decode cX2_tellsAs 40 = .ok (.ireturn, 1) := dk_172 (dk_at dksX2_tellsAs_1 17 rfl rfl)
theorem dX2_tellsAs_41 : decode cX2_tellsAs 41 = .ok (.aload_n 0, 1) := dk_42 (dk_at dksX2_tellsAs_1 18 rfl rfl)
theorem dX2_tellsAs_42 : decode cX2_tellsAs 42 = .ok (.iconst 2, 1) := dk_5 (dk_at dksX2_tellsAs_1 19 rfl rfl)
theorem dX2_tellsAs_43 : decode cX2_tellsAs 43 = .ok (.invokevirtual 338, 3) := dk_182 1 82 (dk_at dksX2_tellsAs_1 20 rfl rfl)
theorem dX2_tellsAs_46 : decode cX2_tellsAs 46 = .ok (.aload_n 0, 1) := dk_42 (dk_at dksX2_tellsAs_1 23 rfl rfl)
theorem dX2_tellsAs_47 : decode cX2_tellsAs 47 = .ok (.aload_n 0, 1) := dk_42 (dk_at dksX2_tellsAs_2 0 rfl rfl)
theorem dX2_tellsAs_48 : decode cX2_tellsAs 48 = .ok (.getfield 350, 3) := dk_180 1 94 (dk_at dksX2_tellsAs_2 1 rfl rfl)
theorem dX2_tellsAs_51 : decode cX2_tellsAs 51 = .ok (.iload_n 2, 1) := dk_28 (dk_at dksX2_tellsAs_2 4 rfl rfl)
theorem dX2_tellsAs_52 : decode cX2_tellsAs 52 = .ok (.invokevirtual 347, 3) := dk_182 1 91 (dk_at dksX2_tellsAs_2 5 rfl rfl)
theorem dX2_tellsAs_55 : decode cX2_tellsAs 55 = .ok (.istore_n 3, 1) := dk_62 (dk_at dksX2_tellsAs_2 8 rfl rfl)
theorem dX2_tellsAs_56 : decode cX2_tellsAs 56 = .ok (.iload_n 3, 1) := dk_29 (dk_at dksX2_tellsAs_2 9 rfl rfl)
theorem dX2_tellsAs_57 : decode cX2_tellsAs 57 = .ok (.aload_n 0, 1) := dk_42 (dk_at dksX2_tellsAs_2 10 rfl rfl)
theorem dX2_tellsAs_58 : decode cX2_tellsAs 58 = .ok (.aload_n 0, 1) := dk_42 (dk_at dksX2_tellsAs_2 11 rfl rfl)
theorem dX2_tellsAs_59 : decode cX2_tellsAs 59 = .ok (.getfield 350, 3) := dk_180 1 94 (dk_at dksX2_tellsAs_2 12 rfl rfl)
theorem dX2_tellsAs_62 : decode cX2_tellsAs 62 = .ok (.iconst 1, 1) := dk_4 (dk_at dksX2_tellsAs_2 15 rfl rfl)
theorem dX2_tellsAs_63 : decode cX2_tellsAs 63 = .ok (.invokevirtual 353, 3) := dk_182 1 97 (dk_at dksX2_tellsAs_2 16 rfl rfl)
theorem dX2_tellsAs_66 : decode cX2_tellsAs 66 = .ok (.isub, 1) := dk_100 (dk_at dksX2_tellsAs_2 19 rfl rfl)
theorem dX2_tellsAs_67 : decode cX2_tellsAs 67 = .ok (.ireturn, 1) := dk_172 (dk_at dksX2_tellsAs_2 20 rfl rfl)
abbrev cX2_trace : ByteArray := prog_31_method_84_code
def yX2_trace : MethodName := ⟨RX2, "trace", "(I)I"⟩
def dkwX2_trace_1 : List UInt8 := [167, 0, 4, 2, 172]
abbrev dktX2_trace_1 : List UInt8 := dkwX2_trace_1 ++ []
def dkwX2_trace_0 : List UInt8 := [27, 155, 0, 26, 27, 42, 180, 1, 79, 162, 0, 18, 27, 16, 24, 162, 0, 12, 42, 180, 0, 68, 27, 46]
abbrev dktX2_trace_0 : List UInt8 := dkwX2_trace_0 ++ dktX2_trace_1
theorem dksX2_trace_0 : cX2_trace.data.toList.drop 0 = dktX2_trace_0 := by decide +kernel
theorem dksX2_trace_1 : cX2_trace.data.toList.drop 24 = dktX2_trace_1 := dk_seg dksX2_trace_0 24 rfl rfl
theorem dX2_trace_0 : decode cX2_trace 0 = .ok (.iload_n 1, 1) := dk_27 (dk_at dksX2_trace_0 0 rfl rfl)
theorem dX2_trace_1 : decode cX2_trace 1 = .ok (.ifCond .lt 26, 3) := dk_155 0 26 (dk_at dksX2_trace_0 1 rfl rfl)
theorem dX2_trace_4 : decode cX2_trace 4 = .ok (.iload_n 1, 1) := dk_27 (dk_at dksX2_trace_0 4 rfl rfl)
theorem dX2_trace_5 : decode cX2_trace 5 = .ok (.aload_n 0, 1) := dk_42 (dk_at dksX2_trace_0 5 rfl rfl)
theorem dX2_trace_6 : decode cX2_trace 6 = .ok (.getfield 335, 3) := dk_180 1 79 (dk_at dksX2_trace_0 6 rfl rfl)
theorem dX2_trace_9 : decode cX2_trace 9 = .ok (.if_icmp .ge 18, 3) := dk_162 0 18 (dk_at dksX2_trace_0 9 rfl rfl)
theorem dX2_trace_12 : decode cX2_trace 12 = .ok (.iload_n 1, 1) := dk_27 (dk_at dksX2_trace_0 12 rfl rfl)
theorem dX2_trace_13 : decode cX2_trace 13 = .ok (.bipush 24, 2) := dk_16 24 (dk_at dksX2_trace_0 13 rfl rfl)
theorem dX2_trace_15 : decode cX2_trace 15 = .ok (.if_icmp .ge 12, 3) := dk_162 0 12 (dk_at dksX2_trace_0 15 rfl rfl)
theorem dX2_trace_18 : decode cX2_trace 18 = .ok (.aload_n 0, 1) := dk_42 (dk_at dksX2_trace_0 18 rfl rfl)
theorem dX2_trace_19 : decode cX2_trace 19 = .ok (.getfield 68, 3) := dk_180 0 68 (dk_at dksX2_trace_0 19 rfl rfl)
theorem dX2_trace_22 : decode cX2_trace 22 = .ok (.iload_n 1, 1) := dk_27 (dk_at dksX2_trace_0 22 rfl rfl)
theorem dX2_trace_23 : decode cX2_trace 23 = .ok (.iaload, 1) := dk_46 (dk_at dksX2_trace_0 23 rfl rfl)
theorem dX2_trace_24 : decode cX2_trace 24 = .ok (.goto 4, 3) := dk_167 0 4 (dk_at dksX2_trace_1 0 rfl rfl)
theorem dX2_trace_27 : decode cX2_trace 27 = .ok (.iconst (-1), 1) := dk_2 (dk_at dksX2_trace_1 3 rfl rfl)
theorem dX2_trace_28 : decode cX2_trace 28 = .ok (.ireturn, 1) := dk_172 (dk_at dksX2_trace_1 4 rfl rfl)
abbrev cX2_keep : ByteArray := prog_31_method_86_code
def yX2_keep : MethodName := ⟨RX2, "keep", "(II)I"⟩
def dkwX2_keep_1 : List UInt8 := [180, 0, 71, 27, 28, 79, 42, 180, 0, 74, 27, 3, 79, 4, 172]
abbrev dktX2_keep_1 : List UInt8 := dkwX2_keep_1 ++ []
def dkwX2_keep_0 : List UInt8 := [27, 184, 0, 118, 153, 0, 16, 28, 2, 159, 0, 13, 42, 28, 182, 1, 103, 154, 0, 5, 2, 172, 42]
abbrev dktX2_keep_0 : List UInt8 := dkwX2_keep_0 ++ dktX2_keep_1
theorem dksX2_keep_0 : cX2_keep.data.toList.drop 0 = dktX2_keep_0 := by decide +kernel
theorem dksX2_keep_1 : cX2_keep.data.toList.drop 23 = dktX2_keep_1 := dk_seg dksX2_keep_0 23 rfl rfl
theorem dX2_keep_0 : decode cX2_keep 0 = .ok (.iload_n 1, 1) := dk_27 (dk_at dksX2_keep_0 0 rfl rfl)
theorem dX2_keep_1 : decode cX2_keep 1 = .ok (.invokestatic 118, 3) := dk_184 0 118 (dk_at dksX2_keep_0 1 rfl rfl)
theorem dX2_keep_4 : decode cX2_keep 4 = .ok (.ifCond .eq 16, 3) := dk_153 0 16 (dk_at dksX2_keep_0 4 rfl rfl)
theorem dX2_keep_7 : decode cX2_keep 7 = .ok (.iload_n 2, 1) := dk_28 (dk_at dksX2_keep_0 7 rfl rfl)
theorem dX2_keep_8 : decode cX2_keep 8 = .ok (.iconst (-1), 1) := dk_2 (dk_at dksX2_keep_0 8 rfl rfl)
theorem dX2_keep_9 : decode cX2_keep 9 = .ok (.if_icmp .eq 13, 3) := dk_159 0 13 (dk_at dksX2_keep_0 9 rfl rfl)
theorem dX2_keep_12 : decode cX2_keep 12 = .ok (.aload_n 0, 1) := dk_42 (dk_at dksX2_keep_0 12 rfl rfl)
theorem dX2_keep_13 : decode cX2_keep 13 = .ok (.iload_n 2, 1) := dk_28 (dk_at dksX2_keep_0 13 rfl rfl)
theorem dX2_keep_14 : decode cX2_keep 14 = .ok (.invokevirtual 359, 3) := dk_182 1 103 (dk_at dksX2_keep_0 14 rfl rfl)
theorem dX2_keep_17 : decode cX2_keep 17 = .ok (.ifCond .ne 5, 3) := dk_154 0 5 (dk_at dksX2_keep_0 17 rfl rfl)
theorem dX2_keep_20 : decode cX2_keep 20 = .ok (.iconst (-1), 1) := dk_2 (dk_at dksX2_keep_0 20 rfl rfl)
theorem dX2_keep_21 : decode cX2_keep 21 = .ok (.ireturn, 1) := dk_172 (dk_at dksX2_keep_0 21 rfl rfl)
theorem dX2_keep_22 : decode cX2_keep 22 = .ok (.aload_n 0, 1) := dk_42 (dk_at dksX2_keep_0 22 rfl rfl)
theorem dX2_keep_23 : decode cX2_keep 23 = .ok (.getfield 71, 3) := dk_180 0 71 (dk_at dksX2_keep_1 0 rfl rfl)
theorem dX2_keep_26 : decode cX2_keep 26 = .ok (.iload_n 1, 1) := dk_27 (dk_at dksX2_keep_1 3 rfl rfl)
theorem dX2_keep_27 : decode cX2_keep 27 = .ok (.iload_n 2, 1) := dk_28 (dk_at dksX2_keep_1 4 rfl rfl)
theorem dX2_keep_28 : decode cX2_keep 28 = .ok (.iastore, 1) := dk_79 (dk_at dksX2_keep_1 5 rfl rfl)
theorem dX2_keep_29 : decode cX2_keep 29 = .ok (.aload_n 0, 1) := dk_42 (dk_at dksX2_keep_1 6 rfl rfl)
theorem dX2_keep_30 : decode cX2_keep 30 = .ok (.getfield 74, 3) := dk_180 0 74 (dk_at dksX2_keep_1 7 rfl rfl)
theorem dX2_keep_33 : decode cX2_keep 33 = .ok (.iload_n 1, 1) := dk_27 (dk_at dksX2_keep_1 10 rfl rfl)
theorem dX2_keep_34 : decode cX2_keep 34 = .ok (.iconst 0, 1) := dk_3 (dk_at dksX2_keep_1 11 rfl rfl)
theorem dX2_keep_35 : decode cX2_keep 35 = .ok (.iastore, 1) := dk_79 (dk_at dksX2_keep_1 12 rfl rfl)
theorem dX2_keep_36 : decode cX2_keep 36 = .ok (.iconst 1, 1) := dk_4 (dk_at dksX2_keep_1 13 rfl rfl)
theorem dX2_keep_37 : decode cX2_keep 37 = .ok (.ireturn, 1) := dk_172 (dk_at dksX2_keep_1 14 rfl rfl)
abbrev cX2_row : ByteArray := prog_31_method_87_code
def yX2_row : MethodName := ⟨RX2, "row", "(III)I"⟩
def dkwX2_row_3 : List UInt8 := [42, 180, 0, 77, 21, 4, 9, 80, 132, 4, 1, 167, 255, 233, 4, 172]
abbrev dktX2_row_3 : List UInt8 := dkwX2_row_3 ++ []
def dkwX2_row_2 : List UInt8 := [180, 0, 74, 27, 29, 79, 16, 60, 27, 104, 54, 4, 21, 4, 16, 60, 27, 104, 16, 60, 96, 162, 0, 17]
abbrev dktX2_row_2 : List UInt8 := dkwX2_row_2 ++ dktX2_row_3
def dkwX2_row_1 : List UInt8 := [164, 0, 5, 2, 172, 29, 156, 0, 6, 16, 242, 172, 42, 180, 0, 71, 27, 16, 50, 28, 96, 79, 42]
abbrev dktX2_row_1 : List UInt8 := dkwX2_row_1 ++ dktX2_row_2
def dkwX2_row_0 : List UInt8 := [27, 184, 0, 118, 153, 0, 21, 28, 133, 9, 20, 0, 122, 184, 0, 99, 153, 0, 9, 29, 16, 60]
abbrev dktX2_row_0 : List UInt8 := dkwX2_row_0 ++ dktX2_row_1
theorem dksX2_row_0 : cX2_row.data.toList.drop 0 = dktX2_row_0 := by decide +kernel
theorem dksX2_row_1 : cX2_row.data.toList.drop 22 = dktX2_row_1 := dk_seg dksX2_row_0 22 rfl rfl
theorem dksX2_row_2 : cX2_row.data.toList.drop 45 = dktX2_row_2 := dk_seg dksX2_row_1 23 rfl rfl
theorem dksX2_row_3 : cX2_row.data.toList.drop 69 = dktX2_row_3 := dk_seg dksX2_row_2 24 rfl rfl
theorem dX2_row_0 : decode cX2_row 0 = .ok (.iload_n 1, 1) := dk_27 (dk_at dksX2_row_0 0 rfl rfl)
theorem dX2_row_1 : decode cX2_row 1 = .ok (.invokestatic 118, 3) := dk_184 0 118 (dk_at dksX2_row_0 1 rfl rfl)
theorem dX2_row_4 : decode cX2_row 4 = .ok (.ifCond .eq 21, 3) := dk_153 0 21 (dk_at dksX2_row_0 4 rfl rfl)
theorem dX2_row_7 : decode cX2_row 7 = .ok (.iload_n 2, 1) := dk_28 (dk_at dksX2_row_0 7 rfl rfl)
theorem dX2_row_8 : decode cX2_row 8 = .ok (.i2l, 1) := dk_133 (dk_at dksX2_row_0 8 rfl rfl)
theorem dX2_row_9 : decode cX2_row 9 = .ok (.lconst 0, 1) := dk_9 (dk_at dksX2_row_0 9 rfl rfl)
theorem dX2_row_10 : decode cX2_row 10 = .ok (.ldc2_w 122, 3) := dk_20 0 122 (dk_at dksX2_row_0 10 rfl rfl)
theorem dX2_row_13 : decode cX2_row 13 = .ok (.invokestatic 99, 3) := dk_184 0 99 (dk_at dksX2_row_0 13 rfl rfl)
theorem dX2_row_16 : decode cX2_row 16 = .ok (.ifCond .eq 9, 3) := dk_153 0 9 (dk_at dksX2_row_0 16 rfl rfl)
theorem dX2_row_19 : decode cX2_row 19 = .ok (.iload_n 3, 1) := dk_29 (dk_at dksX2_row_0 19 rfl rfl)
theorem dX2_row_20 : decode cX2_row 20 = .ok (.bipush 60, 2) := dk_16 60 (dk_at dksX2_row_0 20 rfl rfl)
theorem dX2_row_22 : decode cX2_row 22 = .ok (.if_icmp .le 5, 3) := dk_164 0 5 (dk_at dksX2_row_1 0 rfl rfl)
theorem dX2_row_25 : decode cX2_row 25 = .ok (.iconst (-1), 1) := dk_2 (dk_at dksX2_row_1 3 rfl rfl)
theorem dX2_row_26 : decode cX2_row 26 = .ok (.ireturn, 1) := dk_172 (dk_at dksX2_row_1 4 rfl rfl)
theorem dX2_row_27 : decode cX2_row 27 = .ok (.iload_n 3, 1) := dk_29 (dk_at dksX2_row_1 5 rfl rfl)
theorem dX2_row_28 : decode cX2_row 28 = .ok (.ifCond .ge 6, 3) := dk_156 0 6 (dk_at dksX2_row_1 6 rfl rfl)
theorem dX2_row_31 : decode cX2_row 31 = .ok (.bipush (-14), 2) := dk_16 242 (dk_at dksX2_row_1 9 rfl rfl)
theorem dX2_row_33 : decode cX2_row 33 = .ok (.ireturn, 1) := dk_172 (dk_at dksX2_row_1 11 rfl rfl)
theorem dX2_row_34 : decode cX2_row 34 = .ok (.aload_n 0, 1) := dk_42 (dk_at dksX2_row_1 12 rfl rfl)
theorem dX2_row_35 : decode cX2_row 35 = .ok (.getfield 71, 3) := dk_180 0 71 (dk_at dksX2_row_1 13 rfl rfl)
theorem dX2_row_38 : decode cX2_row 38 = .ok (.iload_n 1, 1) := dk_27 (dk_at dksX2_row_1 16 rfl rfl)
theorem dX2_row_39 : decode cX2_row 39 = .ok (.bipush 50, 2) := dk_16 50 (dk_at dksX2_row_1 17 rfl rfl)
theorem dX2_row_41 : decode cX2_row 41 = .ok (.iload_n 2, 1) := dk_28 (dk_at dksX2_row_1 19 rfl rfl)
theorem dX2_row_42 : decode cX2_row 42 = .ok (.iadd, 1) := dk_96 (dk_at dksX2_row_1 20 rfl rfl)
theorem dX2_row_43 : decode cX2_row 43 = .ok (.iastore, 1) := dk_79 (dk_at dksX2_row_1 21 rfl rfl)
theorem dX2_row_44 : decode cX2_row 44 = .ok (.aload_n 0, 1) := dk_42 (dk_at dksX2_row_1 22 rfl rfl)
theorem dX2_row_45 : decode cX2_row 45 = .ok (.getfield 74, 3) := dk_180 0 74 (dk_at dksX2_row_2 0 rfl rfl)
theorem dX2_row_48 : decode cX2_row 48 = .ok (.iload_n 1, 1) := dk_27 (dk_at dksX2_row_2 3 rfl rfl)
theorem dX2_row_49 : decode cX2_row 49 = .ok (.iload_n 3, 1) := dk_29 (dk_at dksX2_row_2 4 rfl rfl)
theorem dX2_row_50 : decode cX2_row 50 = .ok (.iastore, 1) := dk_79 (dk_at dksX2_row_2 5 rfl rfl)
theorem dX2_row_51 : decode cX2_row 51 = .ok (.bipush 60, 2) := dk_16 60 (dk_at dksX2_row_2 6 rfl rfl)
theorem dX2_row_53 : decode cX2_row 53 = .ok (.iload_n 1, 1) := dk_27 (dk_at dksX2_row_2 8 rfl rfl)
theorem dX2_row_54 : decode cX2_row 54 = .ok (.imul, 1) := dk_104 (dk_at dksX2_row_2 9 rfl rfl)
theorem dX2_row_55 : decode cX2_row 55 = .ok (.istore 4, 2) := dk_54 4 (dk_at dksX2_row_2 10 rfl rfl)
theorem dX2_row_57 : decode cX2_row 57 = .ok (.iload 4, 2) := dk_21 4 (dk_at dksX2_row_2 12 rfl rfl)
theorem dX2_row_59 : decode cX2_row 59 = .ok (.bipush 60, 2) := dk_16 60 (dk_at dksX2_row_2 14 rfl rfl)
theorem dX2_row_61 : decode cX2_row 61 = .ok (.iload_n 1, 1) := dk_27 (dk_at dksX2_row_2 16 rfl rfl)
theorem dX2_row_62 : decode cX2_row 62 = .ok (.imul, 1) := dk_104 (dk_at dksX2_row_2 17 rfl rfl)
theorem dX2_row_63 : decode cX2_row 63 = .ok (.bipush 60, 2) := dk_16 60 (dk_at dksX2_row_2 18 rfl rfl)
theorem dX2_row_65 : decode cX2_row 65 = .ok (.iadd, 1) := dk_96 (dk_at dksX2_row_2 20 rfl rfl)
theorem dX2_row_66 : decode cX2_row 66 = .ok (.if_icmp .ge 17, 3) := dk_162 0 17 (dk_at dksX2_row_2 21 rfl rfl)
theorem dX2_row_69 : decode cX2_row 69 = .ok (.aload_n 0, 1) := dk_42 (dk_at dksX2_row_3 0 rfl rfl)
theorem dX2_row_70 : decode cX2_row 70 = .ok (.getfield 77, 3) := dk_180 0 77 (dk_at dksX2_row_3 1 rfl rfl)
theorem dX2_row_73 : decode cX2_row 73 = .ok (.iload 4, 2) := dk_21 4 (dk_at dksX2_row_3 4 rfl rfl)
theorem dX2_row_75 : decode cX2_row 75 = .ok (.lconst 0, 1) := dk_9 (dk_at dksX2_row_3 6 rfl rfl)
theorem dX2_row_76 : decode cX2_row 76 = .ok (.lastore, 1) := dk_80 (dk_at dksX2_row_3 7 rfl rfl)
theorem dX2_row_77 : decode cX2_row 77 = .ok (.iinc 4 1, 3) := dk_132 4 1 (dk_at dksX2_row_3 8 rfl rfl)
theorem dX2_row_80 : decode cX2_row 80 = .ok (.goto (-23), 3) := dk_167 255 233 (dk_at dksX2_row_3 11 rfl rfl)
theorem dX2_row_83 : decode cX2_row 83 = .ok (.iconst 1, 1) := dk_4 (dk_at dksX2_row_3 14 rfl rfl)
theorem dX2_row_84 : decode cX2_row 84 = .ok (.ireturn, 1) := dk_172 (dk_at dksX2_row_3 15 rfl rfl)
abbrev cX2_put : ByteArray := prog_31_method_90_code
def yX2_put : MethodName := ⟨RX2, "put", "(IIJ)I"⟩
def dkwX2_put_2 : List UInt8 := [172]
abbrev dktX2_put_2 : List UInt8 := dkwX2_put_2 ++ []
def dkwX2_put_1 : List UInt8 := [180, 0, 71, 27, 46, 16, 50, 100, 33, 184, 1, 109, 80, 21, 5, 154, 0, 7, 4, 167, 0, 5, 21, 5]
abbrev dktX2_put_1 : List UInt8 := dkwX2_put_1 ++ dktX2_put_2
def dkwX2_put_0 : List UInt8 := [42, 27, 28, 182, 1, 106, 54, 5, 21, 5, 154, 0, 27, 42, 180, 0, 77, 16, 60, 27, 104, 28, 96, 42]
abbrev dktX2_put_0 : List UInt8 := dkwX2_put_0 ++ dktX2_put_1
theorem dksX2_put_0 : cX2_put.data.toList.drop 0 = dktX2_put_0 := by decide +kernel
theorem dksX2_put_1 : cX2_put.data.toList.drop 24 = dktX2_put_1 := dk_seg dksX2_put_0 24 rfl rfl
theorem dksX2_put_2 : cX2_put.data.toList.drop 48 = dktX2_put_2 := dk_seg dksX2_put_1 24 rfl rfl
theorem dX2_put_0 : decode cX2_put 0 = .ok (.aload_n 0, 1) := dk_42 (dk_at dksX2_put_0 0 rfl rfl)
theorem dX2_put_1 : decode cX2_put 1 = .ok (.iload_n 1, 1) := dk_27 (dk_at dksX2_put_0 1 rfl rfl)
theorem dX2_put_2 : decode cX2_put 2 = .ok (.iload_n 2, 1) := dk_28 (dk_at dksX2_put_0 2 rfl rfl)
theorem dX2_put_3 : decode cX2_put 3 = .ok (.invokevirtual 362, 3) := dk_182 1 106 (dk_at dksX2_put_0 3 rfl rfl)
theorem dX2_put_6 : decode cX2_put 6 = .ok (.istore 5, 2) := dk_54 5 (dk_at dksX2_put_0 6 rfl rfl)
theorem dX2_put_8 : decode cX2_put 8 = .ok (.iload 5, 2) := dk_21 5 (dk_at dksX2_put_0 8 rfl rfl)
theorem dX2_put_10 : decode cX2_put 10 = .ok (.ifCond .ne 27, 3) := dk_154 0 27 (dk_at dksX2_put_0 10 rfl rfl)
theorem dX2_put_13 : decode cX2_put 13 = .ok (.aload_n 0, 1) := dk_42 (dk_at dksX2_put_0 13 rfl rfl)
theorem dX2_put_14 : decode cX2_put 14 = .ok (.getfield 77, 3) := dk_180 0 77 (dk_at dksX2_put_0 14 rfl rfl)
theorem dX2_put_17 : decode cX2_put 17 = .ok (.bipush 60, 2) := dk_16 60 (dk_at dksX2_put_0 17 rfl rfl)
theorem dX2_put_19 : decode cX2_put 19 = .ok (.iload_n 1, 1) := dk_27 (dk_at dksX2_put_0 19 rfl rfl)
theorem dX2_put_20 : decode cX2_put 20 = .ok (.imul, 1) := dk_104 (dk_at dksX2_put_0 20 rfl rfl)
theorem dX2_put_21 : decode cX2_put 21 = .ok (.iload_n 2, 1) := dk_28 (dk_at dksX2_put_0 21 rfl rfl)
theorem dX2_put_22 : decode cX2_put 22 = .ok (.iadd, 1) := dk_96 (dk_at dksX2_put_0 22 rfl rfl)
theorem dX2_put_23 : decode cX2_put 23 = .ok (.aload_n 0, 1) := dk_42 (dk_at dksX2_put_0 23 rfl rfl)
theorem dX2_put_24 : decode cX2_put 24 = .ok (.getfield 71, 3) := dk_180 0 71 (dk_at dksX2_put_1 0 rfl rfl)
theorem dX2_put_27 : decode cX2_put 27 = .ok (.iload_n 1, 1) := dk_27 (dk_at dksX2_put_1 3 rfl rfl)
theorem dX2_put_28 : decode cX2_put 28 = .ok (.iaload, 1) := dk_46 (dk_at dksX2_put_1 4 rfl rfl)
theorem dX2_put_29 : decode cX2_put 29 = .ok (.bipush 50, 2) := dk_16 50 (dk_at dksX2_put_1 5 rfl rfl)
theorem dX2_put_31 : decode cX2_put 31 = .ok (.isub, 1) := dk_100 (dk_at dksX2_put_1 7 rfl rfl)
theorem dX2_put_32 : decode cX2_put 32 = .ok (.lload_n 3, 1) := dk_33 (dk_at dksX2_put_1 8 rfl rfl)
theorem dX2_put_33 : decode cX2_put 33 = .ok (.invokestatic 365, 3) := dk_184 1 109 (dk_at dksX2_put_1 9 rfl rfl)
theorem dX2_put_36 : decode cX2_put 36 = .ok (.lastore, 1) := dk_80 (dk_at dksX2_put_1 12 rfl rfl)
theorem dX2_put_37 : decode cX2_put 37 = .ok (.iload 5, 2) := dk_21 5 (dk_at dksX2_put_1 13 rfl rfl)
theorem dX2_put_39 : decode cX2_put 39 = .ok (.ifCond .ne 7, 3) := dk_154 0 7 (dk_at dksX2_put_1 15 rfl rfl)
theorem dX2_put_42 : decode cX2_put 42 = .ok (.iconst 1, 1) := dk_4 (dk_at dksX2_put_1 18 rfl rfl)
theorem dX2_put_43 : decode cX2_put 43 = .ok (.goto 5, 3) := dk_167 0 5 (dk_at dksX2_put_1 19 rfl rfl)
theorem dX2_put_46 : decode cX2_put 46 = .ok (.iload 5, 2) := dk_21 5 (dk_at dksX2_put_1 22 rfl rfl)
theorem dX2_put_48 : decode cX2_put 48 = .ok (.ireturn, 1) := dk_172 (dk_at dksX2_put_2 0 rfl rfl)
abbrev cX2_refusal : ByteArray := prog_31_method_88_code
def yX2_refusal : MethodName := ⟨RX2, "refusal", "(II)I"⟩
def dkwX2_refusal_2 : List UInt8 := [162, 0, 7, 3, 167, 0, 5, 16, 243, 172]
abbrev dktX2_refusal_2 : List UInt8 := dkwX2_refusal_2 ++ []
def dkwX2_refusal_1 : List UInt8 := [180, 0, 71, 27, 46, 16, 50, 162, 0, 6, 16, 244, 172, 28, 155, 0, 17, 28, 42, 180, 0, 74, 27, 46]
abbrev dktX2_refusal_1 : List UInt8 := dkwX2_refusal_1 ++ dktX2_refusal_2
def dkwX2_refusal_0 : List UInt8 := [27, 184, 0, 118, 154, 0, 5, 2, 172, 42, 180, 0, 71, 27, 46, 156, 0, 6, 16, 245, 172, 42]
abbrev dktX2_refusal_0 : List UInt8 := dkwX2_refusal_0 ++ dktX2_refusal_1
theorem dksX2_refusal_0 : cX2_refusal.data.toList.drop 0 = dktX2_refusal_0 := by decide +kernel
theorem dksX2_refusal_1 : cX2_refusal.data.toList.drop 22 = dktX2_refusal_1 := dk_seg dksX2_refusal_0 22 rfl rfl
theorem dksX2_refusal_2 : cX2_refusal.data.toList.drop 46 = dktX2_refusal_2 := dk_seg dksX2_refusal_1 24 rfl rfl
theorem dX2_refusal_0 : decode cX2_refusal 0 = .ok (.iload_n 1, 1) := dk_27 (dk_at dksX2_refusal_0 0 rfl rfl)
theorem dX2_refusal_1 : decode cX2_refusal 1 = .ok (.invokestatic 118, 3) := dk_184 0 118 (dk_at dksX2_refusal_0 1 rfl rfl)
theorem dX2_refusal_4 : decode cX2_refusal 4 = .ok (.ifCond .ne 5, 3) := dk_154 0 5 (dk_at dksX2_refusal_0 4 rfl rfl)
theorem dX2_refusal_7 : decode cX2_refusal 7 = .ok (.iconst (-1), 1) := dk_2 (dk_at dksX2_refusal_0 7 rfl rfl)
theorem dX2_refusal_8 : decode cX2_refusal 8 = .ok (.ireturn, 1) := dk_172 (dk_at dksX2_refusal_0 8 rfl rfl)
theorem dX2_refusal_9 : decode cX2_refusal 9 = .ok (.aload_n 0, 1) := dk_42 (dk_at dksX2_refusal_0 9 rfl rfl)
theorem dX2_refusal_10 : decode cX2_refusal 10 = .ok (.getfield 71, 3) := dk_180 0 71 (dk_at dksX2_refusal_0 10 rfl rfl)
theorem dX2_refusal_13 : decode cX2_refusal 13 = .ok (.iload_n 1, 1) := dk_27 (dk_at dksX2_refusal_0 13 rfl rfl)
theorem dX2_refusal_14 : decode cX2_refusal 14 = .ok (.iaload, 1) := dk_46 (dk_at dksX2_refusal_0 14 rfl rfl)
theorem dX2_refusal_15 : decode cX2_refusal 15 = .ok (.ifCond .ge 6, 3) := dk_156 0 6 (dk_at dksX2_refusal_0 15 rfl rfl)
theorem dX2_refusal_18 : decode cX2_refusal 18 = .ok (.bipush (-11), 2) := dk_16 245 (dk_at dksX2_refusal_0 18 rfl rfl)
theorem dX2_refusal_20 : decode cX2_refusal 20 = .ok (.ireturn, 1) := dk_172 (dk_at dksX2_refusal_0 20 rfl rfl)
theorem dX2_refusal_21 : decode cX2_refusal 21 = .ok (.aload_n 0, 1) := dk_42 (dk_at dksX2_refusal_0 21 rfl rfl)
theorem dX2_refusal_22 : decode cX2_refusal 22 = .ok (.getfield 71, 3) := dk_180 0 71 (dk_at dksX2_refusal_1 0 rfl rfl)
theorem dX2_refusal_25 : decode cX2_refusal 25 = .ok (.iload_n 1, 1) := dk_27 (dk_at dksX2_refusal_1 3 rfl rfl)
theorem dX2_refusal_26 : decode cX2_refusal 26 = .ok (.iaload, 1) := dk_46 (dk_at dksX2_refusal_1 4 rfl rfl)
theorem dX2_refusal_27 : decode cX2_refusal 27 = .ok (.bipush 50, 2) := dk_16 50 (dk_at dksX2_refusal_1 5 rfl rfl)
theorem dX2_refusal_29 : decode cX2_refusal 29 = .ok (.if_icmp .ge 6, 3) := dk_162 0 6 (dk_at dksX2_refusal_1 7 rfl rfl)
theorem dX2_refusal_32 : decode cX2_refusal 32 = .ok (.bipush (-12), 2) := dk_16 244 (dk_at dksX2_refusal_1 10 rfl rfl)
theorem dX2_refusal_34 : decode cX2_refusal 34 = .ok (.ireturn, 1) := dk_172 (dk_at dksX2_refusal_1 12 rfl rfl)
theorem dX2_refusal_35 : decode cX2_refusal 35 = .ok (.iload_n 2, 1) := dk_28 (dk_at dksX2_refusal_1 13 rfl rfl)
theorem dX2_refusal_36 : decode cX2_refusal 36 = .ok (.ifCond .lt 17, 3) := dk_155 0 17 (dk_at dksX2_refusal_1 14 rfl rfl)
theorem dX2_refusal_39 : decode cX2_refusal 39 = .ok (.iload_n 2, 1) := dk_28 (dk_at dksX2_refusal_1 17 rfl rfl)
theorem dX2_refusal_40 : decode cX2_refusal 40 = .ok (.aload_n 0, 1) := dk_42 (dk_at dksX2_refusal_1 18 rfl rfl)
theorem dX2_refusal_41 : decode cX2_refusal 41 = .ok (.getfield 74, 3) := dk_180 0 74 (dk_at dksX2_refusal_1 19 rfl rfl)
theorem dX2_refusal_44 : decode cX2_refusal 44 = .ok (.iload_n 1, 1) := dk_27 (dk_at dksX2_refusal_1 22 rfl rfl)
theorem dX2_refusal_45 : decode cX2_refusal 45 = .ok (.iaload, 1) := dk_46 (dk_at dksX2_refusal_1 23 rfl rfl)
theorem dX2_refusal_46 : decode cX2_refusal 46 = .ok (.if_icmp .ge 7, 3) := dk_162 0 7 (dk_at dksX2_refusal_2 0 rfl rfl)
theorem dX2_refusal_49 : decode cX2_refusal 49 = .ok (.iconst 0, 1) := dk_3 (dk_at dksX2_refusal_2 3 rfl rfl)
theorem dX2_refusal_50 : decode cX2_refusal 50 = .ok (.goto 5, 3) := dk_167 0 5 (dk_at dksX2_refusal_2 4 rfl rfl)
theorem dX2_refusal_53 : decode cX2_refusal 53 = .ok (.bipush (-13), 2) := dk_16 243 (dk_at dksX2_refusal_2 7 rfl rfl)
theorem dX2_refusal_55 : decode cX2_refusal 55 = .ok (.ireturn, 1) := dk_172 (dk_at dksX2_refusal_2 9 rfl rfl)
abbrev cX2_asSort : ByteArray := prog_31_method_89_code
def yX2_asSort : MethodName := ⟨RX2, "asSort", "(IJ)J"⟩
def dkwX2_asSort_2 : List UInt8 := [167, 0, 8, 9, 167, 0, 4, 31, 173]
abbrev dktX2_asSort_2 : List UInt8 := dkwX2_asSort_2 ++ []
def dkwX2_asSort_1 : List UInt8 := [5, 160, 0, 9, 31, 136, 133, 167, 0, 23, 26, 7, 160, 0, 17, 31, 9, 148, 153, 0, 7, 10]
abbrev dktX2_asSort_1 : List UInt8 := dkwX2_asSort_1 ++ dktX2_asSort_2
def dkwX2_asSort_0 : List UInt8 := [26, 154, 0, 10, 31, 136, 145, 133, 167, 0, 46, 26, 4, 160, 0, 10, 31, 136, 147, 133, 167, 0, 34, 26]
abbrev dktX2_asSort_0 : List UInt8 := dkwX2_asSort_0 ++ dktX2_asSort_1
theorem dksX2_asSort_0 : cX2_asSort.data.toList.drop 0 = dktX2_asSort_0 := by decide +kernel
theorem dksX2_asSort_1 : cX2_asSort.data.toList.drop 24 = dktX2_asSort_1 := dk_seg dksX2_asSort_0 24 rfl rfl
theorem dksX2_asSort_2 : cX2_asSort.data.toList.drop 46 = dktX2_asSort_2 := dk_seg dksX2_asSort_1 22 rfl rfl
theorem dX2_asSort_0 : decode cX2_asSort 0 = .ok (.iload_n 0, 1) := dk_26 (dk_at dksX2_asSort_0 0 rfl rfl)
theorem dX2_asSort_1 : decode cX2_asSort 1 = .ok (.ifCond .ne 10, 3) := dk_154 0 10 (dk_at dksX2_asSort_0 1 rfl rfl)
theorem dX2_asSort_4 : decode cX2_asSort 4 = .ok (.lload_n 1, 1) := dk_31 (dk_at dksX2_asSort_0 4 rfl rfl)
theorem dX2_asSort_5 : decode cX2_asSort 5 = .ok (.l2i, 1) := dk_136 (dk_at dksX2_asSort_0 5 rfl rfl)
theorem dX2_asSort_6 : decode cX2_asSort 6 = .ok (.i2b, 1) := dk_145 (dk_at dksX2_asSort_0 6 rfl rfl)
theorem dX2_asSort_7 : decode cX2_asSort 7 = .ok (.i2l, 1) := dk_133 (dk_at dksX2_asSort_0 7 rfl rfl)
theorem dX2_asSort_8 : decode cX2_asSort 8 = .ok (.goto 46, 3) := dk_167 0 46 (dk_at dksX2_asSort_0 8 rfl rfl)
theorem dX2_asSort_11 : decode cX2_asSort 11 = .ok (.iload_n 0, 1) := dk_26 (dk_at dksX2_asSort_0 11 rfl rfl)
theorem dX2_asSort_12 : decode cX2_asSort 12 = .ok (.iconst 1, 1) := dk_4 (dk_at dksX2_asSort_0 12 rfl rfl)
theorem dX2_asSort_13 : decode cX2_asSort 13 = .ok (.if_icmp .ne 10, 3) := dk_160 0 10 (dk_at dksX2_asSort_0 13 rfl rfl)
theorem dX2_asSort_16 : decode cX2_asSort 16 = .ok (.lload_n 1, 1) := dk_31 (dk_at dksX2_asSort_0 16 rfl rfl)
theorem dX2_asSort_17 : decode cX2_asSort 17 = .ok (.l2i, 1) := dk_136 (dk_at dksX2_asSort_0 17 rfl rfl)
theorem dX2_asSort_18 : decode cX2_asSort 18 = .ok (.i2s, 1) := dk_147 (dk_at dksX2_asSort_0 18 rfl rfl)
theorem dX2_asSort_19 : decode cX2_asSort 19 = .ok (.i2l, 1) := dk_133 (dk_at dksX2_asSort_0 19 rfl rfl)
theorem dX2_asSort_20 : decode cX2_asSort 20 = .ok (.goto 34, 3) := dk_167 0 34 (dk_at dksX2_asSort_0 20 rfl rfl)
theorem dX2_asSort_23 : decode cX2_asSort 23 = .ok (.iload_n 0, 1) := dk_26 (dk_at dksX2_asSort_0 23 rfl rfl)
theorem dX2_asSort_24 : decode cX2_asSort 24 = .ok (.iconst 2, 1) := dk_5 (dk_at dksX2_asSort_1 0 rfl rfl)
theorem dX2_asSort_25 : decode cX2_asSort 25 = .ok (.if_icmp .ne 9, 3) := dk_160 0 9 (dk_at dksX2_asSort_1 1 rfl rfl)
theorem dX2_asSort_28 : decode cX2_asSort 28 = .ok (.lload_n 1, 1) := dk_31 (dk_at dksX2_asSort_1 4 rfl rfl)
theorem dX2_asSort_29 : decode cX2_asSort 29 = .ok (.l2i, 1) := dk_136 (dk_at dksX2_asSort_1 5 rfl rfl)
theorem dX2_asSort_30 : decode cX2_asSort 30 = .ok (.i2l, 1) := dk_133 (dk_at dksX2_asSort_1 6 rfl rfl)
theorem dX2_asSort_31 : decode cX2_asSort 31 = .ok (.goto 23, 3) := dk_167 0 23 (dk_at dksX2_asSort_1 7 rfl rfl)
theorem dX2_asSort_34 : decode cX2_asSort 34 = .ok (.iload_n 0, 1) := dk_26 (dk_at dksX2_asSort_1 10 rfl rfl)
theorem dX2_asSort_35 : decode cX2_asSort 35 = .ok (.iconst 4, 1) := dk_7 (dk_at dksX2_asSort_1 11 rfl rfl)
theorem dX2_asSort_36 : decode cX2_asSort 36 = .ok (.if_icmp .ne 17, 3) := dk_160 0 17 (dk_at dksX2_asSort_1 12 rfl rfl)
theorem dX2_asSort_39 : decode cX2_asSort 39 = .ok (.lload_n 1, 1) := dk_31 (dk_at dksX2_asSort_1 15 rfl rfl)
theorem dX2_asSort_40 : decode cX2_asSort 40 = .ok (.lconst 0, 1) := dk_9 (dk_at dksX2_asSort_1 16 rfl rfl)
theorem dX2_asSort_41 : decode cX2_asSort 41 = .ok (.lcmp, 1) := dk_148 (dk_at dksX2_asSort_1 17 rfl rfl)
theorem dX2_asSort_42 : decode cX2_asSort 42 = .ok (.ifCond .eq 7, 3) := dk_153 0 7 (dk_at dksX2_asSort_1 18 rfl rfl)
theorem dX2_asSort_45 : decode cX2_asSort 45 = .ok (.lconst 1, 1) := dk_10 (dk_at dksX2_asSort_1 21 rfl rfl)
theorem dX2_asSort_46 : decode cX2_asSort 46 = .ok (.goto 8, 3) := dk_167 0 8 (dk_at dksX2_asSort_2 0 rfl rfl)
theorem dX2_asSort_49 : decode cX2_asSort 49 = .ok (.lconst 0, 1) := dk_9 (dk_at dksX2_asSort_2 3 rfl rfl)
theorem dX2_asSort_50 : decode cX2_asSort 50 = .ok (.goto 4, 3) := dk_167 0 4 (dk_at dksX2_asSort_2 4 rfl rfl)
theorem dX2_asSort_53 : decode cX2_asSort 53 = .ok (.lload_n 1, 1) := dk_31 (dk_at dksX2_asSort_2 7 rfl rfl)
theorem dX2_asSort_54 : decode cX2_asSort 54 = .ok (.lreturn, 1) := dk_173 (dk_at dksX2_asSort_2 8 rfl rfl)
abbrev cX2_element : ByteArray := prog_31_method_91_code
def yX2_element : MethodName := ⟨RX2, "element", "(II)J"⟩
def dkwX2_element_1 : List UInt8 := [96, 47, 173]
abbrev dktX2_element_1 : List UInt8 := dkwX2_element_1 ++ []
def dkwX2_element_0 : List UInt8 := [42, 27, 28, 182, 1, 106, 153, 0, 9, 20, 1, 4, 167, 0, 14, 42, 180, 0, 77, 16, 60, 27, 104, 28]
abbrev dktX2_element_0 : List UInt8 := dkwX2_element_0 ++ dktX2_element_1
theorem dksX2_element_0 : cX2_element.data.toList.drop 0 = dktX2_element_0 := by decide +kernel
theorem dksX2_element_1 : cX2_element.data.toList.drop 24 = dktX2_element_1 := dk_seg dksX2_element_0 24 rfl rfl
theorem dX2_element_0 : decode cX2_element 0 = .ok (.aload_n 0, 1) := dk_42 (dk_at dksX2_element_0 0 rfl rfl)
theorem dX2_element_1 : decode cX2_element 1 = .ok (.iload_n 1, 1) := dk_27 (dk_at dksX2_element_0 1 rfl rfl)
theorem dX2_element_2 : decode cX2_element 2 = .ok (.iload_n 2, 1) := dk_28 (dk_at dksX2_element_0 2 rfl rfl)
theorem dX2_element_3 : decode cX2_element 3 = .ok (.invokevirtual 362, 3) := dk_182 1 106 (dk_at dksX2_element_0 3 rfl rfl)
theorem dX2_element_6 : decode cX2_element 6 = .ok (.ifCond .eq 9, 3) := dk_153 0 9 (dk_at dksX2_element_0 6 rfl rfl)
theorem dX2_element_9 : decode cX2_element 9 = .ok (.ldc2_w 260, 3) := dk_20 1 4 (dk_at dksX2_element_0 9 rfl rfl)
theorem dX2_element_12 : decode cX2_element 12 = .ok (.goto 14, 3) := dk_167 0 14 (dk_at dksX2_element_0 12 rfl rfl)
theorem dX2_element_15 : decode cX2_element 15 = .ok (.aload_n 0, 1) := dk_42 (dk_at dksX2_element_0 15 rfl rfl)
theorem dX2_element_16 : decode cX2_element 16 = .ok (.getfield 77, 3) := dk_180 0 77 (dk_at dksX2_element_0 16 rfl rfl)
theorem dX2_element_19 : decode cX2_element 19 = .ok (.bipush 60, 2) := dk_16 60 (dk_at dksX2_element_0 19 rfl rfl)
theorem dX2_element_21 : decode cX2_element 21 = .ok (.iload_n 1, 1) := dk_27 (dk_at dksX2_element_0 21 rfl rfl)
theorem dX2_element_22 : decode cX2_element 22 = .ok (.imul, 1) := dk_104 (dk_at dksX2_element_0 22 rfl rfl)
theorem dX2_element_23 : decode cX2_element 23 = .ok (.iload_n 2, 1) := dk_28 (dk_at dksX2_element_0 23 rfl rfl)
theorem dX2_element_24 : decode cX2_element 24 = .ok (.iadd, 1) := dk_96 (dk_at dksX2_element_1 0 rfl rfl)
theorem dX2_element_25 : decode cX2_element 25 = .ok (.laload, 1) := dk_47 (dk_at dksX2_element_1 1 rfl rfl)
theorem dX2_element_26 : decode cX2_element 26 = .ok (.lreturn, 1) := dk_173 (dk_at dksX2_element_1 2 rfl rfl)
abbrev cX2_shift : ByteArray := prog_31_method_92_code
def yX2_shift : MethodName := ⟨RX2, "shift", "(IIIII)I"⟩
def dkwX2_shift_8 : List UInt8 := [167, 255, 224, 21, 5, 172]
abbrev dktX2_shift_8 : List UInt8 := dkwX2_shift_8 ++ []
def dkwX2_shift_7 : List UInt8 := [180, 0, 77, 16, 60, 29, 104, 21, 4, 96, 21, 6, 96, 42, 180, 0, 80, 21, 6, 47, 80, 132, 6, 1]
abbrev dktX2_shift_7 : List UInt8 := dkwX2_shift_7 ++ dktX2_shift_8
def dkwX2_shift_6 : List UInt8 := [21, 6, 96, 47, 80, 132, 6, 1, 167, 255, 225, 3, 54, 6, 21, 6, 21, 5, 162, 0, 31, 42]
abbrev dktX2_shift_6 : List UInt8 := dkwX2_shift_6 ++ dktX2_shift_7
def dkwX2_shift_5 : List UInt8 := [21, 6, 21, 5, 162, 0, 30, 42, 180, 0, 80, 21, 6, 42, 180, 0, 77, 16, 60, 27, 104, 28, 96]
abbrev dktX2_shift_5 : List UInt8 := dkwX2_shift_5 ++ dktX2_shift_6
def dkwX2_shift_4 : List UInt8 := [163, 0, 17, 21, 4, 42, 180, 0, 74, 29, 46, 21, 5, 100, 164, 0, 6, 16, 243, 172, 3, 54, 6]
abbrev dktX2_shift_4 : List UInt8 := dkwX2_shift_4 ++ dktX2_shift_5
def dkwX2_shift_3 : List UInt8 := [155, 0, 39, 28, 155, 0, 35, 21, 4, 155, 0, 30, 28, 42, 180, 0, 74, 27, 46, 21, 5, 100]
abbrev dktX2_shift_3 : List UInt8 := dkwX2_shift_3 ++ dktX2_shift_4
def dkwX2_shift_2 : List UInt8 := [161, 0, 18, 42, 180, 0, 71, 27, 46, 42, 180, 0, 71, 29, 46, 159, 0, 6, 16, 244, 172, 21, 5]
abbrev dktX2_shift_2 : List UInt8 := dkwX2_shift_2 ++ dktX2_shift_3
def dkwX2_shift_1 : List UInt8 := [155, 0, 12, 42, 180, 0, 71, 29, 46, 156, 0, 6, 16, 245, 172, 42, 180, 0, 71, 27, 46, 16, 50]
abbrev dktX2_shift_1 : List UInt8 := dkwX2_shift_1 ++ dktX2_shift_2
def dkwX2_shift_0 : List UInt8 := [27, 184, 0, 118, 153, 0, 10, 29, 184, 0, 118, 154, 0, 5, 2, 172, 42, 180, 0, 71, 27, 46]
abbrev dktX2_shift_0 : List UInt8 := dkwX2_shift_0 ++ dktX2_shift_1
theorem dksX2_shift_0 : cX2_shift.data.toList.drop 0 = dktX2_shift_0 := by decide +kernel
theorem dksX2_shift_1 : cX2_shift.data.toList.drop 22 = dktX2_shift_1 := dk_seg dksX2_shift_0 22 rfl rfl
theorem dksX2_shift_2 : cX2_shift.data.toList.drop 45 = dktX2_shift_2 := dk_seg dksX2_shift_1 23 rfl rfl
theorem dksX2_shift_3 : cX2_shift.data.toList.drop 68 = dktX2_shift_3 := dk_seg dksX2_shift_2 23 rfl rfl
theorem dksX2_shift_4 : cX2_shift.data.toList.drop 90 = dktX2_shift_4 := dk_seg dksX2_shift_3 22 rfl rfl
theorem dksX2_shift_5 : cX2_shift.data.toList.drop 113 = dktX2_shift_5 := dk_seg dksX2_shift_4 23 rfl rfl
theorem dksX2_shift_6 : cX2_shift.data.toList.drop 136 = dktX2_shift_6 := dk_seg dksX2_shift_5 23 rfl rfl
theorem dksX2_shift_7 : cX2_shift.data.toList.drop 158 = dktX2_shift_7 := dk_seg dksX2_shift_6 22 rfl rfl
theorem dksX2_shift_8 : cX2_shift.data.toList.drop 182 = dktX2_shift_8 := dk_seg dksX2_shift_7 24 rfl rfl
theorem dX2_shift_0 : decode cX2_shift 0 = .ok (.iload_n 1, 1) := dk_27 (dk_at dksX2_shift_0 0 rfl rfl)
theorem dX2_shift_1 : decode cX2_shift 1 = .ok (.invokestatic 118, 3) := dk_184 0 118 (dk_at dksX2_shift_0 1 rfl rfl)
theorem dX2_shift_4 : decode cX2_shift 4 = .ok (.ifCond .eq 10, 3) := dk_153 0 10 (dk_at dksX2_shift_0 4 rfl rfl)
theorem dX2_shift_7 : decode cX2_shift 7 = .ok (.iload_n 3, 1) := dk_29 (dk_at dksX2_shift_0 7 rfl rfl)
theorem dX2_shift_8 : decode cX2_shift 8 = .ok (.invokestatic 118, 3) := dk_184 0 118 (dk_at dksX2_shift_0 8 rfl rfl)
theorem dX2_shift_11 : decode cX2_shift 11 = .ok (.ifCond .ne 5, 3) := dk_154 0 5 (dk_at dksX2_shift_0 11 rfl rfl)
theorem dX2_shift_14 : decode cX2_shift 14 = .ok (.iconst (-1), 1) := dk_2 (dk_at dksX2_shift_0 14 rfl rfl)
theorem dX2_shift_15 : decode cX2_shift 15 = .ok (.ireturn, 1) := dk_172 (dk_at dksX2_shift_0 15 rfl rfl)
theorem dX2_shift_16 : decode cX2_shift 16 = .ok (.aload_n 0, 1) := dk_42 (dk_at dksX2_shift_0 16 rfl rfl)
theorem dX2_shift_17 : decode cX2_shift 17 = .ok (.getfield 71, 3) := dk_180 0 71 (dk_at dksX2_shift_0 17 rfl rfl)
theorem dX2_shift_20 : decode cX2_shift 20 = .ok (.iload_n 1, 1) := dk_27 (dk_at dksX2_shift_0 20 rfl rfl)
theorem dX2_shift_21 : decode cX2_shift 21 = .ok (.iaload, 1) := dk_46 (dk_at dksX2_shift_0 21 rfl rfl)
theorem dX2_shift_22 : decode cX2_shift 22 = .ok (.ifCond .lt 12, 3) := dk_155 0 12 (dk_at dksX2_shift_1 0 rfl rfl)
theorem dX2_shift_25 : decode cX2_shift 25 = .ok (.aload_n 0, 1) := dk_42 (dk_at dksX2_shift_1 3 rfl rfl)
theorem dX2_shift_26 : decode cX2_shift 26 = .ok (.getfield 71, 3) := dk_180 0 71 (dk_at dksX2_shift_1 4 rfl rfl)
theorem dX2_shift_29 : decode cX2_shift 29 = .ok (.iload_n 3, 1) := dk_29 (dk_at dksX2_shift_1 7 rfl rfl)
theorem dX2_shift_30 : decode cX2_shift 30 = .ok (.iaload, 1) := dk_46 (dk_at dksX2_shift_1 8 rfl rfl)
theorem dX2_shift_31 : decode cX2_shift 31 = .ok (.ifCond .ge 6, 3) := dk_156 0 6 (dk_at dksX2_shift_1 9 rfl rfl)
theorem dX2_shift_34 : decode cX2_shift 34 = .ok (.bipush (-11), 2) := dk_16 245 (dk_at dksX2_shift_1 12 rfl rfl)
theorem dX2_shift_36 : decode cX2_shift 36 = .ok (.ireturn, 1) := dk_172 (dk_at dksX2_shift_1 14 rfl rfl)
theorem dX2_shift_37 : decode cX2_shift 37 = .ok (.aload_n 0, 1) := dk_42 (dk_at dksX2_shift_1 15 rfl rfl)
theorem dX2_shift_38 : decode cX2_shift 38 = .ok (.getfield 71, 3) := dk_180 0 71 (dk_at dksX2_shift_1 16 rfl rfl)
theorem dX2_shift_41 : decode cX2_shift 41 = .ok (.iload_n 1, 1) := dk_27 (dk_at dksX2_shift_1 19 rfl rfl)
theorem dX2_shift_42 : decode cX2_shift 42 = .ok (.iaload, 1) := dk_46 (dk_at dksX2_shift_1 20 rfl rfl)
theorem dX2_shift_43 : decode cX2_shift 43 = .ok (.bipush 50, 2) := dk_16 50 (dk_at dksX2_shift_1 21 rfl rfl)
theorem dX2_shift_45 : decode cX2_shift 45 = .ok (.if_icmp .lt 18, 3) := dk_161 0 18 (dk_at dksX2_shift_2 0 rfl rfl)
theorem dX2_shift_48 : decode cX2_shift 48 = .ok (.aload_n 0, 1) := dk_42 (dk_at dksX2_shift_2 3 rfl rfl)
theorem dX2_shift_49 : decode cX2_shift 49 = .ok (.getfield 71, 3) := dk_180 0 71 (dk_at dksX2_shift_2 4 rfl rfl)
theorem dX2_shift_52 : decode cX2_shift 52 = .ok (.iload_n 1, 1) := dk_27 (dk_at dksX2_shift_2 7 rfl rfl)
theorem dX2_shift_53 : decode cX2_shift 53 = .ok (.iaload, 1) := dk_46 (dk_at dksX2_shift_2 8 rfl rfl)
theorem dX2_shift_54 : decode cX2_shift 54 = .ok (.aload_n 0, 1) := dk_42 (dk_at dksX2_shift_2 9 rfl rfl)
theorem dX2_shift_55 : decode cX2_shift 55 = .ok (.getfield 71, 3) := dk_180 0 71 (dk_at dksX2_shift_2 10 rfl rfl)
theorem dX2_shift_58 : decode cX2_shift 58 = .ok (.iload_n 3, 1) := dk_29 (dk_at dksX2_shift_2 13 rfl rfl)
theorem dX2_shift_59 : decode cX2_shift 59 = .ok (.iaload, 1) := dk_46 (dk_at dksX2_shift_2 14 rfl rfl)
theorem dX2_shift_60 : decode cX2_shift 60 = .ok (.if_icmp .eq 6, 3) := dk_159 0 6 (dk_at dksX2_shift_2 15 rfl rfl)
theorem dX2_shift_63 : decode cX2_shift 63 = .ok (.bipush (-12), 2) := dk_16 244 (dk_at dksX2_shift_2 18 rfl rfl)
theorem dX2_shift_65 : decode cX2_shift 65 = .ok (.ireturn, 1) := dk_172 (dk_at dksX2_shift_2 20 rfl rfl)
theorem dX2_shift_66 : decode cX2_shift 66 = .ok (.iload 5, 2) := dk_21 5 (dk_at dksX2_shift_2 21 rfl rfl)
theorem dX2_shift_68 : decode cX2_shift 68 = .ok (.ifCond .lt 39, 3) := dk_155 0 39 (dk_at dksX2_shift_3 0 rfl rfl)
theorem dX2_shift_71 : decode cX2_shift 71 = .ok (.iload_n 2, 1) := dk_28 (dk_at dksX2_shift_3 3 rfl rfl)
theorem dX2_shift_72 : decode cX2_shift 72 = .ok (.ifCond .lt 35, 3) := dk_155 0 35 (dk_at dksX2_shift_3 4 rfl rfl)
theorem dX2_shift_75 : decode cX2_shift 75 = .ok (.iload 4, 2) := dk_21 4 (dk_at dksX2_shift_3 7 rfl rfl)
theorem dX2_shift_77 : decode cX2_shift 77 = .ok (.ifCond .lt 30, 3) := dk_155 0 30 (dk_at dksX2_shift_3 9 rfl rfl)
theorem dX2_shift_80 : decode cX2_shift 80 = .ok (.iload_n 2, 1) := dk_28 (dk_at dksX2_shift_3 12 rfl rfl)
theorem dX2_shift_81 : decode cX2_shift 81 = .ok (.aload_n 0, 1) := dk_42 (dk_at dksX2_shift_3 13 rfl rfl)
theorem dX2_shift_82 : decode cX2_shift 82 = .ok (.getfield 74, 3) := dk_180 0 74 (dk_at dksX2_shift_3 14 rfl rfl)
theorem dX2_shift_85 : decode cX2_shift 85 = .ok (.iload_n 1, 1) := dk_27 (dk_at dksX2_shift_3 17 rfl rfl)
theorem dX2_shift_86 : decode cX2_shift 86 = .ok (.iaload, 1) := dk_46 (dk_at dksX2_shift_3 18 rfl rfl)
theorem dX2_shift_87 : decode cX2_shift 87 = .ok (.iload 5, 2) := dk_21 5 (dk_at dksX2_shift_3 19 rfl rfl)
theorem dX2_shift_89 : decode cX2_shift 89 = .ok (.isub, 1) := dk_100 (dk_at dksX2_shift_3 21 rfl rfl)
theorem dX2_shift_90 : decode cX2_shift 90 = .ok (.if_icmp .gt 17, 3) := dk_163 0 17 (dk_at dksX2_shift_4 0 rfl rfl)
theorem dX2_shift_93 : decode cX2_shift 93 = .ok (.iload 4, 2) := dk_21 4 (dk_at dksX2_shift_4 3 rfl rfl)
theorem dX2_shift_95 : decode cX2_shift 95 = .ok (.aload_n 0, 1) := dk_42 (dk_at dksX2_shift_4 5 rfl rfl)
theorem dX2_shift_96 : decode cX2_shift 96 = .ok (.getfield 74, 3) := dk_180 0 74 (dk_at dksX2_shift_4 6 rfl rfl)
theorem dX2_shift_99 : decode cX2_shift 99 = .ok (.iload_n 3, 1) := dk_29 (dk_at dksX2_shift_4 9 rfl rfl)
theorem dX2_shift_100 : decode cX2_shift 100 = .ok (.iaload, 1) := dk_46 (dk_at dksX2_shift_4 10 rfl rfl)
theorem dX2_shift_101 : decode cX2_shift 101 = .ok (.iload 5, 2) := dk_21 5 (dk_at dksX2_shift_4 11 rfl rfl)
theorem dX2_shift_103 : decode cX2_shift 103 = .ok (.isub, 1) := dk_100 (dk_at dksX2_shift_4 13 rfl rfl)
theorem dX2_shift_104 : decode cX2_shift 104 = .ok (.if_icmp .le 6, 3) := dk_164 0 6 (dk_at dksX2_shift_4 14 rfl rfl)
theorem dX2_shift_107 : decode cX2_shift 107 = .ok (.bipush (-13), 2) := dk_16 243 (dk_at dksX2_shift_4 17 rfl rfl)
theorem dX2_shift_109 : decode cX2_shift 109 = .ok (.ireturn, 1) := dk_172 (dk_at dksX2_shift_4 19 rfl rfl)
theorem dX2_shift_110 : decode cX2_shift 110 = .ok (.iconst 0, 1) := dk_3 (dk_at dksX2_shift_4 20 rfl rfl)
theorem dX2_shift_111 : decode cX2_shift 111 = .ok (.istore 6, 2) := dk_54 6 (dk_at dksX2_shift_4 21 rfl rfl)
theorem dX2_shift_113 : decode cX2_shift 113 = .ok (.iload 6, 2) := dk_21 6 (dk_at dksX2_shift_5 0 rfl rfl)
theorem dX2_shift_115 : decode cX2_shift 115 = .ok (.iload 5, 2) := dk_21 5 (dk_at dksX2_shift_5 2 rfl rfl)
theorem dX2_shift_117 : decode cX2_shift 117 = .ok (.if_icmp .ge 30, 3) := dk_162 0 30 (dk_at dksX2_shift_5 4 rfl rfl)
theorem dX2_shift_120 : decode cX2_shift 120 = .ok (.aload_n 0, 1) := dk_42 (dk_at dksX2_shift_5 7 rfl rfl)
theorem dX2_shift_121 : decode cX2_shift 121 = .ok (.getfield 80, 3) := dk_180 0 80 (dk_at dksX2_shift_5 8 rfl rfl)
theorem dX2_shift_124 : decode cX2_shift 124 = .ok (.iload 6, 2) := dk_21 6 (dk_at dksX2_shift_5 11 rfl rfl)
theorem dX2_shift_126 : decode cX2_shift 126 = .ok (.aload_n 0, 1) := dk_42 (dk_at dksX2_shift_5 13 rfl rfl)
theorem dX2_shift_127 : decode cX2_shift 127 = .ok (.getfield 77, 3) := dk_180 0 77 (dk_at dksX2_shift_5 14 rfl rfl)
theorem dX2_shift_130 : decode cX2_shift 130 = .ok (.bipush 60, 2) := dk_16 60 (dk_at dksX2_shift_5 17 rfl rfl)
theorem dX2_shift_132 : decode cX2_shift 132 = .ok (.iload_n 1, 1) := dk_27 (dk_at dksX2_shift_5 19 rfl rfl)
theorem dX2_shift_133 : decode cX2_shift 133 = .ok (.imul, 1) := dk_104 (dk_at dksX2_shift_5 20 rfl rfl)
theorem dX2_shift_134 : decode cX2_shift 134 = .ok (.iload_n 2, 1) := dk_28 (dk_at dksX2_shift_5 21 rfl rfl)
theorem dX2_shift_135 : decode cX2_shift 135 = .ok (.iadd, 1) := dk_96 (dk_at dksX2_shift_5 22 rfl rfl)
theorem dX2_shift_136 : decode cX2_shift 136 = .ok (.iload 6, 2) := dk_21 6 (dk_at dksX2_shift_6 0 rfl rfl)
theorem dX2_shift_138 : decode cX2_shift 138 = .ok (.iadd, 1) := dk_96 (dk_at dksX2_shift_6 2 rfl rfl)
theorem dX2_shift_139 : decode cX2_shift 139 = .ok (.laload, 1) := dk_47 (dk_at dksX2_shift_6 3 rfl rfl)
theorem dX2_shift_140 : decode cX2_shift 140 = .ok (.lastore, 1) := dk_80 (dk_at dksX2_shift_6 4 rfl rfl)
theorem dX2_shift_141 : decode cX2_shift 141 = .ok (.iinc 6 1, 3) := dk_132 6 1 (dk_at dksX2_shift_6 5 rfl rfl)
theorem dX2_shift_144 : decode cX2_shift 144 = .ok (.goto (-31), 3) := dk_167 255 225 (dk_at dksX2_shift_6 8 rfl rfl)
theorem dX2_shift_147 : decode cX2_shift 147 = .ok (.iconst 0, 1) := dk_3 (dk_at dksX2_shift_6 11 rfl rfl)
theorem dX2_shift_148 : decode cX2_shift 148 = .ok (.istore 6, 2) := dk_54 6 (dk_at dksX2_shift_6 12 rfl rfl)
theorem dX2_shift_150 : decode cX2_shift 150 = .ok (.iload 6, 2) := dk_21 6 (dk_at dksX2_shift_6 14 rfl rfl)
theorem dX2_shift_152 : decode cX2_shift 152 = .ok (.iload 5, 2) := dk_21 5 (dk_at dksX2_shift_6 16 rfl rfl)
theorem dX2_shift_154 : decode cX2_shift 154 = .ok (.if_icmp .ge 31, 3) := dk_162 0 31 (dk_at dksX2_shift_6 18 rfl rfl)
theorem dX2_shift_157 : decode cX2_shift 157 = .ok (.aload_n 0, 1) := dk_42 (dk_at dksX2_shift_6 21 rfl rfl)
theorem dX2_shift_158 : decode cX2_shift 158 = .ok (.getfield 77, 3) := dk_180 0 77 (dk_at dksX2_shift_7 0 rfl rfl)
theorem dX2_shift_161 : decode cX2_shift 161 = .ok (.bipush 60, 2) := dk_16 60 (dk_at dksX2_shift_7 3 rfl rfl)
theorem dX2_shift_163 : decode cX2_shift 163 = .ok (.iload_n 3, 1) := dk_29 (dk_at dksX2_shift_7 5 rfl rfl)
theorem dX2_shift_164 : decode cX2_shift 164 = .ok (.imul, 1) := dk_104 (dk_at dksX2_shift_7 6 rfl rfl)
theorem dX2_shift_165 : decode cX2_shift 165 = .ok (.iload 4, 2) := dk_21 4 (dk_at dksX2_shift_7 7 rfl rfl)
theorem dX2_shift_167 : decode cX2_shift 167 = .ok (.iadd, 1) := dk_96 (dk_at dksX2_shift_7 9 rfl rfl)
theorem dX2_shift_168 : decode cX2_shift 168 = .ok (.iload 6, 2) := dk_21 6 (dk_at dksX2_shift_7 10 rfl rfl)
theorem dX2_shift_170 : decode cX2_shift 170 = .ok (.iadd, 1) := dk_96 (dk_at dksX2_shift_7 12 rfl rfl)
theorem dX2_shift_171 : decode cX2_shift 171 = .ok (.aload_n 0, 1) := dk_42 (dk_at dksX2_shift_7 13 rfl rfl)
theorem dX2_shift_172 : decode cX2_shift 172 = .ok (.getfield 80, 3) := dk_180 0 80 (dk_at dksX2_shift_7 14 rfl rfl)
theorem dX2_shift_175 : decode cX2_shift 175 = .ok (.iload 6, 2) := dk_21 6 (dk_at dksX2_shift_7 17 rfl rfl)
theorem dX2_shift_177 : decode cX2_shift 177 = .ok (.laload, 1) := dk_47 (dk_at dksX2_shift_7 19 rfl rfl)
theorem dX2_shift_178 : decode cX2_shift 178 = .ok (.lastore, 1) := dk_80 (dk_at dksX2_shift_7 20 rfl rfl)
theorem dX2_shift_179 : decode cX2_shift 179 = .ok (.iinc 6 1, 3) := dk_132 6 1 (dk_at dksX2_shift_7 21 rfl rfl)
theorem dX2_shift_182 : decode cX2_shift 182 = .ok (.goto (-32), 3) := dk_167 255 224 (dk_at dksX2_shift_8 0 rfl rfl)
theorem dX2_shift_185 : decode cX2_shift 185 = .ok (.iload 5, 2) := dk_21 5 (dk_at dksX2_shift_8 3 rfl rfl)
theorem dX2_shift_187 : decode cX2_shift 187 = .ok (.ireturn, 1) := dk_172 (dk_at dksX2_shift_8 5 rfl rfl)
abbrev cX2_taken : ByteArray := prog_31_method_93_code
def yX2_taken : MethodName := ⟨RX2, "taken", "(II)I"⟩
def dkwX2_taken_4 : List UInt8 := [167, 0, 5, 16, 244, 172]
abbrev dktX2_taken_4 : List UInt8 := dkwX2_taken_4 ++ []
def dkwX2_taken_3 : List UInt8 := [184, 1, 116, 62, 167, 255, 242, 29, 28, 160, 0, 16, 42, 42, 180, 0, 71, 27, 46, 182, 1, 113]
abbrev dktX2_taken_3 : List UInt8 := dkwX2_taken_3 ++ dktX2_taken_4
def dkwX2_taken_2 : List UInt8 := [172, 42, 42, 180, 0, 71, 27, 46, 182, 1, 113, 62, 29, 28, 159, 0, 15, 29, 158, 0, 11, 29]
abbrev dktX2_taken_2 : List UInt8 := dkwX2_taken_2 ++ dktX2_taken_3
def dkwX2_taken_1 : List UInt8 := [180, 0, 71, 27, 46, 156, 0, 6, 16, 245, 172, 42, 180, 0, 71, 27, 46, 16, 50, 161, 0, 6, 16, 244]
abbrev dktX2_taken_1 : List UInt8 := dkwX2_taken_1 ++ dktX2_taken_2
def dkwX2_taken_0 : List UInt8 := [27, 184, 0, 118, 153, 0, 15, 28, 133, 9, 20, 1, 77, 184, 0, 99, 154, 0, 5, 2, 172, 42]
abbrev dktX2_taken_0 : List UInt8 := dkwX2_taken_0 ++ dktX2_taken_1
theorem dksX2_taken_0 : cX2_taken.data.toList.drop 0 = dktX2_taken_0 := by decide +kernel
theorem dksX2_taken_1 : cX2_taken.data.toList.drop 22 = dktX2_taken_1 := dk_seg dksX2_taken_0 22 rfl rfl
theorem dksX2_taken_2 : cX2_taken.data.toList.drop 46 = dktX2_taken_2 := dk_seg dksX2_taken_1 24 rfl rfl
theorem dksX2_taken_3 : cX2_taken.data.toList.drop 68 = dktX2_taken_3 := dk_seg dksX2_taken_2 22 rfl rfl
theorem dksX2_taken_4 : cX2_taken.data.toList.drop 90 = dktX2_taken_4 := dk_seg dksX2_taken_3 22 rfl rfl
theorem dX2_taken_0 : decode cX2_taken 0 = .ok (.iload_n 1, 1) := dk_27 (dk_at dksX2_taken_0 0 rfl rfl)
theorem dX2_taken_1 : decode cX2_taken 1 = .ok (.invokestatic 118, 3) := dk_184 0 118 (dk_at dksX2_taken_0 1 rfl rfl)
theorem dX2_taken_4 : decode cX2_taken 4 = .ok (.ifCond .eq 15, 3) := dk_153 0 15 (dk_at dksX2_taken_0 4 rfl rfl)
theorem dX2_taken_7 : decode cX2_taken 7 = .ok (.iload_n 2, 1) := dk_28 (dk_at dksX2_taken_0 7 rfl rfl)
theorem dX2_taken_8 : decode cX2_taken 8 = .ok (.i2l, 1) := dk_133 (dk_at dksX2_taken_0 8 rfl rfl)
theorem dX2_taken_9 : decode cX2_taken 9 = .ok (.lconst 0, 1) := dk_9 (dk_at dksX2_taken_0 9 rfl rfl)
theorem dX2_taken_10 : decode cX2_taken 10 = .ok (.ldc2_w 333, 3) := dk_20 1 77 (dk_at dksX2_taken_0 10 rfl rfl)
theorem dX2_taken_13 : decode cX2_taken 13 = .ok (.invokestatic 99, 3) := dk_184 0 99 (dk_at dksX2_taken_0 13 rfl rfl)
theorem dX2_taken_16 : decode cX2_taken 16 = .ok (.ifCond .ne 5, 3) := dk_154 0 5 (dk_at dksX2_taken_0 16 rfl rfl)
theorem dX2_taken_19 : decode cX2_taken 19 = .ok (.iconst (-1), 1) := dk_2 (dk_at dksX2_taken_0 19 rfl rfl)
theorem dX2_taken_20 : decode cX2_taken 20 = .ok (.ireturn, 1) := dk_172 (dk_at dksX2_taken_0 20 rfl rfl)
theorem dX2_taken_21 : decode cX2_taken 21 = .ok (.aload_n 0, 1) := dk_42 (dk_at dksX2_taken_0 21 rfl rfl)
theorem dX2_taken_22 : decode cX2_taken 22 = .ok (.getfield 71, 3) := dk_180 0 71 (dk_at dksX2_taken_1 0 rfl rfl)
theorem dX2_taken_25 : decode cX2_taken 25 = .ok (.iload_n 1, 1) := dk_27 (dk_at dksX2_taken_1 3 rfl rfl)
theorem dX2_taken_26 : decode cX2_taken 26 = .ok (.iaload, 1) := dk_46 (dk_at dksX2_taken_1 4 rfl rfl)
theorem dX2_taken_27 : decode cX2_taken 27 = .ok (.ifCond .ge 6, 3) := dk_156 0 6 (dk_at dksX2_taken_1 5 rfl rfl)
theorem dX2_taken_30 : decode cX2_taken 30 = .ok (.bipush (-11), 2) := dk_16 245 (dk_at dksX2_taken_1 8 rfl rfl)
theorem dX2_taken_32 : decode cX2_taken 32 = .ok (.ireturn, 1) := dk_172 (dk_at dksX2_taken_1 10 rfl rfl)
theorem dX2_taken_33 : decode cX2_taken 33 = .ok (.aload_n 0, 1) := dk_42 (dk_at dksX2_taken_1 11 rfl rfl)
theorem dX2_taken_34 : decode cX2_taken 34 = .ok (.getfield 71, 3) := dk_180 0 71 (dk_at dksX2_taken_1 12 rfl rfl)
theorem dX2_taken_37 : decode cX2_taken 37 = .ok (.iload_n 1, 1) := dk_27 (dk_at dksX2_taken_1 15 rfl rfl)
theorem dX2_taken_38 : decode cX2_taken 38 = .ok (.iaload, 1) := dk_46 (dk_at dksX2_taken_1 16 rfl rfl)
theorem dX2_taken_39 : decode cX2_taken 39 = .ok (.bipush 50, 2) := dk_16 50 (dk_at dksX2_taken_1 17 rfl rfl)
theorem dX2_taken_41 : decode cX2_taken 41 = .ok (.if_icmp .lt 6, 3) := dk_161 0 6 (dk_at dksX2_taken_1 19 rfl rfl)
theorem dX2_taken_44 : decode cX2_taken 44 = .ok (.bipush (-12), 2) := dk_16 244 (dk_at dksX2_taken_1 22 rfl rfl)
theorem dX2_taken_46 : decode cX2_taken 46 = .ok (.ireturn, 1) := dk_172 (dk_at dksX2_taken_2 0 rfl rfl)
theorem dX2_taken_47 : decode cX2_taken 47 = .ok (.aload_n 0, 1) := dk_42 (dk_at dksX2_taken_2 1 rfl rfl)
theorem dX2_taken_48 : decode cX2_taken 48 = .ok (.aload_n 0, 1) := dk_42 (dk_at dksX2_taken_2 2 rfl rfl)
theorem dX2_taken_49 : decode cX2_taken 49 = .ok (.getfield 71, 3) := dk_180 0 71 (dk_at dksX2_taken_2 3 rfl rfl)
theorem dX2_taken_52 : decode cX2_taken 52 = .ok (.iload_n 1, 1) := dk_27 (dk_at dksX2_taken_2 6 rfl rfl)
theorem dX2_taken_53 : decode cX2_taken 53 = .ok (.iaload, 1) := dk_46 (dk_at dksX2_taken_2 7 rfl rfl)
theorem dX2_taken_54 : decode cX2_taken 54 = .ok (.invokevirtual 369, 3) := dk_182 1 113 (dk_at dksX2_taken_2 8 rfl rfl)
theorem dX2_taken_57 : decode cX2_taken 57 = .ok (.istore_n 3, 1) := dk_62 (dk_at dksX2_taken_2 11 rfl rfl)
theorem dX2_taken_58 : decode cX2_taken 58 = .ok (.iload_n 3, 1) := dk_29 (dk_at dksX2_taken_2 12 rfl rfl)
theorem dX2_taken_59 : decode cX2_taken 59 = .ok (.iload_n 2, 1) := dk_28 (dk_at dksX2_taken_2 13 rfl rfl)
theorem dX2_taken_60 : decode cX2_taken 60 = .ok (.if_icmp .eq 15, 3) := dk_159 0 15 (dk_at dksX2_taken_2 14 rfl rfl)
theorem dX2_taken_63 : decode cX2_taken 63 = .ok (.iload_n 3, 1) := dk_29 (dk_at dksX2_taken_2 17 rfl rfl)
theorem dX2_taken_64 : decode cX2_taken 64 = .ok (.ifCond .le 11, 3) := dk_158 0 11 (dk_at dksX2_taken_2 18 rfl rfl)
theorem dX2_taken_67 : decode cX2_taken 67 = .ok (.iload_n 3, 1) := dk_29 (dk_at dksX2_taken_2 21 rfl rfl)
theorem dX2_taken_68 : decode cX2_taken 68 = .ok (.invokestatic 372, 3) := dk_184 1 116 (dk_at dksX2_taken_3 0 rfl rfl)
theorem dX2_taken_71 : decode cX2_taken 71 = .ok (.istore_n 3, 1) := dk_62 (dk_at dksX2_taken_3 3 rfl rfl)
theorem dX2_taken_72 : decode cX2_taken 72 = .ok (.goto (-14), 3) := dk_167 255 242 (dk_at dksX2_taken_3 4 rfl rfl)
theorem dX2_taken_75 : decode cX2_taken 75 = .ok (.iload_n 3, 1) := dk_29 (dk_at dksX2_taken_3 7 rfl rfl)
theorem dX2_taken_76 : decode cX2_taken 76 = .ok (.iload_n 2, 1) := dk_28 (dk_at dksX2_taken_3 8 rfl rfl)
theorem dX2_taken_77 : decode cX2_taken 77 = .ok (.if_icmp .ne 16, 3) := dk_160 0 16 (dk_at dksX2_taken_3 9 rfl rfl)
theorem dX2_taken_80 : decode cX2_taken 80 = .ok (.aload_n 0, 1) := dk_42 (dk_at dksX2_taken_3 12 rfl rfl)
theorem dX2_taken_81 : decode cX2_taken 81 = .ok (.aload_n 0, 1) := dk_42 (dk_at dksX2_taken_3 13 rfl rfl)
theorem dX2_taken_82 : decode cX2_taken 82 = .ok (.getfield 71, 3) := dk_180 0 71 (dk_at dksX2_taken_3 14 rfl rfl)
theorem dX2_taken_85 : decode cX2_taken 85 = .ok (.iload_n 1, 1) := dk_27 (dk_at dksX2_taken_3 17 rfl rfl)
theorem dX2_taken_86 : decode cX2_taken 86 = .ok (.iaload, 1) := dk_46 (dk_at dksX2_taken_3 18 rfl rfl)
theorem dX2_taken_87 : decode cX2_taken 87 = .ok (.invokevirtual 369, 3) := dk_182 1 113 (dk_at dksX2_taken_3 19 rfl rfl)
theorem dX2_taken_90 : decode cX2_taken 90 = .ok (.goto 5, 3) := dk_167 0 5 (dk_at dksX2_taken_4 0 rfl rfl)
theorem dX2_taken_93 : decode cX2_taken 93 = .ok (.bipush (-12), 2) := dk_16 244 (dk_at dksX2_taken_4 3 rfl rfl)
theorem dX2_taken_95 : decode cX2_taken 95 = .ok (.ireturn, 1) := dk_172 (dk_at dksX2_taken_4 5 rfl rfl)
abbrev cX2_kindOf : ByteArray := prog_31_method_75_code
def yX2_kindOf : MethodName := ⟨RX2, "kindOf", "(I)I"⟩
def dkwX2_kindOf_0 : List UInt8 := [42, 180, 0, 65, 27, 46, 172]
abbrev dktX2_kindOf_0 : List UInt8 := dkwX2_kindOf_0 ++ []
theorem dksX2_kindOf_0 : cX2_kindOf.data.toList.drop 0 = dktX2_kindOf_0 := by decide +kernel
theorem dX2_kindOf_0 : decode cX2_kindOf 0 = .ok (.aload_n 0, 1) := dk_42 (dk_at dksX2_kindOf_0 0 rfl rfl)
theorem dX2_kindOf_1 : decode cX2_kindOf 1 = .ok (.getfield 65, 3) := dk_180 0 65 (dk_at dksX2_kindOf_0 1 rfl rfl)
theorem dX2_kindOf_4 : decode cX2_kindOf 4 = .ok (.iload_n 1, 1) := dk_27 (dk_at dksX2_kindOf_0 4 rfl rfl)
theorem dX2_kindOf_5 : decode cX2_kindOf 5 = .ok (.iaload, 1) := dk_46 (dk_at dksX2_kindOf_0 5 rfl rfl)
theorem dX2_kindOf_6 : decode cX2_kindOf 6 = .ok (.ireturn, 1) := dk_172 (dk_at dksX2_kindOf_0 6 rfl rfl)
abbrev cX2_above : ByteArray := prog_31_method_77_code
def yX2_above : MethodName := ⟨RX2, "above", "(I)I"⟩
def dkwX2_above_1 : List UInt8 := [167, 0, 14, 26, 16, 7, 160, 0, 7, 7, 167, 0, 4, 3, 172]
abbrev dktX2_above_1 : List UInt8 := dkwX2_above_1 ++ []
def dkwX2_above_0 : List UInt8 := [26, 6, 160, 0, 7, 5, 167, 0, 32, 26, 7, 160, 0, 7, 4, 167, 0, 23, 26, 8, 160, 0, 7, 6]
abbrev dktX2_above_0 : List UInt8 := dkwX2_above_0 ++ dktX2_above_1
theorem dksX2_above_0 : cX2_above.data.toList.drop 0 = dktX2_above_0 := by decide +kernel
theorem dksX2_above_1 : cX2_above.data.toList.drop 24 = dktX2_above_1 := dk_seg dksX2_above_0 24 rfl rfl
theorem dX2_above_0 : decode cX2_above 0 = .ok (.iload_n 0, 1) := dk_26 (dk_at dksX2_above_0 0 rfl rfl)
theorem dX2_above_1 : decode cX2_above 1 = .ok (.iconst 3, 1) := dk_6 (dk_at dksX2_above_0 1 rfl rfl)
theorem dX2_above_2 : decode cX2_above 2 = .ok (.if_icmp .ne 7, 3) := dk_160 0 7 (dk_at dksX2_above_0 2 rfl rfl)
theorem dX2_above_5 : decode cX2_above 5 = .ok (.iconst 2, 1) := dk_5 (dk_at dksX2_above_0 5 rfl rfl)
theorem dX2_above_6 : decode cX2_above 6 = .ok (.goto 32, 3) := dk_167 0 32 (dk_at dksX2_above_0 6 rfl rfl)
theorem dX2_above_9 : decode cX2_above 9 = .ok (.iload_n 0, 1) := dk_26 (dk_at dksX2_above_0 9 rfl rfl)
theorem dX2_above_10 : decode cX2_above 10 = .ok (.iconst 4, 1) := dk_7 (dk_at dksX2_above_0 10 rfl rfl)
theorem dX2_above_11 : decode cX2_above 11 = .ok (.if_icmp .ne 7, 3) := dk_160 0 7 (dk_at dksX2_above_0 11 rfl rfl)
theorem dX2_above_14 : decode cX2_above 14 = .ok (.iconst 1, 1) := dk_4 (dk_at dksX2_above_0 14 rfl rfl)
theorem dX2_above_15 : decode cX2_above 15 = .ok (.goto 23, 3) := dk_167 0 23 (dk_at dksX2_above_0 15 rfl rfl)
theorem dX2_above_18 : decode cX2_above 18 = .ok (.iload_n 0, 1) := dk_26 (dk_at dksX2_above_0 18 rfl rfl)
theorem dX2_above_19 : decode cX2_above 19 = .ok (.iconst 5, 1) := dk_8 (dk_at dksX2_above_0 19 rfl rfl)
theorem dX2_above_20 : decode cX2_above 20 = .ok (.if_icmp .ne 7, 3) := dk_160 0 7 (dk_at dksX2_above_0 20 rfl rfl)
theorem dX2_above_23 : decode cX2_above 23 = .ok (.iconst 3, 1) := dk_6 (dk_at dksX2_above_0 23 rfl rfl)
theorem dX2_above_24 : decode cX2_above 24 = .ok (.goto 14, 3) := dk_167 0 14 (dk_at dksX2_above_1 0 rfl rfl)
theorem dX2_above_27 : decode cX2_above 27 = .ok (.iload_n 0, 1) := dk_26 (dk_at dksX2_above_1 3 rfl rfl)
theorem dX2_above_28 : decode cX2_above 28 = .ok (.bipush 7, 2) := dk_16 7 (dk_at dksX2_above_1 4 rfl rfl)
theorem dX2_above_30 : decode cX2_above 30 = .ok (.if_icmp .ne 7, 3) := dk_160 0 7 (dk_at dksX2_above_1 6 rfl rfl)
theorem dX2_above_33 : decode cX2_above 33 = .ok (.iconst 4, 1) := dk_7 (dk_at dksX2_above_1 9 rfl rfl)
theorem dX2_above_34 : decode cX2_above 34 = .ok (.goto 4, 3) := dk_167 0 4 (dk_at dksX2_above_1 10 rfl rfl)
theorem dX2_above_37 : decode cX2_above 37 = .ok (.iconst 0, 1) := dk_3 (dk_at dksX2_above_1 13 rfl rfl)
theorem dX2_above_38 : decode cX2_above 38 = .ok (.ireturn, 1) := dk_172 (dk_at dksX2_above_1 14 rfl rfl)
abbrev cX2_count : ByteArray := prog_31_method_94_code
def yX2_count : MethodName := ⟨RX2, "count", "(I)I"⟩
def dkwX2_count_3 : List UInt8 := [172, 42, 180, 1, 74, 172, 42, 180, 1, 79, 172, 2, 172]
abbrev dktX2_count_3 : List UInt8 := dkwX2_count_3 ++ []
def dkwX2_count_2 : List UInt8 := [42, 180, 0, 96, 172, 42, 180, 0, 139, 172, 42, 180, 1, 60, 172, 42, 180, 0, 144, 172, 42, 180, 0, 90]
abbrev dktX2_count_2 : List UInt8 := dkwX2_count_2 ++ dktX2_count_3
def dkwX2_count_1 : List UInt8 := [170, 0, 0, 0, 0, 0, 78, 0, 0, 0, 0, 0, 0, 0, 6, 0, 0, 0, 43, 0, 0, 0, 48, 0, 0, 0, 53, 0, 0, 0, 58, 0, 0, 0, 63, 0, 0, 0, 68, 0, 0, 0, 73]
abbrev dktX2_count_1 : List UInt8 := dkwX2_count_1 ++ dktX2_count_2
def dkwX2_count_0 : List UInt8 := [27]
abbrev dktX2_count_0 : List UInt8 := dkwX2_count_0 ++ dktX2_count_1
theorem dksX2_count_0 : cX2_count.data.toList.drop 0 = dktX2_count_0 := by decide +kernel
theorem dksX2_count_1 : cX2_count.data.toList.drop 1 = dktX2_count_1 := dk_seg dksX2_count_0 1 rfl rfl
theorem dksX2_count_2 : cX2_count.data.toList.drop 44 = dktX2_count_2 := dk_seg dksX2_count_1 43 rfl rfl
theorem dksX2_count_3 : cX2_count.data.toList.drop 68 = dktX2_count_3 := dk_seg dksX2_count_2 24 rfl rfl
theorem dX2_count_0 : decode cX2_count 0 = .ok (.iload_n 1, 1) := dk_27 (dk_at dksX2_count_0 0 rfl rfl)
theorem dX2_count_1 : decode cX2_count 1 = .ok (.tableswitch 78 0 6 #[43, 48, 53, 58, 63, 68, 73], 43) := by decide +kernel
theorem dX2_count_44 : decode cX2_count 44 = .ok (.aload_n 0, 1) := dk_42 (dk_at dksX2_count_2 0 rfl rfl)
theorem dX2_count_45 : decode cX2_count 45 = .ok (.getfield 96, 3) := dk_180 0 96 (dk_at dksX2_count_2 1 rfl rfl)
theorem dX2_count_48 : decode cX2_count 48 = .ok (.ireturn, 1) := dk_172 (dk_at dksX2_count_2 4 rfl rfl)
theorem dX2_count_49 : decode cX2_count 49 = .ok (.aload_n 0, 1) := dk_42 (dk_at dksX2_count_2 5 rfl rfl)
theorem dX2_count_50 : decode cX2_count 50 = .ok (.getfield 139, 3) := dk_180 0 139 (dk_at dksX2_count_2 6 rfl rfl)
theorem dX2_count_53 : decode cX2_count 53 = .ok (.ireturn, 1) := dk_172 (dk_at dksX2_count_2 9 rfl rfl)
theorem dX2_count_54 : decode cX2_count 54 = .ok (.aload_n 0, 1) := dk_42 (dk_at dksX2_count_2 10 rfl rfl)
theorem dX2_count_55 : decode cX2_count 55 = .ok (.getfield 316, 3) := dk_180 1 60 (dk_at dksX2_count_2 11 rfl rfl)
theorem dX2_count_58 : decode cX2_count 58 = .ok (.ireturn, 1) := dk_172 (dk_at dksX2_count_2 14 rfl rfl)
theorem dX2_count_59 : decode cX2_count 59 = .ok (.aload_n 0, 1) := dk_42 (dk_at dksX2_count_2 15 rfl rfl)
theorem dX2_count_60 : decode cX2_count 60 = .ok (.getfield 144, 3) := dk_180 0 144 (dk_at dksX2_count_2 16 rfl rfl)
theorem dX2_count_63 : decode cX2_count 63 = .ok (.ireturn, 1) := dk_172 (dk_at dksX2_count_2 19 rfl rfl)
theorem dX2_count_64 : decode cX2_count 64 = .ok (.aload_n 0, 1) := dk_42 (dk_at dksX2_count_2 20 rfl rfl)
theorem dX2_count_65 : decode cX2_count 65 = .ok (.getfield 90, 3) := dk_180 0 90 (dk_at dksX2_count_2 21 rfl rfl)
theorem dX2_count_68 : decode cX2_count 68 = .ok (.ireturn, 1) := dk_172 (dk_at dksX2_count_3 0 rfl rfl)
theorem dX2_count_69 : decode cX2_count 69 = .ok (.aload_n 0, 1) := dk_42 (dk_at dksX2_count_3 1 rfl rfl)
theorem dX2_count_70 : decode cX2_count 70 = .ok (.getfield 330, 3) := dk_180 1 74 (dk_at dksX2_count_3 2 rfl rfl)
theorem dX2_count_73 : decode cX2_count 73 = .ok (.ireturn, 1) := dk_172 (dk_at dksX2_count_3 5 rfl rfl)
theorem dX2_count_74 : decode cX2_count 74 = .ok (.aload_n 0, 1) := dk_42 (dk_at dksX2_count_3 6 rfl rfl)
theorem dX2_count_75 : decode cX2_count 75 = .ok (.getfield 335, 3) := dk_180 1 79 (dk_at dksX2_count_3 7 rfl rfl)
theorem dX2_count_78 : decode cX2_count 78 = .ok (.ireturn, 1) := dk_172 (dk_at dksX2_count_3 10 rfl rfl)
theorem dX2_count_79 : decode cX2_count 79 = .ok (.iconst (-1), 1) := dk_2 (dk_at dksX2_count_3 11 rfl rfl)
theorem dX2_count_80 : decode cX2_count 80 = .ok (.ireturn, 1) := dk_172 (dk_at dksX2_count_3 12 rfl rfl)
theorem q94 : (Jvm.Cond.initialized "ThreeSnowballsModel") ∈ lw_all := lw_g (lw_at lw_m1 3 rfl) rfl
theorem q1508 : (Jvm.Cond.instantiable "ThreeSnowballsModel" (50 : Nat)) ∈ lw_all := lw_g (lw_at lw_m6 217 rfl) rfl
theorem q1510 : (Jvm.Cond.instanceMethod ({ cls := "ThreeSnowballsModel", name := "<init>", desc := "()V" } : Jvm.MethodName)) ∈ lw_all := lw_g (lw_at lw_m6 219 rfl) rfl
theorem q1511 : (Jvm.Cond.code ({ cls := "ThreeSnowballsModel", name := "<init>", desc := "()V" } : Jvm.MethodName) prog_31_method_4_code (2 : Nat) (Option.none : Option Jvm.ClassFile.FieldType)) ∈ lw_all := lw_g (lw_at lw_m6 220 rfl) rfl
theorem q1512 : (Jvm.Cond.methodLink "ThreeSnowballsModel" (3 : Nat) ({ cls := "java/lang/Object", name := "<init>", desc := "()V" } : Jvm.MethodName)) ∈ lw_all := lw_g (lw_at lw_m6 221 rfl) rfl
theorem q1513 : (Jvm.Cond.fieldLink "ThreeSnowballsModel" (9 : Nat) "ThreeSnowballsModel" "may" "[I") ∈ lw_all := lw_g (lw_at lw_m6 222 rfl) rfl
theorem q1514 : (Jvm.Cond.fieldLink "ThreeSnowballsModel" (13 : Nat) "ThreeSnowballsModel" "changeAt" "[I") ∈ lw_all := lw_g (lw_at lw_m6 223 rfl) rfl
theorem q1515 : (Jvm.Cond.fieldLink "ThreeSnowballsModel" (16 : Nat) "ThreeSnowballsModel" "changeWas" "[I") ∈ lw_all := lw_g (lw_at lw_m6 224 rfl) rfl
theorem q1516 : (Jvm.Cond.fieldLink "ThreeSnowballsModel" (19 : Nat) "ThreeSnowballsModel" "changeIs" "[I") ∈ lw_all := lw_g (lw_at lw_m6 225 rfl) rfl
theorem q1517 : (Jvm.Cond.fieldLink "ThreeSnowballsModel" (93 : Nat) "ThreeSnowballsModel" "keptMany" "I") ∈ lw_all := lw_g (lw_at lw_m6 226 rfl) rfl
theorem q1518 : (Jvm.Cond.fieldLink "ThreeSnowballsModel" (90 : Nat) "ThreeSnowballsModel" "done" "I") ∈ lw_all := lw_g (lw_at lw_m6 227 rfl) rfl
theorem q1519 : (Jvm.Cond.fieldLink "ThreeSnowballsModel" (96 : Nat) "ThreeSnowballsModel" "players" "I") ∈ lw_all := lw_g (lw_at lw_m6 228 rfl) rfl
theorem q1520 : (Jvm.Cond.fieldLink "ThreeSnowballsModel" (22 : Nat) "ThreeSnowballsModel" "order" "[I") ∈ lw_all := lw_g (lw_at lw_m6 229 rfl) rfl
theorem q1521 : (Jvm.Cond.fieldLink "ThreeSnowballsModel" (25 : Nat) "ThreeSnowballsModel" "place" "[I") ∈ lw_all := lw_g (lw_at lw_m6 230 rfl) rfl
theorem q1522 : (Jvm.Cond.fieldLink "ThreeSnowballsModel" (87 : Nat) "ThreeSnowballsModel" "bell" "I") ∈ lw_all := lw_g (lw_at lw_m6 231 rfl) rfl
theorem q1523 : (Jvm.Cond.fieldLink "ThreeSnowballsModel" (28 : Nat) "ThreeSnowballsModel" "prize" "[I") ∈ lw_all := lw_g (lw_at lw_m6 232 rfl) rfl
theorem q1524 : (Jvm.Cond.fieldLink "ThreeSnowballsModel" (31 : Nat) "ThreeSnowballsModel" "digitsOf" "[I") ∈ lw_all := lw_g (lw_at lw_m6 233 rfl) rfl
theorem q1525 : (Jvm.Cond.fieldLink "ThreeSnowballsModel" (34 : Nat) "ThreeSnowballsModel" "tape" "[I") ∈ lw_all := lw_g (lw_at lw_m6 234 rfl) rfl
theorem q1526 : (Jvm.Cond.fieldLink "ThreeSnowballsModel" (144 : Nat) "ThreeSnowballsModel" "tapeMany" "I") ∈ lw_all := lw_g (lw_at lw_m6 235 rfl) rfl
theorem q1527 : (Jvm.Cond.fieldLink "ThreeSnowballsModel" (37 : Nat) "ThreeSnowballsModel" "text" "[I") ∈ lw_all := lw_g (lw_at lw_m6 236 rfl) rfl
theorem q1528 : (Jvm.Cond.fieldLink "ThreeSnowballsModel" (83 : Nat) "ThreeSnowballsModel" "textMany" "I") ∈ lw_all := lw_g (lw_at lw_m6 237 rfl) rfl
theorem q1529 : (Jvm.Cond.fieldLink "ThreeSnowballsModel" (153 : Nat) "ThreeSnowballsModel" "base" "I") ∈ lw_all := lw_g (lw_at lw_m6 238 rfl) rfl
theorem q1530 : (Jvm.Cond.fieldLink "ThreeSnowballsModel" (147 : Nat) "ThreeSnowballsModel" "at" "I") ∈ lw_all := lw_g (lw_at lw_m6 239 rfl) rfl
theorem q1531 : (Jvm.Cond.fieldLink "ThreeSnowballsModel" (150 : Nat) "ThreeSnowballsModel" "ends" "I") ∈ lw_all := lw_g (lw_at lw_m7 0 rfl) rfl
theorem q1532 : (Jvm.Cond.fieldLink "ThreeSnowballsModel" (156 : Nat) "ThreeSnowballsModel" "fault" "I") ∈ lw_all := lw_g (lw_at lw_m7 1 rfl) rfl
theorem q1533 : (Jvm.Cond.fieldLink "ThreeSnowballsModel" (181 : Nat) "ThreeSnowballsModel" "opened" "I") ∈ lw_all := lw_g (lw_at lw_m7 2 rfl) rfl
theorem q1534 : (Jvm.Cond.fieldLink "ThreeSnowballsModel" (40 : Nat) "ThreeSnowballsModel" "names" "[I") ∈ lw_all := lw_g (lw_at lw_m7 3 rfl) rfl
theorem q1535 : (Jvm.Cond.fieldLink "ThreeSnowballsModel" (43 : Nat) "ThreeSnowballsModel" "power" "[J") ∈ lw_all := lw_g (lw_at lw_m7 4 rfl) rfl
theorem q1536 : (Jvm.Cond.fieldLink "ThreeSnowballsModel" (47 : Nat) "ThreeSnowballsModel" "worthAt" "[J") ∈ lw_all := lw_g (lw_at lw_m7 5 rfl) rfl
theorem q1537 : (Jvm.Cond.fieldLink "ThreeSnowballsModel" (50 : Nat) "ThreeSnowballsModel" "aimAt" "[I") ∈ lw_all := lw_g (lw_at lw_m7 6 rfl) rfl
theorem q1538 : (Jvm.Cond.fieldLink "ThreeSnowballsModel" (53 : Nat) "ThreeSnowballsModel" "hitAt" "[I") ∈ lw_all := lw_g (lw_at lw_m7 7 rfl) rfl
theorem q1539 : (Jvm.Cond.fieldLink "ThreeSnowballsModel" (56 : Nat) "ThreeSnowballsModel" "now" "[J") ∈ lw_all := lw_g (lw_at lw_m7 8 rfl) rfl
theorem q1540 : (Jvm.Cond.fieldLink "ThreeSnowballsModel" (59 : Nat) "ThreeSnowballsModel" "value" "[J") ∈ lw_all := lw_g (lw_at lw_m7 9 rfl) rfl
theorem q1541 : (Jvm.Cond.fieldLink "ThreeSnowballsModel" (62 : Nat) "ThreeSnowballsModel" "waysWere" "[I") ∈ lw_all := lw_g (lw_at lw_m7 10 rfl) rfl
theorem q1542 : (Jvm.Cond.fieldLink "ThreeSnowballsModel" (285 : Nat) "ThreeSnowballsModel" "firstFalse" "I") ∈ lw_all := lw_g (lw_at lw_m7 11 rfl) rfl
theorem q1543 : (Jvm.Cond.fieldLink "ThreeSnowballsModel" (288 : Nat) "ThreeSnowballsModel" "firstWrong" "I") ∈ lw_all := lw_g (lw_at lw_m7 12 rfl) rfl
theorem q1544 : (Jvm.Cond.fieldLink "ThreeSnowballsModel" (291 : Nat) "ThreeSnowballsModel" "chanceAbove" "J") ∈ lw_all := lw_g (lw_at lw_m7 13 rfl) rfl
theorem q1545 : (Jvm.Cond.fieldLink "ThreeSnowballsModel" (295 : Nat) "ThreeSnowballsModel" "chanceBelow" "J") ∈ lw_all := lw_g (lw_at lw_m7 14 rfl) rfl
theorem q1546 : (Jvm.Cond.fieldLink "ThreeSnowballsModel" (139 : Nat) "ThreeSnowballsModel" "deedSet" "I") ∈ lw_all := lw_g (lw_at lw_m7 15 rfl) rfl
theorem q1547 : (Jvm.Cond.fieldLink "ThreeSnowballsModel" (313 : Nat) "ThreeSnowballsModel" "deedTurn" "I") ∈ lw_all := lw_g (lw_at lw_m7 16 rfl) rfl
theorem q1548 : (Jvm.Cond.fieldLink "ThreeSnowballsModel" (316 : Nat) "ThreeSnowballsModel" "deedThrows" "I") ∈ lw_all := lw_g (lw_at lw_m7 17 rfl) rfl
theorem q1549 : (Jvm.Cond.fieldLink "ThreeSnowballsModel" (309 : Nat) "ThreeSnowballsModel" "isKept" "Z") ∈ lw_all := lw_g (lw_at lw_m7 18 rfl) rfl
theorem q1550 : (Jvm.Cond.fieldLink "ThreeSnowballsModel" (321 : Nat) "ThreeSnowballsModel" "imageSet" "I") ∈ lw_all := lw_g (lw_at lw_m7 19 rfl) rfl
theorem q1551 : (Jvm.Cond.fieldLink "ThreeSnowballsModel" (324 : Nat) "ThreeSnowballsModel" "imageTurn" "I") ∈ lw_all := lw_g (lw_at lw_m7 20 rfl) rfl
theorem q1552 : (Jvm.Cond.fieldLink "ThreeSnowballsModel" (327 : Nat) "ThreeSnowballsModel" "imageThrows" "I") ∈ lw_all := lw_g (lw_at lw_m7 21 rfl) rfl
theorem q1553 : (Jvm.Cond.fieldLink "ThreeSnowballsModel" (330 : Nat) "ThreeSnowballsModel" "bodies" "I") ∈ lw_all := lw_g (lw_at lw_m7 22 rfl) rfl
theorem q1554 : (Jvm.Cond.fieldLink "ThreeSnowballsModel" (65 : Nat) "ThreeSnowballsModel" "bodyKind" "[I") ∈ lw_all := lw_g (lw_at lw_m7 23 rfl) rfl
theorem q1555 : (Jvm.Cond.fieldLink "ThreeSnowballsModel" (68 : Nat) "ThreeSnowballsModel" "trace" "[I") ∈ lw_all := lw_g (lw_at lw_m7 24 rfl) rfl
theorem q1556 : (Jvm.Cond.fieldLink "ThreeSnowballsModel" (335 : Nat) "ThreeSnowballsModel" "ran" "I") ∈ lw_all := lw_g (lw_at lw_m7 25 rfl) rfl
theorem q1557 : (Jvm.Cond.fieldLink "ThreeSnowballsModel" (350 : Nat) "ThreeSnowballsModel" "ownKind" "I") ∈ lw_all := lw_g (lw_at lw_m7 26 rfl) rfl
theorem q1558 : (Jvm.Cond.fieldLink "ThreeSnowballsModel" (344 : Nat) "ThreeSnowballsModel" "ownNumber" "I") ∈ lw_all := lw_g (lw_at lw_m7 27 rfl) rfl
theorem q1559 : (Jvm.Cond.fieldLink "ThreeSnowballsModel" (71 : Nat) "ThreeSnowballsModel" "shelf" "[I") ∈ lw_all := lw_g (lw_at lw_m7 28 rfl) rfl
theorem q1560 : (Jvm.Cond.fieldLink "ThreeSnowballsModel" (74 : Nat) "ThreeSnowballsModel" "many" "[I") ∈ lw_all := lw_g (lw_at lw_m7 29 rfl) rfl
theorem q1561 : (Jvm.Cond.fieldLink "ThreeSnowballsModel" (77 : Nat) "ThreeSnowballsModel" "items" "[J") ∈ lw_all := lw_g (lw_at lw_m7 30 rfl) rfl
theorem q1562 : (Jvm.Cond.fieldLink "ThreeSnowballsModel" (80 : Nat) "ThreeSnowballsModel" "carried" "[J") ∈ lw_all := lw_g (lw_at lw_m7 31 rfl) rfl
theorem q1563 : (Jvm.Cond.laysFinal "ThreeSnowballsModel" "ThreeSnowballsModel" "may" "[I") ∈ lw_all := lw_g (lw_at lw_m7 32 rfl) rfl
theorem q1564 : (Jvm.Cond.soleField "ThreeSnowballsModel" "may") ∈ lw_all := lw_g (lw_at lw_m7 33 rfl) rfl
theorem q1565 : (Jvm.Cond.laysFinal "ThreeSnowballsModel" "ThreeSnowballsModel" "changeAt" "[I") ∈ lw_all := lw_g (lw_at lw_m7 34 rfl) rfl
theorem q1566 : (Jvm.Cond.soleField "ThreeSnowballsModel" "changeAt") ∈ lw_all := lw_g (lw_at lw_m7 35 rfl) rfl
theorem q1567 : (Jvm.Cond.laysFinal "ThreeSnowballsModel" "ThreeSnowballsModel" "changeWas" "[I") ∈ lw_all := lw_g (lw_at lw_m7 36 rfl) rfl
theorem q1568 : (Jvm.Cond.soleField "ThreeSnowballsModel" "changeWas") ∈ lw_all := lw_g (lw_at lw_m7 37 rfl) rfl
theorem q1569 : (Jvm.Cond.laysFinal "ThreeSnowballsModel" "ThreeSnowballsModel" "changeIs" "[I") ∈ lw_all := lw_g (lw_at lw_m7 38 rfl) rfl
theorem q1570 : (Jvm.Cond.soleField "ThreeSnowballsModel" "changeIs") ∈ lw_all := lw_g (lw_at lw_m7 39 rfl) rfl
theorem q1571 : (Jvm.Cond.lays "ThreeSnowballsModel" "ThreeSnowballsModel" "keptMany" "I") ∈ lw_all := lw_g (lw_at lw_m7 40 rfl) rfl
theorem q1572 : (Jvm.Cond.soleField "ThreeSnowballsModel" "keptMany") ∈ lw_all := lw_g (lw_at lw_m7 41 rfl) rfl
theorem q1573 : (Jvm.Cond.lays "ThreeSnowballsModel" "ThreeSnowballsModel" "done" "I") ∈ lw_all := lw_g (lw_at lw_m7 42 rfl) rfl
theorem q1574 : (Jvm.Cond.soleField "ThreeSnowballsModel" "done") ∈ lw_all := lw_g (lw_at lw_m7 43 rfl) rfl
theorem q1575 : (Jvm.Cond.lays "ThreeSnowballsModel" "ThreeSnowballsModel" "players" "I") ∈ lw_all := lw_g (lw_at lw_m7 44 rfl) rfl
theorem q1576 : (Jvm.Cond.soleField "ThreeSnowballsModel" "players") ∈ lw_all := lw_g (lw_at lw_m7 45 rfl) rfl
theorem q1577 : (Jvm.Cond.laysFinal "ThreeSnowballsModel" "ThreeSnowballsModel" "order" "[I") ∈ lw_all := lw_g (lw_at lw_m7 46 rfl) rfl
theorem q1578 : (Jvm.Cond.soleField "ThreeSnowballsModel" "order") ∈ lw_all := lw_g (lw_at lw_m7 47 rfl) rfl
theorem q1579 : (Jvm.Cond.laysFinal "ThreeSnowballsModel" "ThreeSnowballsModel" "place" "[I") ∈ lw_all := lw_g (lw_at lw_m7 48 rfl) rfl
theorem q1580 : (Jvm.Cond.soleField "ThreeSnowballsModel" "place") ∈ lw_all := lw_g (lw_at lw_m7 49 rfl) rfl
theorem q1581 : (Jvm.Cond.lays "ThreeSnowballsModel" "ThreeSnowballsModel" "bell" "I") ∈ lw_all := lw_g (lw_at lw_m7 50 rfl) rfl
theorem q1582 : (Jvm.Cond.soleField "ThreeSnowballsModel" "bell") ∈ lw_all := lw_g (lw_at lw_m7 51 rfl) rfl
theorem q1583 : (Jvm.Cond.laysFinal "ThreeSnowballsModel" "ThreeSnowballsModel" "prize" "[I") ∈ lw_all := lw_g (lw_at lw_m7 52 rfl) rfl
theorem q1584 : (Jvm.Cond.soleField "ThreeSnowballsModel" "prize") ∈ lw_all := lw_g (lw_at lw_m7 53 rfl) rfl
theorem q1585 : (Jvm.Cond.laysFinal "ThreeSnowballsModel" "ThreeSnowballsModel" "digitsOf" "[I") ∈ lw_all := lw_g (lw_at lw_m7 54 rfl) rfl
theorem q1586 : (Jvm.Cond.soleField "ThreeSnowballsModel" "digitsOf") ∈ lw_all := lw_g (lw_at lw_m7 55 rfl) rfl
theorem q1587 : (Jvm.Cond.laysFinal "ThreeSnowballsModel" "ThreeSnowballsModel" "tape" "[I") ∈ lw_all := lw_g (lw_at lw_m7 56 rfl) rfl
theorem q1588 : (Jvm.Cond.soleField "ThreeSnowballsModel" "tape") ∈ lw_all := lw_g (lw_at lw_m7 57 rfl) rfl
theorem q1589 : (Jvm.Cond.lays "ThreeSnowballsModel" "ThreeSnowballsModel" "tapeMany" "I") ∈ lw_all := lw_g (lw_at lw_m7 58 rfl) rfl
theorem q1590 : (Jvm.Cond.soleField "ThreeSnowballsModel" "tapeMany") ∈ lw_all := lw_g (lw_at lw_m7 59 rfl) rfl
theorem q1591 : (Jvm.Cond.laysFinal "ThreeSnowballsModel" "ThreeSnowballsModel" "text" "[I") ∈ lw_all := lw_g (lw_at lw_m7 60 rfl) rfl
theorem q1592 : (Jvm.Cond.soleField "ThreeSnowballsModel" "text") ∈ lw_all := lw_g (lw_at lw_m7 61 rfl) rfl
theorem q1593 : (Jvm.Cond.lays "ThreeSnowballsModel" "ThreeSnowballsModel" "textMany" "I") ∈ lw_all := lw_g (lw_at lw_m7 62 rfl) rfl
theorem q1594 : (Jvm.Cond.soleField "ThreeSnowballsModel" "textMany") ∈ lw_all := lw_g (lw_at lw_m7 63 rfl) rfl
theorem q1595 : (Jvm.Cond.lays "ThreeSnowballsModel" "ThreeSnowballsModel" "base" "I") ∈ lw_all := lw_g (lw_at lw_m7 64 rfl) rfl
theorem q1596 : (Jvm.Cond.soleField "ThreeSnowballsModel" "base") ∈ lw_all := lw_g (lw_at lw_m7 65 rfl) rfl
theorem q1597 : (Jvm.Cond.lays "ThreeSnowballsModel" "ThreeSnowballsModel" "at" "I") ∈ lw_all := lw_g (lw_at lw_m7 66 rfl) rfl
theorem q1598 : (Jvm.Cond.soleField "ThreeSnowballsModel" "at") ∈ lw_all := lw_g (lw_at lw_m7 67 rfl) rfl
theorem q1599 : (Jvm.Cond.lays "ThreeSnowballsModel" "ThreeSnowballsModel" "ends" "I") ∈ lw_all := lw_g (lw_at lw_m7 68 rfl) rfl
theorem q1600 : (Jvm.Cond.soleField "ThreeSnowballsModel" "ends") ∈ lw_all := lw_g (lw_at lw_m7 69 rfl) rfl
theorem q1601 : (Jvm.Cond.lays "ThreeSnowballsModel" "ThreeSnowballsModel" "fault" "I") ∈ lw_all := lw_g (lw_at lw_m7 70 rfl) rfl
theorem q1602 : (Jvm.Cond.soleField "ThreeSnowballsModel" "fault") ∈ lw_all := lw_g (lw_at lw_m7 71 rfl) rfl
theorem q1603 : (Jvm.Cond.lays "ThreeSnowballsModel" "ThreeSnowballsModel" "opened" "I") ∈ lw_all := lw_g (lw_at lw_m7 72 rfl) rfl
theorem q1604 : (Jvm.Cond.soleField "ThreeSnowballsModel" "opened") ∈ lw_all := lw_g (lw_at lw_m7 73 rfl) rfl
theorem q1605 : (Jvm.Cond.laysFinal "ThreeSnowballsModel" "ThreeSnowballsModel" "names" "[I") ∈ lw_all := lw_g (lw_at lw_m7 74 rfl) rfl
theorem q1606 : (Jvm.Cond.soleField "ThreeSnowballsModel" "names") ∈ lw_all := lw_g (lw_at lw_m7 75 rfl) rfl
theorem q1607 : (Jvm.Cond.laysFinal "ThreeSnowballsModel" "ThreeSnowballsModel" "power" "[J") ∈ lw_all := lw_g (lw_at lw_m7 76 rfl) rfl
theorem q1608 : (Jvm.Cond.soleField "ThreeSnowballsModel" "power") ∈ lw_all := lw_g (lw_at lw_m7 77 rfl) rfl
theorem q1609 : (Jvm.Cond.laysFinal "ThreeSnowballsModel" "ThreeSnowballsModel" "worthAt" "[J") ∈ lw_all := lw_g (lw_at lw_m7 78 rfl) rfl
theorem q1610 : (Jvm.Cond.soleField "ThreeSnowballsModel" "worthAt") ∈ lw_all := lw_g (lw_at lw_m7 79 rfl) rfl
theorem q1611 : (Jvm.Cond.laysFinal "ThreeSnowballsModel" "ThreeSnowballsModel" "aimAt" "[I") ∈ lw_all := lw_g (lw_at lw_m7 80 rfl) rfl
theorem q1612 : (Jvm.Cond.soleField "ThreeSnowballsModel" "aimAt") ∈ lw_all := lw_g (lw_at lw_m7 81 rfl) rfl
theorem q1613 : (Jvm.Cond.laysFinal "ThreeSnowballsModel" "ThreeSnowballsModel" "hitAt" "[I") ∈ lw_all := lw_g (lw_at lw_m7 82 rfl) rfl
theorem q1614 : (Jvm.Cond.soleField "ThreeSnowballsModel" "hitAt") ∈ lw_all := lw_g (lw_at lw_m7 83 rfl) rfl
theorem q1615 : (Jvm.Cond.laysFinal "ThreeSnowballsModel" "ThreeSnowballsModel" "now" "[J") ∈ lw_all := lw_g (lw_at lw_m7 84 rfl) rfl
theorem q1616 : (Jvm.Cond.soleField "ThreeSnowballsModel" "now") ∈ lw_all := lw_g (lw_at lw_m7 85 rfl) rfl
theorem q1617 : (Jvm.Cond.laysFinal "ThreeSnowballsModel" "ThreeSnowballsModel" "value" "[J") ∈ lw_all := lw_g (lw_at lw_m7 86 rfl) rfl
theorem q1618 : (Jvm.Cond.soleField "ThreeSnowballsModel" "value") ∈ lw_all := lw_g (lw_at lw_m7 87 rfl) rfl
theorem q1619 : (Jvm.Cond.laysFinal "ThreeSnowballsModel" "ThreeSnowballsModel" "waysWere" "[I") ∈ lw_all := lw_g (lw_at lw_m7 88 rfl) rfl
theorem q1620 : (Jvm.Cond.soleField "ThreeSnowballsModel" "waysWere") ∈ lw_all := lw_g (lw_at lw_m7 89 rfl) rfl
theorem q1621 : (Jvm.Cond.lays "ThreeSnowballsModel" "ThreeSnowballsModel" "firstFalse" "I") ∈ lw_all := lw_g (lw_at lw_m7 90 rfl) rfl
theorem q1622 : (Jvm.Cond.soleField "ThreeSnowballsModel" "firstFalse") ∈ lw_all := lw_g (lw_at lw_m7 91 rfl) rfl
theorem q1623 : (Jvm.Cond.lays "ThreeSnowballsModel" "ThreeSnowballsModel" "firstWrong" "I") ∈ lw_all := lw_g (lw_at lw_m7 92 rfl) rfl
theorem q1624 : (Jvm.Cond.soleField "ThreeSnowballsModel" "firstWrong") ∈ lw_all := lw_g (lw_at lw_m7 93 rfl) rfl
theorem q1625 : (Jvm.Cond.lays "ThreeSnowballsModel" "ThreeSnowballsModel" "chanceAbove" "J") ∈ lw_all := lw_g (lw_at lw_m7 94 rfl) rfl
theorem q1626 : (Jvm.Cond.soleField "ThreeSnowballsModel" "chanceAbove") ∈ lw_all := lw_g (lw_at lw_m7 95 rfl) rfl
theorem q1627 : (Jvm.Cond.lays "ThreeSnowballsModel" "ThreeSnowballsModel" "chanceBelow" "J") ∈ lw_all := lw_g (lw_at lw_m7 96 rfl) rfl
theorem q1628 : (Jvm.Cond.soleField "ThreeSnowballsModel" "chanceBelow") ∈ lw_all := lw_g (lw_at lw_m7 97 rfl) rfl
theorem q1629 : (Jvm.Cond.lays "ThreeSnowballsModel" "ThreeSnowballsModel" "deedSet" "I") ∈ lw_all := lw_g (lw_at lw_m7 98 rfl) rfl
theorem q1630 : (Jvm.Cond.soleField "ThreeSnowballsModel" "deedSet") ∈ lw_all := lw_g (lw_at lw_m7 99 rfl) rfl
theorem q1631 : (Jvm.Cond.lays "ThreeSnowballsModel" "ThreeSnowballsModel" "deedTurn" "I") ∈ lw_all := lw_g (lw_at lw_m7 100 rfl) rfl
theorem q1632 : (Jvm.Cond.soleField "ThreeSnowballsModel" "deedTurn") ∈ lw_all := lw_g (lw_at lw_m7 101 rfl) rfl
theorem q1633 : (Jvm.Cond.lays "ThreeSnowballsModel" "ThreeSnowballsModel" "deedThrows" "I") ∈ lw_all := lw_g (lw_at lw_m7 102 rfl) rfl
theorem q1634 : (Jvm.Cond.soleField "ThreeSnowballsModel" "deedThrows") ∈ lw_all := lw_g (lw_at lw_m7 103 rfl) rfl
theorem q1635 : (Jvm.Cond.lays "ThreeSnowballsModel" "ThreeSnowballsModel" "isKept" "Z") ∈ lw_all := lw_g (lw_at lw_m7 104 rfl) rfl
theorem q1636 : (Jvm.Cond.soleField "ThreeSnowballsModel" "isKept") ∈ lw_all := lw_g (lw_at lw_m7 105 rfl) rfl
theorem q1637 : (Jvm.Cond.lays "ThreeSnowballsModel" "ThreeSnowballsModel" "imageSet" "I") ∈ lw_all := lw_g (lw_at lw_m7 106 rfl) rfl
theorem q1638 : (Jvm.Cond.soleField "ThreeSnowballsModel" "imageSet") ∈ lw_all := lw_g (lw_at lw_m7 107 rfl) rfl
theorem q1639 : (Jvm.Cond.lays "ThreeSnowballsModel" "ThreeSnowballsModel" "imageTurn" "I") ∈ lw_all := lw_g (lw_at lw_m7 108 rfl) rfl
theorem q1640 : (Jvm.Cond.soleField "ThreeSnowballsModel" "imageTurn") ∈ lw_all := lw_g (lw_at lw_m7 109 rfl) rfl
theorem q1641 : (Jvm.Cond.lays "ThreeSnowballsModel" "ThreeSnowballsModel" "imageThrows" "I") ∈ lw_all := lw_g (lw_at lw_m7 110 rfl) rfl
theorem q1642 : (Jvm.Cond.soleField "ThreeSnowballsModel" "imageThrows") ∈ lw_all := lw_g (lw_at lw_m7 111 rfl) rfl
theorem q1643 : (Jvm.Cond.lays "ThreeSnowballsModel" "ThreeSnowballsModel" "bodies" "I") ∈ lw_all := lw_g (lw_at lw_m7 112 rfl) rfl
theorem q1644 : (Jvm.Cond.soleField "ThreeSnowballsModel" "bodies") ∈ lw_all := lw_g (lw_at lw_m7 113 rfl) rfl
theorem q1645 : (Jvm.Cond.laysFinal "ThreeSnowballsModel" "ThreeSnowballsModel" "bodyKind" "[I") ∈ lw_all := lw_g (lw_at lw_m7 114 rfl) rfl
theorem q1646 : (Jvm.Cond.soleField "ThreeSnowballsModel" "bodyKind") ∈ lw_all := lw_g (lw_at lw_m7 115 rfl) rfl
theorem q1647 : (Jvm.Cond.laysFinal "ThreeSnowballsModel" "ThreeSnowballsModel" "trace" "[I") ∈ lw_all := lw_g (lw_at lw_m7 116 rfl) rfl
theorem q1648 : (Jvm.Cond.soleField "ThreeSnowballsModel" "trace") ∈ lw_all := lw_g (lw_at lw_m7 117 rfl) rfl
theorem q1649 : (Jvm.Cond.lays "ThreeSnowballsModel" "ThreeSnowballsModel" "ran" "I") ∈ lw_all := lw_g (lw_at lw_m7 118 rfl) rfl
theorem q1650 : (Jvm.Cond.soleField "ThreeSnowballsModel" "ran") ∈ lw_all := lw_g (lw_at lw_m7 119 rfl) rfl
theorem q1651 : (Jvm.Cond.lays "ThreeSnowballsModel" "ThreeSnowballsModel" "ownKind" "I") ∈ lw_all := lw_g (lw_at lw_m7 120 rfl) rfl
theorem q1652 : (Jvm.Cond.soleField "ThreeSnowballsModel" "ownKind") ∈ lw_all := lw_g (lw_at lw_m7 121 rfl) rfl
theorem q1653 : (Jvm.Cond.lays "ThreeSnowballsModel" "ThreeSnowballsModel" "ownNumber" "I") ∈ lw_all := lw_g (lw_at lw_m7 122 rfl) rfl
theorem q1654 : (Jvm.Cond.soleField "ThreeSnowballsModel" "ownNumber") ∈ lw_all := lw_g (lw_at lw_m7 123 rfl) rfl
theorem q1655 : (Jvm.Cond.laysFinal "ThreeSnowballsModel" "ThreeSnowballsModel" "shelf" "[I") ∈ lw_all := lw_g (lw_at lw_m7 124 rfl) rfl
theorem q1656 : (Jvm.Cond.soleField "ThreeSnowballsModel" "shelf") ∈ lw_all := lw_g (lw_at lw_m7 125 rfl) rfl
theorem q1657 : (Jvm.Cond.laysFinal "ThreeSnowballsModel" "ThreeSnowballsModel" "many" "[I") ∈ lw_all := lw_g (lw_at lw_m7 126 rfl) rfl
theorem q1658 : (Jvm.Cond.soleField "ThreeSnowballsModel" "many") ∈ lw_all := lw_g (lw_at lw_m7 127 rfl) rfl
theorem q1659 : (Jvm.Cond.laysFinal "ThreeSnowballsModel" "ThreeSnowballsModel" "items" "[J") ∈ lw_all := lw_g (lw_at lw_m7 128 rfl) rfl
theorem q1660 : (Jvm.Cond.soleField "ThreeSnowballsModel" "items") ∈ lw_all := lw_g (lw_at lw_m7 129 rfl) rfl
theorem q1661 : (Jvm.Cond.laysFinal "ThreeSnowballsModel" "ThreeSnowballsModel" "carried" "[J") ∈ lw_all := lw_g (lw_at lw_m7 130 rfl) rfl
theorem q1662 : (Jvm.Cond.soleField "ThreeSnowballsModel" "carried") ∈ lw_all := lw_g (lw_at lw_m7 131 rfl) rfl
theorem q1663 : (Jvm.Cond.superclass "ThreeSnowballsModel" "java/lang/Object") ∈ lw_all := lw_g (lw_at lw_m7 132 rfl) rfl
theorem q1665 : (Jvm.Cond.instanceMethod ({ cls := "ThreeSnowballsModel", name := "undo", desc := "()I" } : Jvm.MethodName)) ∈ lw_all := lw_g (lw_at lw_m7 134 rfl) rfl
theorem q1666 : (Jvm.Cond.selects "ThreeSnowballsModel" ({ cls := "ThreeSnowballsModel", name := "undo", desc := "()I" } : Jvm.MethodName) ({ cls := "ThreeSnowballsModel", name := "undo", desc := "()I" } : Jvm.MethodName)) ∈ lw_all := lw_g (lw_at lw_m7 135 rfl) rfl
theorem q1667 : (Jvm.Cond.code ({ cls := "ThreeSnowballsModel", name := "undo", desc := "()I" } : Jvm.MethodName) prog_31_method_6_code (1 : Nat) (Option.some Jvm.ClassFile.FieldType.int)) ∈ lw_all := lw_g (lw_at lw_m7 136 rfl) rfl
theorem q1669 : (Jvm.Cond.instanceMethod ({ cls := "ThreeSnowballsModel", name := "redo", desc := "()I" } : Jvm.MethodName)) ∈ lw_all := lw_g (lw_at lw_m7 138 rfl) rfl
theorem q1670 : (Jvm.Cond.selects "ThreeSnowballsModel" ({ cls := "ThreeSnowballsModel", name := "redo", desc := "()I" } : Jvm.MethodName) ({ cls := "ThreeSnowballsModel", name := "redo", desc := "()I" } : Jvm.MethodName)) ∈ lw_all := lw_g (lw_at lw_m7 139 rfl) rfl
theorem q1671 : (Jvm.Cond.code ({ cls := "ThreeSnowballsModel", name := "redo", desc := "()I" } : Jvm.MethodName) prog_31_method_7_code (1 : Nat) (Option.some Jvm.ClassFile.FieldType.int)) ∈ lw_all := lw_g (lw_at lw_m7 140 rfl) rfl
theorem q1673 : (Jvm.Cond.instanceMethod ({ cls := "ThreeSnowballsModel", name := "player", desc := "(II)I" } : Jvm.MethodName)) ∈ lw_all := lw_g (lw_at lw_m7 142 rfl) rfl
theorem q1674 : (Jvm.Cond.selects "ThreeSnowballsModel" ({ cls := "ThreeSnowballsModel", name := "player", desc := "(II)I" } : Jvm.MethodName) ({ cls := "ThreeSnowballsModel", name := "player", desc := "(II)I" } : Jvm.MethodName)) ∈ lw_all := lw_g (lw_at lw_m7 143 rfl) rfl
theorem q1675 : (Jvm.Cond.code ({ cls := "ThreeSnowballsModel", name := "player", desc := "(II)I" } : Jvm.MethodName) prog_31_method_12_code (3 : Nat) (Option.some Jvm.ClassFile.FieldType.int)) ∈ lw_all := lw_g (lw_at lw_m7 144 rfl) rfl
theorem q1676 : (Jvm.Cond.methodLink "ThreeSnowballsModel" (110 : Nat) ({ cls := "ThreeSnowballsModel", name := "isOne", desc := "(JJ)Z" } : Jvm.MethodName)) ∈ lw_all := lw_g (lw_at lw_m7 145 rfl) rfl
theorem q1677 : (Jvm.Cond.static ({ cls := "ThreeSnowballsModel", name := "isOne", desc := "(JJ)Z" } : Jvm.MethodName)) ∈ lw_all := lw_g (lw_at lw_m7 146 rfl) rfl
theorem q1678 : (Jvm.Cond.code ({ cls := "ThreeSnowballsModel", name := "isOne", desc := "(JJ)Z" } : Jvm.MethodName) prog_31_method_10_code (4 : Nat) (Option.some Jvm.ClassFile.FieldType.boolean)) ∈ lw_all := lw_g (lw_at lw_m7 147 rfl) rfl
theorem q1679 : (Jvm.Cond.constantLong "ThreeSnowballsModel" (103 : Nat) (12 : Int64)) ∈ lw_all := lw_g (lw_at lw_m7 148 rfl) rfl
theorem q1680 : (Jvm.Cond.methodLink "ThreeSnowballsModel" (99 : Nat) ({ cls := "ThreeSnowballsModel", name := "within", desc := "(JJJ)Z" } : Jvm.MethodName)) ∈ lw_all := lw_g (lw_at lw_m7 149 rfl) rfl
theorem q1681 : (Jvm.Cond.static ({ cls := "ThreeSnowballsModel", name := "within", desc := "(JJJ)Z" } : Jvm.MethodName)) ∈ lw_all := lw_g (lw_at lw_m7 150 rfl) rfl
theorem q1682 : (Jvm.Cond.code ({ cls := "ThreeSnowballsModel", name := "within", desc := "(JJJ)Z" } : Jvm.MethodName) prog_31_method_1_code (6 : Nat) (Option.some Jvm.ClassFile.FieldType.boolean)) ∈ lw_all := lw_g (lw_at lw_m7 151 rfl) rfl
theorem q1683 : (Jvm.Cond.constantLong "ThreeSnowballsModel" (105 : Nat) (5 : Int64)) ∈ lw_all := lw_g (lw_at lw_m7 152 rfl) rfl
theorem q1684 : (Jvm.Cond.methodLink "ThreeSnowballsModel" (114 : Nat) ({ cls := "ThreeSnowballsModel", name := "adds", desc := "(II)V" } : Jvm.MethodName)) ∈ lw_all := lw_g (lw_at lw_m7 153 rfl) rfl
theorem q1685 : (Jvm.Cond.privateMethod ({ cls := "ThreeSnowballsModel", name := "adds", desc := "(II)V" } : Jvm.MethodName)) ∈ lw_tbl := lw_at lw_m7 154 rfl
theorem q1686 : (Jvm.Cond.instanceMethod ({ cls := "ThreeSnowballsModel", name := "adds", desc := "(II)V" } : Jvm.MethodName)) ∈ lw_all := lw_g (lw_at lw_m7 155 rfl) rfl
theorem q1687 : (Jvm.Cond.code ({ cls := "ThreeSnowballsModel", name := "adds", desc := "(II)V" } : Jvm.MethodName) prog_31_method_11_code (3 : Nat) (Option.none : Option Jvm.ClassFile.FieldType)) ∈ lw_all := lw_g (lw_at lw_m7 156 rfl) rfl
theorem q1688 : (Jvm.Cond.methodLink "ThreeSnowballsModel" (107 : Nat) ({ cls := "ThreeSnowballsModel", name := "startsAnew", desc := "()V" } : Jvm.MethodName)) ∈ lw_all := lw_g (lw_at lw_m7 157 rfl) rfl
theorem q1689 : (Jvm.Cond.privateMethod ({ cls := "ThreeSnowballsModel", name := "startsAnew", desc := "()V" } : Jvm.MethodName)) ∈ lw_tbl := lw_at lw_m7 158 rfl
theorem q1690 : (Jvm.Cond.instanceMethod ({ cls := "ThreeSnowballsModel", name := "startsAnew", desc := "()V" } : Jvm.MethodName)) ∈ lw_all := lw_g (lw_at lw_m7 159 rfl) rfl
theorem q1691 : (Jvm.Cond.code ({ cls := "ThreeSnowballsModel", name := "startsAnew", desc := "()V" } : Jvm.MethodName) prog_31_method_69_code (1 : Nat) (Option.none : Option Jvm.ClassFile.FieldType)) ∈ lw_all := lw_g (lw_at lw_m7 160 rfl) rfl
theorem q1692 : (Jvm.Cond.methodLink "ThreeSnowballsModel" (225 : Nat) ({ cls := "ThreeSnowballsModel", name := "all", desc := "()I" } : Jvm.MethodName)) ∈ lw_all := lw_g (lw_at lw_m7 161 rfl) rfl
theorem q1693 : (Jvm.Cond.privateMethod ({ cls := "ThreeSnowballsModel", name := "all", desc := "()I" } : Jvm.MethodName)) ∈ lw_tbl := lw_at lw_m7 162 rfl
theorem q1694 : (Jvm.Cond.instanceMethod ({ cls := "ThreeSnowballsModel", name := "all", desc := "()I" } : Jvm.MethodName)) ∈ lw_all := lw_g (lw_at lw_m7 163 rfl) rfl
theorem q1695 : (Jvm.Cond.code ({ cls := "ThreeSnowballsModel", name := "all", desc := "()I" } : Jvm.MethodName) prog_31_method_9_code (1 : Nat) (Option.some Jvm.ClassFile.FieldType.int)) ∈ lw_all := lw_g (lw_at lw_m7 164 rfl) rfl
theorem q1697 : (Jvm.Cond.instanceMethod ({ cls := "ThreeSnowballsModel", name := "players", desc := "(III)I" } : Jvm.MethodName)) ∈ lw_all := lw_g (lw_at lw_m7 166 rfl) rfl
theorem q1698 : (Jvm.Cond.selects "ThreeSnowballsModel" ({ cls := "ThreeSnowballsModel", name := "players", desc := "(III)I" } : Jvm.MethodName) ({ cls := "ThreeSnowballsModel", name := "players", desc := "(III)I" } : Jvm.MethodName)) ∈ lw_all := lw_g (lw_at lw_m7 167 rfl) rfl
theorem q1699 : (Jvm.Cond.code ({ cls := "ThreeSnowballsModel", name := "players", desc := "(III)I" } : Jvm.MethodName) prog_31_method_13_code (7 : Nat) (Option.some Jvm.ClassFile.FieldType.int)) ∈ lw_all := lw_g (lw_at lw_m7 168 rfl) rfl
theorem q1700 : (Jvm.Cond.methodLink "ThreeSnowballsModel" (118 : Nat) ({ cls := "ThreeSnowballsModel", name := "isShelf", desc := "(I)Z" } : Jvm.MethodName)) ∈ lw_all := lw_g (lw_at lw_m7 169 rfl) rfl
theorem q1701 : (Jvm.Cond.static ({ cls := "ThreeSnowballsModel", name := "isShelf", desc := "(I)Z" } : Jvm.MethodName)) ∈ lw_all := lw_g (lw_at lw_m7 170 rfl) rfl
theorem q1702 : (Jvm.Cond.code ({ cls := "ThreeSnowballsModel", name := "isShelf", desc := "(I)Z" } : Jvm.MethodName) prog_31_method_85_code (1 : Nat) (Option.some Jvm.ClassFile.FieldType.boolean)) ∈ lw_all := lw_g (lw_at lw_m7 171 rfl) rfl
theorem q1703 : (Jvm.Cond.constantLong "ThreeSnowballsModel" (122 : Nat) (4 : Int64)) ∈ lw_all := lw_g (lw_at lw_m7 172 rfl) rfl
theorem q1705 : (Jvm.Cond.instanceMethod ({ cls := "ThreeSnowballsModel", name := "mend", desc := "(III)I" } : Jvm.MethodName)) ∈ lw_all := lw_g (lw_at lw_m7 174 rfl) rfl
theorem q1706 : (Jvm.Cond.selects "ThreeSnowballsModel" ({ cls := "ThreeSnowballsModel", name := "mend", desc := "(III)I" } : Jvm.MethodName) ({ cls := "ThreeSnowballsModel", name := "mend", desc := "(III)I" } : Jvm.MethodName)) ∈ lw_all := lw_g (lw_at lw_m7 175 rfl) rfl
theorem q1707 : (Jvm.Cond.code ({ cls := "ThreeSnowballsModel", name := "mend", desc := "(III)I" } : Jvm.MethodName) prog_31_method_14_code (4 : Nat) (Option.some Jvm.ClassFile.FieldType.int)) ∈ lw_all := lw_g (lw_at lw_m7 176 rfl) rfl
theorem q1708 : (Jvm.Cond.methodLink "ThreeSnowballsModel" (124 : Nat) ({ cls := "ThreeSnowballsModel", name := "isPlayer", desc := "(I)Z" } : Jvm.MethodName)) ∈ lw_all := lw_g (lw_at lw_m7 177 rfl) rfl
theorem q1709 : (Jvm.Cond.privateMethod ({ cls := "ThreeSnowballsModel", name := "isPlayer", desc := "(I)Z" } : Jvm.MethodName)) ∈ lw_tbl := lw_at lw_m7 178 rfl
theorem q1710 : (Jvm.Cond.instanceMethod ({ cls := "ThreeSnowballsModel", name := "isPlayer", desc := "(I)Z" } : Jvm.MethodName)) ∈ lw_all := lw_g (lw_at lw_m7 179 rfl) rfl
theorem q1711 : (Jvm.Cond.code ({ cls := "ThreeSnowballsModel", name := "isPlayer", desc := "(I)Z" } : Jvm.MethodName) prog_31_method_8_code (2 : Nat) (Option.some Jvm.ClassFile.FieldType.boolean)) ∈ lw_all := lw_g (lw_at lw_m7 180 rfl) rfl
theorem q1712 : (Jvm.Cond.methodLink "ThreeSnowballsModel" (127 : Nat) ({ cls := "ThreeSnowballsModel", name := "becomes", desc := "(II)I" } : Jvm.MethodName)) ∈ lw_all := lw_g (lw_at lw_m7 181 rfl) rfl
theorem q1713 : (Jvm.Cond.privateMethod ({ cls := "ThreeSnowballsModel", name := "becomes", desc := "(II)I" } : Jvm.MethodName)) ∈ lw_tbl := lw_at lw_m7 182 rfl
theorem q1714 : (Jvm.Cond.instanceMethod ({ cls := "ThreeSnowballsModel", name := "becomes", desc := "(II)I" } : Jvm.MethodName)) ∈ lw_all := lw_g (lw_at lw_m7 183 rfl) rfl
theorem q1715 : (Jvm.Cond.code ({ cls := "ThreeSnowballsModel", name := "becomes", desc := "(II)I" } : Jvm.MethodName) prog_31_method_5_code (5 : Nat) (Option.some Jvm.ClassFile.FieldType.int)) ∈ lw_all := lw_g (lw_at lw_m7 184 rfl) rfl
theorem q1716 : (Jvm.Cond.constantLong "ThreeSnowballsModel" (131 : Nat) (3 : Int64)) ∈ lw_all := lw_g (lw_at lw_m7 185 rfl) rfl
theorem q1718 : (Jvm.Cond.instanceMethod ({ cls := "ThreeSnowballsModel", name := "order", desc := "(I)I" } : Jvm.MethodName)) ∈ lw_all := lw_g (lw_at lw_m7 187 rfl) rfl
theorem q1719 : (Jvm.Cond.selects "ThreeSnowballsModel" ({ cls := "ThreeSnowballsModel", name := "order", desc := "(I)I" } : Jvm.MethodName) ({ cls := "ThreeSnowballsModel", name := "order", desc := "(I)I" } : Jvm.MethodName)) ∈ lw_all := lw_g (lw_at lw_m7 188 rfl) rfl
theorem q1720 : (Jvm.Cond.code ({ cls := "ThreeSnowballsModel", name := "order", desc := "(I)I" } : Jvm.MethodName) prog_31_method_15_code (6 : Nat) (Option.some Jvm.ClassFile.FieldType.int)) ∈ lw_all := lw_g (lw_at lw_m7 189 rfl) rfl
theorem q1721 : (Jvm.Cond.methodLink "ThreeSnowballsModel" (133 : Nat) ({ cls := "ThreeSnowballsModel", name := "isIn", desc := "(II)Z" } : Jvm.MethodName)) ∈ lw_all := lw_g (lw_at lw_m7 190 rfl) rfl
theorem q1722 : (Jvm.Cond.static ({ cls := "ThreeSnowballsModel", name := "isIn", desc := "(II)Z" } : Jvm.MethodName)) ∈ lw_all := lw_g (lw_at lw_m7 191 rfl) rfl
theorem q1723 : (Jvm.Cond.code ({ cls := "ThreeSnowballsModel", name := "isIn", desc := "(II)Z" } : Jvm.MethodName) prog_31_method_3_code (2 : Nat) (Option.some Jvm.ClassFile.FieldType.boolean)) ∈ lw_all := lw_g (lw_at lw_m7 192 rfl) rfl
theorem q1725 : (Jvm.Cond.instanceMethod ({ cls := "ThreeSnowballsModel", name := "bell", desc := "(I)I" } : Jvm.MethodName)) ∈ lw_all := lw_g (lw_at lw_m7 194 rfl) rfl
theorem q1726 : (Jvm.Cond.selects "ThreeSnowballsModel" ({ cls := "ThreeSnowballsModel", name := "bell", desc := "(I)I" } : Jvm.MethodName) ({ cls := "ThreeSnowballsModel", name := "bell", desc := "(I)I" } : Jvm.MethodName)) ∈ lw_all := lw_g (lw_at lw_m7 195 rfl) rfl
theorem q1727 : (Jvm.Cond.code ({ cls := "ThreeSnowballsModel", name := "bell", desc := "(I)I" } : Jvm.MethodName) prog_31_method_16_code (3 : Nat) (Option.some Jvm.ClassFile.FieldType.int)) ∈ lw_all := lw_g (lw_at lw_m7 196 rfl) rfl
theorem q1728 : (Jvm.Cond.constantLong "ThreeSnowballsModel" (137 : Nat) (9 : Int64)) ∈ lw_all := lw_g (lw_at lw_m7 197 rfl) rfl
theorem q1730 : (Jvm.Cond.instanceMethod ({ cls := "ThreeSnowballsModel", name := "prize", desc := "(II)I" } : Jvm.MethodName)) ∈ lw_all := lw_g (lw_at lw_m7 199 rfl) rfl
theorem q1731 : (Jvm.Cond.selects "ThreeSnowballsModel" ({ cls := "ThreeSnowballsModel", name := "prize", desc := "(II)I" } : Jvm.MethodName) ({ cls := "ThreeSnowballsModel", name := "prize", desc := "(II)I" } : Jvm.MethodName)) ∈ lw_all := lw_g (lw_at lw_m7 200 rfl) rfl
theorem q1732 : (Jvm.Cond.code ({ cls := "ThreeSnowballsModel", name := "prize", desc := "(II)I" } : Jvm.MethodName) prog_31_method_17_code (4 : Nat) (Option.some Jvm.ClassFile.FieldType.int)) ∈ lw_all := lw_g (lw_at lw_m7 201 rfl) rfl
theorem q1734 : (Jvm.Cond.instanceMethod ({ cls := "ThreeSnowballsModel", name := "of", desc := "(II)I" } : Jvm.MethodName)) ∈ lw_all := lw_g (lw_at lw_m7 203 rfl) rfl
theorem q1735 : (Jvm.Cond.selects "ThreeSnowballsModel" ({ cls := "ThreeSnowballsModel", name := "of", desc := "(II)I" } : Jvm.MethodName) ({ cls := "ThreeSnowballsModel", name := "of", desc := "(II)I" } : Jvm.MethodName)) ∈ lw_all := lw_g (lw_at lw_m7 204 rfl) rfl
theorem q1736 : (Jvm.Cond.code ({ cls := "ThreeSnowballsModel", name := "of", desc := "(II)I" } : Jvm.MethodName) prog_31_method_18_code (3 : Nat) (Option.some Jvm.ClassFile.FieldType.int)) ∈ lw_all := lw_g (lw_at lw_m7 205 rfl) rfl
theorem q1738 : (Jvm.Cond.instanceMethod ({ cls := "ThreeSnowballsModel", name := "feed", desc := "(I)I" } : Jvm.MethodName)) ∈ lw_all := lw_g (lw_at lw_m7 207 rfl) rfl
theorem q1739 : (Jvm.Cond.selects "ThreeSnowballsModel" ({ cls := "ThreeSnowballsModel", name := "feed", desc := "(I)I" } : Jvm.MethodName) ({ cls := "ThreeSnowballsModel", name := "feed", desc := "(I)I" } : Jvm.MethodName)) ∈ lw_all := lw_g (lw_at lw_m7 208 rfl) rfl
theorem q1740 : (Jvm.Cond.code ({ cls := "ThreeSnowballsModel", name := "feed", desc := "(I)I" } : Jvm.MethodName) prog_31_method_19_code (2 : Nat) (Option.some Jvm.ClassFile.FieldType.int)) ∈ lw_all := lw_g (lw_at lw_m7 209 rfl) rfl
theorem q1741 : (Jvm.Cond.constantLong "ThreeSnowballsModel" (142 : Nat) (255 : Int64)) ∈ lw_all := lw_g (lw_at lw_m7 210 rfl) rfl
theorem q1743 : (Jvm.Cond.instanceMethod ({ cls := "ThreeSnowballsModel", name := "law", desc := "()I" } : Jvm.MethodName)) ∈ lw_all := lw_g (lw_at lw_m7 212 rfl) rfl
theorem q1744 : (Jvm.Cond.selects "ThreeSnowballsModel" ({ cls := "ThreeSnowballsModel", name := "law", desc := "()I" } : Jvm.MethodName) ({ cls := "ThreeSnowballsModel", name := "law", desc := "()I" } : Jvm.MethodName)) ∈ lw_all := lw_g (lw_at lw_m7 213 rfl) rfl
theorem q1745 : (Jvm.Cond.code ({ cls := "ThreeSnowballsModel", name := "law", desc := "()I" } : Jvm.MethodName) prog_31_method_31_code (4 : Nat) (Option.some Jvm.ClassFile.FieldType.int)) ∈ lw_all := lw_g (lw_at lw_m7 214 rfl) rfl
theorem q1746 : (Jvm.Cond.methodLink "ThreeSnowballsModel" (194 : Nat) ({ cls := "ThreeSnowballsModel", name := "workOut", desc := "(II)I" } : Jvm.MethodName)) ∈ lw_all := lw_g (lw_at lw_m7 215 rfl) rfl
theorem q1747 : (Jvm.Cond.privateMethod ({ cls := "ThreeSnowballsModel", name := "workOut", desc := "(II)I" } : Jvm.MethodName)) ∈ lw_tbl := lw_at lw_m7 216 rfl
theorem q1748 : (Jvm.Cond.instanceMethod ({ cls := "ThreeSnowballsModel", name := "workOut", desc := "(II)I" } : Jvm.MethodName)) ∈ lw_all := lw_g (lw_at lw_m7 217 rfl) rfl
theorem q1749 : (Jvm.Cond.code ({ cls := "ThreeSnowballsModel", name := "workOut", desc := "(II)I" } : Jvm.MethodName) prog_31_method_30_code (8 : Nat) (Option.some Jvm.ClassFile.FieldType.int)) ∈ lw_all := lw_g (lw_at lw_m7 218 rfl) rfl
theorem q1750 : (Jvm.Cond.methodLink "ThreeSnowballsModel" (187 : Nat) ({ cls := "ThreeSnowballsModel", name := "either", desc := "()I" } : Jvm.MethodName)) ∈ lw_all := lw_g (lw_at lw_m7 219 rfl) rfl
theorem q1751 : (Jvm.Cond.privateMethod ({ cls := "ThreeSnowballsModel", name := "either", desc := "()I" } : Jvm.MethodName)) ∈ lw_tbl := lw_at lw_m7 220 rfl
theorem q1752 : (Jvm.Cond.instanceMethod ({ cls := "ThreeSnowballsModel", name := "either", desc := "()I" } : Jvm.MethodName)) ∈ lw_all := lw_g (lw_at lw_m7 221 rfl) rfl
theorem q1753 : (Jvm.Cond.code ({ cls := "ThreeSnowballsModel", name := "either", desc := "()I" } : Jvm.MethodName) prog_31_method_23_code (3 : Nat) (Option.some Jvm.ClassFile.FieldType.int)) ∈ lw_all := lw_g (lw_at lw_m7 222 rfl) rfl
theorem q1754 : (Jvm.Cond.methodLink "ThreeSnowballsModel" (163 : Nat) ({ cls := "ThreeSnowballsModel", name := "both", desc := "()I" } : Jvm.MethodName)) ∈ lw_all := lw_g (lw_at lw_m7 223 rfl) rfl
theorem q1755 : (Jvm.Cond.privateMethod ({ cls := "ThreeSnowballsModel", name := "both", desc := "()I" } : Jvm.MethodName)) ∈ lw_tbl := lw_at lw_m7 224 rfl
theorem q1756 : (Jvm.Cond.instanceMethod ({ cls := "ThreeSnowballsModel", name := "both", desc := "()I" } : Jvm.MethodName)) ∈ lw_all := lw_g (lw_at lw_m7 225 rfl) rfl
theorem q1757 : (Jvm.Cond.code ({ cls := "ThreeSnowballsModel", name := "both", desc := "()I" } : Jvm.MethodName) prog_31_method_24_code (3 : Nat) (Option.some Jvm.ClassFile.FieldType.int)) ∈ lw_all := lw_g (lw_at lw_m7 226 rfl) rfl
theorem q1758 : (Jvm.Cond.methodLink "ThreeSnowballsModel" (169 : Nat) ({ cls := "ThreeSnowballsModel", name := "compared", desc := "()I" } : Jvm.MethodName)) ∈ lw_all := lw_g (lw_at lw_m7 227 rfl) rfl
theorem q1759 : (Jvm.Cond.privateMethod ({ cls := "ThreeSnowballsModel", name := "compared", desc := "()I" } : Jvm.MethodName)) ∈ lw_tbl := lw_at lw_m7 228 rfl
theorem q1760 : (Jvm.Cond.instanceMethod ({ cls := "ThreeSnowballsModel", name := "compared", desc := "()I" } : Jvm.MethodName)) ∈ lw_all := lw_g (lw_at lw_m7 229 rfl) rfl
theorem q1761 : (Jvm.Cond.code ({ cls := "ThreeSnowballsModel", name := "compared", desc := "()I" } : Jvm.MethodName) prog_31_method_25_code (4 : Nat) (Option.some Jvm.ClassFile.FieldType.int)) ∈ lw_all := lw_g (lw_at lw_m7 230 rfl) rfl
theorem q1762 : (Jvm.Cond.methodLink "ThreeSnowballsModel" (172 : Nat) ({ cls := "ThreeSnowballsModel", name := "sums", desc := "()I" } : Jvm.MethodName)) ∈ lw_all := lw_g (lw_at lw_m7 231 rfl) rfl
theorem q1763 : (Jvm.Cond.privateMethod ({ cls := "ThreeSnowballsModel", name := "sums", desc := "()I" } : Jvm.MethodName)) ∈ lw_tbl := lw_at lw_m7 232 rfl
theorem q1764 : (Jvm.Cond.instanceMethod ({ cls := "ThreeSnowballsModel", name := "sums", desc := "()I" } : Jvm.MethodName)) ∈ lw_all := lw_g (lw_at lw_m7 233 rfl) rfl
theorem q1765 : (Jvm.Cond.code ({ cls := "ThreeSnowballsModel", name := "sums", desc := "()I" } : Jvm.MethodName) prog_31_method_26_code (4 : Nat) (Option.some Jvm.ClassFile.FieldType.int)) ∈ lw_all := lw_g (lw_at lw_m7 234 rfl) rfl
theorem q1766 : (Jvm.Cond.methodLink "ThreeSnowballsModel" (175 : Nat) ({ cls := "ThreeSnowballsModel", name := "product", desc := "()I" } : Jvm.MethodName)) ∈ lw_all := lw_g (lw_at lw_m7 235 rfl) rfl
theorem q1767 : (Jvm.Cond.privateMethod ({ cls := "ThreeSnowballsModel", name := "product", desc := "()I" } : Jvm.MethodName)) ∈ lw_tbl := lw_at lw_m7 236 rfl
theorem q1768 : (Jvm.Cond.instanceMethod ({ cls := "ThreeSnowballsModel", name := "product", desc := "()I" } : Jvm.MethodName)) ∈ lw_all := lw_g (lw_at lw_m7 237 rfl) rfl
theorem q1769 : (Jvm.Cond.code ({ cls := "ThreeSnowballsModel", name := "product", desc := "()I" } : Jvm.MethodName) prog_31_method_27_code (4 : Nat) (Option.some Jvm.ClassFile.FieldType.int)) ∈ lw_all := lw_g (lw_at lw_m7 238 rfl) rfl
theorem q1770 : (Jvm.Cond.methodLink "ThreeSnowballsModel" (178 : Nat) ({ cls := "ThreeSnowballsModel", name := "one", desc := "()I" } : Jvm.MethodName)) ∈ lw_all := lw_g (lw_at lw_m7 239 rfl) rfl
theorem q1771 : (Jvm.Cond.privateMethod ({ cls := "ThreeSnowballsModel", name := "one", desc := "()I" } : Jvm.MethodName)) ∈ lw_tbl := lw_at lw_m8 0 rfl
theorem q1772 : (Jvm.Cond.instanceMethod ({ cls := "ThreeSnowballsModel", name := "one", desc := "()I" } : Jvm.MethodName)) ∈ lw_all := lw_g (lw_at lw_m8 1 rfl) rfl
theorem q1773 : (Jvm.Cond.code ({ cls := "ThreeSnowballsModel", name := "one", desc := "()I" } : Jvm.MethodName) prog_31_method_29_code (5 : Nat) (Option.some Jvm.ClassFile.FieldType.int)) ∈ lw_all := lw_g (lw_at lw_m8 2 rfl) rfl
theorem q1774 : (Jvm.Cond.methodLink "ThreeSnowballsModel" (159 : Nat) ({ cls := "ThreeSnowballsModel", name := "byteAt", desc := "()I" } : Jvm.MethodName)) ∈ lw_all := lw_g (lw_at lw_m8 3 rfl) rfl
theorem q1775 : (Jvm.Cond.privateMethod ({ cls := "ThreeSnowballsModel", name := "byteAt", desc := "()I" } : Jvm.MethodName)) ∈ lw_tbl := lw_at lw_m8 4 rfl
theorem q1776 : (Jvm.Cond.instanceMethod ({ cls := "ThreeSnowballsModel", name := "byteAt", desc := "()I" } : Jvm.MethodName)) ∈ lw_all := lw_g (lw_at lw_m8 5 rfl) rfl
theorem q1777 : (Jvm.Cond.code ({ cls := "ThreeSnowballsModel", name := "byteAt", desc := "()I" } : Jvm.MethodName) prog_31_method_20_code (1 : Nat) (Option.some Jvm.ClassFile.FieldType.int)) ∈ lw_all := lw_g (lw_at lw_m8 6 rfl) rfl
theorem q1778 : (Jvm.Cond.methodLink "ThreeSnowballsModel" (184 : Nat) ({ cls := "ThreeSnowballsModel", name := "wrong", desc := "()I" } : Jvm.MethodName)) ∈ lw_all := lw_g (lw_at lw_m8 7 rfl) rfl
theorem q1779 : (Jvm.Cond.privateMethod ({ cls := "ThreeSnowballsModel", name := "wrong", desc := "()I" } : Jvm.MethodName)) ∈ lw_tbl := lw_at lw_m8 8 rfl
theorem q1780 : (Jvm.Cond.instanceMethod ({ cls := "ThreeSnowballsModel", name := "wrong", desc := "()I" } : Jvm.MethodName)) ∈ lw_all := lw_g (lw_at lw_m8 9 rfl) rfl
theorem q1781 : (Jvm.Cond.code ({ cls := "ThreeSnowballsModel", name := "wrong", desc := "()I" } : Jvm.MethodName) prog_31_method_21_code (1 : Nat) (Option.some Jvm.ClassFile.FieldType.int)) ∈ lw_all := lw_g (lw_at lw_m8 10 rfl) rfl
theorem q1782 : (Jvm.Cond.methodLink "ThreeSnowballsModel" (166 : Nat) ({ cls := "ThreeSnowballsModel", name := "takes", desc := "(I)Z" } : Jvm.MethodName)) ∈ lw_all := lw_g (lw_at lw_m8 11 rfl) rfl
theorem q1783 : (Jvm.Cond.privateMethod ({ cls := "ThreeSnowballsModel", name := "takes", desc := "(I)Z" } : Jvm.MethodName)) ∈ lw_tbl := lw_at lw_m8 12 rfl
theorem q1784 : (Jvm.Cond.instanceMethod ({ cls := "ThreeSnowballsModel", name := "takes", desc := "(I)Z" } : Jvm.MethodName)) ∈ lw_all := lw_g (lw_at lw_m8 13 rfl) rfl
theorem q1785 : (Jvm.Cond.code ({ cls := "ThreeSnowballsModel", name := "takes", desc := "(I)Z" } : Jvm.MethodName) prog_31_method_22_code (2 : Nat) (Option.some Jvm.ClassFile.FieldType.boolean)) ∈ lw_all := lw_g (lw_at lw_m8 14 rfl) rfl
theorem q1786 : (Jvm.Cond.methodLink "ThreeSnowballsModel" (190 : Nat) ({ cls := "ThreeSnowballsModel", name := "nameOf", desc := "(I)I" } : Jvm.MethodName)) ∈ lw_all := lw_g (lw_at lw_m8 15 rfl) rfl
theorem q1787 : (Jvm.Cond.static ({ cls := "ThreeSnowballsModel", name := "nameOf", desc := "(I)I" } : Jvm.MethodName)) ∈ lw_all := lw_g (lw_at lw_m8 16 rfl) rfl
theorem q1788 : (Jvm.Cond.code ({ cls := "ThreeSnowballsModel", name := "nameOf", desc := "(I)I" } : Jvm.MethodName) prog_31_method_28_code (1 : Nat) (Option.some Jvm.ClassFile.FieldType.int)) ∈ lw_all := lw_g (lw_at lw_m8 17 rfl) rfl
theorem q1790 : (Jvm.Cond.instanceMethod ({ cls := "ThreeSnowballsModel", name := "worth", desc := "(III)J" } : Jvm.MethodName)) ∈ lw_all := lw_g (lw_at lw_m8 19 rfl) rfl
theorem q1791 : (Jvm.Cond.selects "ThreeSnowballsModel" ({ cls := "ThreeSnowballsModel", name := "worth", desc := "(III)J" } : Jvm.MethodName) ({ cls := "ThreeSnowballsModel", name := "worth", desc := "(III)J" } : Jvm.MethodName)) ∈ lw_all := lw_g (lw_at lw_m8 20 rfl) rfl
theorem q1792 : (Jvm.Cond.code ({ cls := "ThreeSnowballsModel", name := "worth", desc := "(III)J" } : Jvm.MethodName) prog_31_method_50_code (4 : Nat) (Option.some Jvm.ClassFile.FieldType.long)) ∈ lw_all := lw_g (lw_at lw_m8 21 rfl) rfl
theorem q1793 : (Jvm.Cond.constantLong "ThreeSnowballsModel" (256 : Nat) (2 : Int64)) ∈ lw_all := lw_g (lw_at lw_m8 22 rfl) rfl
theorem q1794 : (Jvm.Cond.constantLong "ThreeSnowballsModel" (260 : Nat) (-9223372036854775808 : Int64)) ∈ lw_all := lw_g (lw_at lw_m8 23 rfl) rfl
theorem q1795 : (Jvm.Cond.methodLink "ThreeSnowballsModel" (262 : Nat) ({ cls := "ThreeSnowballsModel", name := "worthOf", desc := "(I)J" } : Jvm.MethodName)) ∈ lw_all := lw_g (lw_at lw_m8 24 rfl) rfl
theorem q1796 : (Jvm.Cond.privateMethod ({ cls := "ThreeSnowballsModel", name := "worthOf", desc := "(I)J" } : Jvm.MethodName)) ∈ lw_tbl := lw_at lw_m8 25 rfl
theorem q1797 : (Jvm.Cond.instanceMethod ({ cls := "ThreeSnowballsModel", name := "worthOf", desc := "(I)J" } : Jvm.MethodName)) ∈ lw_all := lw_g (lw_at lw_m8 26 rfl) rfl
theorem q1798 : (Jvm.Cond.code ({ cls := "ThreeSnowballsModel", name := "worthOf", desc := "(I)J" } : Jvm.MethodName) prog_31_method_45_code (2 : Nat) (Option.some Jvm.ClassFile.FieldType.long)) ∈ lw_all := lw_g (lw_at lw_m8 27 rfl) rfl
theorem q1799 : (Jvm.Cond.methodLink "ThreeSnowballsModel" (241 : Nat) ({ cls := "ThreeSnowballsModel", name := "solves", desc := "()V" } : Jvm.MethodName)) ∈ lw_all := lw_g (lw_at lw_m8 28 rfl) rfl
theorem q1800 : (Jvm.Cond.privateMethod ({ cls := "ThreeSnowballsModel", name := "solves", desc := "()V" } : Jvm.MethodName)) ∈ lw_tbl := lw_at lw_m8 29 rfl
theorem q1801 : (Jvm.Cond.instanceMethod ({ cls := "ThreeSnowballsModel", name := "solves", desc := "()V" } : Jvm.MethodName)) ∈ lw_all := lw_g (lw_at lw_m8 30 rfl) rfl
theorem q1802 : (Jvm.Cond.code ({ cls := "ThreeSnowballsModel", name := "solves", desc := "()V" } : Jvm.MethodName) prog_31_method_42_code (4 : Nat) (Option.none : Option Jvm.ClassFile.FieldType)) ∈ lw_all := lw_g (lw_at lw_m8 31 rfl) rfl
theorem q1803 : (Jvm.Cond.methodLink "ThreeSnowballsModel" (228 : Nat) ({ cls := "ThreeSnowballsModel", name := "isOver", desc := "(II)Z" } : Jvm.MethodName)) ∈ lw_all := lw_g (lw_at lw_m8 32 rfl) rfl
theorem q1804 : (Jvm.Cond.privateMethod ({ cls := "ThreeSnowballsModel", name := "isOver", desc := "(II)Z" } : Jvm.MethodName)) ∈ lw_tbl := lw_at lw_m8 33 rfl
theorem q1805 : (Jvm.Cond.instanceMethod ({ cls := "ThreeSnowballsModel", name := "isOver", desc := "(II)Z" } : Jvm.MethodName)) ∈ lw_all := lw_g (lw_at lw_m8 34 rfl) rfl
theorem q1806 : (Jvm.Cond.code ({ cls := "ThreeSnowballsModel", name := "isOver", desc := "(II)Z" } : Jvm.MethodName) prog_31_method_35_code (3 : Nat) (Option.some Jvm.ClassFile.FieldType.boolean)) ∈ lw_all := lw_g (lw_at lw_m8 35 rfl) rfl
theorem q1807 : (Jvm.Cond.methodLink "ThreeSnowballsModel" (197 : Nat) ({ cls := "ThreeSnowballsModel", name := "bitsOf", desc := "(I)I" } : Jvm.MethodName)) ∈ lw_all := lw_g (lw_at lw_m8 36 rfl) rfl
theorem q1808 : (Jvm.Cond.static ({ cls := "ThreeSnowballsModel", name := "bitsOf", desc := "(I)I" } : Jvm.MethodName)) ∈ lw_all := lw_g (lw_at lw_m8 37 rfl) rfl
theorem q1809 : (Jvm.Cond.code ({ cls := "ThreeSnowballsModel", name := "bitsOf", desc := "(I)I" } : Jvm.MethodName) prog_31_method_2_code (3 : Nat) (Option.some Jvm.ClassFile.FieldType.int)) ∈ lw_all := lw_g (lw_at lw_m8 38 rfl) rfl
theorem q1810 : (Jvm.Cond.methodLink "ThreeSnowballsModel" (231 : Nat) ({ cls := "ThreeSnowballsModel", name := "ends1", desc := "(III)V" } : Jvm.MethodName)) ∈ lw_all := lw_g (lw_at lw_m8 39 rfl) rfl
theorem q1811 : (Jvm.Cond.privateMethod ({ cls := "ThreeSnowballsModel", name := "ends1", desc := "(III)V" } : Jvm.MethodName)) ∈ lw_tbl := lw_at lw_m8 40 rfl
theorem q1812 : (Jvm.Cond.instanceMethod ({ cls := "ThreeSnowballsModel", name := "ends1", desc := "(III)V" } : Jvm.MethodName)) ∈ lw_all := lw_g (lw_at lw_m8 41 rfl) rfl
theorem q1813 : (Jvm.Cond.code ({ cls := "ThreeSnowballsModel", name := "ends1", desc := "(III)V" } : Jvm.MethodName) prog_31_method_41_code (6 : Nat) (Option.none : Option Jvm.ClassFile.FieldType)) ∈ lw_all := lw_g (lw_at lw_m8 42 rfl) rfl
theorem q1814 : (Jvm.Cond.methodLink "ThreeSnowballsModel" (207 : Nat) ({ cls := "ThreeSnowballsModel", name := "stateOf", desc := "(III)I" } : Jvm.MethodName)) ∈ lw_all := lw_g (lw_at lw_m8 43 rfl) rfl
theorem q1815 : (Jvm.Cond.static ({ cls := "ThreeSnowballsModel", name := "stateOf", desc := "(III)I" } : Jvm.MethodName)) ∈ lw_all := lw_g (lw_at lw_m8 44 rfl) rfl
theorem q1816 : (Jvm.Cond.code ({ cls := "ThreeSnowballsModel", name := "stateOf", desc := "(III)I" } : Jvm.MethodName) prog_31_method_33_code (3 : Nat) (Option.some Jvm.ClassFile.FieldType.int)) ∈ lw_all := lw_g (lw_at lw_m8 45 rfl) rfl
theorem q1817 : (Jvm.Cond.methodLink "ThreeSnowballsModel" (235 : Nat) ({ cls := "ThreeSnowballsModel", name := "settles", desc := "(III)V" } : Jvm.MethodName)) ∈ lw_all := lw_g (lw_at lw_m8 46 rfl) rfl
theorem q1818 : (Jvm.Cond.privateMethod ({ cls := "ThreeSnowballsModel", name := "settles", desc := "(III)V" } : Jvm.MethodName)) ∈ lw_tbl := lw_at lw_m8 47 rfl
theorem q1819 : (Jvm.Cond.instanceMethod ({ cls := "ThreeSnowballsModel", name := "settles", desc := "(III)V" } : Jvm.MethodName)) ∈ lw_all := lw_g (lw_at lw_m8 48 rfl) rfl
theorem q1820 : (Jvm.Cond.code ({ cls := "ThreeSnowballsModel", name := "settles", desc := "(III)V" } : Jvm.MethodName) prog_31_method_40_code (9 : Nat) (Option.none : Option Jvm.ClassFile.FieldType)) ∈ lw_all := lw_g (lw_at lw_m8 49 rfl) rfl
theorem q1821 : (Jvm.Cond.methodLink "ThreeSnowballsModel" (215 : Nat) ({ cls := "ThreeSnowballsModel", name := "plainAim", desc := "(II)I" } : Jvm.MethodName)) ∈ lw_all := lw_g (lw_at lw_m8 50 rfl) rfl
theorem q1822 : (Jvm.Cond.privateMethod ({ cls := "ThreeSnowballsModel", name := "plainAim", desc := "(II)I" } : Jvm.MethodName)) ∈ lw_tbl := lw_at lw_m8 51 rfl
theorem q1823 : (Jvm.Cond.instanceMethod ({ cls := "ThreeSnowballsModel", name := "plainAim", desc := "(II)I" } : Jvm.MethodName)) ∈ lw_all := lw_g (lw_at lw_m8 52 rfl) rfl
theorem q1824 : (Jvm.Cond.code ({ cls := "ThreeSnowballsModel", name := "plainAim", desc := "(II)I" } : Jvm.MethodName) prog_31_method_37_code (4 : Nat) (Option.some Jvm.ClassFile.FieldType.int)) ∈ lw_all := lw_g (lw_at lw_m8 53 rfl) rfl
theorem q1825 : (Jvm.Cond.methodLink "ThreeSnowballsModel" (200 : Nat) ({ cls := "ThreeSnowballsModel", name := "byHits", desc := "(IIZ)I" } : Jvm.MethodName)) ∈ lw_all := lw_g (lw_at lw_m8 54 rfl) rfl
theorem q1826 : (Jvm.Cond.privateMethod ({ cls := "ThreeSnowballsModel", name := "byHits", desc := "(IIZ)I" } : Jvm.MethodName)) ∈ lw_tbl := lw_at lw_m8 55 rfl
theorem q1827 : (Jvm.Cond.instanceMethod ({ cls := "ThreeSnowballsModel", name := "byHits", desc := "(IIZ)I" } : Jvm.MethodName)) ∈ lw_all := lw_g (lw_at lw_m8 56 rfl) rfl
theorem q1828 : (Jvm.Cond.code ({ cls := "ThreeSnowballsModel", name := "byHits", desc := "(IIZ)I" } : Jvm.MethodName) prog_31_method_36_code (8 : Nat) (Option.some Jvm.ClassFile.FieldType.int)) ∈ lw_all := lw_g (lw_at lw_m8 57 rfl) rfl
theorem q1829 : (Jvm.Cond.methodLink "ThreeSnowballsModel" (204 : Nat) ({ cls := "ThreeSnowballsModel", name := "nextOf", desc := "(II)I" } : Jvm.MethodName)) ∈ lw_all := lw_g (lw_at lw_m8 58 rfl) rfl
theorem q1830 : (Jvm.Cond.privateMethod ({ cls := "ThreeSnowballsModel", name := "nextOf", desc := "(II)I" } : Jvm.MethodName)) ∈ lw_tbl := lw_at lw_m8 59 rfl
theorem q1831 : (Jvm.Cond.instanceMethod ({ cls := "ThreeSnowballsModel", name := "nextOf", desc := "(II)I" } : Jvm.MethodName)) ∈ lw_all := lw_g (lw_at lw_m8 60 rfl) rfl
theorem q1832 : (Jvm.Cond.code ({ cls := "ThreeSnowballsModel", name := "nextOf", desc := "(II)I" } : Jvm.MethodName) prog_31_method_34_code (5 : Nat) (Option.some Jvm.ClassFile.FieldType.int)) ∈ lw_all := lw_g (lw_at lw_m8 61 rfl) rfl
theorem q1833 : (Jvm.Cond.methodLink "ThreeSnowballsModel" (218 : Nat) ({ cls := "ThreeSnowballsModel", name := "worthBy", desc := "(IIIII)V" } : Jvm.MethodName)) ∈ lw_all := lw_g (lw_at lw_m8 62 rfl) rfl
theorem q1834 : (Jvm.Cond.privateMethod ({ cls := "ThreeSnowballsModel", name := "worthBy", desc := "(IIIII)V" } : Jvm.MethodName)) ∈ lw_tbl := lw_at lw_m8 63 rfl
theorem q1835 : (Jvm.Cond.instanceMethod ({ cls := "ThreeSnowballsModel", name := "worthBy", desc := "(IIIII)V" } : Jvm.MethodName)) ∈ lw_all := lw_g (lw_at lw_m8 64 rfl) rfl
theorem q1836 : (Jvm.Cond.code ({ cls := "ThreeSnowballsModel", name := "worthBy", desc := "(IIIII)V" } : Jvm.MethodName) prog_31_method_38_code (10 : Nat) (Option.none : Option Jvm.ClassFile.FieldType)) ∈ lw_all := lw_g (lw_at lw_m8 65 rfl) rfl
theorem q1837 : (Jvm.Cond.methodLink "ThreeSnowballsModel" (222 : Nat) ({ cls := "ThreeSnowballsModel", name := "hitsAt", desc := "(IIII)I" } : Jvm.MethodName)) ∈ lw_all := lw_g (lw_at lw_m8 66 rfl) rfl
theorem q1838 : (Jvm.Cond.privateMethod ({ cls := "ThreeSnowballsModel", name := "hitsAt", desc := "(IIII)I" } : Jvm.MethodName)) ∈ lw_tbl := lw_at lw_m8 67 rfl
theorem q1839 : (Jvm.Cond.instanceMethod ({ cls := "ThreeSnowballsModel", name := "hitsAt", desc := "(IIII)I" } : Jvm.MethodName)) ∈ lw_all := lw_g (lw_at lw_m8 68 rfl) rfl
theorem q1840 : (Jvm.Cond.code ({ cls := "ThreeSnowballsModel", name := "hitsAt", desc := "(IIII)I" } : Jvm.MethodName) prog_31_method_39_code (5 : Nat) (Option.some Jvm.ClassFile.FieldType.int)) ∈ lw_all := lw_g (lw_at lw_m8 69 rfl) rfl
theorem q1841 : (Jvm.Cond.methodLink "ThreeSnowballsModel" (211 : Nat) ({ cls := "ThreeSnowballsModel", name := "hitsOf", desc := "(IIII)I" } : Jvm.MethodName)) ∈ lw_all := lw_g (lw_at lw_m8 70 rfl) rfl
theorem q1842 : (Jvm.Cond.privateMethod ({ cls := "ThreeSnowballsModel", name := "hitsOf", desc := "(IIII)I" } : Jvm.MethodName)) ∈ lw_tbl := lw_at lw_m8 71 rfl
theorem q1843 : (Jvm.Cond.instanceMethod ({ cls := "ThreeSnowballsModel", name := "hitsOf", desc := "(IIII)I" } : Jvm.MethodName)) ∈ lw_all := lw_g (lw_at lw_m8 72 rfl) rfl
theorem q1844 : (Jvm.Cond.code ({ cls := "ThreeSnowballsModel", name := "hitsOf", desc := "(IIII)I" } : Jvm.MethodName) prog_31_method_32_code (6 : Nat) (Option.some Jvm.ClassFile.FieldType.int)) ∈ lw_all := lw_g (lw_at lw_m8 73 rfl) rfl
theorem q1845 : (Jvm.Cond.methodLink "ThreeSnowballsModel" (244 : Nat) ({ cls := "ThreeSnowballsModel", name := "worthFrom", desc := "(III)J" } : Jvm.MethodName)) ∈ lw_all := lw_g (lw_at lw_m8 74 rfl) rfl
theorem q1846 : (Jvm.Cond.privateMethod ({ cls := "ThreeSnowballsModel", name := "worthFrom", desc := "(III)J" } : Jvm.MethodName)) ∈ lw_tbl := lw_at lw_m8 75 rfl
theorem q1847 : (Jvm.Cond.instanceMethod ({ cls := "ThreeSnowballsModel", name := "worthFrom", desc := "(III)J" } : Jvm.MethodName)) ∈ lw_all := lw_g (lw_at lw_m8 76 rfl) rfl
theorem q1848 : (Jvm.Cond.code ({ cls := "ThreeSnowballsModel", name := "worthFrom", desc := "(III)J" } : Jvm.MethodName) prog_31_method_44_code (4 : Nat) (Option.some Jvm.ClassFile.FieldType.long)) ∈ lw_all := lw_g (lw_at lw_m8 77 rfl) rfl
theorem q1849 : (Jvm.Cond.methodLink "ThreeSnowballsModel" (238 : Nat) ({ cls := "ThreeSnowballsModel", name := "startOf", desc := "(II)I" } : Jvm.MethodName)) ∈ lw_all := lw_g (lw_at lw_m8 78 rfl) rfl
theorem q1850 : (Jvm.Cond.privateMethod ({ cls := "ThreeSnowballsModel", name := "startOf", desc := "(II)I" } : Jvm.MethodName)) ∈ lw_tbl := lw_at lw_m8 79 rfl
theorem q1851 : (Jvm.Cond.instanceMethod ({ cls := "ThreeSnowballsModel", name := "startOf", desc := "(II)I" } : Jvm.MethodName)) ∈ lw_all := lw_g (lw_at lw_m8 80 rfl) rfl
theorem q1852 : (Jvm.Cond.code ({ cls := "ThreeSnowballsModel", name := "startOf", desc := "(II)I" } : Jvm.MethodName) prog_31_method_43_code (5 : Nat) (Option.some Jvm.ClassFile.FieldType.int)) ∈ lw_all := lw_g (lw_at lw_m8 81 rfl) rfl
theorem q1853 : (Jvm.Cond.methodLink "ThreeSnowballsModel" (266 : Nat) ({ cls := "ThreeSnowballsModel", name := "valueOf", desc := "(II)J" } : Jvm.MethodName)) ∈ lw_all := lw_g (lw_at lw_m8 82 rfl) rfl
theorem q1854 : (Jvm.Cond.privateMethod ({ cls := "ThreeSnowballsModel", name := "valueOf", desc := "(II)J" } : Jvm.MethodName)) ∈ lw_tbl := lw_at lw_m8 83 rfl
theorem q1855 : (Jvm.Cond.instanceMethod ({ cls := "ThreeSnowballsModel", name := "valueOf", desc := "(II)J" } : Jvm.MethodName)) ∈ lw_all := lw_g (lw_at lw_m8 84 rfl) rfl
theorem q1856 : (Jvm.Cond.code ({ cls := "ThreeSnowballsModel", name := "valueOf", desc := "(II)J" } : Jvm.MethodName) prog_31_method_47_code (9 : Nat) (Option.some Jvm.ClassFile.FieldType.long)) ∈ lw_all := lw_g (lw_at lw_m8 85 rfl) rfl
theorem q1857 : (Jvm.Cond.methodLink "ThreeSnowballsModel" (248 : Nat) ({ cls := "ThreeSnowballsModel", name := "atEnd", desc := "(IIII)J" } : Jvm.MethodName)) ∈ lw_all := lw_g (lw_at lw_m8 86 rfl) rfl
theorem q1858 : (Jvm.Cond.privateMethod ({ cls := "ThreeSnowballsModel", name := "atEnd", desc := "(IIII)J" } : Jvm.MethodName)) ∈ lw_tbl := lw_at lw_m8 87 rfl
theorem q1859 : (Jvm.Cond.instanceMethod ({ cls := "ThreeSnowballsModel", name := "atEnd", desc := "(IIII)J" } : Jvm.MethodName)) ∈ lw_all := lw_g (lw_at lw_m8 88 rfl) rfl
theorem q1860 : (Jvm.Cond.code ({ cls := "ThreeSnowballsModel", name := "atEnd", desc := "(IIII)J" } : Jvm.MethodName) prog_31_method_46_code (5 : Nat) (Option.some Jvm.ClassFile.FieldType.long)) ∈ lw_all := lw_g (lw_at lw_m8 89 rfl) rfl
theorem q1861 : (Jvm.Cond.methodLink "ThreeSnowballsModel" (270 : Nat) ({ cls := "ThreeSnowballsModel", name := "partOf", desc := "(JI)J" } : Jvm.MethodName)) ∈ lw_all := lw_g (lw_at lw_m8 90 rfl) rfl
theorem q1862 : (Jvm.Cond.privateMethod ({ cls := "ThreeSnowballsModel", name := "partOf", desc := "(JI)J" } : Jvm.MethodName)) ∈ lw_tbl := lw_at lw_m8 91 rfl
theorem q1863 : (Jvm.Cond.instanceMethod ({ cls := "ThreeSnowballsModel", name := "partOf", desc := "(JI)J" } : Jvm.MethodName)) ∈ lw_all := lw_g (lw_at lw_m8 92 rfl) rfl
theorem q1864 : (Jvm.Cond.code ({ cls := "ThreeSnowballsModel", name := "partOf", desc := "(JI)J" } : Jvm.MethodName) prog_31_method_49_code (6 : Nat) (Option.some Jvm.ClassFile.FieldType.long)) ∈ lw_all := lw_g (lw_at lw_m8 93 rfl) rfl
theorem q1865 : (Jvm.Cond.methodLink "ThreeSnowballsModel" (252 : Nat) ({ cls := "ThreeSnowballsModel", name := "common", desc := "(JJ)J" } : Jvm.MethodName)) ∈ lw_all := lw_g (lw_at lw_m8 94 rfl) rfl
theorem q1866 : (Jvm.Cond.static ({ cls := "ThreeSnowballsModel", name := "common", desc := "(JJ)J" } : Jvm.MethodName)) ∈ lw_all := lw_g (lw_at lw_m8 95 rfl) rfl
theorem q1867 : (Jvm.Cond.code ({ cls := "ThreeSnowballsModel", name := "common", desc := "(JJ)J" } : Jvm.MethodName) prog_31_method_48_code (10 : Nat) (Option.some Jvm.ClassFile.FieldType.long)) ∈ lw_all := lw_g (lw_at lw_m8 96 rfl) rfl
theorem q1869 : (Jvm.Cond.instanceMethod ({ cls := "ThreeSnowballsModel", name := "just", desc := "(II)J" } : Jvm.MethodName)) ∈ lw_all := lw_g (lw_at lw_m8 98 rfl) rfl
theorem q1870 : (Jvm.Cond.selects "ThreeSnowballsModel" ({ cls := "ThreeSnowballsModel", name := "just", desc := "(II)J" } : Jvm.MethodName) ({ cls := "ThreeSnowballsModel", name := "just", desc := "(II)J" } : Jvm.MethodName)) ∈ lw_all := lw_g (lw_at lw_m8 99 rfl) rfl
theorem q1871 : (Jvm.Cond.code ({ cls := "ThreeSnowballsModel", name := "just", desc := "(II)J" } : Jvm.MethodName) prog_31_method_51_code (3 : Nat) (Option.some Jvm.ClassFile.FieldType.long)) ∈ lw_all := lw_g (lw_at lw_m8 100 rfl) rfl
theorem q1872 : (Jvm.Cond.constantLong "ThreeSnowballsModel" (274 : Nat) (-1 : Int64)) ∈ lw_all := lw_g (lw_at lw_m8 101 rfl) rfl
theorem q1874 : (Jvm.Cond.instanceMethod ({ cls := "ThreeSnowballsModel", name := "aims", desc := "(III)I" } : Jvm.MethodName)) ∈ lw_all := lw_g (lw_at lw_m8 103 rfl) rfl
theorem q1875 : (Jvm.Cond.selects "ThreeSnowballsModel" ({ cls := "ThreeSnowballsModel", name := "aims", desc := "(III)I" } : Jvm.MethodName) ({ cls := "ThreeSnowballsModel", name := "aims", desc := "(III)I" } : Jvm.MethodName)) ∈ lw_all := lw_g (lw_at lw_m8 104 rfl) rfl
theorem q1876 : (Jvm.Cond.code ({ cls := "ThreeSnowballsModel", name := "aims", desc := "(III)I" } : Jvm.MethodName) prog_31_method_52_code (5 : Nat) (Option.some Jvm.ClassFile.FieldType.int)) ∈ lw_all := lw_g (lw_at lw_m8 105 rfl) rfl
theorem q1878 : (Jvm.Cond.instanceMethod ({ cls := "ThreeSnowballsModel", name := "begin", desc := "(I)I" } : Jvm.MethodName)) ∈ lw_all := lw_g (lw_at lw_m8 107 rfl) rfl
theorem q1879 : (Jvm.Cond.selects "ThreeSnowballsModel" ({ cls := "ThreeSnowballsModel", name := "begin", desc := "(I)I" } : Jvm.MethodName) ({ cls := "ThreeSnowballsModel", name := "begin", desc := "(I)I" } : Jvm.MethodName)) ∈ lw_all := lw_g (lw_at lw_m8 108 rfl) rfl
theorem q1880 : (Jvm.Cond.code ({ cls := "ThreeSnowballsModel", name := "begin", desc := "(I)I" } : Jvm.MethodName) prog_31_method_53_code (4 : Nat) (Option.some Jvm.ClassFile.FieldType.int)) ∈ lw_all := lw_g (lw_at lw_m8 109 rfl) rfl
theorem q1882 : (Jvm.Cond.instanceMethod ({ cls := "ThreeSnowballsModel", name := "fair", desc := "()I" } : Jvm.MethodName)) ∈ lw_all := lw_g (lw_at lw_m8 111 rfl) rfl
theorem q1883 : (Jvm.Cond.selects "ThreeSnowballsModel" ({ cls := "ThreeSnowballsModel", name := "fair", desc := "()I" } : Jvm.MethodName) ({ cls := "ThreeSnowballsModel", name := "fair", desc := "()I" } : Jvm.MethodName)) ∈ lw_all := lw_g (lw_at lw_m8 112 rfl) rfl
theorem q1884 : (Jvm.Cond.code ({ cls := "ThreeSnowballsModel", name := "fair", desc := "()I" } : Jvm.MethodName) prog_31_method_54_code (12 : Nat) (Option.some Jvm.ClassFile.FieldType.int)) ∈ lw_all := lw_g (lw_at lw_m8 113 rfl) rfl
theorem q1886 : (Jvm.Cond.instanceMethod ({ cls := "ThreeSnowballsModel", name := "would", desc := "(I)I" } : Jvm.MethodName)) ∈ lw_all := lw_g (lw_at lw_m8 115 rfl) rfl
theorem q1887 : (Jvm.Cond.selects "ThreeSnowballsModel" ({ cls := "ThreeSnowballsModel", name := "would", desc := "(I)I" } : Jvm.MethodName) ({ cls := "ThreeSnowballsModel", name := "would", desc := "(I)I" } : Jvm.MethodName)) ∈ lw_all := lw_g (lw_at lw_m8 116 rfl) rfl
theorem q1888 : (Jvm.Cond.code ({ cls := "ThreeSnowballsModel", name := "would", desc := "(I)I" } : Jvm.MethodName) prog_31_method_56_code (2 : Nat) (Option.some Jvm.ClassFile.FieldType.int)) ∈ lw_all := lw_g (lw_at lw_m8 117 rfl) rfl
theorem q1889 : (Jvm.Cond.methodLink "ThreeSnowballsModel" (276 : Nat) ({ cls := "ThreeSnowballsModel", name := "wouldOf", desc := "(I)I" } : Jvm.MethodName)) ∈ lw_all := lw_g (lw_at lw_m8 118 rfl) rfl
theorem q1890 : (Jvm.Cond.privateMethod ({ cls := "ThreeSnowballsModel", name := "wouldOf", desc := "(I)I" } : Jvm.MethodName)) ∈ lw_tbl := lw_at lw_m8 119 rfl
theorem q1891 : (Jvm.Cond.instanceMethod ({ cls := "ThreeSnowballsModel", name := "wouldOf", desc := "(I)I" } : Jvm.MethodName)) ∈ lw_all := lw_g (lw_at lw_m8 120 rfl) rfl
theorem q1892 : (Jvm.Cond.code ({ cls := "ThreeSnowballsModel", name := "wouldOf", desc := "(I)I" } : Jvm.MethodName) prog_31_method_55_code (9 : Nat) (Option.some Jvm.ClassFile.FieldType.int)) ∈ lw_all := lw_g (lw_at lw_m8 121 rfl) rfl
theorem q1894 : (Jvm.Cond.instanceMethod ({ cls := "ThreeSnowballsModel", name := "rest", desc := "()I" } : Jvm.MethodName)) ∈ lw_all := lw_g (lw_at lw_m8 123 rfl) rfl
theorem q1895 : (Jvm.Cond.selects "ThreeSnowballsModel" ({ cls := "ThreeSnowballsModel", name := "rest", desc := "()I" } : Jvm.MethodName) ({ cls := "ThreeSnowballsModel", name := "rest", desc := "()I" } : Jvm.MethodName)) ∈ lw_all := lw_g (lw_at lw_m8 124 rfl) rfl
theorem q1896 : (Jvm.Cond.code ({ cls := "ThreeSnowballsModel", name := "rest", desc := "()I" } : Jvm.MethodName) prog_31_method_57_code (2 : Nat) (Option.some Jvm.ClassFile.FieldType.int)) ∈ lw_all := lw_g (lw_at lw_m8 125 rfl) rfl
theorem q1898 : (Jvm.Cond.instanceMethod ({ cls := "ThreeSnowballsModel", name := "settle", desc := "(I)I" } : Jvm.MethodName)) ∈ lw_all := lw_g (lw_at lw_m8 127 rfl) rfl
theorem q1899 : (Jvm.Cond.selects "ThreeSnowballsModel" ({ cls := "ThreeSnowballsModel", name := "settle", desc := "(I)I" } : Jvm.MethodName) ({ cls := "ThreeSnowballsModel", name := "settle", desc := "(I)I" } : Jvm.MethodName)) ∈ lw_all := lw_g (lw_at lw_m8 128 rfl) rfl
theorem q1900 : (Jvm.Cond.code ({ cls := "ThreeSnowballsModel", name := "settle", desc := "(I)I" } : Jvm.MethodName) prog_31_method_58_code (6 : Nat) (Option.some Jvm.ClassFile.FieldType.int)) ∈ lw_all := lw_g (lw_at lw_m8 129 rfl) rfl
theorem q1901 : (Jvm.Cond.methodLink "ThreeSnowballsModel" (279 : Nat) ({ cls := "ThreeSnowballsModel", name := "rest", desc := "()I" } : Jvm.MethodName)) ∈ lw_all := lw_g (lw_at lw_m8 130 rfl) rfl
theorem q1903 : (Jvm.Cond.instanceMethod ({ cls := "ThreeSnowballsModel", name := "even", desc := "(I)I" } : Jvm.MethodName)) ∈ lw_all := lw_g (lw_at lw_m8 132 rfl) rfl
theorem q1904 : (Jvm.Cond.selects "ThreeSnowballsModel" ({ cls := "ThreeSnowballsModel", name := "even", desc := "(I)I" } : Jvm.MethodName) ({ cls := "ThreeSnowballsModel", name := "even", desc := "(I)I" } : Jvm.MethodName)) ∈ lw_all := lw_g (lw_at lw_m8 133 rfl) rfl
theorem q1905 : (Jvm.Cond.code ({ cls := "ThreeSnowballsModel", name := "even", desc := "(I)I" } : Jvm.MethodName) prog_31_method_59_code (10 : Nat) (Option.some Jvm.ClassFile.FieldType.int)) ∈ lw_all := lw_g (lw_at lw_m8 134 rfl) rfl
theorem q1907 : (Jvm.Cond.instanceMethod ({ cls := "ThreeSnowballsModel", name := "league", desc := "(I)I" } : Jvm.MethodName)) ∈ lw_all := lw_g (lw_at lw_m8 136 rfl) rfl
theorem q1908 : (Jvm.Cond.selects "ThreeSnowballsModel" ({ cls := "ThreeSnowballsModel", name := "league", desc := "(I)I" } : Jvm.MethodName) ({ cls := "ThreeSnowballsModel", name := "league", desc := "(I)I" } : Jvm.MethodName)) ∈ lw_all := lw_g (lw_at lw_m8 137 rfl) rfl
theorem q1909 : (Jvm.Cond.code ({ cls := "ThreeSnowballsModel", name := "league", desc := "(I)I" } : Jvm.MethodName) prog_31_method_61_code (2 : Nat) (Option.some Jvm.ClassFile.FieldType.int)) ∈ lw_all := lw_g (lw_at lw_m8 138 rfl) rfl
theorem q1910 : (Jvm.Cond.methodLink "ThreeSnowballsModel" (282 : Nat) ({ cls := "ThreeSnowballsModel", name := "leagueOf", desc := "(II)I" } : Jvm.MethodName)) ∈ lw_all := lw_g (lw_at lw_m8 139 rfl) rfl
theorem q1911 : (Jvm.Cond.privateMethod ({ cls := "ThreeSnowballsModel", name := "leagueOf", desc := "(II)I" } : Jvm.MethodName)) ∈ lw_tbl := lw_at lw_m8 140 rfl
theorem q1912 : (Jvm.Cond.instanceMethod ({ cls := "ThreeSnowballsModel", name := "leagueOf", desc := "(II)I" } : Jvm.MethodName)) ∈ lw_all := lw_g (lw_at lw_m8 141 rfl) rfl
theorem q1913 : (Jvm.Cond.code ({ cls := "ThreeSnowballsModel", name := "leagueOf", desc := "(II)I" } : Jvm.MethodName) prog_31_method_60_code (8 : Nat) (Option.some Jvm.ClassFile.FieldType.int)) ∈ lw_all := lw_g (lw_at lw_m8 142 rfl) rfl
theorem q1915 : (Jvm.Cond.instanceMethod ({ cls := "ThreeSnowballsModel", name := "points", desc := "(I)I" } : Jvm.MethodName)) ∈ lw_all := lw_g (lw_at lw_m8 144 rfl) rfl
theorem q1916 : (Jvm.Cond.selects "ThreeSnowballsModel" ({ cls := "ThreeSnowballsModel", name := "points", desc := "(I)I" } : Jvm.MethodName) ({ cls := "ThreeSnowballsModel", name := "points", desc := "(I)I" } : Jvm.MethodName)) ∈ lw_all := lw_g (lw_at lw_m8 145 rfl) rfl
theorem q1917 : (Jvm.Cond.code ({ cls := "ThreeSnowballsModel", name := "points", desc := "(I)I" } : Jvm.MethodName) prog_31_method_62_code (5 : Nat) (Option.some Jvm.ClassFile.FieldType.int)) ∈ lw_all := lw_g (lw_at lw_m8 146 rfl) rfl
theorem q1919 : (Jvm.Cond.instanceMethod ({ cls := "ThreeSnowballsModel", name := "judge", desc := "(II)I" } : Jvm.MethodName)) ∈ lw_all := lw_g (lw_at lw_m8 148 rfl) rfl
theorem q1920 : (Jvm.Cond.selects "ThreeSnowballsModel" ({ cls := "ThreeSnowballsModel", name := "judge", desc := "(II)I" } : Jvm.MethodName) ({ cls := "ThreeSnowballsModel", name := "judge", desc := "(II)I" } : Jvm.MethodName)) ∈ lw_all := lw_g (lw_at lw_m8 149 rfl) rfl
theorem q1921 : (Jvm.Cond.code ({ cls := "ThreeSnowballsModel", name := "judge", desc := "(II)I" } : Jvm.MethodName) prog_31_method_65_code (3 : Nat) (Option.some Jvm.ClassFile.FieldType.int)) ∈ lw_all := lw_g (lw_at lw_m8 150 rfl) rfl
theorem q1922 : (Jvm.Cond.methodLink "ThreeSnowballsModel" (302 : Nat) ({ cls := "ThreeSnowballsModel", name := "looksAt", desc := "(I)V" } : Jvm.MethodName)) ∈ lw_all := lw_g (lw_at lw_m8 151 rfl) rfl
theorem q1923 : (Jvm.Cond.privateMethod ({ cls := "ThreeSnowballsModel", name := "looksAt", desc := "(I)V" } : Jvm.MethodName)) ∈ lw_tbl := lw_at lw_m8 152 rfl
theorem q1924 : (Jvm.Cond.instanceMethod ({ cls := "ThreeSnowballsModel", name := "looksAt", desc := "(I)V" } : Jvm.MethodName)) ∈ lw_all := lw_g (lw_at lw_m8 153 rfl) rfl
theorem q1925 : (Jvm.Cond.code ({ cls := "ThreeSnowballsModel", name := "looksAt", desc := "(I)V" } : Jvm.MethodName) prog_31_method_64_code (11 : Nat) (Option.none : Option Jvm.ClassFile.FieldType)) ∈ lw_all := lw_g (lw_at lw_m8 154 rfl) rfl
theorem q1926 : (Jvm.Cond.methodLink "ThreeSnowballsModel" (298 : Nat) ({ cls := "ThreeSnowballsModel", name := "mayThrow", desc := "(IIIJJ)Z" } : Jvm.MethodName)) ∈ lw_all := lw_g (lw_at lw_m8 155 rfl) rfl
theorem q1927 : (Jvm.Cond.privateMethod ({ cls := "ThreeSnowballsModel", name := "mayThrow", desc := "(IIIJJ)Z" } : Jvm.MethodName)) ∈ lw_tbl := lw_at lw_m8 156 rfl
theorem q1928 : (Jvm.Cond.instanceMethod ({ cls := "ThreeSnowballsModel", name := "mayThrow", desc := "(IIIJJ)Z" } : Jvm.MethodName)) ∈ lw_all := lw_g (lw_at lw_m8 157 rfl) rfl
theorem q1929 : (Jvm.Cond.code ({ cls := "ThreeSnowballsModel", name := "mayThrow", desc := "(IIIJJ)Z" } : Jvm.MethodName) prog_31_method_63_code (9 : Nat) (Option.some Jvm.ClassFile.FieldType.boolean)) ∈ lw_all := lw_g (lw_at lw_m8 158 rfl) rfl
theorem q1931 : (Jvm.Cond.instanceMethod ({ cls := "ThreeSnowballsModel", name := "chance", desc := "(II)J" } : Jvm.MethodName)) ∈ lw_all := lw_g (lw_at lw_m8 160 rfl) rfl
theorem q1932 : (Jvm.Cond.selects "ThreeSnowballsModel" ({ cls := "ThreeSnowballsModel", name := "chance", desc := "(II)J" } : Jvm.MethodName) ({ cls := "ThreeSnowballsModel", name := "chance", desc := "(II)J" } : Jvm.MethodName)) ∈ lw_all := lw_g (lw_at lw_m8 161 rfl) rfl
theorem q1933 : (Jvm.Cond.code ({ cls := "ThreeSnowballsModel", name := "chance", desc := "(II)J" } : Jvm.MethodName) prog_31_method_66_code (5 : Nat) (Option.some Jvm.ClassFile.FieldType.long)) ∈ lw_all := lw_g (lw_at lw_m8 162 rfl) rfl
theorem q1935 : (Jvm.Cond.instanceMethod ({ cls := "ThreeSnowballsModel", name := "seen", desc := "(II)I" } : Jvm.MethodName)) ∈ lw_all := lw_g (lw_at lw_m8 164 rfl) rfl
theorem q1936 : (Jvm.Cond.selects "ThreeSnowballsModel" ({ cls := "ThreeSnowballsModel", name := "seen", desc := "(II)I" } : Jvm.MethodName) ({ cls := "ThreeSnowballsModel", name := "seen", desc := "(II)I" } : Jvm.MethodName)) ∈ lw_all := lw_g (lw_at lw_m8 165 rfl) rfl
theorem q1937 : (Jvm.Cond.code ({ cls := "ThreeSnowballsModel", name := "seen", desc := "(II)I" } : Jvm.MethodName) prog_31_method_67_code (10 : Nat) (Option.some Jvm.ClassFile.FieldType.int)) ∈ lw_all := lw_g (lw_at lw_m8 166 rfl) rfl
theorem q1939 : (Jvm.Cond.instanceMethod ({ cls := "ThreeSnowballsModel", name := "drawn", desc := "(III)I" } : Jvm.MethodName)) ∈ lw_all := lw_g (lw_at lw_m8 168 rfl) rfl
theorem q1940 : (Jvm.Cond.selects "ThreeSnowballsModel" ({ cls := "ThreeSnowballsModel", name := "drawn", desc := "(III)I" } : Jvm.MethodName) ({ cls := "ThreeSnowballsModel", name := "drawn", desc := "(III)I" } : Jvm.MethodName)) ∈ lw_all := lw_g (lw_at lw_m8 169 rfl) rfl
theorem q1941 : (Jvm.Cond.code ({ cls := "ThreeSnowballsModel", name := "drawn", desc := "(III)I" } : Jvm.MethodName) prog_31_method_68_code (11 : Nat) (Option.some Jvm.ClassFile.FieldType.int)) ∈ lw_all := lw_g (lw_at lw_m8 170 rfl) rfl
theorem q1942 : (Jvm.Cond.constantLong "ThreeSnowballsModel" (306 : Nat) (30 : Int64)) ∈ lw_all := lw_g (lw_at lw_m8 171 rfl) rfl
theorem q1943 : (Jvm.Cond.constant "ThreeSnowballsModel" (308 : Nat) (1103515245 : Int32)) ∈ lw_all := lw_g (lw_at lw_m8 172 rfl) rfl
theorem q1945 : (Jvm.Cond.instanceMethod ({ cls := "ThreeSnowballsModel", name := "step", desc := "(I)I" } : Jvm.MethodName)) ∈ lw_all := lw_g (lw_at lw_m8 174 rfl) rfl
theorem q1946 : (Jvm.Cond.selects "ThreeSnowballsModel" ({ cls := "ThreeSnowballsModel", name := "step", desc := "(I)I" } : Jvm.MethodName) ({ cls := "ThreeSnowballsModel", name := "step", desc := "(I)I" } : Jvm.MethodName)) ∈ lw_all := lw_g (lw_at lw_m8 175 rfl) rfl
theorem q1947 : (Jvm.Cond.code ({ cls := "ThreeSnowballsModel", name := "step", desc := "(I)I" } : Jvm.MethodName) prog_31_method_70_code (5 : Nat) (Option.some Jvm.ClassFile.FieldType.int)) ∈ lw_all := lw_g (lw_at lw_m8 176 rfl) rfl
theorem q1948 : (Jvm.Cond.constantLong "ThreeSnowballsModel" (319 : Nat) (11 : Int64)) ∈ lw_all := lw_g (lw_at lw_m8 177 rfl) rfl
theorem q1950 : (Jvm.Cond.instanceMethod ({ cls := "ThreeSnowballsModel", name := "anew", desc := "()I" } : Jvm.MethodName)) ∈ lw_all := lw_g (lw_at lw_m8 179 rfl) rfl
theorem q1951 : (Jvm.Cond.selects "ThreeSnowballsModel" ({ cls := "ThreeSnowballsModel", name := "anew", desc := "()I" } : Jvm.MethodName) ({ cls := "ThreeSnowballsModel", name := "anew", desc := "()I" } : Jvm.MethodName)) ∈ lw_all := lw_g (lw_at lw_m8 180 rfl) rfl
theorem q1952 : (Jvm.Cond.code ({ cls := "ThreeSnowballsModel", name := "anew", desc := "()I" } : Jvm.MethodName) prog_31_method_71_code (2 : Nat) (Option.some Jvm.ClassFile.FieldType.int)) ∈ lw_all := lw_g (lw_at lw_m8 181 rfl) rfl
theorem q1954 : (Jvm.Cond.instanceMethod ({ cls := "ThreeSnowballsModel", name := "image", desc := "()I" } : Jvm.MethodName)) ∈ lw_all := lw_g (lw_at lw_m8 183 rfl) rfl
theorem q1955 : (Jvm.Cond.selects "ThreeSnowballsModel" ({ cls := "ThreeSnowballsModel", name := "image", desc := "()I" } : Jvm.MethodName) ({ cls := "ThreeSnowballsModel", name := "image", desc := "()I" } : Jvm.MethodName)) ∈ lw_all := lw_g (lw_at lw_m8 184 rfl) rfl
theorem q1956 : (Jvm.Cond.code ({ cls := "ThreeSnowballsModel", name := "image", desc := "()I" } : Jvm.MethodName) prog_31_method_72_code (1 : Nat) (Option.some Jvm.ClassFile.FieldType.int)) ∈ lw_all := lw_g (lw_at lw_m8 185 rfl) rfl
theorem q1958 : (Jvm.Cond.instanceMethod ({ cls := "ThreeSnowballsModel", name := "back", desc := "()I" } : Jvm.MethodName)) ∈ lw_all := lw_g (lw_at lw_m8 187 rfl) rfl
theorem q1959 : (Jvm.Cond.selects "ThreeSnowballsModel" ({ cls := "ThreeSnowballsModel", name := "back", desc := "()I" } : Jvm.MethodName) ({ cls := "ThreeSnowballsModel", name := "back", desc := "()I" } : Jvm.MethodName)) ∈ lw_all := lw_g (lw_at lw_m8 188 rfl) rfl
theorem q1960 : (Jvm.Cond.code ({ cls := "ThreeSnowballsModel", name := "back", desc := "()I" } : Jvm.MethodName) prog_31_method_73_code (1 : Nat) (Option.some Jvm.ClassFile.FieldType.int)) ∈ lw_all := lw_g (lw_at lw_m8 189 rfl) rfl
theorem q1962 : (Jvm.Cond.instanceMethod ({ cls := "ThreeSnowballsModel", name := "body", desc := "(I)I" } : Jvm.MethodName)) ∈ lw_all := lw_g (lw_at lw_m8 191 rfl) rfl
theorem q1963 : (Jvm.Cond.selects "ThreeSnowballsModel" ({ cls := "ThreeSnowballsModel", name := "body", desc := "(I)I" } : Jvm.MethodName) ({ cls := "ThreeSnowballsModel", name := "body", desc := "(I)I" } : Jvm.MethodName)) ∈ lw_all := lw_g (lw_at lw_m8 192 rfl) rfl
theorem q1964 : (Jvm.Cond.code ({ cls := "ThreeSnowballsModel", name := "body", desc := "(I)I" } : Jvm.MethodName) prog_31_method_76_code (2 : Nat) (Option.some Jvm.ClassFile.FieldType.int)) ∈ lw_all := lw_g (lw_at lw_m8 193 rfl) rfl
theorem q1965 : (Jvm.Cond.constantLong "ThreeSnowballsModel" (333 : Nat) (7 : Int64)) ∈ lw_all := lw_g (lw_at lw_m8 194 rfl) rfl
theorem q1967 : (Jvm.Cond.instanceMethod ({ cls := "ThreeSnowballsModel", name := "act", desc := "(III)I" } : Jvm.MethodName)) ∈ lw_all := lw_g (lw_at lw_m8 196 rfl) rfl
theorem q1968 : (Jvm.Cond.selects "ThreeSnowballsModel" ({ cls := "ThreeSnowballsModel", name := "act", desc := "(III)I" } : Jvm.MethodName) ({ cls := "ThreeSnowballsModel", name := "act", desc := "(III)I" } : Jvm.MethodName)) ∈ lw_all := lw_g (lw_at lw_m8 197 rfl) rfl
theorem q1969 : (Jvm.Cond.code ({ cls := "ThreeSnowballsModel", name := "act", desc := "(III)I" } : Jvm.MethodName) prog_31_method_83_code (4 : Nat) (Option.some Jvm.ClassFile.FieldType.int)) ∈ lw_all := lw_g (lw_at lw_m8 198 rfl) rfl
theorem q1970 : (Jvm.Cond.methodLink "ThreeSnowballsModel" (359 : Nat) ({ cls := "ThreeSnowballsModel", name := "isBody", desc := "(I)Z" } : Jvm.MethodName)) ∈ lw_all := lw_g (lw_at lw_m8 199 rfl) rfl
theorem q1971 : (Jvm.Cond.privateMethod ({ cls := "ThreeSnowballsModel", name := "isBody", desc := "(I)Z" } : Jvm.MethodName)) ∈ lw_tbl := lw_at lw_m8 200 rfl
theorem q1972 : (Jvm.Cond.instanceMethod ({ cls := "ThreeSnowballsModel", name := "isBody", desc := "(I)Z" } : Jvm.MethodName)) ∈ lw_all := lw_g (lw_at lw_m8 201 rfl) rfl
theorem q1973 : (Jvm.Cond.code ({ cls := "ThreeSnowballsModel", name := "isBody", desc := "(I)Z" } : Jvm.MethodName) prog_31_method_74_code (2 : Nat) (Option.some Jvm.ClassFile.FieldType.boolean)) ∈ lw_all := lw_g (lw_at lw_m8 202 rfl) rfl
theorem q1974 : (Jvm.Cond.methodLink "ThreeSnowballsModel" (341 : Nat) ({ cls := "ThreeSnowballsModel", name := "aimsAs", desc := "(II)I" } : Jvm.MethodName)) ∈ lw_all := lw_g (lw_at lw_m8 203 rfl) rfl
theorem q1975 : (Jvm.Cond.privateMethod ({ cls := "ThreeSnowballsModel", name := "aimsAs", desc := "(II)I" } : Jvm.MethodName)) ∈ lw_tbl := lw_at lw_m8 204 rfl
theorem q1976 : (Jvm.Cond.instanceMethod ({ cls := "ThreeSnowballsModel", name := "aimsAs", desc := "(II)I" } : Jvm.MethodName)) ∈ lw_all := lw_g (lw_at lw_m8 205 rfl) rfl
theorem q1977 : (Jvm.Cond.code ({ cls := "ThreeSnowballsModel", name := "aimsAs", desc := "(II)I" } : Jvm.MethodName) prog_31_method_79_code (3 : Nat) (Option.some Jvm.ClassFile.FieldType.int)) ∈ lw_all := lw_g (lw_at lw_m8 206 rfl) rfl
theorem q1978 : (Jvm.Cond.methodLink "ThreeSnowballsModel" (338 : Nat) ({ cls := "ThreeSnowballsModel", name := "begins", desc := "(I)V" } : Jvm.MethodName)) ∈ lw_all := lw_g (lw_at lw_m8 207 rfl) rfl
theorem q1979 : (Jvm.Cond.privateMethod ({ cls := "ThreeSnowballsModel", name := "begins", desc := "(I)V" } : Jvm.MethodName)) ∈ lw_tbl := lw_at lw_m8 208 rfl
theorem q1980 : (Jvm.Cond.instanceMethod ({ cls := "ThreeSnowballsModel", name := "begins", desc := "(I)V" } : Jvm.MethodName)) ∈ lw_all := lw_g (lw_at lw_m8 209 rfl) rfl
theorem q1981 : (Jvm.Cond.code ({ cls := "ThreeSnowballsModel", name := "begins", desc := "(I)V" } : Jvm.MethodName) prog_31_method_78_code (2 : Nat) (Option.none : Option Jvm.ClassFile.FieldType)) ∈ lw_all := lw_g (lw_at lw_m8 210 rfl) rfl
theorem q1982 : (Jvm.Cond.methodLink "ThreeSnowballsModel" (347 : Nat) ({ cls := "ThreeSnowballsModel", name := "throwsAs", desc := "(II)I" } : Jvm.MethodName)) ∈ lw_all := lw_g (lw_at lw_m8 211 rfl) rfl
theorem q1983 : (Jvm.Cond.privateMethod ({ cls := "ThreeSnowballsModel", name := "throwsAs", desc := "(II)I" } : Jvm.MethodName)) ∈ lw_tbl := lw_at lw_m8 212 rfl
theorem q1984 : (Jvm.Cond.instanceMethod ({ cls := "ThreeSnowballsModel", name := "throwsAs", desc := "(II)I" } : Jvm.MethodName)) ∈ lw_all := lw_g (lw_at lw_m8 213 rfl) rfl
theorem q1985 : (Jvm.Cond.code ({ cls := "ThreeSnowballsModel", name := "throwsAs", desc := "(II)I" } : Jvm.MethodName) prog_31_method_80_code (4 : Nat) (Option.some Jvm.ClassFile.FieldType.int)) ∈ lw_all := lw_g (lw_at lw_m8 214 rfl) rfl
theorem q1986 : (Jvm.Cond.methodLink "ThreeSnowballsModel" (353 : Nat) ({ cls := "ThreeSnowballsModel", name := "hitsAs", desc := "(II)I" } : Jvm.MethodName)) ∈ lw_all := lw_g (lw_at lw_m8 215 rfl) rfl
theorem q1987 : (Jvm.Cond.privateMethod ({ cls := "ThreeSnowballsModel", name := "hitsAs", desc := "(II)I" } : Jvm.MethodName)) ∈ lw_tbl := lw_at lw_m8 216 rfl
theorem q1988 : (Jvm.Cond.instanceMethod ({ cls := "ThreeSnowballsModel", name := "hitsAs", desc := "(II)I" } : Jvm.MethodName)) ∈ lw_all := lw_g (lw_at lw_m8 217 rfl) rfl
theorem q1989 : (Jvm.Cond.code ({ cls := "ThreeSnowballsModel", name := "hitsAs", desc := "(II)I" } : Jvm.MethodName) prog_31_method_81_code (4 : Nat) (Option.some Jvm.ClassFile.FieldType.int)) ∈ lw_all := lw_g (lw_at lw_m8 218 rfl) rfl
theorem q1990 : (Jvm.Cond.methodLink "ThreeSnowballsModel" (356 : Nat) ({ cls := "ThreeSnowballsModel", name := "tellsAs", desc := "(II)I" } : Jvm.MethodName)) ∈ lw_all := lw_g (lw_at lw_m8 219 rfl) rfl
theorem q1991 : (Jvm.Cond.privateMethod ({ cls := "ThreeSnowballsModel", name := "tellsAs", desc := "(II)I" } : Jvm.MethodName)) ∈ lw_tbl := lw_at lw_m8 220 rfl
theorem q1992 : (Jvm.Cond.instanceMethod ({ cls := "ThreeSnowballsModel", name := "tellsAs", desc := "(II)I" } : Jvm.MethodName)) ∈ lw_all := lw_g (lw_at lw_m8 221 rfl) rfl
theorem q1993 : (Jvm.Cond.code ({ cls := "ThreeSnowballsModel", name := "tellsAs", desc := "(II)I" } : Jvm.MethodName) prog_31_method_82_code (4 : Nat) (Option.some Jvm.ClassFile.FieldType.int)) ∈ lw_all := lw_g (lw_at lw_m8 222 rfl) rfl
theorem q1995 : (Jvm.Cond.instanceMethod ({ cls := "ThreeSnowballsModel", name := "trace", desc := "(I)I" } : Jvm.MethodName)) ∈ lw_all := lw_g (lw_at lw_m8 224 rfl) rfl
theorem q1996 : (Jvm.Cond.selects "ThreeSnowballsModel" ({ cls := "ThreeSnowballsModel", name := "trace", desc := "(I)I" } : Jvm.MethodName) ({ cls := "ThreeSnowballsModel", name := "trace", desc := "(I)I" } : Jvm.MethodName)) ∈ lw_all := lw_g (lw_at lw_m8 225 rfl) rfl
theorem q1997 : (Jvm.Cond.code ({ cls := "ThreeSnowballsModel", name := "trace", desc := "(I)I" } : Jvm.MethodName) prog_31_method_84_code (2 : Nat) (Option.some Jvm.ClassFile.FieldType.int)) ∈ lw_all := lw_g (lw_at lw_m8 226 rfl) rfl
theorem q1999 : (Jvm.Cond.instanceMethod ({ cls := "ThreeSnowballsModel", name := "keep", desc := "(II)I" } : Jvm.MethodName)) ∈ lw_all := lw_g (lw_at lw_m8 228 rfl) rfl
theorem q2000 : (Jvm.Cond.selects "ThreeSnowballsModel" ({ cls := "ThreeSnowballsModel", name := "keep", desc := "(II)I" } : Jvm.MethodName) ({ cls := "ThreeSnowballsModel", name := "keep", desc := "(II)I" } : Jvm.MethodName)) ∈ lw_all := lw_g (lw_at lw_m8 229 rfl) rfl
theorem q2001 : (Jvm.Cond.code ({ cls := "ThreeSnowballsModel", name := "keep", desc := "(II)I" } : Jvm.MethodName) prog_31_method_86_code (3 : Nat) (Option.some Jvm.ClassFile.FieldType.int)) ∈ lw_all := lw_g (lw_at lw_m8 230 rfl) rfl
theorem q2003 : (Jvm.Cond.instanceMethod ({ cls := "ThreeSnowballsModel", name := "row", desc := "(III)I" } : Jvm.MethodName)) ∈ lw_all := lw_g (lw_at lw_m8 232 rfl) rfl
theorem q2004 : (Jvm.Cond.selects "ThreeSnowballsModel" ({ cls := "ThreeSnowballsModel", name := "row", desc := "(III)I" } : Jvm.MethodName) ({ cls := "ThreeSnowballsModel", name := "row", desc := "(III)I" } : Jvm.MethodName)) ∈ lw_all := lw_g (lw_at lw_m8 233 rfl) rfl
theorem q2005 : (Jvm.Cond.code ({ cls := "ThreeSnowballsModel", name := "row", desc := "(III)I" } : Jvm.MethodName) prog_31_method_87_code (5 : Nat) (Option.some Jvm.ClassFile.FieldType.int)) ∈ lw_all := lw_g (lw_at lw_m8 234 rfl) rfl
theorem q2007 : (Jvm.Cond.instanceMethod ({ cls := "ThreeSnowballsModel", name := "put", desc := "(IIJ)I" } : Jvm.MethodName)) ∈ lw_all := lw_g (lw_at lw_m8 236 rfl) rfl
theorem q2008 : (Jvm.Cond.selects "ThreeSnowballsModel" ({ cls := "ThreeSnowballsModel", name := "put", desc := "(IIJ)I" } : Jvm.MethodName) ({ cls := "ThreeSnowballsModel", name := "put", desc := "(IIJ)I" } : Jvm.MethodName)) ∈ lw_all := lw_g (lw_at lw_m8 237 rfl) rfl
theorem q2009 : (Jvm.Cond.code ({ cls := "ThreeSnowballsModel", name := "put", desc := "(IIJ)I" } : Jvm.MethodName) prog_31_method_90_code (6 : Nat) (Option.some Jvm.ClassFile.FieldType.int)) ∈ lw_all := lw_g (lw_at lw_m8 238 rfl) rfl
theorem q2010 : (Jvm.Cond.methodLink "ThreeSnowballsModel" (362 : Nat) ({ cls := "ThreeSnowballsModel", name := "refusal", desc := "(II)I" } : Jvm.MethodName)) ∈ lw_all := lw_g (lw_at lw_m8 239 rfl) rfl
theorem q2011 : (Jvm.Cond.privateMethod ({ cls := "ThreeSnowballsModel", name := "refusal", desc := "(II)I" } : Jvm.MethodName)) ∈ lw_tbl := lw_at lw_m9 0 rfl
theorem q2012 : (Jvm.Cond.instanceMethod ({ cls := "ThreeSnowballsModel", name := "refusal", desc := "(II)I" } : Jvm.MethodName)) ∈ lw_all := lw_g (lw_at lw_m9 1 rfl) rfl
theorem q2013 : (Jvm.Cond.code ({ cls := "ThreeSnowballsModel", name := "refusal", desc := "(II)I" } : Jvm.MethodName) prog_31_method_88_code (3 : Nat) (Option.some Jvm.ClassFile.FieldType.int)) ∈ lw_all := lw_g (lw_at lw_m9 2 rfl) rfl
theorem q2014 : (Jvm.Cond.methodLink "ThreeSnowballsModel" (365 : Nat) ({ cls := "ThreeSnowballsModel", name := "asSort", desc := "(IJ)J" } : Jvm.MethodName)) ∈ lw_all := lw_g (lw_at lw_m9 3 rfl) rfl
theorem q2015 : (Jvm.Cond.static ({ cls := "ThreeSnowballsModel", name := "asSort", desc := "(IJ)J" } : Jvm.MethodName)) ∈ lw_all := lw_g (lw_at lw_m9 4 rfl) rfl
theorem q2016 : (Jvm.Cond.code ({ cls := "ThreeSnowballsModel", name := "asSort", desc := "(IJ)J" } : Jvm.MethodName) prog_31_method_89_code (3 : Nat) (Option.some Jvm.ClassFile.FieldType.long)) ∈ lw_all := lw_g (lw_at lw_m9 5 rfl) rfl
theorem q2018 : (Jvm.Cond.instanceMethod ({ cls := "ThreeSnowballsModel", name := "element", desc := "(II)J" } : Jvm.MethodName)) ∈ lw_all := lw_g (lw_at lw_m9 7 rfl) rfl
theorem q2019 : (Jvm.Cond.selects "ThreeSnowballsModel" ({ cls := "ThreeSnowballsModel", name := "element", desc := "(II)J" } : Jvm.MethodName) ({ cls := "ThreeSnowballsModel", name := "element", desc := "(II)J" } : Jvm.MethodName)) ∈ lw_all := lw_g (lw_at lw_m9 8 rfl) rfl
theorem q2020 : (Jvm.Cond.code ({ cls := "ThreeSnowballsModel", name := "element", desc := "(II)J" } : Jvm.MethodName) prog_31_method_91_code (3 : Nat) (Option.some Jvm.ClassFile.FieldType.long)) ∈ lw_all := lw_g (lw_at lw_m9 9 rfl) rfl
theorem q2022 : (Jvm.Cond.instanceMethod ({ cls := "ThreeSnowballsModel", name := "shift", desc := "(IIIII)I" } : Jvm.MethodName)) ∈ lw_all := lw_g (lw_at lw_m9 11 rfl) rfl
theorem q2023 : (Jvm.Cond.selects "ThreeSnowballsModel" ({ cls := "ThreeSnowballsModel", name := "shift", desc := "(IIIII)I" } : Jvm.MethodName) ({ cls := "ThreeSnowballsModel", name := "shift", desc := "(IIIII)I" } : Jvm.MethodName)) ∈ lw_all := lw_g (lw_at lw_m9 12 rfl) rfl
theorem q2024 : (Jvm.Cond.code ({ cls := "ThreeSnowballsModel", name := "shift", desc := "(IIIII)I" } : Jvm.MethodName) prog_31_method_92_code (7 : Nat) (Option.some Jvm.ClassFile.FieldType.int)) ∈ lw_all := lw_g (lw_at lw_m9 13 rfl) rfl
theorem q2026 : (Jvm.Cond.instanceMethod ({ cls := "ThreeSnowballsModel", name := "taken", desc := "(II)I" } : Jvm.MethodName)) ∈ lw_all := lw_g (lw_at lw_m9 15 rfl) rfl
theorem q2027 : (Jvm.Cond.selects "ThreeSnowballsModel" ({ cls := "ThreeSnowballsModel", name := "taken", desc := "(II)I" } : Jvm.MethodName) ({ cls := "ThreeSnowballsModel", name := "taken", desc := "(II)I" } : Jvm.MethodName)) ∈ lw_all := lw_g (lw_at lw_m9 16 rfl) rfl
theorem q2028 : (Jvm.Cond.code ({ cls := "ThreeSnowballsModel", name := "taken", desc := "(II)I" } : Jvm.MethodName) prog_31_method_93_code (4 : Nat) (Option.some Jvm.ClassFile.FieldType.int)) ∈ lw_all := lw_g (lw_at lw_m9 17 rfl) rfl
theorem q2029 : (Jvm.Cond.methodLink "ThreeSnowballsModel" (369 : Nat) ({ cls := "ThreeSnowballsModel", name := "kindOf", desc := "(I)I" } : Jvm.MethodName)) ∈ lw_all := lw_g (lw_at lw_m9 18 rfl) rfl
theorem q2030 : (Jvm.Cond.privateMethod ({ cls := "ThreeSnowballsModel", name := "kindOf", desc := "(I)I" } : Jvm.MethodName)) ∈ lw_tbl := lw_at lw_m9 19 rfl
theorem q2031 : (Jvm.Cond.instanceMethod ({ cls := "ThreeSnowballsModel", name := "kindOf", desc := "(I)I" } : Jvm.MethodName)) ∈ lw_all := lw_g (lw_at lw_m9 20 rfl) rfl
theorem q2032 : (Jvm.Cond.code ({ cls := "ThreeSnowballsModel", name := "kindOf", desc := "(I)I" } : Jvm.MethodName) prog_31_method_75_code (2 : Nat) (Option.some Jvm.ClassFile.FieldType.int)) ∈ lw_all := lw_g (lw_at lw_m9 21 rfl) rfl
theorem q2033 : (Jvm.Cond.methodLink "ThreeSnowballsModel" (372 : Nat) ({ cls := "ThreeSnowballsModel", name := "above", desc := "(I)I" } : Jvm.MethodName)) ∈ lw_all := lw_g (lw_at lw_m9 22 rfl) rfl
theorem q2034 : (Jvm.Cond.static ({ cls := "ThreeSnowballsModel", name := "above", desc := "(I)I" } : Jvm.MethodName)) ∈ lw_all := lw_g (lw_at lw_m9 23 rfl) rfl
theorem q2035 : (Jvm.Cond.code ({ cls := "ThreeSnowballsModel", name := "above", desc := "(I)I" } : Jvm.MethodName) prog_31_method_77_code (1 : Nat) (Option.some Jvm.ClassFile.FieldType.int)) ∈ lw_all := lw_g (lw_at lw_m9 24 rfl) rfl
theorem q2037 : (Jvm.Cond.instanceMethod ({ cls := "ThreeSnowballsModel", name := "count", desc := "(I)I" } : Jvm.MethodName)) ∈ lw_all := lw_g (lw_at lw_m9 26 rfl) rfl
theorem q2038 : (Jvm.Cond.selects "ThreeSnowballsModel" ({ cls := "ThreeSnowballsModel", name := "count", desc := "(I)I" } : Jvm.MethodName) ({ cls := "ThreeSnowballsModel", name := "count", desc := "(I)I" } : Jvm.MethodName)) ∈ lw_all := lw_g (lw_at lw_m9 27 rfl) rfl
theorem q2039 : (Jvm.Cond.code ({ cls := "ThreeSnowballsModel", name := "count", desc := "(I)I" } : Jvm.MethodName) prog_31_method_94_code (2 : Nat) (Option.some Jvm.ClassFile.FieldType.int)) ∈ lw_all := lw_g (lw_at lw_m9 28 rfl) rfl
theorem in_X2 : ∀ w ∈ wsX20, w ∈ lw_all := lw_in wsX20 [1563, 1565, 1567, 1569, 1571, 1573, 1575, 1577, 1579, 1581, 1583, 1585, 1587, 1589, 1591, 1593, 1595, 1597, 1599, 1601, 1603, 1605, 1607, 1609, 1611, 1613, 1615, 1617, 1619, 1621, 1623, 1625, 1627, 1629, 1631, 1633, 1635, 1637, 1639, 1641, 1643, 1645, 1647, 1649, 1651, 1653, 1655, 1657, 1659, 1661] (by decide +kernel) (by decide +kernel)
