/-! LadderLotsModel -/
set_option maxRecDepth 100000
def RX6 : String := "LadderLotsModel"
def TX6 : u_T := fun k => match k with
  | 0 => ("LadderLotsModel", "ladders", "I", false)
  | 1 => ("LadderLotsModel", "legs", "[I", true)
  | 2 => ("LadderLotsModel", "size", "[I", true)
  | 3 => ("LadderLotsModel", "kind", "[I", true)
  | 4 => ("LadderLotsModel", "leg", "[I", true)
  | 5 => ("LadderLotsModel", "byA", "[I", true)
  | 6 => ("LadderLotsModel", "byB", "[I", true)
  | 7 => ("LadderLotsModel", "logs", "I", false)
  | 8 => ("LadderLotsModel", "logLadder", "[I", true)
  | 9 => ("LadderLotsModel", "logNumber", "[I", true)
  | 10 => ("LadderLotsModel", "logLeg", "[I", true)
  | 11 => ("LadderLotsModel", "voids", "[I", true)
  | 12 => ("LadderLotsModel", "taped", "I", false)
  | 13 => ("LadderLotsModel", "tape", "[I", true)
  | 14 => ("LadderLotsModel", "tokens", "I", false)
  | 15 => ("LadderLotsModel", "tokenSort", "[I", true)
  | 16 => ("LadderLotsModel", "tokenFrom", "[I", true)
  | 17 => ("LadderLotsModel", "tokenWhat", "[I", true)
  | 18 => ("LadderLotsModel", "tokenName", "[J", true)
  | 19 => ("LadderLotsModel", "head", "I", false)
  | 20 => ("LadderLotsModel", "fault", "I", false)
  | 21 => ("LadderLotsModel", "faultPlace", "I", false)
  | 22 => ("LadderLotsModel", "parts", "I", false)
  | 23 => ("LadderLotsModel", "partName", "[J", true)
  | 24 => ("LadderLotsModel", "partDone", "[Z", true)
  | 25 => ("LadderLotsModel", "partToken", "[I", true)
  | 26 => ("LadderLotsModel", "toldSize", "[I", true)
  | 27 => ("LadderLotsModel", "toldKind", "[I", true)
  | 28 => ("LadderLotsModel", "toldLeg", "[I", true)
  | 29 => ("LadderLotsModel", "toldA", "[I", true)
  | 30 => ("LadderLotsModel", "toldB", "[I", true)
  | 31 => ("LadderLotsModel", "open", "I", false)
  | 32 => ("LadderLotsModel", "openTimes", "[I", true)
  | 33 => ("LadderLotsModel", "openSize", "[I", true)
  | 34 => ("LadderLotsModel", "into", "I", false)
  | 35 => ("LadderLotsModel", "toldLegs", "I", false)
  | 36 => ("LadderLotsModel", "layers", "[I", true)
  | 37 => ("LadderLotsModel", "legLayer", "[I", true)
  | 38 => ("LadderLotsModel", "laid", "I", false)
  | 39 => ("LadderLotsModel", "orders", "I", false)
  | 40 => ("LadderLotsModel", "rows", "[I", true)
  | 41 => ("LadderLotsModel", "swapped", "[I", true)
  | 42 => ("LadderLotsModel", "renamed", "[I", true)
  | 43 => ("LadderLotsModel", "turnedPairs", "[I", true)
  | 44 => ("LadderLotsModel", "least", "[J", true)
  | 45 => ("LadderLotsModel", "hand", "[I", true)
  | 46 => ("LadderLotsModel", "word", "[I", true)
  | 47 => ("LadderLotsModel", "stays", "[I", true)
  | 48 => ("LadderLotsModel", "stayed", "I", false)
  | 49 => ("LadderLotsModel", "changedAt", "[I", true)
  | 50 => ("LadderLotsModel", "leads", "[I", true)
  | 51 => ("LadderLotsModel", "isTurn", "[Z", true)
  | 52 => ("LadderLotsModel", "far", "[I", true)
  | 53 => ("LadderLotsModel", "ways", "[J", true)
  | 54 => ("LadderLotsModel", "then", "[J", true)
  | 55 => ("LadderLotsModel", "need", "[I", true)
  | 56 => ("LadderLotsModel", "cost", "[I", true)
  | 57 => ("LadderLotsModel", "costThen", "[I", true)
  | 58 => ("LadderLotsModel", "gates", "[I", true)
  | _ => ("LadderLotsModel", "sets", "[I", true)
def tyX6 : Nat → FieldType := fun k => match k with
  | 0 => .int
  | 1 => .array .int
  | 2 => .array .int
  | 3 => .array .int
  | 4 => .array .int
  | 5 => .array .int
  | 6 => .array .int
  | 7 => .int
  | 8 => .array .int
  | 9 => .array .int
  | 10 => .array .int
  | 11 => .array .int
  | 12 => .int
  | 13 => .array .int
  | 14 => .int
  | 15 => .array .int
  | 16 => .array .int
  | 17 => .array .int
  | 18 => .array .long
  | 19 => .int
  | 20 => .int
  | 21 => .int
  | 22 => .int
  | 23 => .array .long
  | 24 => .array .boolean
  | 25 => .array .int
  | 26 => .array .int
  | 27 => .array .int
  | 28 => .array .int
  | 29 => .array .int
  | 30 => .array .int
  | 31 => .int
  | 32 => .array .int
  | 33 => .array .int
  | 34 => .int
  | 35 => .int
  | 36 => .array .int
  | 37 => .array .int
  | 38 => .int
  | 39 => .int
  | 40 => .array .int
  | 41 => .array .int
  | 42 => .array .int
  | 43 => .array .int
  | 44 => .array .long
  | 45 => .array .int
  | 46 => .array .int
  | 47 => .array .int
  | 48 => .int
  | 49 => .array .int
  | 50 => .array .int
  | 51 => .array .boolean
  | 52 => .array .int
  | 53 => .array .long
  | 54 => .array .long
  | 55 => .array .int
  | 56 => .array .int
  | 57 => .array .int
  | 58 => .array .int
  | _ => .array .int
abbrev wsX60 : List Cond := u_ws RX6 TX6 60
set_option maxRecDepth 100000 in
theorem nmX6 : ∀ a, a < 60 → ∀ b, b < 60 → a ≠ b → (TX6 a).2.1 ≠ (TX6 b).2.1 := by decide +kernel
set_option maxRecDepth 100000 in
theorem tyX6_ok : ∀ k, k < 60 → parseFieldDescriptor (TX6 k).2.2.1 = some (tyX6 k) := by decide +kernel
abbrev cX6_init : ByteArray := prog_14_method_1_code
def yX6_init : MethodName := ⟨RX6, "<init>", "()V"⟩
def dkwX6_init_17 : List UInt8 := [188, 10, 181, 0, 152, 177]
abbrev dktX6_init_17 : List UInt8 := dkwX6_init_17 ++ []
def dkwX6_init_16 : List UInt8 := [188, 10, 181, 0, 143, 42, 16, 120, 188, 10, 181, 0, 146, 42, 16, 11, 188, 10, 181, 0, 149, 42, 16, 12]
abbrev dktX6_init_16 : List UInt8 := dkwX6_init_16 ++ dktX6_init_17
def dkwX6_init_15 : List UInt8 := [181, 0, 134, 42, 17, 19, 176, 188, 11, 181, 0, 137, 42, 17, 5, 127, 188, 10, 181, 0, 140, 42, 16, 120]
abbrev dktX6_init_15 : List UInt8 := dkwX6_init_15 ++ dktX6_init_16
def dkwX6_init_14 : List UInt8 := [17, 65, 160, 188, 4, 181, 0, 128, 42, 17, 3, 32, 188, 10, 181, 0, 131, 42, 17, 19, 176, 188, 11]
abbrev dktX6_init_14 : List UInt8 := dkwX6_init_14 ++ dktX6_init_15
def dkwX6_init_13 : List UInt8 := [188, 10, 181, 0, 119, 42, 16, 49, 188, 10, 181, 0, 122, 42, 17, 65, 160, 188, 10, 181, 0, 125, 42]
abbrev dktX6_init_13 : List UInt8 := dkwX6_init_13 ++ dktX6_init_14
def dkwX6_init_12 : List UInt8 := [181, 0, 110, 42, 16, 7, 188, 10, 181, 0, 113, 42, 16, 21, 188, 10, 181, 0, 116, 42, 17, 0, 200]
abbrev dktX6_init_12 : List UInt8 := dkwX6_init_12 ++ dktX6_init_13
def dkwX6_init_11 : List UInt8 := [17, 118, 32, 188, 10, 181, 0, 104, 42, 17, 19, 176, 188, 10, 181, 0, 107, 42, 17, 19, 176, 188, 11]
abbrev dktX6_init_11 : List UInt8 := dkwX6_init_11 ++ dktX6_init_12
def dkwX6_init_10 : List UInt8 := [188, 10, 181, 0, 94, 42, 18, 97, 188, 10, 181, 0, 98, 42, 17, 118, 32, 188, 10, 181, 0, 101, 42]
abbrev dktX6_init_10 : List UInt8 := dkwX6_init_10 ++ dktX6_init_11
def dkwX6_init_9 : List UInt8 := [188, 10, 181, 0, 85, 42, 8, 188, 10, 181, 0, 88, 42, 17, 0, 200, 188, 10, 181, 0, 91, 42, 16, 7]
abbrev dktX6_init_9 : List UInt8 := dkwX6_init_9 ++ dktX6_init_10
def dkwX6_init_8 : List UInt8 := [181, 0, 76, 42, 17, 7, 17, 188, 10, 181, 0, 79, 42, 17, 7, 17, 188, 10, 181, 0, 82, 42, 8]
abbrev dktX6_init_8 : List UInt8 := dkwX6_init_8 ++ dktX6_init_9
def dkwX6_init_7 : List UInt8 := [16, 9, 188, 10, 181, 0, 70, 42, 17, 7, 17, 188, 10, 181, 0, 73, 42, 17, 7, 17, 188, 10]
abbrev dktX6_init_7 : List UInt8 := dkwX6_init_7 ++ dktX6_init_8
def dkwX6_init_6 : List UInt8 := [16, 8, 188, 11, 181, 0, 60, 42, 16, 8, 188, 4, 181, 0, 63, 42, 16, 8, 188, 10, 181, 0, 67, 42]
abbrev dktX6_init_6 : List UInt8 := dkwX6_init_6 ++ dktX6_init_7
def dkwX6_init_5 : List UInt8 := [17, 7, 209, 188, 10, 181, 0, 49, 42, 17, 7, 209, 188, 11, 181, 0, 52, 42, 2, 181, 0, 56, 42]
abbrev dktX6_init_5 : List UInt8 := dkwX6_init_5 ++ dktX6_init_6
def dkwX6_init_4 : List UInt8 := [181, 0, 40, 42, 17, 7, 209, 188, 10, 181, 0, 43, 42, 17, 7, 209, 188, 10, 181, 0, 46, 42]
abbrev dktX6_init_4 : List UInt8 := dkwX6_init_4 ++ dktX6_init_5
def dkwX6_init_3 : List UInt8 := [42, 16, 40, 188, 10, 181, 0, 34, 42, 16, 40, 188, 10, 181, 0, 37, 42, 17, 7, 208, 188, 10]
abbrev dktX6_init_3 : List UInt8 := dkwX6_init_3 ++ dktX6_init_4
def dkwX6_init_2 : List UInt8 := [17, 4, 176, 188, 10, 181, 0, 25, 42, 16, 40, 188, 10, 181, 0, 28, 42, 16, 40, 188, 10, 181, 0, 31]
abbrev dktX6_init_2 : List UInt8 := dkwX6_init_2 ++ dktX6_init_3
def dkwX6_init_1 : List UInt8 := [188, 10, 181, 0, 16, 42, 17, 4, 176, 188, 10, 181, 0, 19, 42, 17, 4, 176, 188, 10, 181, 0, 22, 42]
abbrev dktX6_init_1 : List UInt8 := dkwX6_init_1 ++ dktX6_init_2
def dkwX6_init_0 : List UInt8 := [42, 183, 0, 1, 42, 16, 6, 188, 10, 181, 0, 7, 42, 16, 6, 188, 10, 181, 0, 13, 42, 17, 4, 176]
abbrev dktX6_init_0 : List UInt8 := dkwX6_init_0 ++ dktX6_init_1
theorem dksX6_init_0 : cX6_init.data.toList.drop 0 = dktX6_init_0 := by decide +kernel
theorem dksX6_init_1 : cX6_init.data.toList.drop 24 = dktX6_init_1 := dk_seg dksX6_init_0 24 rfl rfl
theorem dksX6_init_2 : cX6_init.data.toList.drop 48 = dktX6_init_2 := dk_seg dksX6_init_1 24 rfl rfl
theorem dksX6_init_3 : cX6_init.data.toList.drop 72 = dktX6_init_3 := dk_seg dksX6_init_2 24 rfl rfl
theorem dksX6_init_4 : cX6_init.data.toList.drop 94 = dktX6_init_4 := dk_seg dksX6_init_3 22 rfl rfl
theorem dksX6_init_5 : cX6_init.data.toList.drop 116 = dktX6_init_5 := dk_seg dksX6_init_4 22 rfl rfl
theorem dksX6_init_6 : cX6_init.data.toList.drop 139 = dktX6_init_6 := dk_seg dksX6_init_5 23 rfl rfl
theorem dksX6_init_7 : cX6_init.data.toList.drop 163 = dktX6_init_7 := dk_seg dksX6_init_6 24 rfl rfl
theorem dksX6_init_8 : cX6_init.data.toList.drop 185 = dktX6_init_8 := dk_seg dksX6_init_7 22 rfl rfl
theorem dksX6_init_9 : cX6_init.data.toList.drop 208 = dktX6_init_9 := dk_seg dksX6_init_8 23 rfl rfl
theorem dksX6_init_10 : cX6_init.data.toList.drop 232 = dktX6_init_10 := dk_seg dksX6_init_9 24 rfl rfl
theorem dksX6_init_11 : cX6_init.data.toList.drop 255 = dktX6_init_11 := dk_seg dksX6_init_10 23 rfl rfl
theorem dksX6_init_12 : cX6_init.data.toList.drop 278 = dktX6_init_12 := dk_seg dksX6_init_11 23 rfl rfl
theorem dksX6_init_13 : cX6_init.data.toList.drop 301 = dktX6_init_13 := dk_seg dksX6_init_12 23 rfl rfl
theorem dksX6_init_14 : cX6_init.data.toList.drop 324 = dktX6_init_14 := dk_seg dksX6_init_13 23 rfl rfl
theorem dksX6_init_15 : cX6_init.data.toList.drop 347 = dktX6_init_15 := dk_seg dksX6_init_14 23 rfl rfl
theorem dksX6_init_16 : cX6_init.data.toList.drop 371 = dktX6_init_16 := dk_seg dksX6_init_15 24 rfl rfl
theorem dksX6_init_17 : cX6_init.data.toList.drop 395 = dktX6_init_17 := dk_seg dksX6_init_16 24 rfl rfl
theorem dX6_init_0 : decode cX6_init 0 = .ok (.aload_n 0, 1) := dk_42 (dk_at dksX6_init_0 0 rfl rfl)
theorem dX6_init_1 : decode cX6_init 1 = .ok (.invokespecial 1, 3) := dk_183 0 1 (dk_at dksX6_init_0 1 rfl rfl)
theorem dX6_init_4 : decode cX6_init 4 = .ok (.aload_n 0, 1) := dk_42 (dk_at dksX6_init_0 4 rfl rfl)
theorem dX6_init_5 : decode cX6_init 5 = .ok (.bipush 6, 2) := dk_16 6 (dk_at dksX6_init_0 5 rfl rfl)
theorem dX6_init_7 : decode cX6_init 7 = .ok (.newarray .int, 2) := dk_188_10 (dk_at dksX6_init_0 7 rfl rfl)
theorem dX6_init_9 : decode cX6_init 9 = .ok (.putfield 7, 3) := dk_181 0 7 (dk_at dksX6_init_0 9 rfl rfl)
theorem dX6_init_12 : decode cX6_init 12 = .ok (.aload_n 0, 1) := dk_42 (dk_at dksX6_init_0 12 rfl rfl)
theorem dX6_init_13 : decode cX6_init 13 = .ok (.bipush 6, 2) := dk_16 6 (dk_at dksX6_init_0 13 rfl rfl)
theorem dX6_init_15 : decode cX6_init 15 = .ok (.newarray .int, 2) := dk_188_10 (dk_at dksX6_init_0 15 rfl rfl)
theorem dX6_init_17 : decode cX6_init 17 = .ok (.putfield 13, 3) := dk_181 0 13 (dk_at dksX6_init_0 17 rfl rfl)
theorem dX6_init_20 : decode cX6_init 20 = .ok (.aload_n 0, 1) := dk_42 (dk_at dksX6_init_0 20 rfl rfl)
theorem dX6_init_21 : decode cX6_init 21 = .ok (.sipush 1200, 3) := dk_17 4 176 (dk_at dksX6_init_0 21 rfl rfl)
theorem dX6_init_24 : decode cX6_init 24 = .ok (.newarray .int, 2) := dk_188_10 (dk_at dksX6_init_1 0 rfl rfl)
theorem dX6_init_26 : decode cX6_init 26 = .ok (.putfield 16, 3) := dk_181 0 16 (dk_at dksX6_init_1 2 rfl rfl)
theorem dX6_init_29 : decode cX6_init 29 = .ok (.aload_n 0, 1) := dk_42 (dk_at dksX6_init_1 5 rfl rfl)
theorem dX6_init_30 : decode cX6_init 30 = .ok (.sipush 1200, 3) := dk_17 4 176 (dk_at dksX6_init_1 6 rfl rfl)
theorem dX6_init_33 : decode cX6_init 33 = .ok (.newarray .int, 2) := dk_188_10 (dk_at dksX6_init_1 9 rfl rfl)
theorem dX6_init_35 : decode cX6_init 35 = .ok (.putfield 19, 3) := dk_181 0 19 (dk_at dksX6_init_1 11 rfl rfl)
theorem dX6_init_38 : decode cX6_init 38 = .ok (.aload_n 0, 1) := dk_42 (dk_at dksX6_init_1 14 rfl rfl)
theorem dX6_init_39 : decode cX6_init 39 = .ok (.sipush 1200, 3) := dk_17 4 176 (dk_at dksX6_init_1 15 rfl rfl)
theorem dX6_init_42 : decode cX6_init 42 = .ok (.newarray .int, 2) := dk_188_10 (dk_at dksX6_init_1 18 rfl rfl)
theorem dX6_init_44 : decode cX6_init 44 = .ok (.putfield 22, 3) := dk_181 0 22 (dk_at dksX6_init_1 20 rfl rfl)
theorem dX6_init_47 : decode cX6_init 47 = .ok (.aload_n 0, 1) := dk_42 (dk_at dksX6_init_1 23 rfl rfl)
theorem dX6_init_48 : decode cX6_init 48 = .ok (.sipush 1200, 3) := dk_17 4 176 (dk_at dksX6_init_2 0 rfl rfl)
theorem dX6_init_51 : decode cX6_init 51 = .ok (.newarray .int, 2) := dk_188_10 (dk_at dksX6_init_2 3 rfl rfl)
theorem dX6_init_53 : decode cX6_init 53 = .ok (.putfield 25, 3) := dk_181 0 25 (dk_at dksX6_init_2 5 rfl rfl)
theorem dX6_init_56 : decode cX6_init 56 = .ok (.aload_n 0, 1) := dk_42 (dk_at dksX6_init_2 8 rfl rfl)
theorem dX6_init_57 : decode cX6_init 57 = .ok (.bipush 40, 2) := dk_16 40 (dk_at dksX6_init_2 9 rfl rfl)
theorem dX6_init_59 : decode cX6_init 59 = .ok (.newarray .int, 2) := dk_188_10 (dk_at dksX6_init_2 11 rfl rfl)
theorem dX6_init_61 : decode cX6_init 61 = .ok (.putfield 28, 3) := dk_181 0 28 (dk_at dksX6_init_2 13 rfl rfl)
theorem dX6_init_64 : decode cX6_init 64 = .ok (.aload_n 0, 1) := dk_42 (dk_at dksX6_init_2 16 rfl rfl)
theorem dX6_init_65 : decode cX6_init 65 = .ok (.bipush 40, 2) := dk_16 40 (dk_at dksX6_init_2 17 rfl rfl)
theorem dX6_init_67 : decode cX6_init 67 = .ok (.newarray .int, 2) := dk_188_10 (dk_at dksX6_init_2 19 rfl rfl)
theorem dX6_init_69 : decode cX6_init 69 = .ok (.putfield 31, 3) := dk_181 0 31 (dk_at dksX6_init_2 21 rfl rfl)
theorem dX6_init_72 : decode cX6_init 72 = .ok (.aload_n 0, 1) := dk_42 (dk_at dksX6_init_3 0 rfl rfl)
theorem dX6_init_73 : decode cX6_init 73 = .ok (.bipush 40, 2) := dk_16 40 (dk_at dksX6_init_3 1 rfl rfl)
theorem dX6_init_75 : decode cX6_init 75 = .ok (.newarray .int, 2) := dk_188_10 (dk_at dksX6_init_3 3 rfl rfl)
theorem dX6_init_77 : decode cX6_init 77 = .ok (.putfield 34, 3) := dk_181 0 34 (dk_at dksX6_init_3 5 rfl rfl)
theorem dX6_init_80 : decode cX6_init 80 = .ok (.aload_n 0, 1) := dk_42 (dk_at dksX6_init_3 8 rfl rfl)
theorem dX6_init_81 : decode cX6_init 81 = .ok (.bipush 40, 2) := dk_16 40 (dk_at dksX6_init_3 9 rfl rfl)
theorem dX6_init_83 : decode cX6_init 83 = .ok (.newarray .int, 2) := dk_188_10 (dk_at dksX6_init_3 11 rfl rfl)
theorem dX6_init_85 : decode cX6_init 85 = .ok (.putfield 37, 3) := dk_181 0 37 (dk_at dksX6_init_3 13 rfl rfl)
theorem dX6_init_88 : decode cX6_init 88 = .ok (.aload_n 0, 1) := dk_42 (dk_at dksX6_init_3 16 rfl rfl)
theorem dX6_init_89 : decode cX6_init 89 = .ok (.sipush 2000, 3) := dk_17 7 208 (dk_at dksX6_init_3 17 rfl rfl)
theorem dX6_init_92 : decode cX6_init 92 = .ok (.newarray .int, 2) := dk_188_10 (dk_at dksX6_init_3 20 rfl rfl)
theorem dX6_init_94 : decode cX6_init 94 = .ok (.putfield 40, 3) := dk_181 0 40 (dk_at dksX6_init_4 0 rfl rfl)
theorem dX6_init_97 : decode cX6_init 97 = .ok (.aload_n 0, 1) := dk_42 (dk_at dksX6_init_4 3 rfl rfl)
theorem dX6_init_98 : decode cX6_init 98 = .ok (.sipush 2001, 3) := dk_17 7 209 (dk_at dksX6_init_4 4 rfl rfl)
theorem dX6_init_101 : decode cX6_init 101 = .ok (.newarray .int, 2) := dk_188_10 (dk_at dksX6_init_4 7 rfl rfl)
theorem dX6_init_103 : decode cX6_init 103 = .ok (.putfield 43, 3) := dk_181 0 43 (dk_at dksX6_init_4 9 rfl rfl)
theorem dX6_init_106 : decode cX6_init 106 = .ok (.aload_n 0, 1) := dk_42 (dk_at dksX6_init_4 12 rfl rfl)
theorem dX6_init_107 : decode cX6_init 107 = .ok (.sipush 2001, 3) := dk_17 7 209 (dk_at dksX6_init_4 13 rfl rfl)
theorem dX6_init_110 : decode cX6_init 110 = .ok (.newarray .int, 2) := dk_188_10 (dk_at dksX6_init_4 16 rfl rfl)
theorem dX6_init_112 : decode cX6_init 112 = .ok (.putfield 46, 3) := dk_181 0 46 (dk_at dksX6_init_4 18 rfl rfl)
theorem dX6_init_115 : decode cX6_init 115 = .ok (.aload_n 0, 1) := dk_42 (dk_at dksX6_init_4 21 rfl rfl)
theorem dX6_init_116 : decode cX6_init 116 = .ok (.sipush 2001, 3) := dk_17 7 209 (dk_at dksX6_init_5 0 rfl rfl)
theorem dX6_init_119 : decode cX6_init 119 = .ok (.newarray .int, 2) := dk_188_10 (dk_at dksX6_init_5 3 rfl rfl)
theorem dX6_init_121 : decode cX6_init 121 = .ok (.putfield 49, 3) := dk_181 0 49 (dk_at dksX6_init_5 5 rfl rfl)
theorem dX6_init_124 : decode cX6_init 124 = .ok (.aload_n 0, 1) := dk_42 (dk_at dksX6_init_5 8 rfl rfl)
theorem dX6_init_125 : decode cX6_init 125 = .ok (.sipush 2001, 3) := dk_17 7 209 (dk_at dksX6_init_5 9 rfl rfl)
theorem dX6_init_128 : decode cX6_init 128 = .ok (.newarray .long, 2) := dk_188_11 (dk_at dksX6_init_5 12 rfl rfl)
theorem dX6_init_130 : decode cX6_init 130 = .ok (.putfield 52, 3) := dk_181 0 52 (dk_at dksX6_init_5 14 rfl rfl)
theorem dX6_init_133 : decode cX6_init 133 = .ok (.aload_n 0, 1) := dk_42 (dk_at dksX6_init_5 17 rfl rfl)
theorem dX6_init_134 : decode cX6_init 134 = .ok (.iconst (-1), 1) := dk_2 (dk_at dksX6_init_5 18 rfl rfl)
theorem dX6_init_135 : decode cX6_init 135 = .ok (.putfield 56, 3) := dk_181 0 56 (dk_at dksX6_init_5 19 rfl rfl)
theorem dX6_init_138 : decode cX6_init 138 = .ok (.aload_n 0, 1) := dk_42 (dk_at dksX6_init_5 22 rfl rfl)
theorem dX6_init_139 : decode cX6_init 139 = .ok (.bipush 8, 2) := dk_16 8 (dk_at dksX6_init_6 0 rfl rfl)
theorem dX6_init_141 : decode cX6_init 141 = .ok (.newarray .long, 2) := dk_188_11 (dk_at dksX6_init_6 2 rfl rfl)
theorem dX6_init_143 : decode cX6_init 143 = .ok (.putfield 60, 3) := dk_181 0 60 (dk_at dksX6_init_6 4 rfl rfl)
theorem dX6_init_146 : decode cX6_init 146 = .ok (.aload_n 0, 1) := dk_42 (dk_at dksX6_init_6 7 rfl rfl)
theorem dX6_init_147 : decode cX6_init 147 = .ok (.bipush 8, 2) := dk_16 8 (dk_at dksX6_init_6 8 rfl rfl)
theorem dX6_init_149 : decode cX6_init 149 = .ok (.newarray .boolean, 2) := dk_188_4 (dk_at dksX6_init_6 10 rfl rfl)
theorem dX6_init_151 : decode cX6_init 151 = .ok (.putfield 63, 3) := dk_181 0 63 (dk_at dksX6_init_6 12 rfl rfl)
theorem dX6_init_154 : decode cX6_init 154 = .ok (.aload_n 0, 1) := dk_42 (dk_at dksX6_init_6 15 rfl rfl)
theorem dX6_init_155 : decode cX6_init 155 = .ok (.bipush 8, 2) := dk_16 8 (dk_at dksX6_init_6 16 rfl rfl)
theorem dX6_init_157 : decode cX6_init 157 = .ok (.newarray .int, 2) := dk_188_10 (dk_at dksX6_init_6 18 rfl rfl)
theorem dX6_init_159 : decode cX6_init 159 = .ok (.putfield 67, 3) := dk_181 0 67 (dk_at dksX6_init_6 20 rfl rfl)
theorem dX6_init_162 : decode cX6_init 162 = .ok (.aload_n 0, 1) := dk_42 (dk_at dksX6_init_6 23 rfl rfl)
theorem dX6_init_163 : decode cX6_init 163 = .ok (.bipush 9, 2) := dk_16 9 (dk_at dksX6_init_7 0 rfl rfl)
theorem dX6_init_165 : decode cX6_init 165 = .ok (.newarray .int, 2) := dk_188_10 (dk_at dksX6_init_7 2 rfl rfl)
theorem dX6_init_167 : decode cX6_init 167 = .ok (.putfield 70, 3) := dk_181 0 70 (dk_at dksX6_init_7 4 rfl rfl)
theorem dX6_init_170 : decode cX6_init 170 = .ok (.aload_n 0, 1) := dk_42 (dk_at dksX6_init_7 7 rfl rfl)
theorem dX6_init_171 : decode cX6_init 171 = .ok (.sipush 1809, 3) := dk_17 7 17 (dk_at dksX6_init_7 8 rfl rfl)
theorem dX6_init_174 : decode cX6_init 174 = .ok (.newarray .int, 2) := dk_188_10 (dk_at dksX6_init_7 11 rfl rfl)
theorem dX6_init_176 : decode cX6_init 176 = .ok (.putfield 73, 3) := dk_181 0 73 (dk_at dksX6_init_7 13 rfl rfl)
theorem dX6_init_179 : decode cX6_init 179 = .ok (.aload_n 0, 1) := dk_42 (dk_at dksX6_init_7 16 rfl rfl)
theorem dX6_init_180 : decode cX6_init 180 = .ok (.sipush 1809, 3) := dk_17 7 17 (dk_at dksX6_init_7 17 rfl rfl)
theorem dX6_init_183 : decode cX6_init 183 = .ok (.newarray .int, 2) := dk_188_10 (dk_at dksX6_init_7 20 rfl rfl)
theorem dX6_init_185 : decode cX6_init 185 = .ok (.putfield 76, 3) := dk_181 0 76 (dk_at dksX6_init_8 0 rfl rfl)
theorem dX6_init_188 : decode cX6_init 188 = .ok (.aload_n 0, 1) := dk_42 (dk_at dksX6_init_8 3 rfl rfl)
theorem dX6_init_189 : decode cX6_init 189 = .ok (.sipush 1809, 3) := dk_17 7 17 (dk_at dksX6_init_8 4 rfl rfl)
theorem dX6_init_192 : decode cX6_init 192 = .ok (.newarray .int, 2) := dk_188_10 (dk_at dksX6_init_8 7 rfl rfl)
theorem dX6_init_194 : decode cX6_init 194 = .ok (.putfield 79, 3) := dk_181 0 79 (dk_at dksX6_init_8 9 rfl rfl)
theorem dX6_init_197 : decode cX6_init 197 = .ok (.aload_n 0, 1) := dk_42 (dk_at dksX6_init_8 12 rfl rfl)
theorem dX6_init_198 : decode cX6_init 198 = .ok (.sipush 1809, 3) := dk_17 7 17 (dk_at dksX6_init_8 13 rfl rfl)
theorem dX6_init_201 : decode cX6_init 201 = .ok (.newarray .int, 2) := dk_188_10 (dk_at dksX6_init_8 16 rfl rfl)
theorem dX6_init_203 : decode cX6_init 203 = .ok (.putfield 82, 3) := dk_181 0 82 (dk_at dksX6_init_8 18 rfl rfl)
theorem dX6_init_206 : decode cX6_init 206 = .ok (.aload_n 0, 1) := dk_42 (dk_at dksX6_init_8 21 rfl rfl)
theorem dX6_init_207 : decode cX6_init 207 = .ok (.iconst 5, 1) := dk_8 (dk_at dksX6_init_8 22 rfl rfl)
theorem dX6_init_208 : decode cX6_init 208 = .ok (.newarray .int, 2) := dk_188_10 (dk_at dksX6_init_9 0 rfl rfl)
theorem dX6_init_210 : decode cX6_init 210 = .ok (.putfield 85, 3) := dk_181 0 85 (dk_at dksX6_init_9 2 rfl rfl)
theorem dX6_init_213 : decode cX6_init 213 = .ok (.aload_n 0, 1) := dk_42 (dk_at dksX6_init_9 5 rfl rfl)
theorem dX6_init_214 : decode cX6_init 214 = .ok (.iconst 5, 1) := dk_8 (dk_at dksX6_init_9 6 rfl rfl)
theorem dX6_init_215 : decode cX6_init 215 = .ok (.newarray .int, 2) := dk_188_10 (dk_at dksX6_init_9 7 rfl rfl)
theorem dX6_init_217 : decode cX6_init 217 = .ok (.putfield 88, 3) := dk_181 0 88 (dk_at dksX6_init_9 9 rfl rfl)
theorem dX6_init_220 : decode cX6_init 220 = .ok (.aload_n 0, 1) := dk_42 (dk_at dksX6_init_9 12 rfl rfl)
theorem dX6_init_221 : decode cX6_init 221 = .ok (.sipush 200, 3) := dk_17 0 200 (dk_at dksX6_init_9 13 rfl rfl)
theorem dX6_init_224 : decode cX6_init 224 = .ok (.newarray .int, 2) := dk_188_10 (dk_at dksX6_init_9 16 rfl rfl)
theorem dX6_init_226 : decode cX6_init 226 = .ok (.putfield 91, 3) := dk_181 0 91 (dk_at dksX6_init_9 18 rfl rfl)
theorem dX6_init_229 : decode cX6_init 229 = .ok (.aload_n 0, 1) := dk_42 (dk_at dksX6_init_9 21 rfl rfl)
theorem dX6_init_230 : decode cX6_init 230 = .ok (.bipush 7, 2) := dk_16 7 (dk_at dksX6_init_9 22 rfl rfl)
theorem dX6_init_232 : decode cX6_init 232 = .ok (.newarray .int, 2) := dk_188_10 (dk_at dksX6_init_10 0 rfl rfl)
theorem dX6_init_234 : decode cX6_init 234 = .ok (.putfield 94, 3) := dk_181 0 94 (dk_at dksX6_init_10 2 rfl rfl)
theorem dX6_init_237 : decode cX6_init 237 = .ok (.aload_n 0, 1) := dk_42 (dk_at dksX6_init_10 5 rfl rfl)
theorem dX6_init_238 : decode cX6_init 238 = .ok (.ldc 97, 2) := dk_18 97 (dk_at dksX6_init_10 6 rfl rfl)
theorem dX6_init_240 : decode cX6_init 240 = .ok (.newarray .int, 2) := dk_188_10 (dk_at dksX6_init_10 8 rfl rfl)
theorem dX6_init_242 : decode cX6_init 242 = .ok (.putfield 98, 3) := dk_181 0 98 (dk_at dksX6_init_10 10 rfl rfl)
theorem dX6_init_245 : decode cX6_init 245 = .ok (.aload_n 0, 1) := dk_42 (dk_at dksX6_init_10 13 rfl rfl)
theorem dX6_init_246 : decode cX6_init 246 = .ok (.sipush 30240, 3) := dk_17 118 32 (dk_at dksX6_init_10 14 rfl rfl)
theorem dX6_init_249 : decode cX6_init 249 = .ok (.newarray .int, 2) := dk_188_10 (dk_at dksX6_init_10 17 rfl rfl)
theorem dX6_init_251 : decode cX6_init 251 = .ok (.putfield 101, 3) := dk_181 0 101 (dk_at dksX6_init_10 19 rfl rfl)
theorem dX6_init_254 : decode cX6_init 254 = .ok (.aload_n 0, 1) := dk_42 (dk_at dksX6_init_10 22 rfl rfl)
theorem dX6_init_255 : decode cX6_init 255 = .ok (.sipush 30240, 3) := dk_17 118 32 (dk_at dksX6_init_11 0 rfl rfl)
theorem dX6_init_258 : decode cX6_init 258 = .ok (.newarray .int, 2) := dk_188_10 (dk_at dksX6_init_11 3 rfl rfl)
theorem dX6_init_260 : decode cX6_init 260 = .ok (.putfield 104, 3) := dk_181 0 104 (dk_at dksX6_init_11 5 rfl rfl)
theorem dX6_init_263 : decode cX6_init 263 = .ok (.aload_n 0, 1) := dk_42 (dk_at dksX6_init_11 8 rfl rfl)
theorem dX6_init_264 : decode cX6_init 264 = .ok (.sipush 5040, 3) := dk_17 19 176 (dk_at dksX6_init_11 9 rfl rfl)
theorem dX6_init_267 : decode cX6_init 267 = .ok (.newarray .int, 2) := dk_188_10 (dk_at dksX6_init_11 12 rfl rfl)
theorem dX6_init_269 : decode cX6_init 269 = .ok (.putfield 107, 3) := dk_181 0 107 (dk_at dksX6_init_11 14 rfl rfl)
theorem dX6_init_272 : decode cX6_init 272 = .ok (.aload_n 0, 1) := dk_42 (dk_at dksX6_init_11 17 rfl rfl)
theorem dX6_init_273 : decode cX6_init 273 = .ok (.sipush 5040, 3) := dk_17 19 176 (dk_at dksX6_init_11 18 rfl rfl)
theorem dX6_init_276 : decode cX6_init 276 = .ok (.newarray .long, 2) := dk_188_11 (dk_at dksX6_init_11 21 rfl rfl)
theorem dX6_init_278 : decode cX6_init 278 = .ok (.putfield 110, 3) := dk_181 0 110 (dk_at dksX6_init_12 0 rfl rfl)
theorem dX6_init_281 : decode cX6_init 281 = .ok (.aload_n 0, 1) := dk_42 (dk_at dksX6_init_12 3 rfl rfl)
theorem dX6_init_282 : decode cX6_init 282 = .ok (.bipush 7, 2) := dk_16 7 (dk_at dksX6_init_12 4 rfl rfl)
theorem dX6_init_284 : decode cX6_init 284 = .ok (.newarray .int, 2) := dk_188_10 (dk_at dksX6_init_12 6 rfl rfl)
theorem dX6_init_286 : decode cX6_init 286 = .ok (.putfield 113, 3) := dk_181 0 113 (dk_at dksX6_init_12 8 rfl rfl)
theorem dX6_init_289 : decode cX6_init 289 = .ok (.aload_n 0, 1) := dk_42 (dk_at dksX6_init_12 11 rfl rfl)
theorem dX6_init_290 : decode cX6_init 290 = .ok (.bipush 21, 2) := dk_16 21 (dk_at dksX6_init_12 12 rfl rfl)
theorem dX6_init_292 : decode cX6_init 292 = .ok (.newarray .int, 2) := dk_188_10 (dk_at dksX6_init_12 14 rfl rfl)
theorem dX6_init_294 : decode cX6_init 294 = .ok (.putfield 116, 3) := dk_181 0 116 (dk_at dksX6_init_12 16 rfl rfl)
theorem dX6_init_297 : decode cX6_init 297 = .ok (.aload_n 0, 1) := dk_42 (dk_at dksX6_init_12 19 rfl rfl)
theorem dX6_init_298 : decode cX6_init 298 = .ok (.sipush 200, 3) := dk_17 0 200 (dk_at dksX6_init_12 20 rfl rfl)
theorem dX6_init_301 : decode cX6_init 301 = .ok (.newarray .int, 2) := dk_188_10 (dk_at dksX6_init_13 0 rfl rfl)
theorem dX6_init_303 : decode cX6_init 303 = .ok (.putfield 119, 3) := dk_181 0 119 (dk_at dksX6_init_13 2 rfl rfl)
theorem dX6_init_306 : decode cX6_init 306 = .ok (.aload_n 0, 1) := dk_42 (dk_at dksX6_init_13 5 rfl rfl)
theorem dX6_init_307 : decode cX6_init 307 = .ok (.bipush 49, 2) := dk_16 49 (dk_at dksX6_init_13 6 rfl rfl)
theorem dX6_init_309 : decode cX6_init 309 = .ok (.newarray .int, 2) := dk_188_10 (dk_at dksX6_init_13 8 rfl rfl)
theorem dX6_init_311 : decode cX6_init 311 = .ok (.putfield 122, 3) := dk_181 0 122 (dk_at dksX6_init_13 10 rfl rfl)
theorem dX6_init_314 : decode cX6_init 314 = .ok (.aload_n 0, 1) := dk_42 (dk_at dksX6_init_13 13 rfl rfl)
theorem dX6_init_315 : decode cX6_init 315 = .ok (.sipush 16800, 3) := dk_17 65 160 (dk_at dksX6_init_13 14 rfl rfl)
theorem dX6_init_318 : decode cX6_init 318 = .ok (.newarray .int, 2) := dk_188_10 (dk_at dksX6_init_13 17 rfl rfl)
theorem dX6_init_320 : decode cX6_init 320 = .ok (.putfield 125, 3) := dk_181 0 125 (dk_at dksX6_init_13 19 rfl rfl)
theorem dX6_init_323 : decode cX6_init 323 = .ok (.aload_n 0, 1) := dk_42 (dk_at dksX6_init_13 22 rfl rfl)
theorem dX6_init_324 : decode cX6_init 324 = .ok (.sipush 16800, 3) := dk_17 65 160 (dk_at dksX6_init_14 0 rfl rfl)
theorem dX6_init_327 : decode cX6_init 327 = .ok (.newarray .boolean, 2) := dk_188_4 (dk_at dksX6_init_14 3 rfl rfl)
theorem dX6_init_329 : decode cX6_init 329 = .ok (.putfield 128, 3) := dk_181 0 128 (dk_at dksX6_init_14 5 rfl rfl)
theorem dX6_init_332 : decode cX6_init 332 = .ok (.aload_n 0, 1) := dk_42 (dk_at dksX6_init_14 8 rfl rfl)
theorem dX6_init_333 : decode cX6_init 333 = .ok (.sipush 800, 3) := dk_17 3 32 (dk_at dksX6_init_14 9 rfl rfl)
theorem dX6_init_336 : decode cX6_init 336 = .ok (.newarray .int, 2) := dk_188_10 (dk_at dksX6_init_14 12 rfl rfl)
theorem dX6_init_338 : decode cX6_init 338 = .ok (.putfield 131, 3) := dk_181 0 131 (dk_at dksX6_init_14 14 rfl rfl)
theorem dX6_init_341 : decode cX6_init 341 = .ok (.aload_n 0, 1) := dk_42 (dk_at dksX6_init_14 17 rfl rfl)
theorem dX6_init_342 : decode cX6_init 342 = .ok (.sipush 5040, 3) := dk_17 19 176 (dk_at dksX6_init_14 18 rfl rfl)
theorem dX6_init_345 : decode cX6_init 345 = .ok (.newarray .long, 2) := dk_188_11 (dk_at dksX6_init_14 21 rfl rfl)
theorem dX6_init_347 : decode cX6_init 347 = .ok (.putfield 134, 3) := dk_181 0 134 (dk_at dksX6_init_15 0 rfl rfl)
theorem dX6_init_350 : decode cX6_init 350 = .ok (.aload_n 0, 1) := dk_42 (dk_at dksX6_init_15 3 rfl rfl)
theorem dX6_init_351 : decode cX6_init 351 = .ok (.sipush 5040, 3) := dk_17 19 176 (dk_at dksX6_init_15 4 rfl rfl)
theorem dX6_init_354 : decode cX6_init 354 = .ok (.newarray .long, 2) := dk_188_11 (dk_at dksX6_init_15 7 rfl rfl)
theorem dX6_init_356 : decode cX6_init 356 = .ok (.putfield 137, 3) := dk_181 0 137 (dk_at dksX6_init_15 9 rfl rfl)
theorem dX6_init_359 : decode cX6_init 359 = .ok (.aload_n 0, 1) := dk_42 (dk_at dksX6_init_15 12 rfl rfl)
theorem dX6_init_360 : decode cX6_init 360 = .ok (.sipush 1407, 3) := dk_17 5 127 (dk_at dksX6_init_15 13 rfl rfl)
theorem dX6_init_363 : decode cX6_init 363 = .ok (.newarray .int, 2) := dk_188_10 (dk_at dksX6_init_15 16 rfl rfl)
theorem dX6_init_365 : decode cX6_init 365 = .ok (.putfield 140, 3) := dk_181 0 140 (dk_at dksX6_init_15 18 rfl rfl)
theorem dX6_init_368 : decode cX6_init 368 = .ok (.aload_n 0, 1) := dk_42 (dk_at dksX6_init_15 21 rfl rfl)
theorem dX6_init_369 : decode cX6_init 369 = .ok (.bipush 120, 2) := dk_16 120 (dk_at dksX6_init_15 22 rfl rfl)
theorem dX6_init_371 : decode cX6_init 371 = .ok (.newarray .int, 2) := dk_188_10 (dk_at dksX6_init_16 0 rfl rfl)
theorem dX6_init_373 : decode cX6_init 373 = .ok (.putfield 143, 3) := dk_181 0 143 (dk_at dksX6_init_16 2 rfl rfl)
theorem dX6_init_376 : decode cX6_init 376 = .ok (.aload_n 0, 1) := dk_42 (dk_at dksX6_init_16 5 rfl rfl)
theorem dX6_init_377 : decode cX6_init 377 = .ok (.bipush 120, 2) := dk_16 120 (dk_at dksX6_init_16 6 rfl rfl)
theorem dX6_init_379 : decode cX6_init 379 = .ok (.newarray .int, 2) := dk_188_10 (dk_at dksX6_init_16 8 rfl rfl)
theorem dX6_init_381 : decode cX6_init 381 = .ok (.putfield 146, 3) := dk_181 0 146 (dk_at dksX6_init_16 10 rfl rfl)
theorem dX6_init_384 : decode cX6_init 384 = .ok (.aload_n 0, 1) := dk_42 (dk_at dksX6_init_16 13 rfl rfl)
theorem dX6_init_385 : decode cX6_init 385 = .ok (.bipush 11, 2) := dk_16 11 (dk_at dksX6_init_16 14 rfl rfl)
theorem dX6_init_387 : decode cX6_init 387 = .ok (.newarray .int, 2) := dk_188_10 (dk_at dksX6_init_16 16 rfl rfl)
theorem dX6_init_389 : decode cX6_init 389 = .ok (.putfield 149, 3) := dk_181 0 149 (dk_at dksX6_init_16 18 rfl rfl)
theorem dX6_init_392 : decode cX6_init 392 = .ok (.aload_n 0, 1) := dk_42 (dk_at dksX6_init_16 21 rfl rfl)
theorem dX6_init_393 : decode cX6_init 393 = .ok (.bipush 12, 2) := dk_16 12 (dk_at dksX6_init_16 22 rfl rfl)
theorem dX6_init_395 : decode cX6_init 395 = .ok (.newarray .int, 2) := dk_188_10 (dk_at dksX6_init_17 0 rfl rfl)
theorem dX6_init_397 : decode cX6_init 397 = .ok (.putfield 152, 3) := dk_181 0 152 (dk_at dksX6_init_17 2 rfl rfl)
theorem dX6_init_400 : decode cX6_init 400 = .ok (.return_, 1) := dk_177 (dk_at dksX6_init_17 5 rfl rfl)
abbrev cX6_feed : ByteArray := prog_14_method_2_code
def yX6_feed : MethodName := ⟨RX6, "feed", "(IIIII)I"⟩
def dkwX6_feed_2 : List UInt8 := [172]
abbrev dktX6_feed_2 : List UInt8 := dkwX6_feed_2 ++ []
def dkwX6_feed_1 : List UInt8 := [182, 0, 158, 42, 29, 182, 0, 158, 42, 21, 4, 182, 0, 158, 42, 21, 5, 182, 0, 158, 42, 180, 0, 155]
abbrev dktX6_feed_1 : List UInt8 := dkwX6_feed_1 ++ dktX6_feed_2
def dkwX6_feed_0 : List UInt8 := [42, 180, 0, 155, 16, 20, 96, 17, 7, 208, 164, 0, 5, 2, 172, 42, 27, 182, 0, 158, 42, 28]
abbrev dktX6_feed_0 : List UInt8 := dkwX6_feed_0 ++ dktX6_feed_1
theorem dksX6_feed_0 : cX6_feed.data.toList.drop 0 = dktX6_feed_0 := by decide +kernel
theorem dksX6_feed_1 : cX6_feed.data.toList.drop 22 = dktX6_feed_1 := dk_seg dksX6_feed_0 22 rfl rfl
theorem dksX6_feed_2 : cX6_feed.data.toList.drop 46 = dktX6_feed_2 := dk_seg dksX6_feed_1 24 rfl rfl
theorem dX6_feed_0 : decode cX6_feed 0 = .ok (.aload_n 0, 1) := dk_42 (dk_at dksX6_feed_0 0 rfl rfl)
theorem dX6_feed_1 : decode cX6_feed 1 = .ok (.getfield 155, 3) := dk_180 0 155 (dk_at dksX6_feed_0 1 rfl rfl)
theorem dX6_feed_4 : decode cX6_feed 4 = .ok (.bipush 20, 2) := dk_16 20 (dk_at dksX6_feed_0 4 rfl rfl)
theorem dX6_feed_6 : decode cX6_feed 6 = .ok (.iadd, 1) := dk_96 (dk_at dksX6_feed_0 6 rfl rfl)
theorem dX6_feed_7 : decode cX6_feed 7 = .ok (.sipush 2000, 3) := dk_17 7 208 (dk_at dksX6_feed_0 7 rfl rfl)
theorem dX6_feed_10 : decode cX6_feed 10 = .ok (.if_icmp .le 5, 3) := dk_164 0 5 (dk_at dksX6_feed_0 10 rfl rfl)
theorem dX6_feed_13 : decode cX6_feed 13 = .ok (.iconst (-1), 1) := dk_2 (dk_at dksX6_feed_0 13 rfl rfl)
theorem dX6_feed_14 : decode cX6_feed 14 = .ok (.ireturn, 1) := dk_172 (dk_at dksX6_feed_0 14 rfl rfl)
theorem dX6_feed_15 : decode cX6_feed 15 = .ok (.aload_n 0, 1) := dk_42 (dk_at dksX6_feed_0 15 rfl rfl)
theorem dX6_feed_16 : decode cX6_feed 16 = .ok (.iload_n 1, 1) := dk_27 (dk_at dksX6_feed_0 16 rfl rfl)
theorem dX6_feed_17 : decode cX6_feed 17 = .ok (.invokevirtual 158, 3) := dk_182 0 158 (dk_at dksX6_feed_0 17 rfl rfl)
theorem dX6_feed_20 : decode cX6_feed 20 = .ok (.aload_n 0, 1) := dk_42 (dk_at dksX6_feed_0 20 rfl rfl)
theorem dX6_feed_21 : decode cX6_feed 21 = .ok (.iload_n 2, 1) := dk_28 (dk_at dksX6_feed_0 21 rfl rfl)
theorem dX6_feed_22 : decode cX6_feed 22 = .ok (.invokevirtual 158, 3) := dk_182 0 158 (dk_at dksX6_feed_1 0 rfl rfl)
theorem dX6_feed_25 : decode cX6_feed 25 = .ok (.aload_n 0, 1) := dk_42 (dk_at dksX6_feed_1 3 rfl rfl)
theorem dX6_feed_26 : decode cX6_feed 26 = .ok (.iload_n 3, 1) := dk_29 (dk_at dksX6_feed_1 4 rfl rfl)
theorem dX6_feed_27 : decode cX6_feed 27 = .ok (.invokevirtual 158, 3) := dk_182 0 158 (dk_at dksX6_feed_1 5 rfl rfl)
theorem dX6_feed_30 : decode cX6_feed 30 = .ok (.aload_n 0, 1) := dk_42 (dk_at dksX6_feed_1 8 rfl rfl)
theorem dX6_feed_31 : decode cX6_feed 31 = .ok (.iload 4, 2) := dk_21 4 (dk_at dksX6_feed_1 9 rfl rfl)
theorem dX6_feed_33 : decode cX6_feed 33 = .ok (.invokevirtual 158, 3) := dk_182 0 158 (dk_at dksX6_feed_1 11 rfl rfl)
theorem dX6_feed_36 : decode cX6_feed 36 = .ok (.aload_n 0, 1) := dk_42 (dk_at dksX6_feed_1 14 rfl rfl)
theorem dX6_feed_37 : decode cX6_feed 37 = .ok (.iload 5, 2) := dk_21 5 (dk_at dksX6_feed_1 15 rfl rfl)
theorem dX6_feed_39 : decode cX6_feed 39 = .ok (.invokevirtual 158, 3) := dk_182 0 158 (dk_at dksX6_feed_1 17 rfl rfl)
theorem dX6_feed_42 : decode cX6_feed 42 = .ok (.aload_n 0, 1) := dk_42 (dk_at dksX6_feed_1 20 rfl rfl)
theorem dX6_feed_43 : decode cX6_feed 43 = .ok (.getfield 155, 3) := dk_180 0 155 (dk_at dksX6_feed_1 21 rfl rfl)
theorem dX6_feed_46 : decode cX6_feed 46 = .ok (.ireturn, 1) := dk_172 (dk_at dksX6_feed_2 0 rfl rfl)
abbrev cX6_typed : ByteArray := prog_14_method_3_code
def yX6_typed : MethodName := ⟨RX6, "typed", "(I)V"⟩
def dkwX6_typed_1 : List UInt8 := [17, 0, 255, 126, 79, 42, 89, 180, 0, 155, 4, 96, 181, 0, 155, 132, 2, 1, 167, 255, 216, 177]
abbrev dktX6_typed_1 : List UInt8 := dkwX6_typed_1 ++ []
def dkwX6_typed_0 : List UInt8 := [3, 61, 28, 7, 162, 0, 41, 42, 180, 0, 40, 42, 180, 0, 155, 27, 16, 24, 16, 8, 28, 104, 100, 122]
abbrev dktX6_typed_0 : List UInt8 := dkwX6_typed_0 ++ dktX6_typed_1
theorem dksX6_typed_0 : cX6_typed.data.toList.drop 0 = dktX6_typed_0 := by decide +kernel
theorem dksX6_typed_1 : cX6_typed.data.toList.drop 24 = dktX6_typed_1 := dk_seg dksX6_typed_0 24 rfl rfl
theorem dX6_typed_0 : decode cX6_typed 0 = .ok (.iconst 0, 1) := dk_3 (dk_at dksX6_typed_0 0 rfl rfl)
theorem dX6_typed_1 : decode cX6_typed 1 = .ok (.istore_n 2, 1) := dk_61 (dk_at dksX6_typed_0 1 rfl rfl)
theorem dX6_typed_2 : decode cX6_typed 2 = .ok (.iload_n 2, 1) := dk_28 (dk_at dksX6_typed_0 2 rfl rfl)
theorem dX6_typed_3 : decode cX6_typed 3 = .ok (.iconst 4, 1) := dk_7 (dk_at dksX6_typed_0 3 rfl rfl)
theorem dX6_typed_4 : decode cX6_typed 4 = .ok (.if_icmp .ge 41, 3) := dk_162 0 41 (dk_at dksX6_typed_0 4 rfl rfl)
theorem dX6_typed_7 : decode cX6_typed 7 = .ok (.aload_n 0, 1) := dk_42 (dk_at dksX6_typed_0 7 rfl rfl)
theorem dX6_typed_8 : decode cX6_typed 8 = .ok (.getfield 40, 3) := dk_180 0 40 (dk_at dksX6_typed_0 8 rfl rfl)
theorem dX6_typed_11 : decode cX6_typed 11 = .ok (.aload_n 0, 1) := dk_42 (dk_at dksX6_typed_0 11 rfl rfl)
theorem dX6_typed_12 : decode cX6_typed 12 = .ok (.getfield 155, 3) := dk_180 0 155 (dk_at dksX6_typed_0 12 rfl rfl)
theorem dX6_typed_15 : decode cX6_typed 15 = .ok (.iload_n 1, 1) := dk_27 (dk_at dksX6_typed_0 15 rfl rfl)
theorem dX6_typed_16 : decode cX6_typed 16 = .ok (.bipush 24, 2) := dk_16 24 (dk_at dksX6_typed_0 16 rfl rfl)
theorem dX6_typed_18 : decode cX6_typed 18 = .ok (.bipush 8, 2) := dk_16 8 (dk_at dksX6_typed_0 18 rfl rfl)
theorem dX6_typed_20 : decode cX6_typed 20 = .ok (.iload_n 2, 1) := dk_28 (dk_at dksX6_typed_0 20 rfl rfl)
theorem dX6_typed_21 : decode cX6_typed 21 = .ok (.imul, 1) := dk_104 (dk_at dksX6_typed_0 21 rfl rfl)
theorem dX6_typed_22 : decode cX6_typed 22 = .ok (.isub, 1) := dk_100 (dk_at dksX6_typed_0 22 rfl rfl)
theorem dX6_typed_23 : decode cX6_typed 23 = .ok (.ishr, 1) := dk_122 (dk_at dksX6_typed_0 23 rfl rfl)
theorem dX6_typed_24 : decode cX6_typed 24 = .ok (.sipush 255, 3) := dk_17 0 255 (dk_at dksX6_typed_1 0 rfl rfl)
theorem dX6_typed_27 : decode cX6_typed 27 = .ok (.iand, 1) := dk_126 (dk_at dksX6_typed_1 3 rfl rfl)
theorem dX6_typed_28 : decode cX6_typed 28 = .ok (.iastore, 1) := dk_79 (dk_at dksX6_typed_1 4 rfl rfl)
theorem dX6_typed_29 : decode cX6_typed 29 = .ok (.aload_n 0, 1) := dk_42 (dk_at dksX6_typed_1 5 rfl rfl)
theorem dX6_typed_30 : decode cX6_typed 30 = .ok (.dup, 1) := dk_89 (dk_at dksX6_typed_1 6 rfl rfl)
theorem dX6_typed_31 : decode cX6_typed 31 = .ok (.getfield 155, 3) := dk_180 0 155 (dk_at dksX6_typed_1 7 rfl rfl)
theorem dX6_typed_34 : decode cX6_typed 34 = .ok (.iconst 1, 1) := dk_4 (dk_at dksX6_typed_1 10 rfl rfl)
theorem dX6_typed_35 : decode cX6_typed 35 = .ok (.iadd, 1) := dk_96 (dk_at dksX6_typed_1 11 rfl rfl)
theorem dX6_typed_36 : decode cX6_typed 36 = .ok (.putfield 155, 3) := dk_181 0 155 (dk_at dksX6_typed_1 12 rfl rfl)
theorem dX6_typed_39 : decode cX6_typed 39 = .ok (.iinc 2 1, 3) := dk_132 2 1 (dk_at dksX6_typed_1 15 rfl rfl)
theorem dX6_typed_42 : decode cX6_typed 42 = .ok (.goto (-40), 3) := dk_167 255 216 (dk_at dksX6_typed_1 18 rfl rfl)
theorem dX6_typed_45 : decode cX6_typed 45 = .ok (.return_, 1) := dk_177 (dk_at dksX6_typed_1 21 rfl rfl)
abbrev cX6_back : ByteArray := prog_14_method_4_code
def yX6_back : MethodName := ⟨RX6, "back", "(I)I"⟩
def dkwX6_back_1 : List UInt8 := [42, 180, 0, 155, 172]
abbrev dktX6_back_1 : List UInt8 := dkwX6_back_1 ++ []
def dkwX6_back_0 : List UInt8 := [27, 155, 0, 11, 27, 42, 180, 0, 155, 164, 0, 5, 2, 172, 42, 42, 180, 0, 155, 27, 100, 181, 0, 155]
abbrev dktX6_back_0 : List UInt8 := dkwX6_back_0 ++ dktX6_back_1
theorem dksX6_back_0 : cX6_back.data.toList.drop 0 = dktX6_back_0 := by decide +kernel
theorem dksX6_back_1 : cX6_back.data.toList.drop 24 = dktX6_back_1 := dk_seg dksX6_back_0 24 rfl rfl
theorem dX6_back_0 : decode cX6_back 0 = .ok (.iload_n 1, 1) := dk_27 (dk_at dksX6_back_0 0 rfl rfl)
theorem dX6_back_1 : decode cX6_back 1 = .ok (.ifCond .lt 11, 3) := dk_155 0 11 (dk_at dksX6_back_0 1 rfl rfl)
theorem dX6_back_4 : decode cX6_back 4 = .ok (.iload_n 1, 1) := dk_27 (dk_at dksX6_back_0 4 rfl rfl)
theorem dX6_back_5 : decode cX6_back 5 = .ok (.aload_n 0, 1) := dk_42 (dk_at dksX6_back_0 5 rfl rfl)
theorem dX6_back_6 : decode cX6_back 6 = .ok (.getfield 155, 3) := dk_180 0 155 (dk_at dksX6_back_0 6 rfl rfl)
theorem dX6_back_9 : decode cX6_back 9 = .ok (.if_icmp .le 5, 3) := dk_164 0 5 (dk_at dksX6_back_0 9 rfl rfl)
theorem dX6_back_12 : decode cX6_back 12 = .ok (.iconst (-1), 1) := dk_2 (dk_at dksX6_back_0 12 rfl rfl)
theorem dX6_back_13 : decode cX6_back 13 = .ok (.ireturn, 1) := dk_172 (dk_at dksX6_back_0 13 rfl rfl)
theorem dX6_back_14 : decode cX6_back 14 = .ok (.aload_n 0, 1) := dk_42 (dk_at dksX6_back_0 14 rfl rfl)
theorem dX6_back_15 : decode cX6_back 15 = .ok (.aload_n 0, 1) := dk_42 (dk_at dksX6_back_0 15 rfl rfl)
theorem dX6_back_16 : decode cX6_back 16 = .ok (.getfield 155, 3) := dk_180 0 155 (dk_at dksX6_back_0 16 rfl rfl)
theorem dX6_back_19 : decode cX6_back 19 = .ok (.iload_n 1, 1) := dk_27 (dk_at dksX6_back_0 19 rfl rfl)
theorem dX6_back_20 : decode cX6_back 20 = .ok (.isub, 1) := dk_100 (dk_at dksX6_back_0 20 rfl rfl)
theorem dX6_back_21 : decode cX6_back 21 = .ok (.putfield 155, 3) := dk_181 0 155 (dk_at dksX6_back_0 21 rfl rfl)
theorem dX6_back_24 : decode cX6_back 24 = .ok (.aload_n 0, 1) := dk_42 (dk_at dksX6_back_1 0 rfl rfl)
theorem dX6_back_25 : decode cX6_back 25 = .ok (.getfield 155, 3) := dk_180 0 155 (dk_at dksX6_back_1 1 rfl rfl)
theorem dX6_back_28 : decode cX6_back 28 = .ok (.ireturn, 1) := dk_172 (dk_at dksX6_back_1 4 rfl rfl)
abbrev cX6_read : ByteArray := prog_14_method_32_code
def yX6_read : MethodName := ⟨RX6, "read", "()I"⟩
def dkwX6_read_4 : List UInt8 := [28, 46, 182, 1, 45, 132, 1, 1, 167, 255, 208, 42, 3, 181, 0, 155, 42, 180, 0, 211, 172]
abbrev dktX6_read_4 : List UInt8 := dkwX6_read_4 ++ []
def dkwX6_read_3 : List UInt8 := [61, 42, 42, 180, 0, 73, 28, 46, 42, 180, 0, 76, 28, 46, 42, 180, 0, 79, 28, 46, 42, 180, 0, 82]
abbrev dktX6_read_3 : List UInt8 := dkwX6_read_3 ++ dktX6_read_4
def dkwX6_read_2 : List UInt8 := [180, 0, 251, 182, 1, 42, 3, 60, 27, 42, 180, 0, 70, 16, 8, 46, 162, 0, 43, 17, 6, 72, 27, 96]
abbrev dktX6_read_2 : List UInt8 := dkwX6_read_2 ++ dktX6_read_3
def dkwX6_read_1 : List UInt8 := [182, 1, 33, 42, 182, 1, 36, 153, 0, 7, 42, 182, 1, 39, 42, 180, 0, 211, 154, 0, 64, 42, 42]
abbrev dktX6_read_1 : List UInt8 := dkwX6_read_1 ++ dktX6_read_2
def dkwX6_read_0 : List UInt8 := [42, 180, 1, 30, 16, 6, 160, 0, 6, 16, 254, 172, 42, 3, 181, 0, 211, 42, 2, 181, 0, 56, 42]
abbrev dktX6_read_0 : List UInt8 := dkwX6_read_0 ++ dktX6_read_1
theorem dksX6_read_0 : cX6_read.data.toList.drop 0 = dktX6_read_0 := by decide +kernel
theorem dksX6_read_1 : cX6_read.data.toList.drop 23 = dktX6_read_1 := dk_seg dksX6_read_0 23 rfl rfl
theorem dksX6_read_2 : cX6_read.data.toList.drop 46 = dktX6_read_2 := dk_seg dksX6_read_1 23 rfl rfl
theorem dksX6_read_3 : cX6_read.data.toList.drop 70 = dktX6_read_3 := dk_seg dksX6_read_2 24 rfl rfl
theorem dksX6_read_4 : cX6_read.data.toList.drop 94 = dktX6_read_4 := dk_seg dksX6_read_3 24 rfl rfl
theorem dX6_read_0 : decode cX6_read 0 = .ok (.aload_n 0, 1) := dk_42 (dk_at dksX6_read_0 0 rfl rfl)
theorem dX6_read_1 : decode cX6_read 1 = .ok (.getfield 286, 3) := dk_180 1 30 (dk_at dksX6_read_0 1 rfl rfl)
theorem dX6_read_4 : decode cX6_read 4 = .ok (.bipush 6, 2) := dk_16 6 (dk_at dksX6_read_0 4 rfl rfl)
theorem dX6_read_6 : decode cX6_read 6 = .ok (.if_icmp .ne 6, 3) := dk_160 0 6 (dk_at dksX6_read_0 6 rfl rfl)
theorem dX6_read_9 : decode cX6_read 9 = .ok (.bipush (-2), 2) := dk_16 254 (dk_at dksX6_read_0 9 rfl rfl)
theorem dX6_read_11 : decode cX6_read 11 = .ok (.ireturn, 1) := dk_172 (dk_at dksX6_read_0 11 rfl rfl)
theorem dX6_read_12 : decode cX6_read 12 = .ok (.aload_n 0, 1) := dk_42 (dk_at dksX6_read_0 12 rfl rfl)
theorem dX6_read_13 : decode cX6_read 13 = .ok (.iconst 0, 1) := dk_3 (dk_at dksX6_read_0 13 rfl rfl)
theorem dX6_read_14 : decode cX6_read 14 = .ok (.putfield 211, 3) := dk_181 0 211 (dk_at dksX6_read_0 14 rfl rfl)
theorem dX6_read_17 : decode cX6_read 17 = .ok (.aload_n 0, 1) := dk_42 (dk_at dksX6_read_0 17 rfl rfl)
theorem dX6_read_18 : decode cX6_read 18 = .ok (.iconst (-1), 1) := dk_2 (dk_at dksX6_read_0 18 rfl rfl)
theorem dX6_read_19 : decode cX6_read 19 = .ok (.putfield 56, 3) := dk_181 0 56 (dk_at dksX6_read_0 19 rfl rfl)
theorem dX6_read_22 : decode cX6_read 22 = .ok (.aload_n 0, 1) := dk_42 (dk_at dksX6_read_0 22 rfl rfl)
theorem dX6_read_23 : decode cX6_read 23 = .ok (.invokevirtual 289, 3) := dk_182 1 33 (dk_at dksX6_read_1 0 rfl rfl)
theorem dX6_read_26 : decode cX6_read 26 = .ok (.aload_n 0, 1) := dk_42 (dk_at dksX6_read_1 3 rfl rfl)
theorem dX6_read_27 : decode cX6_read 27 = .ok (.invokevirtual 292, 3) := dk_182 1 36 (dk_at dksX6_read_1 4 rfl rfl)
theorem dX6_read_30 : decode cX6_read 30 = .ok (.ifCond .eq 7, 3) := dk_153 0 7 (dk_at dksX6_read_1 7 rfl rfl)
theorem dX6_read_33 : decode cX6_read 33 = .ok (.aload_n 0, 1) := dk_42 (dk_at dksX6_read_1 10 rfl rfl)
theorem dX6_read_34 : decode cX6_read 34 = .ok (.invokevirtual 295, 3) := dk_182 1 39 (dk_at dksX6_read_1 11 rfl rfl)
theorem dX6_read_37 : decode cX6_read 37 = .ok (.aload_n 0, 1) := dk_42 (dk_at dksX6_read_1 14 rfl rfl)
theorem dX6_read_38 : decode cX6_read 38 = .ok (.getfield 211, 3) := dk_180 0 211 (dk_at dksX6_read_1 15 rfl rfl)
theorem dX6_read_41 : decode cX6_read 41 = .ok (.ifCond .ne 64, 3) := dk_154 0 64 (dk_at dksX6_read_1 18 rfl rfl)
theorem dX6_read_44 : decode cX6_read 44 = .ok (.aload_n 0, 1) := dk_42 (dk_at dksX6_read_1 21 rfl rfl)
theorem dX6_read_45 : decode cX6_read 45 = .ok (.aload_n 0, 1) := dk_42 (dk_at dksX6_read_1 22 rfl rfl)
theorem dX6_read_46 : decode cX6_read 46 = .ok (.getfield 251, 3) := dk_180 0 251 (dk_at dksX6_read_2 0 rfl rfl)
theorem dX6_read_49 : decode cX6_read 49 = .ok (.invokevirtual 298, 3) := dk_182 1 42 (dk_at dksX6_read_2 3 rfl rfl)
theorem dX6_read_52 : decode cX6_read 52 = .ok (.iconst 0, 1) := dk_3 (dk_at dksX6_read_2 6 rfl rfl)
theorem dX6_read_53 : decode cX6_read 53 = .ok (.istore_n 1, 1) := dk_60 (dk_at dksX6_read_2 7 rfl rfl)
theorem dX6_read_54 : decode cX6_read 54 = .ok (.iload_n 1, 1) := dk_27 (dk_at dksX6_read_2 8 rfl rfl)
theorem dX6_read_55 : decode cX6_read 55 = .ok (.aload_n 0, 1) := dk_42 (dk_at dksX6_read_2 9 rfl rfl)
theorem dX6_read_56 : decode cX6_read 56 = .ok (.getfield 70, 3) := dk_180 0 70 (dk_at dksX6_read_2 10 rfl rfl)
theorem dX6_read_59 : decode cX6_read 59 = .ok (.bipush 8, 2) := dk_16 8 (dk_at dksX6_read_2 13 rfl rfl)
theorem dX6_read_61 : decode cX6_read 61 = .ok (.iaload, 1) := dk_46 (dk_at dksX6_read_2 15 rfl rfl)
theorem dX6_read_62 : decode cX6_read 62 = .ok (.if_icmp .ge 43, 3) := dk_162 0 43 (dk_at dksX6_read_2 16 rfl rfl)
theorem dX6_read_65 : decode cX6_read 65 = .ok (.sipush 1608, 3) := dk_17 6 72 (dk_at dksX6_read_2 19 rfl rfl)
theorem dX6_read_68 : decode cX6_read 68 = .ok (.iload_n 1, 1) := dk_27 (dk_at dksX6_read_2 22 rfl rfl)
theorem dX6_read_69 : decode cX6_read 69 = .ok (.iadd, 1) := dk_96 (dk_at dksX6_read_2 23 rfl rfl)
theorem dX6_read_70 : decode cX6_read 70 = .ok (.istore_n 2, 1) := dk_61 (dk_at dksX6_read_3 0 rfl rfl)
theorem dX6_read_71 : decode cX6_read 71 = .ok (.aload_n 0, 1) := dk_42 (dk_at dksX6_read_3 1 rfl rfl)
theorem dX6_read_72 : decode cX6_read 72 = .ok (.aload_n 0, 1) := dk_42 (dk_at dksX6_read_3 2 rfl rfl)
theorem dX6_read_73 : decode cX6_read 73 = .ok (.getfield 73, 3) := dk_180 0 73 (dk_at dksX6_read_3 3 rfl rfl)
theorem dX6_read_76 : decode cX6_read 76 = .ok (.iload_n 2, 1) := dk_28 (dk_at dksX6_read_3 6 rfl rfl)
theorem dX6_read_77 : decode cX6_read 77 = .ok (.iaload, 1) := dk_46 (dk_at dksX6_read_3 7 rfl rfl)
theorem dX6_read_78 : decode cX6_read 78 = .ok (.aload_n 0, 1) := dk_42 (dk_at dksX6_read_3 8 rfl rfl)
theorem dX6_read_79 : decode cX6_read 79 = .ok (.getfield 76, 3) := dk_180 0 76 (dk_at dksX6_read_3 9 rfl rfl)
theorem dX6_read_82 : decode cX6_read 82 = .ok (.iload_n 2, 1) := dk_28 (dk_at dksX6_read_3 12 rfl rfl)
theorem dX6_read_83 : decode cX6_read 83 = .ok (.iaload, 1) := dk_46 (dk_at dksX6_read_3 13 rfl rfl)
theorem dX6_read_84 : decode cX6_read 84 = .ok (.aload_n 0, 1) := dk_42 (dk_at dksX6_read_3 14 rfl rfl)
theorem dX6_read_85 : decode cX6_read 85 = .ok (.getfield 79, 3) := dk_180 0 79 (dk_at dksX6_read_3 15 rfl rfl)
theorem dX6_read_88 : decode cX6_read 88 = .ok (.iload_n 2, 1) := dk_28 (dk_at dksX6_read_3 18 rfl rfl)
theorem dX6_read_89 : decode cX6_read 89 = .ok (.iaload, 1) := dk_46 (dk_at dksX6_read_3 19 rfl rfl)
theorem dX6_read_90 : decode cX6_read 90 = .ok (.aload_n 0, 1) := dk_42 (dk_at dksX6_read_3 20 rfl rfl)
theorem dX6_read_91 : decode cX6_read 91 = .ok (.getfield 82, 3) := dk_180 0 82 (dk_at dksX6_read_3 21 rfl rfl)
theorem dX6_read_94 : decode cX6_read 94 = .ok (.iload_n 2, 1) := dk_28 (dk_at dksX6_read_4 0 rfl rfl)
theorem dX6_read_95 : decode cX6_read 95 = .ok (.iaload, 1) := dk_46 (dk_at dksX6_read_4 1 rfl rfl)
theorem dX6_read_96 : decode cX6_read 96 = .ok (.invokevirtual 301, 3) := dk_182 1 45 (dk_at dksX6_read_4 2 rfl rfl)
theorem dX6_read_99 : decode cX6_read 99 = .ok (.iinc 1 1, 3) := dk_132 1 1 (dk_at dksX6_read_4 5 rfl rfl)
theorem dX6_read_102 : decode cX6_read 102 = .ok (.goto (-48), 3) := dk_167 255 208 (dk_at dksX6_read_4 8 rfl rfl)
theorem dX6_read_105 : decode cX6_read 105 = .ok (.aload_n 0, 1) := dk_42 (dk_at dksX6_read_4 11 rfl rfl)
theorem dX6_read_106 : decode cX6_read 106 = .ok (.iconst 0, 1) := dk_3 (dk_at dksX6_read_4 12 rfl rfl)
theorem dX6_read_107 : decode cX6_read 107 = .ok (.putfield 155, 3) := dk_181 0 155 (dk_at dksX6_read_4 13 rfl rfl)
theorem dX6_read_110 : decode cX6_read 110 = .ok (.aload_n 0, 1) := dk_42 (dk_at dksX6_read_4 16 rfl rfl)
theorem dX6_read_111 : decode cX6_read 111 = .ok (.getfield 211, 3) := dk_180 0 211 (dk_at dksX6_read_4 17 rfl rfl)
theorem dX6_read_114 : decode cX6_read 114 = .ok (.ireturn, 1) := dk_172 (dk_at dksX6_read_4 20 rfl rfl)
abbrev cX6_scanAll : ByteArray := prog_14_method_11_code
def yX6_scanAll : MethodName := ⟨RX6, "scanAll", "()V"⟩
def dkwX6_scanAll_4 : List UInt8 := [7, 42, 180, 0, 155, 3, 182, 0, 201, 177]
abbrev dktX6_scanAll_4 : List UInt8 := dkwX6_scanAll_4 ++ []
def dkwX6_scanAll_3 : List UInt8 := [180, 0, 166, 4, 100, 46, 8, 159, 0, 7, 4, 167, 0, 4, 3, 61, 167, 255, 181, 28, 153, 0, 13, 42]
abbrev dktX6_scanAll_3 : List UInt8 := dkwX6_scanAll_3 ++ dktX6_scanAll_4
def dkwX6_scanAll_2 : List UInt8 := [16, 13, 160, 0, 9, 132, 1, 1, 167, 255, 211, 42, 27, 182, 0, 208, 60, 42, 180, 0, 43, 42]
abbrev dktX6_scanAll_2 : List UInt8 := dkwX6_scanAll_2 ++ dktX6_scanAll_3
def dkwX6_scanAll_1 : List UInt8 := [182, 0, 162, 62, 29, 16, 32, 159, 0, 21, 29, 16, 9, 159, 0, 15, 29, 16, 10, 159, 0, 9, 29]
abbrev dktX6_scanAll_1 : List UInt8 := dkwX6_scanAll_1 ++ dktX6_scanAll_2
def dkwX6_scanAll_0 : List UInt8 := [42, 3, 181, 0, 166, 3, 60, 4, 61, 27, 42, 180, 0, 155, 162, 0, 73, 28, 153, 0, 69, 42, 27]
abbrev dktX6_scanAll_0 : List UInt8 := dkwX6_scanAll_0 ++ dktX6_scanAll_1
theorem dksX6_scanAll_0 : cX6_scanAll.data.toList.drop 0 = dktX6_scanAll_0 := by decide +kernel
theorem dksX6_scanAll_1 : cX6_scanAll.data.toList.drop 23 = dktX6_scanAll_1 := dk_seg dksX6_scanAll_0 23 rfl rfl
theorem dksX6_scanAll_2 : cX6_scanAll.data.toList.drop 46 = dktX6_scanAll_2 := dk_seg dksX6_scanAll_1 23 rfl rfl
theorem dksX6_scanAll_3 : cX6_scanAll.data.toList.drop 68 = dktX6_scanAll_3 := dk_seg dksX6_scanAll_2 22 rfl rfl
theorem dksX6_scanAll_4 : cX6_scanAll.data.toList.drop 92 = dktX6_scanAll_4 := dk_seg dksX6_scanAll_3 24 rfl rfl
theorem dX6_scanAll_0 : decode cX6_scanAll 0 = .ok (.aload_n 0, 1) := dk_42 (dk_at dksX6_scanAll_0 0 rfl rfl)
theorem dX6_scanAll_1 : decode cX6_scanAll 1 = .ok (.iconst 0, 1) := dk_3 (dk_at dksX6_scanAll_0 1 rfl rfl)
theorem dX6_scanAll_2 : decode cX6_scanAll 2 = .ok (.putfield 166, 3) := dk_181 0 166 (dk_at dksX6_scanAll_0 2 rfl rfl)
theorem dX6_scanAll_5 : decode cX6_scanAll 5 = .ok (.iconst 0, 1) := dk_3 (dk_at dksX6_scanAll_0 5 rfl rfl)
theorem dX6_scanAll_6 : decode cX6_scanAll 6 = .ok (.istore_n 1, 1) := dk_60 (dk_at dksX6_scanAll_0 6 rfl rfl)
theorem dX6_scanAll_7 : decode cX6_scanAll 7 = .ok (.iconst 1, 1) := dk_4 (dk_at dksX6_scanAll_0 7 rfl rfl)
theorem dX6_scanAll_8 : decode cX6_scanAll 8 = .ok (.istore_n 2, 1) := dk_61 (dk_at dksX6_scanAll_0 8 rfl rfl)
theorem dX6_scanAll_9 : decode cX6_scanAll 9 = .ok (.iload_n 1, 1) := dk_27 (dk_at dksX6_scanAll_0 9 rfl rfl)
theorem dX6_scanAll_10 : decode cX6_scanAll 10 = .ok (.aload_n 0, 1) := dk_42 (dk_at dksX6_scanAll_0 10 rfl rfl)
theorem dX6_scanAll_11 : decode cX6_scanAll 11 = .ok (.getfield 155, 3) := dk_180 0 155 (dk_at dksX6_scanAll_0 11 rfl rfl)
theorem dX6_scanAll_14 : decode cX6_scanAll 14 = .ok (.if_icmp .ge 73, 3) := dk_162 0 73 (dk_at dksX6_scanAll_0 14 rfl rfl)
theorem dX6_scanAll_17 : decode cX6_scanAll 17 = .ok (.iload_n 2, 1) := dk_28 (dk_at dksX6_scanAll_0 17 rfl rfl)
theorem dX6_scanAll_18 : decode cX6_scanAll 18 = .ok (.ifCond .eq 69, 3) := dk_153 0 69 (dk_at dksX6_scanAll_0 18 rfl rfl)
theorem dX6_scanAll_21 : decode cX6_scanAll 21 = .ok (.aload_n 0, 1) := dk_42 (dk_at dksX6_scanAll_0 21 rfl rfl)
theorem dX6_scanAll_22 : decode cX6_scanAll 22 = .ok (.iload_n 1, 1) := dk_27 (dk_at dksX6_scanAll_0 22 rfl rfl)
theorem dX6_scanAll_23 : decode cX6_scanAll 23 = .ok (.invokevirtual 162, 3) := dk_182 0 162 (dk_at dksX6_scanAll_1 0 rfl rfl)
theorem dX6_scanAll_26 : decode cX6_scanAll 26 = .ok (.istore_n 3, 1) := dk_62 (dk_at dksX6_scanAll_1 3 rfl rfl)
theorem dX6_scanAll_27 : decode cX6_scanAll 27 = .ok (.iload_n 3, 1) := dk_29 (dk_at dksX6_scanAll_1 4 rfl rfl)
theorem dX6_scanAll_28 : decode cX6_scanAll 28 = .ok (.bipush 32, 2) := dk_16 32 (dk_at dksX6_scanAll_1 5 rfl rfl)
theorem dX6_scanAll_30 : decode cX6_scanAll 30 = .ok (.if_icmp .eq 21, 3) := dk_159 0 21 (dk_at dksX6_scanAll_1 7 rfl rfl)
theorem dX6_scanAll_33 : decode cX6_scanAll 33 = .ok (.iload_n 3, 1) := dk_29 (dk_at dksX6_scanAll_1 10 rfl rfl)
theorem dX6_scanAll_34 : decode cX6_scanAll 34 = .ok (.bipush 9, 2) := dk_16 9 (dk_at dksX6_scanAll_1 11 rfl rfl)
theorem dX6_scanAll_36 : decode cX6_scanAll 36 = .ok (.if_icmp .eq 15, 3) := dk_159 0 15 (dk_at dksX6_scanAll_1 13 rfl rfl)
theorem dX6_scanAll_39 : decode cX6_scanAll 39 = .ok (.iload_n 3, 1) := dk_29 (dk_at dksX6_scanAll_1 16 rfl rfl)
theorem dX6_scanAll_40 : decode cX6_scanAll 40 = .ok (.bipush 10, 2) := dk_16 10 (dk_at dksX6_scanAll_1 17 rfl rfl)
theorem dX6_scanAll_42 : decode cX6_scanAll 42 = .ok (.if_icmp .eq 9, 3) := dk_159 0 9 (dk_at dksX6_scanAll_1 19 rfl rfl)
theorem dX6_scanAll_45 : decode cX6_scanAll 45 = .ok (.iload_n 3, 1) := dk_29 (dk_at dksX6_scanAll_1 22 rfl rfl)
theorem dX6_scanAll_46 : decode cX6_scanAll 46 = .ok (.bipush 13, 2) := dk_16 13 (dk_at dksX6_scanAll_2 0 rfl rfl)
theorem dX6_scanAll_48 : decode cX6_scanAll 48 = .ok (.if_icmp .ne 9, 3) := dk_160 0 9 (dk_at dksX6_scanAll_2 2 rfl rfl)
theorem dX6_scanAll_51 : decode cX6_scanAll 51 = .ok (.iinc 1 1, 3) := dk_132 1 1 (dk_at dksX6_scanAll_2 5 rfl rfl)
theorem dX6_scanAll_54 : decode cX6_scanAll 54 = .ok (.goto (-45), 3) := dk_167 255 211 (dk_at dksX6_scanAll_2 8 rfl rfl)
theorem dX6_scanAll_57 : decode cX6_scanAll 57 = .ok (.aload_n 0, 1) := dk_42 (dk_at dksX6_scanAll_2 11 rfl rfl)
theorem dX6_scanAll_58 : decode cX6_scanAll 58 = .ok (.iload_n 1, 1) := dk_27 (dk_at dksX6_scanAll_2 12 rfl rfl)
theorem dX6_scanAll_59 : decode cX6_scanAll 59 = .ok (.invokevirtual 208, 3) := dk_182 0 208 (dk_at dksX6_scanAll_2 13 rfl rfl)
theorem dX6_scanAll_62 : decode cX6_scanAll 62 = .ok (.istore_n 1, 1) := dk_60 (dk_at dksX6_scanAll_2 16 rfl rfl)
theorem dX6_scanAll_63 : decode cX6_scanAll 63 = .ok (.aload_n 0, 1) := dk_42 (dk_at dksX6_scanAll_2 17 rfl rfl)
theorem dX6_scanAll_64 : decode cX6_scanAll 64 = .ok (.getfield 43, 3) := dk_180 0 43 (dk_at dksX6_scanAll_2 18 rfl rfl)
theorem dX6_scanAll_67 : decode cX6_scanAll 67 = .ok (.aload_n 0, 1) := dk_42 (dk_at dksX6_scanAll_2 21 rfl rfl)
theorem dX6_scanAll_68 : decode cX6_scanAll 68 = .ok (.getfield 166, 3) := dk_180 0 166 (dk_at dksX6_scanAll_3 0 rfl rfl)
theorem dX6_scanAll_71 : decode cX6_scanAll 71 = .ok (.iconst 1, 1) := dk_4 (dk_at dksX6_scanAll_3 3 rfl rfl)
theorem dX6_scanAll_72 : decode cX6_scanAll 72 = .ok (.isub, 1) := dk_100 (dk_at dksX6_scanAll_3 4 rfl rfl)
theorem dX6_scanAll_73 : decode cX6_scanAll 73 = .ok (.iaload, 1) := dk_46 (dk_at dksX6_scanAll_3 5 rfl rfl)
theorem dX6_scanAll_74 : decode cX6_scanAll 74 = .ok (.iconst 5, 1) := dk_8 (dk_at dksX6_scanAll_3 6 rfl rfl)
theorem dX6_scanAll_75 : decode cX6_scanAll 75 = .ok (.if_icmp .eq 7, 3) := dk_159 0 7 (dk_at dksX6_scanAll_3 7 rfl rfl)
theorem dX6_scanAll_78 : decode cX6_scanAll 78 = .ok (.iconst 1, 1) := dk_4 (dk_at dksX6_scanAll_3 10 rfl rfl)
theorem dX6_scanAll_79 : decode cX6_scanAll 79 = .ok (.goto 4, 3) := dk_167 0 4 (dk_at dksX6_scanAll_3 11 rfl rfl)
theorem dX6_scanAll_82 : decode cX6_scanAll 82 = .ok (.iconst 0, 1) := dk_3 (dk_at dksX6_scanAll_3 14 rfl rfl)
theorem dX6_scanAll_83 : decode cX6_scanAll 83 = .ok (.istore_n 2, 1) := dk_61 (dk_at dksX6_scanAll_3 15 rfl rfl)
theorem dX6_scanAll_84 : decode cX6_scanAll 84 = .ok (.goto (-75), 3) := dk_167 255 181 (dk_at dksX6_scanAll_3 16 rfl rfl)
theorem dX6_scanAll_87 : decode cX6_scanAll 87 = .ok (.iload_n 2, 1) := dk_28 (dk_at dksX6_scanAll_3 19 rfl rfl)
theorem dX6_scanAll_88 : decode cX6_scanAll 88 = .ok (.ifCond .eq 13, 3) := dk_153 0 13 (dk_at dksX6_scanAll_3 20 rfl rfl)
theorem dX6_scanAll_91 : decode cX6_scanAll 91 = .ok (.aload_n 0, 1) := dk_42 (dk_at dksX6_scanAll_3 23 rfl rfl)
theorem dX6_scanAll_92 : decode cX6_scanAll 92 = .ok (.iconst 4, 1) := dk_7 (dk_at dksX6_scanAll_4 0 rfl rfl)
theorem dX6_scanAll_93 : decode cX6_scanAll 93 = .ok (.aload_n 0, 1) := dk_42 (dk_at dksX6_scanAll_4 1 rfl rfl)
theorem dX6_scanAll_94 : decode cX6_scanAll 94 = .ok (.getfield 155, 3) := dk_180 0 155 (dk_at dksX6_scanAll_4 2 rfl rfl)
theorem dX6_scanAll_97 : decode cX6_scanAll 97 = .ok (.iconst 0, 1) := dk_3 (dk_at dksX6_scanAll_4 5 rfl rfl)
theorem dX6_scanAll_98 : decode cX6_scanAll 98 = .ok (.invokevirtual 201, 3) := dk_182 0 201 (dk_at dksX6_scanAll_4 6 rfl rfl)
theorem dX6_scanAll_101 : decode cX6_scanAll 101 = .ok (.return_, 1) := dk_177 (dk_at dksX6_scanAll_4 9 rfl rfl)
abbrev cX6_byteAt : ByteArray := prog_14_method_5_code
def yX6_byteAt : MethodName := ⟨RX6, "byteAt", "(I)I"⟩
def dkwX6_byteAt_0 : List UInt8 := [27, 42, 180, 0, 155, 162, 0, 12, 42, 180, 0, 40, 27, 46, 167, 0, 4, 3, 172]
abbrev dktX6_byteAt_0 : List UInt8 := dkwX6_byteAt_0 ++ []
theorem dksX6_byteAt_0 : cX6_byteAt.data.toList.drop 0 = dktX6_byteAt_0 := by decide +kernel
theorem dX6_byteAt_0 : decode cX6_byteAt 0 = .ok (.iload_n 1, 1) := dk_27 (dk_at dksX6_byteAt_0 0 rfl rfl)
theorem dX6_byteAt_1 : decode cX6_byteAt 1 = .ok (.aload_n 0, 1) := dk_42 (dk_at dksX6_byteAt_0 1 rfl rfl)
theorem dX6_byteAt_2 : decode cX6_byteAt 2 = .ok (.getfield 155, 3) := dk_180 0 155 (dk_at dksX6_byteAt_0 2 rfl rfl)
theorem dX6_byteAt_5 : decode cX6_byteAt 5 = .ok (.if_icmp .ge 12, 3) := dk_162 0 12 (dk_at dksX6_byteAt_0 5 rfl rfl)
theorem dX6_byteAt_8 : decode cX6_byteAt 8 = .ok (.aload_n 0, 1) := dk_42 (dk_at dksX6_byteAt_0 8 rfl rfl)
theorem dX6_byteAt_9 : decode cX6_byteAt 9 = .ok (.getfield 40, 3) := dk_180 0 40 (dk_at dksX6_byteAt_0 9 rfl rfl)
theorem dX6_byteAt_12 : decode cX6_byteAt 12 = .ok (.iload_n 1, 1) := dk_27 (dk_at dksX6_byteAt_0 12 rfl rfl)
theorem dX6_byteAt_13 : decode cX6_byteAt 13 = .ok (.iaload, 1) := dk_46 (dk_at dksX6_byteAt_0 13 rfl rfl)
theorem dX6_byteAt_14 : decode cX6_byteAt 14 = .ok (.goto 4, 3) := dk_167 0 4 (dk_at dksX6_byteAt_0 14 rfl rfl)
theorem dX6_byteAt_17 : decode cX6_byteAt 17 = .ok (.iconst 0, 1) := dk_3 (dk_at dksX6_byteAt_0 17 rfl rfl)
theorem dX6_byteAt_18 : decode cX6_byteAt 18 = .ok (.ireturn, 1) := dk_172 (dk_at dksX6_byteAt_0 18 rfl rfl)
abbrev cX6_scan : ByteArray := prog_14_method_10_code
def yX6_scan : MethodName := ⟨RX6, "scan", "(I)I"⟩
def dkwX6_scan_9 : List UInt8 := [182, 0, 201, 27, 4, 96, 172]
abbrev dktX6_scan_9 : List UInt8 := dkwX6_scan_9 ++ []
def dkwX6_scan_8 : List UInt8 := [159, 0, 15, 29, 16, 123, 159, 0, 9, 29, 16, 125, 160, 0, 7, 5, 167, 0, 4, 8, 27, 29]
abbrev dktX6_scan_8 : List UInt8 := dkwX6_scan_8 ++ dktX6_scan_9
def dkwX6_scan_7 : List UInt8 := [8, 167, 0, 4, 4, 27, 29, 182, 0, 201, 28, 172, 42, 27, 182, 0, 162, 62, 42, 29, 16, 59]
abbrev dktX6_scan_7 : List UInt8 := dkwX6_scan_7 ++ dktX6_scan_8
def dkwX6_scan_6 : List UInt8 := [42, 28, 182, 0, 162, 96, 16, 48, 100, 62, 132, 2, 1, 167, 255, 224, 42, 28, 27, 100, 7, 164, 0, 7]
abbrev dktX6_scan_6 : List UInt8 := dkwX6_scan_6 ++ dktX6_scan_7
def dkwX6_scan_5 : List UInt8 := [153, 0, 60, 3, 62, 42, 28, 182, 0, 205, 153, 0, 30, 28, 27, 100, 7, 162, 0, 17, 16, 10, 29, 104]
abbrev dktX6_scan_5 : List UInt8 := dkwX6_scan_5 ++ dktX6_scan_6
def dkwX6_scan_4 : List UInt8 := [21, 5, 155, 0, 7, 6, 167, 0, 4, 3, 27, 21, 5, 182, 0, 201, 28, 172, 42, 27, 182, 0, 205]
abbrev dktX6_scan_4 : List UInt8 := dkwX6_scan_4 ++ dktX6_scan_5
def dkwX6_scan_3 : List UInt8 := [42, 180, 0, 52, 42, 180, 0, 166, 33, 80, 42, 28, 27, 100, 16, 8, 164, 0, 7, 8, 167, 0, 13]
abbrev dktX6_scan_3 : List UInt8 := dkwX6_scan_3 ++ dktX6_scan_4
def dkwX6_scan_2 : List UInt8 := [132, 2, 1, 167, 255, 220, 28, 27, 100, 16, 8, 164, 0, 7, 2, 167, 0, 7, 33, 184, 0, 197, 54, 5]
abbrev dktX6_scan_2 : List UInt8 := dkwX6_scan_2 ++ dktX6_scan_3
def dkwX6_scan_1 : List UInt8 := [16, 8, 162, 0, 20, 33, 20, 0, 193, 105, 42, 28, 182, 0, 162, 133, 97, 20, 0, 195, 101, 66]
abbrev dktX6_scan_1 : List UInt8 := dkwX6_scan_1 ++ dktX6_scan_2
def dkwX6_scan_0 : List UInt8 := [27, 61, 42, 27, 182, 0, 189, 153, 0, 103, 9, 66, 42, 28, 182, 0, 189, 153, 0, 34, 28, 27, 100]
abbrev dktX6_scan_0 : List UInt8 := dkwX6_scan_0 ++ dktX6_scan_1
theorem dksX6_scan_0 : cX6_scan.data.toList.drop 0 = dktX6_scan_0 := by decide +kernel
theorem dksX6_scan_1 : cX6_scan.data.toList.drop 23 = dktX6_scan_1 := dk_seg dksX6_scan_0 23 rfl rfl
theorem dksX6_scan_2 : cX6_scan.data.toList.drop 45 = dktX6_scan_2 := dk_seg dksX6_scan_1 22 rfl rfl
theorem dksX6_scan_3 : cX6_scan.data.toList.drop 69 = dktX6_scan_3 := dk_seg dksX6_scan_2 24 rfl rfl
theorem dksX6_scan_4 : cX6_scan.data.toList.drop 92 = dktX6_scan_4 := dk_seg dksX6_scan_3 23 rfl rfl
theorem dksX6_scan_5 : cX6_scan.data.toList.drop 115 = dktX6_scan_5 := dk_seg dksX6_scan_4 23 rfl rfl
theorem dksX6_scan_6 : cX6_scan.data.toList.drop 139 = dktX6_scan_6 := dk_seg dksX6_scan_5 24 rfl rfl
theorem dksX6_scan_7 : cX6_scan.data.toList.drop 163 = dktX6_scan_7 := dk_seg dksX6_scan_6 24 rfl rfl
theorem dksX6_scan_8 : cX6_scan.data.toList.drop 185 = dktX6_scan_8 := dk_seg dksX6_scan_7 22 rfl rfl
theorem dksX6_scan_9 : cX6_scan.data.toList.drop 207 = dktX6_scan_9 := dk_seg dksX6_scan_8 22 rfl rfl
theorem dX6_scan_0 : decode cX6_scan 0 = .ok (.iload_n 1, 1) := dk_27 (dk_at dksX6_scan_0 0 rfl rfl)
theorem dX6_scan_1 : decode cX6_scan 1 = .ok (.istore_n 2, 1) := dk_61 (dk_at dksX6_scan_0 1 rfl rfl)
theorem dX6_scan_2 : decode cX6_scan 2 = .ok (.aload_n 0, 1) := dk_42 (dk_at dksX6_scan_0 2 rfl rfl)
theorem dX6_scan_3 : decode cX6_scan 3 = .ok (.iload_n 1, 1) := dk_27 (dk_at dksX6_scan_0 3 rfl rfl)
theorem dX6_scan_4 : decode cX6_scan 4 = .ok (.invokevirtual 189, 3) := dk_182 0 189 (dk_at dksX6_scan_0 4 rfl rfl)
theorem dX6_scan_7 : decode cX6_scan 7 = .ok (.ifCond .eq 103, 3) := dk_153 0 103 (dk_at dksX6_scan_0 7 rfl rfl)
theorem dX6_scan_10 : decode cX6_scan 10 = .ok (.lconst 0, 1) := dk_9 (dk_at dksX6_scan_0 10 rfl rfl)
theorem dX6_scan_11 : decode cX6_scan 11 = .ok (.lstore_n 3, 1) := dk_66 (dk_at dksX6_scan_0 11 rfl rfl)
theorem dX6_scan_12 : decode cX6_scan 12 = .ok (.aload_n 0, 1) := dk_42 (dk_at dksX6_scan_0 12 rfl rfl)
theorem dX6_scan_13 : decode cX6_scan 13 = .ok (.iload_n 2, 1) := dk_28 (dk_at dksX6_scan_0 13 rfl rfl)
theorem dX6_scan_14 : decode cX6_scan 14 = .ok (.invokevirtual 189, 3) := dk_182 0 189 (dk_at dksX6_scan_0 14 rfl rfl)
theorem dX6_scan_17 : decode cX6_scan 17 = .ok (.ifCond .eq 34, 3) := dk_153 0 34 (dk_at dksX6_scan_0 17 rfl rfl)
theorem dX6_scan_20 : decode cX6_scan 20 = .ok (.iload_n 2, 1) := dk_28 (dk_at dksX6_scan_0 20 rfl rfl)
theorem dX6_scan_21 : decode cX6_scan 21 = .ok (.iload_n 1, 1) := dk_27 (dk_at dksX6_scan_0 21 rfl rfl)
theorem dX6_scan_22 : decode cX6_scan 22 = .ok (.isub, 1) := dk_100 (dk_at dksX6_scan_0 22 rfl rfl)
theorem dX6_scan_23 : decode cX6_scan 23 = .ok (.bipush 8, 2) := dk_16 8 (dk_at dksX6_scan_1 0 rfl rfl)
theorem dX6_scan_25 : decode cX6_scan 25 = .ok (.if_icmp .ge 20, 3) := dk_162 0 20 (dk_at dksX6_scan_1 2 rfl rfl)
theorem dX6_scan_28 : decode cX6_scan 28 = .ok (.lload_n 3, 1) := dk_33 (dk_at dksX6_scan_1 5 rfl rfl)
theorem dX6_scan_29 : decode cX6_scan 29 = .ok (.ldc2_w 193, 3) := dk_20 0 193 (dk_at dksX6_scan_1 6 rfl rfl)
theorem dX6_scan_32 : decode cX6_scan 32 = .ok (.lmul, 1) := dk_105 (dk_at dksX6_scan_1 9 rfl rfl)
theorem dX6_scan_33 : decode cX6_scan 33 = .ok (.aload_n 0, 1) := dk_42 (dk_at dksX6_scan_1 10 rfl rfl)
theorem dX6_scan_34 : decode cX6_scan 34 = .ok (.iload_n 2, 1) := dk_28 (dk_at dksX6_scan_1 11 rfl rfl)
theorem dX6_scan_35 : decode cX6_scan 35 = .ok (.invokevirtual 162, 3) := dk_182 0 162 (dk_at dksX6_scan_1 12 rfl rfl)
theorem dX6_scan_38 : decode cX6_scan 38 = .ok (.i2l, 1) := dk_133 (dk_at dksX6_scan_1 15 rfl rfl)
theorem dX6_scan_39 : decode cX6_scan 39 = .ok (.ladd, 1) := dk_97 (dk_at dksX6_scan_1 16 rfl rfl)
theorem dX6_scan_40 : decode cX6_scan 40 = .ok (.ldc2_w 195, 3) := dk_20 0 195 (dk_at dksX6_scan_1 17 rfl rfl)
theorem dX6_scan_43 : decode cX6_scan 43 = .ok (.lsub, 1) := dk_101 (dk_at dksX6_scan_1 20 rfl rfl)
theorem dX6_scan_44 : decode cX6_scan 44 = .ok (.lstore_n 3, 1) := dk_66 (dk_at dksX6_scan_1 21 rfl rfl)
theorem dX6_scan_45 : decode cX6_scan 45 = .ok (.iinc 2 1, 3) := dk_132 2 1 (dk_at dksX6_scan_2 0 rfl rfl)
theorem dX6_scan_48 : decode cX6_scan 48 = .ok (.goto (-36), 3) := dk_167 255 220 (dk_at dksX6_scan_2 3 rfl rfl)
theorem dX6_scan_51 : decode cX6_scan 51 = .ok (.iload_n 2, 1) := dk_28 (dk_at dksX6_scan_2 6 rfl rfl)
theorem dX6_scan_52 : decode cX6_scan 52 = .ok (.iload_n 1, 1) := dk_27 (dk_at dksX6_scan_2 7 rfl rfl)
theorem dX6_scan_53 : decode cX6_scan 53 = .ok (.isub, 1) := dk_100 (dk_at dksX6_scan_2 8 rfl rfl)
theorem dX6_scan_54 : decode cX6_scan 54 = .ok (.bipush 8, 2) := dk_16 8 (dk_at dksX6_scan_2 9 rfl rfl)
theorem dX6_scan_56 : decode cX6_scan 56 = .ok (.if_icmp .le 7, 3) := dk_164 0 7 (dk_at dksX6_scan_2 11 rfl rfl)
theorem dX6_scan_59 : decode cX6_scan 59 = .ok (.iconst (-1), 1) := dk_2 (dk_at dksX6_scan_2 14 rfl rfl)
theorem dX6_scan_60 : decode cX6_scan 60 = .ok (.goto 7, 3) := dk_167 0 7 (dk_at dksX6_scan_2 15 rfl rfl)
theorem dX6_scan_63 : decode cX6_scan 63 = .ok (.lload_n 3, 1) := dk_33 (dk_at dksX6_scan_2 18 rfl rfl)
theorem dX6_scan_64 : decode cX6_scan 64 = .ok (.invokestatic 197, 3) := dk_184 0 197 (dk_at dksX6_scan_2 19 rfl rfl)
theorem dX6_scan_67 : decode cX6_scan 67 = .ok (.istore 5, 2) := dk_54 5 (dk_at dksX6_scan_2 22 rfl rfl)
theorem dX6_scan_69 : decode cX6_scan 69 = .ok (.aload_n 0, 1) := dk_42 (dk_at dksX6_scan_3 0 rfl rfl)
theorem dX6_scan_70 : decode cX6_scan 70 = .ok (.getfield 52, 3) := dk_180 0 52 (dk_at dksX6_scan_3 1 rfl rfl)
theorem dX6_scan_73 : decode cX6_scan 73 = .ok (.aload_n 0, 1) := dk_42 (dk_at dksX6_scan_3 4 rfl rfl)
theorem dX6_scan_74 : decode cX6_scan 74 = .ok (.getfield 166, 3) := dk_180 0 166 (dk_at dksX6_scan_3 5 rfl rfl)
theorem dX6_scan_77 : decode cX6_scan 77 = .ok (.lload_n 3, 1) := dk_33 (dk_at dksX6_scan_3 8 rfl rfl)
theorem dX6_scan_78 : decode cX6_scan 78 = .ok (.lastore, 1) := dk_80 (dk_at dksX6_scan_3 9 rfl rfl)
theorem dX6_scan_79 : decode cX6_scan 79 = .ok (.aload_n 0, 1) := dk_42 (dk_at dksX6_scan_3 10 rfl rfl)
theorem dX6_scan_80 : decode cX6_scan 80 = .ok (.iload_n 2, 1) := dk_28 (dk_at dksX6_scan_3 11 rfl rfl)
theorem dX6_scan_81 : decode cX6_scan 81 = .ok (.iload_n 1, 1) := dk_27 (dk_at dksX6_scan_3 12 rfl rfl)
theorem dX6_scan_82 : decode cX6_scan 82 = .ok (.isub, 1) := dk_100 (dk_at dksX6_scan_3 13 rfl rfl)
theorem dX6_scan_83 : decode cX6_scan 83 = .ok (.bipush 8, 2) := dk_16 8 (dk_at dksX6_scan_3 14 rfl rfl)
theorem dX6_scan_85 : decode cX6_scan 85 = .ok (.if_icmp .le 7, 3) := dk_164 0 7 (dk_at dksX6_scan_3 16 rfl rfl)
theorem dX6_scan_88 : decode cX6_scan 88 = .ok (.iconst 5, 1) := dk_8 (dk_at dksX6_scan_3 19 rfl rfl)
theorem dX6_scan_89 : decode cX6_scan 89 = .ok (.goto 13, 3) := dk_167 0 13 (dk_at dksX6_scan_3 20 rfl rfl)
theorem dX6_scan_92 : decode cX6_scan 92 = .ok (.iload 5, 2) := dk_21 5 (dk_at dksX6_scan_4 0 rfl rfl)
theorem dX6_scan_94 : decode cX6_scan 94 = .ok (.ifCond .lt 7, 3) := dk_155 0 7 (dk_at dksX6_scan_4 2 rfl rfl)
theorem dX6_scan_97 : decode cX6_scan 97 = .ok (.iconst 3, 1) := dk_6 (dk_at dksX6_scan_4 5 rfl rfl)
theorem dX6_scan_98 : decode cX6_scan 98 = .ok (.goto 4, 3) := dk_167 0 4 (dk_at dksX6_scan_4 6 rfl rfl)
theorem dX6_scan_101 : decode cX6_scan 101 = .ok (.iconst 0, 1) := dk_3 (dk_at dksX6_scan_4 9 rfl rfl)
theorem dX6_scan_102 : decode cX6_scan 102 = .ok (.iload_n 1, 1) := dk_27 (dk_at dksX6_scan_4 10 rfl rfl)
theorem dX6_scan_103 : decode cX6_scan 103 = .ok (.iload 5, 2) := dk_21 5 (dk_at dksX6_scan_4 11 rfl rfl)
theorem dX6_scan_105 : decode cX6_scan 105 = .ok (.invokevirtual 201, 3) := dk_182 0 201 (dk_at dksX6_scan_4 13 rfl rfl)
theorem dX6_scan_108 : decode cX6_scan 108 = .ok (.iload_n 2, 1) := dk_28 (dk_at dksX6_scan_4 16 rfl rfl)
theorem dX6_scan_109 : decode cX6_scan 109 = .ok (.ireturn, 1) := dk_172 (dk_at dksX6_scan_4 17 rfl rfl)
theorem dX6_scan_110 : decode cX6_scan 110 = .ok (.aload_n 0, 1) := dk_42 (dk_at dksX6_scan_4 18 rfl rfl)
theorem dX6_scan_111 : decode cX6_scan 111 = .ok (.iload_n 1, 1) := dk_27 (dk_at dksX6_scan_4 19 rfl rfl)
theorem dX6_scan_112 : decode cX6_scan 112 = .ok (.invokevirtual 205, 3) := dk_182 0 205 (dk_at dksX6_scan_4 20 rfl rfl)
theorem dX6_scan_115 : decode cX6_scan 115 = .ok (.ifCond .eq 60, 3) := dk_153 0 60 (dk_at dksX6_scan_5 0 rfl rfl)
theorem dX6_scan_118 : decode cX6_scan 118 = .ok (.iconst 0, 1) := dk_3 (dk_at dksX6_scan_5 3 rfl rfl)
theorem dX6_scan_119 : decode cX6_scan 119 = .ok (.istore_n 3, 1) := dk_62 (dk_at dksX6_scan_5 4 rfl rfl)
theorem dX6_scan_120 : decode cX6_scan 120 = .ok (.aload_n 0, 1) := dk_42 (dk_at dksX6_scan_5 5 rfl rfl)
theorem dX6_scan_121 : decode cX6_scan 121 = .ok (.iload_n 2, 1) := dk_28 (dk_at dksX6_scan_5 6 rfl rfl)
theorem dX6_scan_122 : decode cX6_scan 122 = .ok (.invokevirtual 205, 3) := dk_182 0 205 (dk_at dksX6_scan_5 7 rfl rfl)
theorem dX6_scan_125 : decode cX6_scan 125 = .ok (.ifCond .eq 30, 3) := dk_153 0 30 (dk_at dksX6_scan_5 10 rfl rfl)
theorem dX6_scan_128 : decode cX6_scan 128 = .ok (.iload_n 2, 1) := dk_28 (dk_at dksX6_scan_5 13 rfl rfl)
theorem dX6_scan_129 : decode cX6_scan 129 = .ok (.iload_n 1, 1) := dk_27 (dk_at dksX6_scan_5 14 rfl rfl)
theorem dX6_scan_130 : decode cX6_scan 130 = .ok (.isub, 1) := dk_100 (dk_at dksX6_scan_5 15 rfl rfl)
theorem dX6_scan_131 : decode cX6_scan 131 = .ok (.iconst 4, 1) := dk_7 (dk_at dksX6_scan_5 16 rfl rfl)
theorem dX6_scan_132 : decode cX6_scan 132 = .ok (.if_icmp .ge 17, 3) := dk_162 0 17 (dk_at dksX6_scan_5 17 rfl rfl)
theorem dX6_scan_135 : decode cX6_scan 135 = .ok (.bipush 10, 2) := dk_16 10 (dk_at dksX6_scan_5 20 rfl rfl)
theorem dX6_scan_137 : decode cX6_scan 137 = .ok (.iload_n 3, 1) := dk_29 (dk_at dksX6_scan_5 22 rfl rfl)
theorem dX6_scan_138 : decode cX6_scan 138 = .ok (.imul, 1) := dk_104 (dk_at dksX6_scan_5 23 rfl rfl)
theorem dX6_scan_139 : decode cX6_scan 139 = .ok (.aload_n 0, 1) := dk_42 (dk_at dksX6_scan_6 0 rfl rfl)
theorem dX6_scan_140 : decode cX6_scan 140 = .ok (.iload_n 2, 1) := dk_28 (dk_at dksX6_scan_6 1 rfl rfl)
theorem dX6_scan_141 : decode cX6_scan 141 = .ok (.invokevirtual 162, 3) := dk_182 0 162 (dk_at dksX6_scan_6 2 rfl rfl)
theorem dX6_scan_144 : decode cX6_scan 144 = .ok (.iadd, 1) := dk_96 (dk_at dksX6_scan_6 5 rfl rfl)
theorem dX6_scan_145 : decode cX6_scan 145 = .ok (.bipush 48, 2) := dk_16 48 (dk_at dksX6_scan_6 6 rfl rfl)
theorem dX6_scan_147 : decode cX6_scan 147 = .ok (.isub, 1) := dk_100 (dk_at dksX6_scan_6 8 rfl rfl)
theorem dX6_scan_148 : decode cX6_scan 148 = .ok (.istore_n 3, 1) := dk_62 (dk_at dksX6_scan_6 9 rfl rfl)
theorem dX6_scan_149 : decode cX6_scan 149 = .ok (.iinc 2 1, 3) := dk_132 2 1 (dk_at dksX6_scan_6 10 rfl rfl)
theorem dX6_scan_152 : decode cX6_scan 152 = .ok (.goto (-32), 3) := dk_167 255 224 (dk_at dksX6_scan_6 13 rfl rfl)
theorem dX6_scan_155 : decode cX6_scan 155 = .ok (.aload_n 0, 1) := dk_42 (dk_at dksX6_scan_6 16 rfl rfl)
theorem dX6_scan_156 : decode cX6_scan 156 = .ok (.iload_n 2, 1) := dk_28 (dk_at dksX6_scan_6 17 rfl rfl)
theorem dX6_scan_157 : decode cX6_scan 157 = .ok (.iload_n 1, 1) := dk_27 (dk_at dksX6_scan_6 18 rfl rfl)
theorem dX6_scan_158 : decode cX6_scan 158 = .ok (.isub, 1) := dk_100 (dk_at dksX6_scan_6 19 rfl rfl)
theorem dX6_scan_159 : decode cX6_scan 159 = .ok (.iconst 4, 1) := dk_7 (dk_at dksX6_scan_6 20 rfl rfl)
theorem dX6_scan_160 : decode cX6_scan 160 = .ok (.if_icmp .le 7, 3) := dk_164 0 7 (dk_at dksX6_scan_6 21 rfl rfl)
theorem dX6_scan_163 : decode cX6_scan 163 = .ok (.iconst 5, 1) := dk_8 (dk_at dksX6_scan_7 0 rfl rfl)
theorem dX6_scan_164 : decode cX6_scan 164 = .ok (.goto 4, 3) := dk_167 0 4 (dk_at dksX6_scan_7 1 rfl rfl)
theorem dX6_scan_167 : decode cX6_scan 167 = .ok (.iconst 1, 1) := dk_4 (dk_at dksX6_scan_7 4 rfl rfl)
theorem dX6_scan_168 : decode cX6_scan 168 = .ok (.iload_n 1, 1) := dk_27 (dk_at dksX6_scan_7 5 rfl rfl)
theorem dX6_scan_169 : decode cX6_scan 169 = .ok (.iload_n 3, 1) := dk_29 (dk_at dksX6_scan_7 6 rfl rfl)
theorem dX6_scan_170 : decode cX6_scan 170 = .ok (.invokevirtual 201, 3) := dk_182 0 201 (dk_at dksX6_scan_7 7 rfl rfl)
theorem dX6_scan_173 : decode cX6_scan 173 = .ok (.iload_n 2, 1) := dk_28 (dk_at dksX6_scan_7 10 rfl rfl)
theorem dX6_scan_174 : decode cX6_scan 174 = .ok (.ireturn, 1) := dk_172 (dk_at dksX6_scan_7 11 rfl rfl)
theorem dX6_scan_175 : decode cX6_scan 175 = .ok (.aload_n 0, 1) := dk_42 (dk_at dksX6_scan_7 12 rfl rfl)
theorem dX6_scan_176 : decode cX6_scan 176 = .ok (.iload_n 1, 1) := dk_27 (dk_at dksX6_scan_7 13 rfl rfl)
theorem dX6_scan_177 : decode cX6_scan 177 = .ok (.invokevirtual 162, 3) := dk_182 0 162 (dk_at dksX6_scan_7 14 rfl rfl)
theorem dX6_scan_180 : decode cX6_scan 180 = .ok (.istore_n 3, 1) := dk_62 (dk_at dksX6_scan_7 17 rfl rfl)
theorem dX6_scan_181 : decode cX6_scan 181 = .ok (.aload_n 0, 1) := dk_42 (dk_at dksX6_scan_7 18 rfl rfl)
theorem dX6_scan_182 : decode cX6_scan 182 = .ok (.iload_n 3, 1) := dk_29 (dk_at dksX6_scan_7 19 rfl rfl)
theorem dX6_scan_183 : decode cX6_scan 183 = .ok (.bipush 59, 2) := dk_16 59 (dk_at dksX6_scan_7 20 rfl rfl)
theorem dX6_scan_185 : decode cX6_scan 185 = .ok (.if_icmp .eq 15, 3) := dk_159 0 15 (dk_at dksX6_scan_8 0 rfl rfl)
theorem dX6_scan_188 : decode cX6_scan 188 = .ok (.iload_n 3, 1) := dk_29 (dk_at dksX6_scan_8 3 rfl rfl)
theorem dX6_scan_189 : decode cX6_scan 189 = .ok (.bipush 123, 2) := dk_16 123 (dk_at dksX6_scan_8 4 rfl rfl)
theorem dX6_scan_191 : decode cX6_scan 191 = .ok (.if_icmp .eq 9, 3) := dk_159 0 9 (dk_at dksX6_scan_8 6 rfl rfl)
theorem dX6_scan_194 : decode cX6_scan 194 = .ok (.iload_n 3, 1) := dk_29 (dk_at dksX6_scan_8 9 rfl rfl)
theorem dX6_scan_195 : decode cX6_scan 195 = .ok (.bipush 125, 2) := dk_16 125 (dk_at dksX6_scan_8 10 rfl rfl)
theorem dX6_scan_197 : decode cX6_scan 197 = .ok (.if_icmp .ne 7, 3) := dk_160 0 7 (dk_at dksX6_scan_8 12 rfl rfl)
theorem dX6_scan_200 : decode cX6_scan 200 = .ok (.iconst 2, 1) := dk_5 (dk_at dksX6_scan_8 15 rfl rfl)
theorem dX6_scan_201 : decode cX6_scan 201 = .ok (.goto 4, 3) := dk_167 0 4 (dk_at dksX6_scan_8 16 rfl rfl)
theorem dX6_scan_204 : decode cX6_scan 204 = .ok (.iconst 5, 1) := dk_8 (dk_at dksX6_scan_8 19 rfl rfl)
theorem dX6_scan_205 : decode cX6_scan 205 = .ok (.iload_n 1, 1) := dk_27 (dk_at dksX6_scan_8 20 rfl rfl)
theorem dX6_scan_206 : decode cX6_scan 206 = .ok (.iload_n 3, 1) := dk_29 (dk_at dksX6_scan_8 21 rfl rfl)
theorem dX6_scan_207 : decode cX6_scan 207 = .ok (.invokevirtual 201, 3) := dk_182 0 201 (dk_at dksX6_scan_9 0 rfl rfl)
theorem dX6_scan_210 : decode cX6_scan 210 = .ok (.iload_n 1, 1) := dk_27 (dk_at dksX6_scan_9 3 rfl rfl)
theorem dX6_scan_211 : decode cX6_scan 211 = .ok (.iconst 1, 1) := dk_4 (dk_at dksX6_scan_9 4 rfl rfl)
theorem dX6_scan_212 : decode cX6_scan 212 = .ok (.iadd, 1) := dk_96 (dk_at dksX6_scan_9 5 rfl rfl)
theorem dX6_scan_213 : decode cX6_scan 213 = .ok (.ireturn, 1) := dk_172 (dk_at dksX6_scan_9 6 rfl rfl)
abbrev cX6_isLetter : ByteArray := prog_14_method_6_code
def yX6_isLetter : MethodName := ⟨RX6, "isLetter", "(I)Z"⟩
def dkwX6_isLetter_1 : List UInt8 := [3, 172]
abbrev dktX6_isLetter_1 : List UInt8 := dkwX6_isLetter_1 ++ []
def dkwX6_isLetter_0 : List UInt8 := [42, 27, 182, 0, 162, 16, 97, 161, 0, 17, 42, 27, 182, 0, 162, 16, 122, 163, 0, 7, 4, 167, 0, 4]
abbrev dktX6_isLetter_0 : List UInt8 := dkwX6_isLetter_0 ++ dktX6_isLetter_1
theorem dksX6_isLetter_0 : cX6_isLetter.data.toList.drop 0 = dktX6_isLetter_0 := by decide +kernel
theorem dksX6_isLetter_1 : cX6_isLetter.data.toList.drop 24 = dktX6_isLetter_1 := dk_seg dksX6_isLetter_0 24 rfl rfl
theorem dX6_isLetter_0 : decode cX6_isLetter 0 = .ok (.aload_n 0, 1) := dk_42 (dk_at dksX6_isLetter_0 0 rfl rfl)
theorem dX6_isLetter_1 : decode cX6_isLetter 1 = .ok (.iload_n 1, 1) := dk_27 (dk_at dksX6_isLetter_0 1 rfl rfl)
theorem dX6_isLetter_2 : decode cX6_isLetter 2 = .ok (.invokevirtual 162, 3) := dk_182 0 162 (dk_at dksX6_isLetter_0 2 rfl rfl)
theorem dX6_isLetter_5 : decode cX6_isLetter 5 = .ok (.bipush 97, 2) := dk_16 97 (dk_at dksX6_isLetter_0 5 rfl rfl)
theorem dX6_isLetter_7 : decode cX6_isLetter 7 = .ok (.if_icmp .lt 17, 3) := dk_161 0 17 (dk_at dksX6_isLetter_0 7 rfl rfl)
theorem dX6_isLetter_10 : decode cX6_isLetter 10 = .ok (.aload_n 0, 1) := dk_42 (dk_at dksX6_isLetter_0 10 rfl rfl)
theorem dX6_isLetter_11 : decode cX6_isLetter 11 = .ok (.iload_n 1, 1) := dk_27 (dk_at dksX6_isLetter_0 11 rfl rfl)
theorem dX6_isLetter_12 : decode cX6_isLetter 12 = .ok (.invokevirtual 162, 3) := dk_182 0 162 (dk_at dksX6_isLetter_0 12 rfl rfl)
theorem dX6_isLetter_15 : decode cX6_isLetter 15 = .ok (.bipush 122, 2) := dk_16 122 (dk_at dksX6_isLetter_0 15 rfl rfl)
theorem dX6_isLetter_17 : decode cX6_isLetter 17 = .ok (.if_icmp .gt 7, 3) := dk_163 0 7 (dk_at dksX6_isLetter_0 17 rfl rfl)
theorem dX6_isLetter_20 : decode cX6_isLetter 20 = .ok (.iconst 1, 1) := dk_4 (dk_at dksX6_isLetter_0 20 rfl rfl)
theorem dX6_isLetter_21 : decode cX6_isLetter 21 = .ok (.goto 4, 3) := dk_167 0 4 (dk_at dksX6_isLetter_0 21 rfl rfl)
theorem dX6_isLetter_24 : decode cX6_isLetter 24 = .ok (.iconst 0, 1) := dk_3 (dk_at dksX6_isLetter_1 0 rfl rfl)
theorem dX6_isLetter_25 : decode cX6_isLetter 25 = .ok (.ireturn, 1) := dk_172 (dk_at dksX6_isLetter_1 1 rfl rfl)
abbrev cX6_wordOf : ByteArray := prog_14_method_9_code
def yX6_wordOf : MethodName := ⟨RX6, "wordOf", "(J)I"⟩
def dkwX6_wordOf_4 : List UInt8 := [20, 0, 187, 148, 154, 0, 8, 16, 9, 167, 0, 4, 2, 172]
abbrev dktX6_wordOf_4 : List UInt8 := dkwX6_wordOf_4 ++ []
def dkwX6_wordOf_3 : List UInt8 := [20, 0, 183, 148, 154, 0, 6, 16, 7, 172, 30, 20, 0, 185, 148, 154, 0, 6, 16, 8, 172, 30]
abbrev dktX6_wordOf_3 : List UInt8 := dkwX6_wordOf_3 ++ dktX6_wordOf_4
def dkwX6_wordOf_2 : List UInt8 := [7, 172, 30, 20, 0, 179, 148, 154, 0, 5, 8, 172, 30, 20, 0, 181, 148, 154, 0, 6, 16, 6, 172, 30]
abbrev dktX6_wordOf_2 : List UInt8 := dkwX6_wordOf_2 ++ dktX6_wordOf_3
def dkwX6_wordOf_1 : List UInt8 := [148, 154, 0, 5, 5, 172, 30, 20, 0, 175, 148, 154, 0, 5, 6, 172, 30, 20, 0, 177, 148, 154, 0, 5]
abbrev dktX6_wordOf_1 : List UInt8 := dkwX6_wordOf_1 ++ dktX6_wordOf_2
def dkwX6_wordOf_0 : List UInt8 := [30, 20, 0, 169, 148, 154, 0, 5, 3, 172, 30, 20, 0, 171, 148, 154, 0, 5, 4, 172, 30, 20, 0, 173]
abbrev dktX6_wordOf_0 : List UInt8 := dkwX6_wordOf_0 ++ dktX6_wordOf_1
theorem dksX6_wordOf_0 : cX6_wordOf.data.toList.drop 0 = dktX6_wordOf_0 := by decide +kernel
theorem dksX6_wordOf_1 : cX6_wordOf.data.toList.drop 24 = dktX6_wordOf_1 := dk_seg dksX6_wordOf_0 24 rfl rfl
theorem dksX6_wordOf_2 : cX6_wordOf.data.toList.drop 48 = dktX6_wordOf_2 := dk_seg dksX6_wordOf_1 24 rfl rfl
theorem dksX6_wordOf_3 : cX6_wordOf.data.toList.drop 72 = dktX6_wordOf_3 := dk_seg dksX6_wordOf_2 24 rfl rfl
theorem dksX6_wordOf_4 : cX6_wordOf.data.toList.drop 94 = dktX6_wordOf_4 := dk_seg dksX6_wordOf_3 22 rfl rfl
theorem dX6_wordOf_0 : decode cX6_wordOf 0 = .ok (.lload_n 0, 1) := dk_30 (dk_at dksX6_wordOf_0 0 rfl rfl)
theorem dX6_wordOf_1 : decode cX6_wordOf 1 = .ok (.ldc2_w 169, 3) := dk_20 0 169 (dk_at dksX6_wordOf_0 1 rfl rfl)
theorem dX6_wordOf_4 : decode cX6_wordOf 4 = .ok (.lcmp, 1) := dk_148 (dk_at dksX6_wordOf_0 4 rfl rfl)
theorem dX6_wordOf_5 : decode cX6_wordOf 5 = .ok (.ifCond .ne 5, 3) := dk_154 0 5 (dk_at dksX6_wordOf_0 5 rfl rfl)
theorem dX6_wordOf_8 : decode cX6_wordOf 8 = .ok (.iconst 0, 1) := dk_3 (dk_at dksX6_wordOf_0 8 rfl rfl)
theorem dX6_wordOf_9 : decode cX6_wordOf 9 = .ok (.ireturn, 1) := dk_172 (dk_at dksX6_wordOf_0 9 rfl rfl)
theorem dX6_wordOf_10 : decode cX6_wordOf 10 = .ok (.lload_n 0, 1) := dk_30 (dk_at dksX6_wordOf_0 10 rfl rfl)
theorem dX6_wordOf_11 : decode cX6_wordOf 11 = .ok (.ldc2_w 171, 3) := dk_20 0 171 (dk_at dksX6_wordOf_0 11 rfl rfl)
theorem dX6_wordOf_14 : decode cX6_wordOf 14 = .ok (.lcmp, 1) := dk_148 (dk_at dksX6_wordOf_0 14 rfl rfl)
theorem dX6_wordOf_15 : decode cX6_wordOf 15 = .ok (.ifCond .ne 5, 3) := dk_154 0 5 (dk_at dksX6_wordOf_0 15 rfl rfl)
theorem dX6_wordOf_18 : decode cX6_wordOf 18 = .ok (.iconst 1, 1) := dk_4 (dk_at dksX6_wordOf_0 18 rfl rfl)
theorem dX6_wordOf_19 : decode cX6_wordOf 19 = .ok (.ireturn, 1) := dk_172 (dk_at dksX6_wordOf_0 19 rfl rfl)
theorem dX6_wordOf_20 : decode cX6_wordOf 20 = .ok (.lload_n 0, 1) := dk_30 (dk_at dksX6_wordOf_0 20 rfl rfl)
theorem dX6_wordOf_21 : decode cX6_wordOf 21 = .ok (.ldc2_w 173, 3) := dk_20 0 173 (dk_at dksX6_wordOf_0 21 rfl rfl)
theorem dX6_wordOf_24 : decode cX6_wordOf 24 = .ok (.lcmp, 1) := dk_148 (dk_at dksX6_wordOf_1 0 rfl rfl)
theorem dX6_wordOf_25 : decode cX6_wordOf 25 = .ok (.ifCond .ne 5, 3) := dk_154 0 5 (dk_at dksX6_wordOf_1 1 rfl rfl)
theorem dX6_wordOf_28 : decode cX6_wordOf 28 = .ok (.iconst 2, 1) := dk_5 (dk_at dksX6_wordOf_1 4 rfl rfl)
theorem dX6_wordOf_29 : decode cX6_wordOf 29 = .ok (.ireturn, 1) := dk_172 (dk_at dksX6_wordOf_1 5 rfl rfl)
theorem dX6_wordOf_30 : decode cX6_wordOf 30 = .ok (.lload_n 0, 1) := dk_30 (dk_at dksX6_wordOf_1 6 rfl rfl)
theorem dX6_wordOf_31 : decode cX6_wordOf 31 = .ok (.ldc2_w 175, 3) := dk_20 0 175 (dk_at dksX6_wordOf_1 7 rfl rfl)
theorem dX6_wordOf_34 : decode cX6_wordOf 34 = .ok (.lcmp, 1) := dk_148 (dk_at dksX6_wordOf_1 10 rfl rfl)
theorem dX6_wordOf_35 : decode cX6_wordOf 35 = .ok (.ifCond .ne 5, 3) := dk_154 0 5 (dk_at dksX6_wordOf_1 11 rfl rfl)
theorem dX6_wordOf_38 : decode cX6_wordOf 38 = .ok (.iconst 3, 1) := dk_6 (dk_at dksX6_wordOf_1 14 rfl rfl)
theorem dX6_wordOf_39 : decode cX6_wordOf 39 = .ok (.ireturn, 1) := dk_172 (dk_at dksX6_wordOf_1 15 rfl rfl)
theorem dX6_wordOf_40 : decode cX6_wordOf 40 = .ok (.lload_n 0, 1) := dk_30 (dk_at dksX6_wordOf_1 16 rfl rfl)
theorem dX6_wordOf_41 : decode cX6_wordOf 41 = .ok (.ldc2_w 177, 3) := dk_20 0 177 (dk_at dksX6_wordOf_1 17 rfl rfl)
theorem dX6_wordOf_44 : decode cX6_wordOf 44 = .ok (.lcmp, 1) := dk_148 (dk_at dksX6_wordOf_1 20 rfl rfl)
theorem dX6_wordOf_45 : decode cX6_wordOf 45 = .ok (.ifCond .ne 5, 3) := dk_154 0 5 (dk_at dksX6_wordOf_1 21 rfl rfl)
theorem dX6_wordOf_48 : decode cX6_wordOf 48 = .ok (.iconst 4, 1) := dk_7 (dk_at dksX6_wordOf_2 0 rfl rfl)
theorem dX6_wordOf_49 : decode cX6_wordOf 49 = .ok (.ireturn, 1) := dk_172 (dk_at dksX6_wordOf_2 1 rfl rfl)
theorem dX6_wordOf_50 : decode cX6_wordOf 50 = .ok (.lload_n 0, 1) := dk_30 (dk_at dksX6_wordOf_2 2 rfl rfl)
theorem dX6_wordOf_51 : decode cX6_wordOf 51 = .ok (.ldc2_w 179, 3) := dk_20 0 179 (dk_at dksX6_wordOf_2 3 rfl rfl)
theorem dX6_wordOf_54 : decode cX6_wordOf 54 = .ok (.lcmp, 1) := dk_148 (dk_at dksX6_wordOf_2 6 rfl rfl)
theorem dX6_wordOf_55 : decode cX6_wordOf 55 = .ok (.ifCond .ne 5, 3) := dk_154 0 5 (dk_at dksX6_wordOf_2 7 rfl rfl)
theorem dX6_wordOf_58 : decode cX6_wordOf 58 = .ok (.iconst 5, 1) := dk_8 (dk_at dksX6_wordOf_2 10 rfl rfl)
theorem dX6_wordOf_59 : decode cX6_wordOf 59 = .ok (.ireturn, 1) := dk_172 (dk_at dksX6_wordOf_2 11 rfl rfl)
theorem dX6_wordOf_60 : decode cX6_wordOf 60 = .ok (.lload_n 0, 1) := dk_30 (dk_at dksX6_wordOf_2 12 rfl rfl)
theorem dX6_wordOf_61 : decode cX6_wordOf 61 = .ok (.ldc2_w 181, 3) := dk_20 0 181 (dk_at dksX6_wordOf_2 13 rfl rfl)
theorem dX6_wordOf_64 : decode cX6_wordOf 64 = .ok (.lcmp, 1) := dk_148 (dk_at dksX6_wordOf_2 16 rfl rfl)
theorem dX6_wordOf_65 : decode cX6_wordOf 65 = .ok (.ifCond .ne 6, 3) := dk_154 0 6 (dk_at dksX6_wordOf_2 17 rfl rfl)
theorem dX6_wordOf_68 : decode cX6_wordOf 68 = .ok (.bipush 6, 2) := dk_16 6 (dk_at dksX6_wordOf_2 20 rfl rfl)
theorem dX6_wordOf_70 : decode cX6_wordOf 70 = .ok (.ireturn, 1) := dk_172 (dk_at dksX6_wordOf_2 22 rfl rfl)
theorem dX6_wordOf_71 : decode cX6_wordOf 71 = .ok (.lload_n 0, 1) := dk_30 (dk_at dksX6_wordOf_2 23 rfl rfl)
theorem dX6_wordOf_72 : decode cX6_wordOf 72 = .ok (.ldc2_w 183, 3) := dk_20 0 183 (dk_at dksX6_wordOf_3 0 rfl rfl)
theorem dX6_wordOf_75 : decode cX6_wordOf 75 = .ok (.lcmp, 1) := dk_148 (dk_at dksX6_wordOf_3 3 rfl rfl)
theorem dX6_wordOf_76 : decode cX6_wordOf 76 = .ok (.ifCond .ne 6, 3) := dk_154 0 6 (dk_at dksX6_wordOf_3 4 rfl rfl)
theorem dX6_wordOf_79 : decode cX6_wordOf 79 = .ok (.bipush 7, 2) := dk_16 7 (dk_at dksX6_wordOf_3 7 rfl rfl)
theorem dX6_wordOf_81 : decode cX6_wordOf 81 = .ok (.ireturn, 1) := dk_172 (dk_at dksX6_wordOf_3 9 rfl rfl)
theorem dX6_wordOf_82 : decode cX6_wordOf 82 = .ok (.lload_n 0, 1) := dk_30 (dk_at dksX6_wordOf_3 10 rfl rfl)
theorem dX6_wordOf_83 : decode cX6_wordOf 83 = .ok (.ldc2_w 185, 3) := dk_20 0 185 (dk_at dksX6_wordOf_3 11 rfl rfl)
theorem dX6_wordOf_86 : decode cX6_wordOf 86 = .ok (.lcmp, 1) := dk_148 (dk_at dksX6_wordOf_3 14 rfl rfl)
theorem dX6_wordOf_87 : decode cX6_wordOf 87 = .ok (.ifCond .ne 6, 3) := dk_154 0 6 (dk_at dksX6_wordOf_3 15 rfl rfl)
theorem dX6_wordOf_90 : decode cX6_wordOf 90 = .ok (.bipush 8, 2) := dk_16 8 (dk_at dksX6_wordOf_3 18 rfl rfl)
theorem dX6_wordOf_92 : decode cX6_wordOf 92 = .ok (.ireturn, 1) := dk_172 (dk_at dksX6_wordOf_3 20 rfl rfl)
theorem dX6_wordOf_93 : decode cX6_wordOf 93 = .ok (.lload_n 0, 1) := dk_30 (dk_at dksX6_wordOf_3 21 rfl rfl)
theorem dX6_wordOf_94 : decode cX6_wordOf 94 = .ok (.ldc2_w 187, 3) := dk_20 0 187 (dk_at dksX6_wordOf_4 0 rfl rfl)
theorem dX6_wordOf_97 : decode cX6_wordOf 97 = .ok (.lcmp, 1) := dk_148 (dk_at dksX6_wordOf_4 3 rfl rfl)
theorem dX6_wordOf_98 : decode cX6_wordOf 98 = .ok (.ifCond .ne 8, 3) := dk_154 0 8 (dk_at dksX6_wordOf_4 4 rfl rfl)
theorem dX6_wordOf_101 : decode cX6_wordOf 101 = .ok (.bipush 9, 2) := dk_16 9 (dk_at dksX6_wordOf_4 7 rfl rfl)
theorem dX6_wordOf_103 : decode cX6_wordOf 103 = .ok (.goto 4, 3) := dk_167 0 4 (dk_at dksX6_wordOf_4 9 rfl rfl)
theorem dX6_wordOf_106 : decode cX6_wordOf 106 = .ok (.iconst (-1), 1) := dk_2 (dk_at dksX6_wordOf_4 12 rfl rfl)
theorem dX6_wordOf_107 : decode cX6_wordOf 107 = .ok (.ireturn, 1) := dk_172 (dk_at dksX6_wordOf_4 13 rfl rfl)
abbrev cX6_token : ByteArray := prog_14_method_8_code
def yX6_token : MethodName := ⟨RX6, "token", "(III)V"⟩
def dkwX6_token_1 : List UInt8 := [42, 180, 0, 166, 29, 79, 42, 89, 180, 0, 166, 4, 96, 181, 0, 166, 177]
abbrev dktX6_token_1 : List UInt8 := dkwX6_token_1 ++ []
def dkwX6_token_0 : List UInt8 := [42, 180, 0, 43, 42, 180, 0, 166, 27, 79, 42, 180, 0, 46, 42, 180, 0, 166, 28, 79, 42, 180, 0, 49]
abbrev dktX6_token_0 : List UInt8 := dkwX6_token_0 ++ dktX6_token_1
theorem dksX6_token_0 : cX6_token.data.toList.drop 0 = dktX6_token_0 := by decide +kernel
theorem dksX6_token_1 : cX6_token.data.toList.drop 24 = dktX6_token_1 := dk_seg dksX6_token_0 24 rfl rfl
theorem dX6_token_0 : decode cX6_token 0 = .ok (.aload_n 0, 1) := dk_42 (dk_at dksX6_token_0 0 rfl rfl)
theorem dX6_token_1 : decode cX6_token 1 = .ok (.getfield 43, 3) := dk_180 0 43 (dk_at dksX6_token_0 1 rfl rfl)
theorem dX6_token_4 : decode cX6_token 4 = .ok (.aload_n 0, 1) := dk_42 (dk_at dksX6_token_0 4 rfl rfl)
theorem dX6_token_5 : decode cX6_token 5 = .ok (.getfield 166, 3) := dk_180 0 166 (dk_at dksX6_token_0 5 rfl rfl)
theorem dX6_token_8 : decode cX6_token 8 = .ok (.iload_n 1, 1) := dk_27 (dk_at dksX6_token_0 8 rfl rfl)
theorem dX6_token_9 : decode cX6_token 9 = .ok (.iastore, 1) := dk_79 (dk_at dksX6_token_0 9 rfl rfl)
theorem dX6_token_10 : decode cX6_token 10 = .ok (.aload_n 0, 1) := dk_42 (dk_at dksX6_token_0 10 rfl rfl)
theorem dX6_token_11 : decode cX6_token 11 = .ok (.getfield 46, 3) := dk_180 0 46 (dk_at dksX6_token_0 11 rfl rfl)
theorem dX6_token_14 : decode cX6_token 14 = .ok (.aload_n 0, 1) := dk_42 (dk_at dksX6_token_0 14 rfl rfl)
theorem dX6_token_15 : decode cX6_token 15 = .ok (.getfield 166, 3) := dk_180 0 166 (dk_at dksX6_token_0 15 rfl rfl)
theorem dX6_token_18 : decode cX6_token 18 = .ok (.iload_n 2, 1) := dk_28 (dk_at dksX6_token_0 18 rfl rfl)
theorem dX6_token_19 : decode cX6_token 19 = .ok (.iastore, 1) := dk_79 (dk_at dksX6_token_0 19 rfl rfl)
theorem dX6_token_20 : decode cX6_token 20 = .ok (.aload_n 0, 1) := dk_42 (dk_at dksX6_token_0 20 rfl rfl)
theorem dX6_token_21 : decode cX6_token 21 = .ok (.getfield 49, 3) := dk_180 0 49 (dk_at dksX6_token_0 21 rfl rfl)
theorem dX6_token_24 : decode cX6_token 24 = .ok (.aload_n 0, 1) := dk_42 (dk_at dksX6_token_1 0 rfl rfl)
theorem dX6_token_25 : decode cX6_token 25 = .ok (.getfield 166, 3) := dk_180 0 166 (dk_at dksX6_token_1 1 rfl rfl)
theorem dX6_token_28 : decode cX6_token 28 = .ok (.iload_n 3, 1) := dk_29 (dk_at dksX6_token_1 4 rfl rfl)
theorem dX6_token_29 : decode cX6_token 29 = .ok (.iastore, 1) := dk_79 (dk_at dksX6_token_1 5 rfl rfl)
theorem dX6_token_30 : decode cX6_token 30 = .ok (.aload_n 0, 1) := dk_42 (dk_at dksX6_token_1 6 rfl rfl)
theorem dX6_token_31 : decode cX6_token 31 = .ok (.dup, 1) := dk_89 (dk_at dksX6_token_1 7 rfl rfl)
theorem dX6_token_32 : decode cX6_token 32 = .ok (.getfield 166, 3) := dk_180 0 166 (dk_at dksX6_token_1 8 rfl rfl)
theorem dX6_token_35 : decode cX6_token 35 = .ok (.iconst 1, 1) := dk_4 (dk_at dksX6_token_1 11 rfl rfl)
theorem dX6_token_36 : decode cX6_token 36 = .ok (.iadd, 1) := dk_96 (dk_at dksX6_token_1 12 rfl rfl)
theorem dX6_token_37 : decode cX6_token 37 = .ok (.putfield 166, 3) := dk_181 0 166 (dk_at dksX6_token_1 13 rfl rfl)
theorem dX6_token_40 : decode cX6_token 40 = .ok (.return_, 1) := dk_177 (dk_at dksX6_token_1 16 rfl rfl)
abbrev cX6_isDigit : ByteArray := prog_14_method_7_code
def yX6_isDigit : MethodName := ⟨RX6, "isDigit", "(I)Z"⟩
def dkwX6_isDigit_1 : List UInt8 := [3, 172]
abbrev dktX6_isDigit_1 : List UInt8 := dkwX6_isDigit_1 ++ []
def dkwX6_isDigit_0 : List UInt8 := [42, 27, 182, 0, 162, 16, 48, 161, 0, 17, 42, 27, 182, 0, 162, 16, 57, 163, 0, 7, 4, 167, 0, 4]
abbrev dktX6_isDigit_0 : List UInt8 := dkwX6_isDigit_0 ++ dktX6_isDigit_1
theorem dksX6_isDigit_0 : cX6_isDigit.data.toList.drop 0 = dktX6_isDigit_0 := by decide +kernel
theorem dksX6_isDigit_1 : cX6_isDigit.data.toList.drop 24 = dktX6_isDigit_1 := dk_seg dksX6_isDigit_0 24 rfl rfl
theorem dX6_isDigit_0 : decode cX6_isDigit 0 = .ok (.aload_n 0, 1) := dk_42 (dk_at dksX6_isDigit_0 0 rfl rfl)
theorem dX6_isDigit_1 : decode cX6_isDigit 1 = .ok (.iload_n 1, 1) := dk_27 (dk_at dksX6_isDigit_0 1 rfl rfl)
theorem dX6_isDigit_2 : decode cX6_isDigit 2 = .ok (.invokevirtual 162, 3) := dk_182 0 162 (dk_at dksX6_isDigit_0 2 rfl rfl)
theorem dX6_isDigit_5 : decode cX6_isDigit 5 = .ok (.bipush 48, 2) := dk_16 48 (dk_at dksX6_isDigit_0 5 rfl rfl)
theorem dX6_isDigit_7 : decode cX6_isDigit 7 = .ok (.if_icmp .lt 17, 3) := dk_161 0 17 (dk_at dksX6_isDigit_0 7 rfl rfl)
theorem dX6_isDigit_10 : decode cX6_isDigit 10 = .ok (.aload_n 0, 1) := dk_42 (dk_at dksX6_isDigit_0 10 rfl rfl)
theorem dX6_isDigit_11 : decode cX6_isDigit 11 = .ok (.iload_n 1, 1) := dk_27 (dk_at dksX6_isDigit_0 11 rfl rfl)
theorem dX6_isDigit_12 : decode cX6_isDigit 12 = .ok (.invokevirtual 162, 3) := dk_182 0 162 (dk_at dksX6_isDigit_0 12 rfl rfl)
theorem dX6_isDigit_15 : decode cX6_isDigit 15 = .ok (.bipush 57, 2) := dk_16 57 (dk_at dksX6_isDigit_0 15 rfl rfl)
theorem dX6_isDigit_17 : decode cX6_isDigit 17 = .ok (.if_icmp .gt 7, 3) := dk_163 0 7 (dk_at dksX6_isDigit_0 17 rfl rfl)
theorem dX6_isDigit_20 : decode cX6_isDigit 20 = .ok (.iconst 1, 1) := dk_4 (dk_at dksX6_isDigit_0 20 rfl rfl)
theorem dX6_isDigit_21 : decode cX6_isDigit 21 = .ok (.goto 4, 3) := dk_167 0 4 (dk_at dksX6_isDigit_0 21 rfl rfl)
theorem dX6_isDigit_24 : decode cX6_isDigit 24 = .ok (.iconst 0, 1) := dk_3 (dk_at dksX6_isDigit_1 0 rfl rfl)
theorem dX6_isDigit_25 : decode cX6_isDigit 25 = .ok (.ireturn, 1) := dk_172 (dk_at dksX6_isDigit_1 1 rfl rfl)
abbrev cX6_parses : ByteArray := prog_14_method_20_code
def yX6_parses : MethodName := ⟨RX6, "parses", "()Z"⟩
def dkwX6_parses_4 : List UInt8 := [167, 0, 4, 3, 172]
abbrev dktX6_parses_4 : List UInt8 := dkwX6_parses_4 ++ []
def dkwX6_parses_3 : List UInt8 := [182, 0, 245, 154, 255, 239, 3, 172, 42, 180, 0, 227, 153, 0, 11, 42, 4, 182, 0, 217, 153, 0, 7, 4]
abbrev dktX6_parses_3 : List UInt8 := dkwX6_parses_3 ++ dktX6_parses_4
def dkwX6_parses_2 : List UInt8 := [182, 0, 239, 154, 0, 5, 3, 172, 42, 180, 0, 43, 42, 180, 0, 214, 46, 7, 159, 0, 12, 42]
abbrev dktX6_parses_2 : List UInt8 := dkwX6_parses_2 ++ dktX6_parses_3
def dkwX6_parses_1 : List UInt8 := [4, 182, 0, 217, 172, 42, 182, 0, 220, 153, 0, 20, 42, 4, 182, 0, 233, 153, 0, 12, 42, 16, 59]
abbrev dktX6_parses_1 : List UInt8 := dkwX6_parses_1 ++ dktX6_parses_2
def dkwX6_parses_0 : List UInt8 := [42, 3, 181, 0, 214, 42, 3, 181, 0, 227, 42, 3, 181, 0, 230, 42, 3, 182, 0, 242, 154, 0, 9, 42]
abbrev dktX6_parses_0 : List UInt8 := dkwX6_parses_0 ++ dktX6_parses_1
theorem dksX6_parses_0 : cX6_parses.data.toList.drop 0 = dktX6_parses_0 := by decide +kernel
theorem dksX6_parses_1 : cX6_parses.data.toList.drop 24 = dktX6_parses_1 := dk_seg dksX6_parses_0 24 rfl rfl
theorem dksX6_parses_2 : cX6_parses.data.toList.drop 47 = dktX6_parses_2 := dk_seg dksX6_parses_1 23 rfl rfl
theorem dksX6_parses_3 : cX6_parses.data.toList.drop 69 = dktX6_parses_3 := dk_seg dksX6_parses_2 22 rfl rfl
theorem dksX6_parses_4 : cX6_parses.data.toList.drop 93 = dktX6_parses_4 := dk_seg dksX6_parses_3 24 rfl rfl
theorem dX6_parses_0 : decode cX6_parses 0 = .ok (.aload_n 0, 1) := dk_42 (dk_at dksX6_parses_0 0 rfl rfl)
theorem dX6_parses_1 : decode cX6_parses 1 = .ok (.iconst 0, 1) := dk_3 (dk_at dksX6_parses_0 1 rfl rfl)
theorem dX6_parses_2 : decode cX6_parses 2 = .ok (.putfield 214, 3) := dk_181 0 214 (dk_at dksX6_parses_0 2 rfl rfl)
theorem dX6_parses_5 : decode cX6_parses 5 = .ok (.aload_n 0, 1) := dk_42 (dk_at dksX6_parses_0 5 rfl rfl)
theorem dX6_parses_6 : decode cX6_parses 6 = .ok (.iconst 0, 1) := dk_3 (dk_at dksX6_parses_0 6 rfl rfl)
theorem dX6_parses_7 : decode cX6_parses 7 = .ok (.putfield 227, 3) := dk_181 0 227 (dk_at dksX6_parses_0 7 rfl rfl)
theorem dX6_parses_10 : decode cX6_parses 10 = .ok (.aload_n 0, 1) := dk_42 (dk_at dksX6_parses_0 10 rfl rfl)
theorem dX6_parses_11 : decode cX6_parses 11 = .ok (.iconst 0, 1) := dk_3 (dk_at dksX6_parses_0 11 rfl rfl)
theorem dX6_parses_12 : decode cX6_parses 12 = .ok (.putfield 230, 3) := dk_181 0 230 (dk_at dksX6_parses_0 12 rfl rfl)
theorem dX6_parses_15 : decode cX6_parses 15 = .ok (.aload_n 0, 1) := dk_42 (dk_at dksX6_parses_0 15 rfl rfl)
theorem dX6_parses_16 : decode cX6_parses 16 = .ok (.iconst 0, 1) := dk_3 (dk_at dksX6_parses_0 16 rfl rfl)
theorem dX6_parses_17 : decode cX6_parses 17 = .ok (.invokevirtual 242, 3) := dk_182 0 242 (dk_at dksX6_parses_0 17 rfl rfl)
theorem dX6_parses_20 : decode cX6_parses 20 = .ok (.ifCond .ne 9, 3) := dk_154 0 9 (dk_at dksX6_parses_0 20 rfl rfl)
theorem dX6_parses_23 : decode cX6_parses 23 = .ok (.aload_n 0, 1) := dk_42 (dk_at dksX6_parses_0 23 rfl rfl)
theorem dX6_parses_24 : decode cX6_parses 24 = .ok (.iconst 1, 1) := dk_4 (dk_at dksX6_parses_1 0 rfl rfl)
theorem dX6_parses_25 : decode cX6_parses 25 = .ok (.invokevirtual 217, 3) := dk_182 0 217 (dk_at dksX6_parses_1 1 rfl rfl)
theorem dX6_parses_28 : decode cX6_parses 28 = .ok (.ireturn, 1) := dk_172 (dk_at dksX6_parses_1 4 rfl rfl)
theorem dX6_parses_29 : decode cX6_parses 29 = .ok (.aload_n 0, 1) := dk_42 (dk_at dksX6_parses_1 5 rfl rfl)
theorem dX6_parses_30 : decode cX6_parses 30 = .ok (.invokevirtual 220, 3) := dk_182 0 220 (dk_at dksX6_parses_1 6 rfl rfl)
theorem dX6_parses_33 : decode cX6_parses 33 = .ok (.ifCond .eq 20, 3) := dk_153 0 20 (dk_at dksX6_parses_1 9 rfl rfl)
theorem dX6_parses_36 : decode cX6_parses 36 = .ok (.aload_n 0, 1) := dk_42 (dk_at dksX6_parses_1 12 rfl rfl)
theorem dX6_parses_37 : decode cX6_parses 37 = .ok (.iconst 1, 1) := dk_4 (dk_at dksX6_parses_1 13 rfl rfl)
theorem dX6_parses_38 : decode cX6_parses 38 = .ok (.invokevirtual 233, 3) := dk_182 0 233 (dk_at dksX6_parses_1 14 rfl rfl)
theorem dX6_parses_41 : decode cX6_parses 41 = .ok (.ifCond .eq 12, 3) := dk_153 0 12 (dk_at dksX6_parses_1 17 rfl rfl)
theorem dX6_parses_44 : decode cX6_parses 44 = .ok (.aload_n 0, 1) := dk_42 (dk_at dksX6_parses_1 20 rfl rfl)
theorem dX6_parses_45 : decode cX6_parses 45 = .ok (.bipush 59, 2) := dk_16 59 (dk_at dksX6_parses_1 21 rfl rfl)
theorem dX6_parses_47 : decode cX6_parses 47 = .ok (.invokevirtual 239, 3) := dk_182 0 239 (dk_at dksX6_parses_2 0 rfl rfl)
theorem dX6_parses_50 : decode cX6_parses 50 = .ok (.ifCond .ne 5, 3) := dk_154 0 5 (dk_at dksX6_parses_2 3 rfl rfl)
theorem dX6_parses_53 : decode cX6_parses 53 = .ok (.iconst 0, 1) := dk_3 (dk_at dksX6_parses_2 6 rfl rfl)
theorem dX6_parses_54 : decode cX6_parses 54 = .ok (.ireturn, 1) := dk_172 (dk_at dksX6_parses_2 7 rfl rfl)
theorem dX6_parses_55 : decode cX6_parses 55 = .ok (.aload_n 0, 1) := dk_42 (dk_at dksX6_parses_2 8 rfl rfl)
theorem dX6_parses_56 : decode cX6_parses 56 = .ok (.getfield 43, 3) := dk_180 0 43 (dk_at dksX6_parses_2 9 rfl rfl)
theorem dX6_parses_59 : decode cX6_parses 59 = .ok (.aload_n 0, 1) := dk_42 (dk_at dksX6_parses_2 12 rfl rfl)
theorem dX6_parses_60 : decode cX6_parses 60 = .ok (.getfield 214, 3) := dk_180 0 214 (dk_at dksX6_parses_2 13 rfl rfl)
theorem dX6_parses_63 : decode cX6_parses 63 = .ok (.iaload, 1) := dk_46 (dk_at dksX6_parses_2 16 rfl rfl)
theorem dX6_parses_64 : decode cX6_parses 64 = .ok (.iconst 4, 1) := dk_7 (dk_at dksX6_parses_2 17 rfl rfl)
theorem dX6_parses_65 : decode cX6_parses 65 = .ok (.if_icmp .eq 12, 3) := dk_159 0 12 (dk_at dksX6_parses_2 18 rfl rfl)
theorem dX6_parses_68 : decode cX6_parses 68 = .ok (.aload_n 0, 1) := dk_42 (dk_at dksX6_parses_2 21 rfl rfl)
theorem dX6_parses_69 : decode cX6_parses 69 = .ok (.invokevirtual 245, 3) := dk_182 0 245 (dk_at dksX6_parses_3 0 rfl rfl)
theorem dX6_parses_72 : decode cX6_parses 72 = .ok (.ifCond .ne (-17), 3) := dk_154 255 239 (dk_at dksX6_parses_3 3 rfl rfl)
theorem dX6_parses_75 : decode cX6_parses 75 = .ok (.iconst 0, 1) := dk_3 (dk_at dksX6_parses_3 6 rfl rfl)
theorem dX6_parses_76 : decode cX6_parses 76 = .ok (.ireturn, 1) := dk_172 (dk_at dksX6_parses_3 7 rfl rfl)
theorem dX6_parses_77 : decode cX6_parses 77 = .ok (.aload_n 0, 1) := dk_42 (dk_at dksX6_parses_3 8 rfl rfl)
theorem dX6_parses_78 : decode cX6_parses 78 = .ok (.getfield 227, 3) := dk_180 0 227 (dk_at dksX6_parses_3 9 rfl rfl)
theorem dX6_parses_81 : decode cX6_parses 81 = .ok (.ifCond .eq 11, 3) := dk_153 0 11 (dk_at dksX6_parses_3 12 rfl rfl)
theorem dX6_parses_84 : decode cX6_parses 84 = .ok (.aload_n 0, 1) := dk_42 (dk_at dksX6_parses_3 15 rfl rfl)
theorem dX6_parses_85 : decode cX6_parses 85 = .ok (.iconst 1, 1) := dk_4 (dk_at dksX6_parses_3 16 rfl rfl)
theorem dX6_parses_86 : decode cX6_parses 86 = .ok (.invokevirtual 217, 3) := dk_182 0 217 (dk_at dksX6_parses_3 17 rfl rfl)
theorem dX6_parses_89 : decode cX6_parses 89 = .ok (.ifCond .eq 7, 3) := dk_153 0 7 (dk_at dksX6_parses_3 20 rfl rfl)
theorem dX6_parses_92 : decode cX6_parses 92 = .ok (.iconst 1, 1) := dk_4 (dk_at dksX6_parses_3 23 rfl rfl)
theorem dX6_parses_93 : decode cX6_parses 93 = .ok (.goto 4, 3) := dk_167 0 4 (dk_at dksX6_parses_4 0 rfl rfl)
theorem dX6_parses_96 : decode cX6_parses 96 = .ok (.iconst 0, 1) := dk_3 (dk_at dksX6_parses_4 3 rfl rfl)
theorem dX6_parses_97 : decode cX6_parses 97 = .ok (.ireturn, 1) := dk_172 (dk_at dksX6_parses_4 4 rfl rfl)
abbrev cX6_isWord : ByteArray := prog_14_method_15_code
def yX6_isWord : MethodName := ⟨RX6, "isWord", "(I)Z"⟩
def dkwX6_isWord_1 : List UInt8 := [160, 0, 7, 4, 167, 0, 4, 3, 172]
abbrev dktX6_isWord_1 : List UInt8 := dkwX6_isWord_1 ++ []
def dkwX6_isWord_0 : List UInt8 := [42, 180, 0, 43, 42, 180, 0, 214, 46, 6, 160, 0, 20, 42, 180, 0, 49, 42, 180, 0, 214, 46, 27]
abbrev dktX6_isWord_0 : List UInt8 := dkwX6_isWord_0 ++ dktX6_isWord_1
theorem dksX6_isWord_0 : cX6_isWord.data.toList.drop 0 = dktX6_isWord_0 := by decide +kernel
theorem dksX6_isWord_1 : cX6_isWord.data.toList.drop 23 = dktX6_isWord_1 := dk_seg dksX6_isWord_0 23 rfl rfl
theorem dX6_isWord_0 : decode cX6_isWord 0 = .ok (.aload_n 0, 1) := dk_42 (dk_at dksX6_isWord_0 0 rfl rfl)
theorem dX6_isWord_1 : decode cX6_isWord 1 = .ok (.getfield 43, 3) := dk_180 0 43 (dk_at dksX6_isWord_0 1 rfl rfl)
theorem dX6_isWord_4 : decode cX6_isWord 4 = .ok (.aload_n 0, 1) := dk_42 (dk_at dksX6_isWord_0 4 rfl rfl)
theorem dX6_isWord_5 : decode cX6_isWord 5 = .ok (.getfield 214, 3) := dk_180 0 214 (dk_at dksX6_isWord_0 5 rfl rfl)
theorem dX6_isWord_8 : decode cX6_isWord 8 = .ok (.iaload, 1) := dk_46 (dk_at dksX6_isWord_0 8 rfl rfl)
theorem dX6_isWord_9 : decode cX6_isWord 9 = .ok (.iconst 3, 1) := dk_6 (dk_at dksX6_isWord_0 9 rfl rfl)
theorem dX6_isWord_10 : decode cX6_isWord 10 = .ok (.if_icmp .ne 20, 3) := dk_160 0 20 (dk_at dksX6_isWord_0 10 rfl rfl)
theorem dX6_isWord_13 : decode cX6_isWord 13 = .ok (.aload_n 0, 1) := dk_42 (dk_at dksX6_isWord_0 13 rfl rfl)
theorem dX6_isWord_14 : decode cX6_isWord 14 = .ok (.getfield 49, 3) := dk_180 0 49 (dk_at dksX6_isWord_0 14 rfl rfl)
theorem dX6_isWord_17 : decode cX6_isWord 17 = .ok (.aload_n 0, 1) := dk_42 (dk_at dksX6_isWord_0 17 rfl rfl)
theorem dX6_isWord_18 : decode cX6_isWord 18 = .ok (.getfield 214, 3) := dk_180 0 214 (dk_at dksX6_isWord_0 18 rfl rfl)
theorem dX6_isWord_21 : decode cX6_isWord 21 = .ok (.iaload, 1) := dk_46 (dk_at dksX6_isWord_0 21 rfl rfl)
theorem dX6_isWord_22 : decode cX6_isWord 22 = .ok (.iload_n 1, 1) := dk_27 (dk_at dksX6_isWord_0 22 rfl rfl)
theorem dX6_isWord_23 : decode cX6_isWord 23 = .ok (.if_icmp .ne 7, 3) := dk_160 0 7 (dk_at dksX6_isWord_1 0 rfl rfl)
theorem dX6_isWord_26 : decode cX6_isWord 26 = .ok (.iconst 1, 1) := dk_4 (dk_at dksX6_isWord_1 3 rfl rfl)
theorem dX6_isWord_27 : decode cX6_isWord 27 = .ok (.goto 4, 3) := dk_167 0 4 (dk_at dksX6_isWord_1 4 rfl rfl)
theorem dX6_isWord_30 : decode cX6_isWord 30 = .ok (.iconst 0, 1) := dk_3 (dk_at dksX6_isWord_1 7 rfl rfl)
theorem dX6_isWord_31 : decode cX6_isWord 31 = .ok (.ireturn, 1) := dk_172 (dk_at dksX6_isWord_1 8 rfl rfl)
abbrev cX6_wrong : ByteArray := prog_14_method_12_code
def yX6_wrong : MethodName := ⟨RX6, "wrong", "(I)Z"⟩
def dkwX6_wrong_0 : List UInt8 := [42, 27, 181, 0, 211, 42, 42, 180, 0, 46, 42, 180, 0, 214, 46, 181, 0, 56, 3, 172]
abbrev dktX6_wrong_0 : List UInt8 := dkwX6_wrong_0 ++ []
theorem dksX6_wrong_0 : cX6_wrong.data.toList.drop 0 = dktX6_wrong_0 := by decide +kernel
theorem dX6_wrong_0 : decode cX6_wrong 0 = .ok (.aload_n 0, 1) := dk_42 (dk_at dksX6_wrong_0 0 rfl rfl)
theorem dX6_wrong_1 : decode cX6_wrong 1 = .ok (.iload_n 1, 1) := dk_27 (dk_at dksX6_wrong_0 1 rfl rfl)
theorem dX6_wrong_2 : decode cX6_wrong 2 = .ok (.putfield 211, 3) := dk_181 0 211 (dk_at dksX6_wrong_0 2 rfl rfl)
theorem dX6_wrong_5 : decode cX6_wrong 5 = .ok (.aload_n 0, 1) := dk_42 (dk_at dksX6_wrong_0 5 rfl rfl)
theorem dX6_wrong_6 : decode cX6_wrong 6 = .ok (.aload_n 0, 1) := dk_42 (dk_at dksX6_wrong_0 6 rfl rfl)
theorem dX6_wrong_7 : decode cX6_wrong 7 = .ok (.getfield 46, 3) := dk_180 0 46 (dk_at dksX6_wrong_0 7 rfl rfl)
theorem dX6_wrong_10 : decode cX6_wrong 10 = .ok (.aload_n 0, 1) := dk_42 (dk_at dksX6_wrong_0 10 rfl rfl)
theorem dX6_wrong_11 : decode cX6_wrong 11 = .ok (.getfield 214, 3) := dk_180 0 214 (dk_at dksX6_wrong_0 11 rfl rfl)
theorem dX6_wrong_14 : decode cX6_wrong 14 = .ok (.iaload, 1) := dk_46 (dk_at dksX6_wrong_0 14 rfl rfl)
theorem dX6_wrong_15 : decode cX6_wrong 15 = .ok (.putfield 56, 3) := dk_181 0 56 (dk_at dksX6_wrong_0 15 rfl rfl)
theorem dX6_wrong_18 : decode cX6_wrong 18 = .ok (.iconst 0, 1) := dk_3 (dk_at dksX6_wrong_0 18 rfl rfl)
theorem dX6_wrong_19 : decode cX6_wrong 19 = .ok (.ireturn, 1) := dk_172 (dk_at dksX6_wrong_0 19 rfl rfl)
abbrev cX6_pass : ByteArray := prog_14_method_13_code
def yX6_pass : MethodName := ⟨RX6, "pass", "()Z"⟩
def dkwX6_pass_1 : List UInt8 := [181, 0, 214, 4, 172]
abbrev dktX6_pass_1 : List UInt8 := dkwX6_pass_1 ++ []
def dkwX6_pass_0 : List UInt8 := [42, 180, 0, 214, 17, 1, 144, 161, 0, 9, 42, 5, 182, 0, 217, 172, 42, 89, 180, 0, 214, 4, 96]
abbrev dktX6_pass_0 : List UInt8 := dkwX6_pass_0 ++ dktX6_pass_1
theorem dksX6_pass_0 : cX6_pass.data.toList.drop 0 = dktX6_pass_0 := by decide +kernel
theorem dksX6_pass_1 : cX6_pass.data.toList.drop 23 = dktX6_pass_1 := dk_seg dksX6_pass_0 23 rfl rfl
theorem dX6_pass_0 : decode cX6_pass 0 = .ok (.aload_n 0, 1) := dk_42 (dk_at dksX6_pass_0 0 rfl rfl)
theorem dX6_pass_1 : decode cX6_pass 1 = .ok (.getfield 214, 3) := dk_180 0 214 (dk_at dksX6_pass_0 1 rfl rfl)
theorem dX6_pass_4 : decode cX6_pass 4 = .ok (.sipush 400, 3) := dk_17 1 144 (dk_at dksX6_pass_0 4 rfl rfl)
theorem dX6_pass_7 : decode cX6_pass 7 = .ok (.if_icmp .lt 9, 3) := dk_161 0 9 (dk_at dksX6_pass_0 7 rfl rfl)
theorem dX6_pass_10 : decode cX6_pass 10 = .ok (.aload_n 0, 1) := dk_42 (dk_at dksX6_pass_0 10 rfl rfl)
theorem dX6_pass_11 : decode cX6_pass 11 = .ok (.iconst 2, 1) := dk_5 (dk_at dksX6_pass_0 11 rfl rfl)
theorem dX6_pass_12 : decode cX6_pass 12 = .ok (.invokevirtual 217, 3) := dk_182 0 217 (dk_at dksX6_pass_0 12 rfl rfl)
theorem dX6_pass_15 : decode cX6_pass 15 = .ok (.ireturn, 1) := dk_172 (dk_at dksX6_pass_0 15 rfl rfl)
theorem dX6_pass_16 : decode cX6_pass 16 = .ok (.aload_n 0, 1) := dk_42 (dk_at dksX6_pass_0 16 rfl rfl)
theorem dX6_pass_17 : decode cX6_pass 17 = .ok (.dup, 1) := dk_89 (dk_at dksX6_pass_0 17 rfl rfl)
theorem dX6_pass_18 : decode cX6_pass 18 = .ok (.getfield 214, 3) := dk_180 0 214 (dk_at dksX6_pass_0 18 rfl rfl)
theorem dX6_pass_21 : decode cX6_pass 21 = .ok (.iconst 1, 1) := dk_4 (dk_at dksX6_pass_0 21 rfl rfl)
theorem dX6_pass_22 : decode cX6_pass 22 = .ok (.iadd, 1) := dk_96 (dk_at dksX6_pass_0 22 rfl rfl)
theorem dX6_pass_23 : decode cX6_pass 23 = .ok (.putfield 214, 3) := dk_181 0 214 (dk_at dksX6_pass_1 0 rfl rfl)
theorem dX6_pass_26 : decode cX6_pass 26 = .ok (.iconst 1, 1) := dk_4 (dk_at dksX6_pass_1 3 rfl rfl)
theorem dX6_pass_27 : decode cX6_pass 27 = .ok (.ireturn, 1) := dk_172 (dk_at dksX6_pass_1 4 rfl rfl)
abbrev cX6_takes : ByteArray := prog_14_method_16_code
def yX6_takes : MethodName := ⟨RX6, "takes", "(I)Z"⟩
def dkwX6_takes_1 : List UInt8 := [182, 0, 217, 172]
abbrev dktX6_takes_1 : List UInt8 := dkwX6_takes_1 ++ []
def dkwX6_takes_0 : List UInt8 := [42, 180, 0, 43, 42, 180, 0, 214, 46, 27, 160, 0, 10, 42, 182, 0, 220, 167, 0, 8, 42, 4]
abbrev dktX6_takes_0 : List UInt8 := dkwX6_takes_0 ++ dktX6_takes_1
theorem dksX6_takes_0 : cX6_takes.data.toList.drop 0 = dktX6_takes_0 := by decide +kernel
theorem dksX6_takes_1 : cX6_takes.data.toList.drop 22 = dktX6_takes_1 := dk_seg dksX6_takes_0 22 rfl rfl
theorem dX6_takes_0 : decode cX6_takes 0 = .ok (.aload_n 0, 1) := dk_42 (dk_at dksX6_takes_0 0 rfl rfl)
theorem dX6_takes_1 : decode cX6_takes 1 = .ok (.getfield 43, 3) := dk_180 0 43 (dk_at dksX6_takes_0 1 rfl rfl)
theorem dX6_takes_4 : decode cX6_takes 4 = .ok (.aload_n 0, 1) := dk_42 (dk_at dksX6_takes_0 4 rfl rfl)
theorem dX6_takes_5 : decode cX6_takes 5 = .ok (.getfield 214, 3) := dk_180 0 214 (dk_at dksX6_takes_0 5 rfl rfl)
theorem dX6_takes_8 : decode cX6_takes 8 = .ok (.iaload, 1) := dk_46 (dk_at dksX6_takes_0 8 rfl rfl)
theorem dX6_takes_9 : decode cX6_takes 9 = .ok (.iload_n 1, 1) := dk_27 (dk_at dksX6_takes_0 9 rfl rfl)
theorem dX6_takes_10 : decode cX6_takes 10 = .ok (.if_icmp .ne 10, 3) := dk_160 0 10 (dk_at dksX6_takes_0 10 rfl rfl)
theorem dX6_takes_13 : decode cX6_takes 13 = .ok (.aload_n 0, 1) := dk_42 (dk_at dksX6_takes_0 13 rfl rfl)
theorem dX6_takes_14 : decode cX6_takes 14 = .ok (.invokevirtual 220, 3) := dk_182 0 220 (dk_at dksX6_takes_0 14 rfl rfl)
theorem dX6_takes_17 : decode cX6_takes 17 = .ok (.goto 8, 3) := dk_167 0 8 (dk_at dksX6_takes_0 17 rfl rfl)
theorem dX6_takes_20 : decode cX6_takes 20 = .ok (.aload_n 0, 1) := dk_42 (dk_at dksX6_takes_0 20 rfl rfl)
theorem dX6_takes_21 : decode cX6_takes 21 = .ok (.iconst 1, 1) := dk_4 (dk_at dksX6_takes_0 21 rfl rfl)
theorem dX6_takes_22 : decode cX6_takes 22 = .ok (.invokevirtual 217, 3) := dk_182 0 217 (dk_at dksX6_takes_1 0 rfl rfl)
theorem dX6_takes_25 : decode cX6_takes 25 = .ok (.ireturn, 1) := dk_172 (dk_at dksX6_takes_1 3 rfl rfl)
abbrev cX6_takesSign : ByteArray := prog_14_method_17_code
def yX6_takesSign : MethodName := ⟨RX6, "takesSign", "(I)Z"⟩
def dkwX6_takesSign_0 : List UInt8 := [42, 27, 182, 0, 224, 153, 0, 10, 42, 182, 0, 220, 167, 0, 8, 42, 4, 182, 0, 217, 172]
abbrev dktX6_takesSign_0 : List UInt8 := dkwX6_takesSign_0 ++ []
theorem dksX6_takesSign_0 : cX6_takesSign.data.toList.drop 0 = dktX6_takesSign_0 := by decide +kernel
theorem dX6_takesSign_0 : decode cX6_takesSign 0 = .ok (.aload_n 0, 1) := dk_42 (dk_at dksX6_takesSign_0 0 rfl rfl)
theorem dX6_takesSign_1 : decode cX6_takesSign 1 = .ok (.iload_n 1, 1) := dk_27 (dk_at dksX6_takesSign_0 1 rfl rfl)
theorem dX6_takesSign_2 : decode cX6_takesSign 2 = .ok (.invokevirtual 224, 3) := dk_182 0 224 (dk_at dksX6_takesSign_0 2 rfl rfl)
theorem dX6_takesSign_5 : decode cX6_takesSign 5 = .ok (.ifCond .eq 10, 3) := dk_153 0 10 (dk_at dksX6_takesSign_0 5 rfl rfl)
theorem dX6_takesSign_8 : decode cX6_takesSign 8 = .ok (.aload_n 0, 1) := dk_42 (dk_at dksX6_takesSign_0 8 rfl rfl)
theorem dX6_takesSign_9 : decode cX6_takesSign 9 = .ok (.invokevirtual 220, 3) := dk_182 0 220 (dk_at dksX6_takesSign_0 9 rfl rfl)
theorem dX6_takesSign_12 : decode cX6_takesSign 12 = .ok (.goto 8, 3) := dk_167 0 8 (dk_at dksX6_takesSign_0 12 rfl rfl)
theorem dX6_takesSign_15 : decode cX6_takesSign 15 = .ok (.aload_n 0, 1) := dk_42 (dk_at dksX6_takesSign_0 15 rfl rfl)
theorem dX6_takesSign_16 : decode cX6_takesSign 16 = .ok (.iconst 1, 1) := dk_4 (dk_at dksX6_takesSign_0 16 rfl rfl)
theorem dX6_takesSign_17 : decode cX6_takesSign 17 = .ok (.invokevirtual 217, 3) := dk_182 0 217 (dk_at dksX6_takesSign_0 17 rfl rfl)
theorem dX6_takesSign_20 : decode cX6_takesSign 20 = .ok (.ireturn, 1) := dk_172 (dk_at dksX6_takesSign_0 20 rfl rfl)
abbrev cX6_isSign : ByteArray := prog_14_method_14_code
def yX6_isSign : MethodName := ⟨RX6, "isSign", "(I)Z"⟩
def dkwX6_isSign_1 : List UInt8 := [160, 0, 7, 4, 167, 0, 4, 3, 172]
abbrev dktX6_isSign_1 : List UInt8 := dkwX6_isSign_1 ++ []
def dkwX6_isSign_0 : List UInt8 := [42, 180, 0, 43, 42, 180, 0, 214, 46, 5, 160, 0, 20, 42, 180, 0, 49, 42, 180, 0, 214, 46, 27]
abbrev dktX6_isSign_0 : List UInt8 := dkwX6_isSign_0 ++ dktX6_isSign_1
theorem dksX6_isSign_0 : cX6_isSign.data.toList.drop 0 = dktX6_isSign_0 := by decide +kernel
theorem dksX6_isSign_1 : cX6_isSign.data.toList.drop 23 = dktX6_isSign_1 := dk_seg dksX6_isSign_0 23 rfl rfl
theorem dX6_isSign_0 : decode cX6_isSign 0 = .ok (.aload_n 0, 1) := dk_42 (dk_at dksX6_isSign_0 0 rfl rfl)
theorem dX6_isSign_1 : decode cX6_isSign 1 = .ok (.getfield 43, 3) := dk_180 0 43 (dk_at dksX6_isSign_0 1 rfl rfl)
theorem dX6_isSign_4 : decode cX6_isSign 4 = .ok (.aload_n 0, 1) := dk_42 (dk_at dksX6_isSign_0 4 rfl rfl)
theorem dX6_isSign_5 : decode cX6_isSign 5 = .ok (.getfield 214, 3) := dk_180 0 214 (dk_at dksX6_isSign_0 5 rfl rfl)
theorem dX6_isSign_8 : decode cX6_isSign 8 = .ok (.iaload, 1) := dk_46 (dk_at dksX6_isSign_0 8 rfl rfl)
theorem dX6_isSign_9 : decode cX6_isSign 9 = .ok (.iconst 2, 1) := dk_5 (dk_at dksX6_isSign_0 9 rfl rfl)
theorem dX6_isSign_10 : decode cX6_isSign 10 = .ok (.if_icmp .ne 20, 3) := dk_160 0 20 (dk_at dksX6_isSign_0 10 rfl rfl)
theorem dX6_isSign_13 : decode cX6_isSign 13 = .ok (.aload_n 0, 1) := dk_42 (dk_at dksX6_isSign_0 13 rfl rfl)
theorem dX6_isSign_14 : decode cX6_isSign 14 = .ok (.getfield 49, 3) := dk_180 0 49 (dk_at dksX6_isSign_0 14 rfl rfl)
theorem dX6_isSign_17 : decode cX6_isSign 17 = .ok (.aload_n 0, 1) := dk_42 (dk_at dksX6_isSign_0 17 rfl rfl)
theorem dX6_isSign_18 : decode cX6_isSign 18 = .ok (.getfield 214, 3) := dk_180 0 214 (dk_at dksX6_isSign_0 18 rfl rfl)
theorem dX6_isSign_21 : decode cX6_isSign 21 = .ok (.iaload, 1) := dk_46 (dk_at dksX6_isSign_0 21 rfl rfl)
theorem dX6_isSign_22 : decode cX6_isSign 22 = .ok (.iload_n 1, 1) := dk_27 (dk_at dksX6_isSign_0 22 rfl rfl)
theorem dX6_isSign_23 : decode cX6_isSign 23 = .ok (.if_icmp .ne 7, 3) := dk_160 0 7 (dk_at dksX6_isSign_1 0 rfl rfl)
theorem dX6_isSign_26 : decode cX6_isSign 26 = .ok (.iconst 1, 1) := dk_4 (dk_at dksX6_isSign_1 3 rfl rfl)
theorem dX6_isSign_27 : decode cX6_isSign 27 = .ok (.goto 4, 3) := dk_167 0 4 (dk_at dksX6_isSign_1 4 rfl rfl)
theorem dX6_isSign_30 : decode cX6_isSign 30 = .ok (.iconst 0, 1) := dk_3 (dk_at dksX6_isSign_1 7 rfl rfl)
theorem dX6_isSign_31 : decode cX6_isSign 31 = .ok (.ireturn, 1) := dk_172 (dk_at dksX6_isSign_1 8 rfl rfl)
abbrev cX6_goesThrough : ByteArray := prog_14_method_19_code
def yX6_goesThrough : MethodName := ⟨RX6, "goesThrough", "()Z"⟩
def dkwX6_goesThrough_14 : List UInt8 := [16, 59, 182, 0, 239, 172]
abbrev dktX6_goesThrough_14 : List UInt8 := dkwX6_goesThrough_14 ++ []
def dkwX6_goesThrough_13 : List UInt8 := [154, 0, 5, 3, 172, 42, 16, 8, 182, 0, 242, 153, 0, 12, 42, 182, 0, 220, 154, 0, 5, 3, 172, 42]
abbrev dktX6_goesThrough_13 : List UInt8 := dkwX6_goesThrough_13 ++ dktX6_goesThrough_14
def dkwX6_goesThrough_12 : List UInt8 := [42, 3, 182, 0, 233, 154, 0, 5, 3, 172, 42, 16, 7, 182, 0, 242, 153, 0, 12, 42, 182, 0, 220]
abbrev dktX6_goesThrough_12 : List UInt8 := dkwX6_goesThrough_12 ++ dktX6_goesThrough_13
def dkwX6_goesThrough_11 : List UInt8 := [167, 0, 4, 3, 172, 27, 16, 6, 159, 0, 9, 42, 4, 182, 0, 217, 172, 42, 182, 0, 220, 153, 0, 11]
abbrev dktX6_goesThrough_11 : List UInt8 := dkwX6_goesThrough_11 ++ dktX6_goesThrough_12
def dkwX6_goesThrough_10 : List UInt8 := [182, 0, 220, 153, 0, 22, 42, 4, 182, 0, 233, 153, 0, 14, 42, 182, 0, 236, 153, 0, 7, 4]
abbrev dktX6_goesThrough_10 : List UInt8 := dkwX6_goesThrough_10 ++ dktX6_goesThrough_11
def dkwX6_goesThrough_9 : List UInt8 := [42, 16, 59, 182, 0, 239, 153, 0, 7, 4, 167, 0, 4, 3, 172, 27, 16, 9, 160, 0, 31, 42]
abbrev dktX6_goesThrough_9 : List UInt8 := dkwX6_goesThrough_9 ++ dktX6_goesThrough_10
def dkwX6_goesThrough_8 : List UInt8 := [42, 4, 182, 0, 233, 153, 0, 32, 42, 4, 182, 0, 233, 153, 0, 24, 42, 4, 182, 0, 233, 153, 0, 16]
abbrev dktX6_goesThrough_8 : List UInt8 := dkwX6_goesThrough_8 ++ dktX6_goesThrough_9
def dkwX6_goesThrough_7 : List UInt8 := [182, 0, 239, 153, 0, 7, 4, 167, 0, 4, 3, 172, 27, 8, 160, 0, 49, 42, 182, 0, 220, 153, 0, 40]
abbrev dktX6_goesThrough_7 : List UInt8 := dkwX6_goesThrough_7 ++ dktX6_goesThrough_8
def dkwX6_goesThrough_6 : List UInt8 := [27, 7, 163, 0, 33, 42, 182, 0, 220, 153, 0, 24, 42, 4, 182, 0, 233, 153, 0, 16, 42, 16, 59]
abbrev dktX6_goesThrough_6 : List UInt8 := dkwX6_goesThrough_6 ++ dktX6_goesThrough_7
def dkwX6_goesThrough_5 : List UInt8 := [182, 0, 233, 153, 0, 14, 42, 182, 0, 236, 153, 0, 7, 4, 167, 0, 4, 3, 172, 27, 5, 161, 0, 38]
abbrev dktX6_goesThrough_5 : List UInt8 := dkwX6_goesThrough_5 ++ dktX6_goesThrough_6
def dkwX6_goesThrough_4 : List UInt8 := [182, 0, 217, 172, 42, 89, 180, 0, 230, 4, 96, 181, 0, 230, 42, 182, 0, 220, 153, 0, 22, 42, 3]
abbrev dktX6_goesThrough_4 : List UInt8 := dkwX6_goesThrough_4 ++ dktX6_goesThrough_5
def dkwX6_goesThrough_3 : List UInt8 := [42, 180, 0, 227, 158, 0, 9, 42, 4, 182, 0, 217, 172, 42, 180, 0, 230, 16, 8, 160, 0, 9, 42, 5]
abbrev dktX6_goesThrough_3 : List UInt8 := dkwX6_goesThrough_3 ++ dktX6_goesThrough_4
def dkwX6_goesThrough_2 : List UInt8 := [159, 0, 9, 42, 4, 182, 0, 217, 172, 42, 180, 0, 49, 42, 180, 0, 214, 46, 60, 27, 4, 160, 0, 69]
abbrev dktX6_goesThrough_2 : List UInt8 := dkwX6_goesThrough_2 ++ dktX6_goesThrough_3
def dkwX6_goesThrough_1 : List UInt8 := [180, 0, 227, 4, 100, 181, 0, 227, 42, 182, 0, 220, 172, 42, 180, 0, 43, 42, 180, 0, 214, 46, 6]
abbrev dktX6_goesThrough_1 : List UInt8 := dkwX6_goesThrough_1 ++ dktX6_goesThrough_2
def dkwX6_goesThrough_0 : List UInt8 := [42, 16, 125, 182, 0, 224, 153, 0, 31, 42, 180, 0, 227, 154, 0, 9, 42, 4, 182, 0, 217, 172, 42, 89]
abbrev dktX6_goesThrough_0 : List UInt8 := dkwX6_goesThrough_0 ++ dktX6_goesThrough_1
theorem dksX6_goesThrough_0 : cX6_goesThrough.data.toList.drop 0 = dktX6_goesThrough_0 := by decide +kernel
theorem dksX6_goesThrough_1 : cX6_goesThrough.data.toList.drop 24 = dktX6_goesThrough_1 := dk_seg dksX6_goesThrough_0 24 rfl rfl
theorem dksX6_goesThrough_2 : cX6_goesThrough.data.toList.drop 47 = dktX6_goesThrough_2 := dk_seg dksX6_goesThrough_1 23 rfl rfl
theorem dksX6_goesThrough_3 : cX6_goesThrough.data.toList.drop 71 = dktX6_goesThrough_3 := dk_seg dksX6_goesThrough_2 24 rfl rfl
theorem dksX6_goesThrough_4 : cX6_goesThrough.data.toList.drop 95 = dktX6_goesThrough_4 := dk_seg dksX6_goesThrough_3 24 rfl rfl
theorem dksX6_goesThrough_5 : cX6_goesThrough.data.toList.drop 118 = dktX6_goesThrough_5 := dk_seg dksX6_goesThrough_4 23 rfl rfl
theorem dksX6_goesThrough_6 : cX6_goesThrough.data.toList.drop 142 = dktX6_goesThrough_6 := dk_seg dksX6_goesThrough_5 24 rfl rfl
theorem dksX6_goesThrough_7 : cX6_goesThrough.data.toList.drop 165 = dktX6_goesThrough_7 := dk_seg dksX6_goesThrough_6 23 rfl rfl
theorem dksX6_goesThrough_8 : cX6_goesThrough.data.toList.drop 189 = dktX6_goesThrough_8 := dk_seg dksX6_goesThrough_7 24 rfl rfl
theorem dksX6_goesThrough_9 : cX6_goesThrough.data.toList.drop 213 = dktX6_goesThrough_9 := dk_seg dksX6_goesThrough_8 24 rfl rfl
theorem dksX6_goesThrough_10 : cX6_goesThrough.data.toList.drop 235 = dktX6_goesThrough_10 := dk_seg dksX6_goesThrough_9 22 rfl rfl
theorem dksX6_goesThrough_11 : cX6_goesThrough.data.toList.drop 257 = dktX6_goesThrough_11 := dk_seg dksX6_goesThrough_10 22 rfl rfl
theorem dksX6_goesThrough_12 : cX6_goesThrough.data.toList.drop 281 = dktX6_goesThrough_12 := dk_seg dksX6_goesThrough_11 24 rfl rfl
theorem dksX6_goesThrough_13 : cX6_goesThrough.data.toList.drop 304 = dktX6_goesThrough_13 := dk_seg dksX6_goesThrough_12 23 rfl rfl
theorem dksX6_goesThrough_14 : cX6_goesThrough.data.toList.drop 328 = dktX6_goesThrough_14 := dk_seg dksX6_goesThrough_13 24 rfl rfl
theorem dX6_goesThrough_0 : decode cX6_goesThrough 0 = .ok (.aload_n 0, 1) := dk_42 (dk_at dksX6_goesThrough_0 0 rfl rfl)
theorem dX6_goesThrough_1 : decode cX6_goesThrough 1 = .ok (.bipush 125, 2) := dk_16 125 (dk_at dksX6_goesThrough_0 1 rfl rfl)
theorem dX6_goesThrough_3 : decode cX6_goesThrough 3 = .ok (.invokevirtual 224, 3) := dk_182 0 224 (dk_at dksX6_goesThrough_0 3 rfl rfl)
theorem dX6_goesThrough_6 : decode cX6_goesThrough 6 = .ok (.ifCond .eq 31, 3) := dk_153 0 31 (dk_at dksX6_goesThrough_0 6 rfl rfl)
theorem dX6_goesThrough_9 : decode cX6_goesThrough 9 = .ok (.aload_n 0, 1) := dk_42 (dk_at dksX6_goesThrough_0 9 rfl rfl)
theorem dX6_goesThrough_10 : decode cX6_goesThrough 10 = .ok (.getfield 227, 3) := dk_180 0 227 (dk_at dksX6_goesThrough_0 10 rfl rfl)
theorem dX6_goesThrough_13 : decode cX6_goesThrough 13 = .ok (.ifCond .ne 9, 3) := dk_154 0 9 (dk_at dksX6_goesThrough_0 13 rfl rfl)
theorem dX6_goesThrough_16 : decode cX6_goesThrough 16 = .ok (.aload_n 0, 1) := dk_42 (dk_at dksX6_goesThrough_0 16 rfl rfl)
theorem dX6_goesThrough_17 : decode cX6_goesThrough 17 = .ok (.iconst 1, 1) := dk_4 (dk_at dksX6_goesThrough_0 17 rfl rfl)
theorem dX6_goesThrough_18 : decode cX6_goesThrough 18 = .ok (.invokevirtual 217, 3) := dk_182 0 217 (dk_at dksX6_goesThrough_0 18 rfl rfl)
theorem dX6_goesThrough_21 : decode cX6_goesThrough 21 = .ok (.ireturn, 1) := dk_172 (dk_at dksX6_goesThrough_0 21 rfl rfl)
theorem dX6_goesThrough_22 : decode cX6_goesThrough 22 = .ok (.aload_n 0, 1) := dk_42 (dk_at dksX6_goesThrough_0 22 rfl rfl)
theorem dX6_goesThrough_23 : decode cX6_goesThrough 23 = .ok (.dup, 1) := dk_89 (dk_at dksX6_goesThrough_0 23 rfl rfl)
theorem dX6_goesThrough_24 : decode cX6_goesThrough 24 = .ok (.getfield 227, 3) := dk_180 0 227 (dk_at dksX6_goesThrough_1 0 rfl rfl)
theorem dX6_goesThrough_27 : decode cX6_goesThrough 27 = .ok (.iconst 1, 1) := dk_4 (dk_at dksX6_goesThrough_1 3 rfl rfl)
theorem dX6_goesThrough_28 : decode cX6_goesThrough 28 = .ok (.isub, 1) := dk_100 (dk_at dksX6_goesThrough_1 4 rfl rfl)
theorem dX6_goesThrough_29 : decode cX6_goesThrough 29 = .ok (.putfield 227, 3) := dk_181 0 227 (dk_at dksX6_goesThrough_1 5 rfl rfl)
theorem dX6_goesThrough_32 : decode cX6_goesThrough 32 = .ok (.aload_n 0, 1) := dk_42 (dk_at dksX6_goesThrough_1 8 rfl rfl)
theorem dX6_goesThrough_33 : decode cX6_goesThrough 33 = .ok (.invokevirtual 220, 3) := dk_182 0 220 (dk_at dksX6_goesThrough_1 9 rfl rfl)
theorem dX6_goesThrough_36 : decode cX6_goesThrough 36 = .ok (.ireturn, 1) := dk_172 (dk_at dksX6_goesThrough_1 12 rfl rfl)
theorem dX6_goesThrough_37 : decode cX6_goesThrough 37 = .ok (.aload_n 0, 1) := dk_42 (dk_at dksX6_goesThrough_1 13 rfl rfl)
theorem dX6_goesThrough_38 : decode cX6_goesThrough 38 = .ok (.getfield 43, 3) := dk_180 0 43 (dk_at dksX6_goesThrough_1 14 rfl rfl)
theorem dX6_goesThrough_41 : decode cX6_goesThrough 41 = .ok (.aload_n 0, 1) := dk_42 (dk_at dksX6_goesThrough_1 17 rfl rfl)
theorem dX6_goesThrough_42 : decode cX6_goesThrough 42 = .ok (.getfield 214, 3) := dk_180 0 214 (dk_at dksX6_goesThrough_1 18 rfl rfl)
theorem dX6_goesThrough_45 : decode cX6_goesThrough 45 = .ok (.iaload, 1) := dk_46 (dk_at dksX6_goesThrough_1 21 rfl rfl)
theorem dX6_goesThrough_46 : decode cX6_goesThrough 46 = .ok (.iconst 3, 1) := dk_6 (dk_at dksX6_goesThrough_1 22 rfl rfl)
theorem dX6_goesThrough_47 : decode cX6_goesThrough 47 = .ok (.if_icmp .eq 9, 3) := dk_159 0 9 (dk_at dksX6_goesThrough_2 0 rfl rfl)
theorem dX6_goesThrough_50 : decode cX6_goesThrough 50 = .ok (.aload_n 0, 1) := dk_42 (dk_at dksX6_goesThrough_2 3 rfl rfl)
theorem dX6_goesThrough_51 : decode cX6_goesThrough 51 = .ok (.iconst 1, 1) := dk_4 (dk_at dksX6_goesThrough_2 4 rfl rfl)
theorem dX6_goesThrough_52 : decode cX6_goesThrough 52 = .ok (.invokevirtual 217, 3) := dk_182 0 217 (dk_at dksX6_goesThrough_2 5 rfl rfl)
theorem dX6_goesThrough_55 : decode cX6_goesThrough 55 = .ok (.ireturn, 1) := dk_172 (dk_at dksX6_goesThrough_2 8 rfl rfl)
theorem dX6_goesThrough_56 : decode cX6_goesThrough 56 = .ok (.aload_n 0, 1) := dk_42 (dk_at dksX6_goesThrough_2 9 rfl rfl)
theorem dX6_goesThrough_57 : decode cX6_goesThrough 57 = .ok (.getfield 49, 3) := dk_180 0 49 (dk_at dksX6_goesThrough_2 10 rfl rfl)
theorem dX6_goesThrough_60 : decode cX6_goesThrough 60 = .ok (.aload_n 0, 1) := dk_42 (dk_at dksX6_goesThrough_2 13 rfl rfl)
theorem dX6_goesThrough_61 : decode cX6_goesThrough 61 = .ok (.getfield 214, 3) := dk_180 0 214 (dk_at dksX6_goesThrough_2 14 rfl rfl)
theorem dX6_goesThrough_64 : decode cX6_goesThrough 64 = .ok (.iaload, 1) := dk_46 (dk_at dksX6_goesThrough_2 17 rfl rfl)
theorem dX6_goesThrough_65 : decode cX6_goesThrough 65 = .ok (.istore_n 1, 1) := dk_60 (dk_at dksX6_goesThrough_2 18 rfl rfl)
theorem dX6_goesThrough_66 : decode cX6_goesThrough 66 = .ok (.iload_n 1, 1) := dk_27 (dk_at dksX6_goesThrough_2 19 rfl rfl)
theorem dX6_goesThrough_67 : decode cX6_goesThrough 67 = .ok (.iconst 1, 1) := dk_4 (dk_at dksX6_goesThrough_2 20 rfl rfl)
theorem dX6_goesThrough_68 : decode cX6_goesThrough 68 = .ok (.if_icmp .ne 69, 3) := dk_160 0 69 (dk_at dksX6_goesThrough_2 21 rfl rfl)
theorem dX6_goesThrough_71 : decode cX6_goesThrough 71 = .ok (.aload_n 0, 1) := dk_42 (dk_at dksX6_goesThrough_3 0 rfl rfl)
theorem dX6_goesThrough_72 : decode cX6_goesThrough 72 = .ok (.getfield 227, 3) := dk_180 0 227 (dk_at dksX6_goesThrough_3 1 rfl rfl)
theorem dX6_goesThrough_75 : decode cX6_goesThrough 75 = .ok (.ifCond .le 9, 3) := dk_158 0 9 (dk_at dksX6_goesThrough_3 4 rfl rfl)
theorem dX6_goesThrough_78 : decode cX6_goesThrough 78 = .ok (.aload_n 0, 1) := dk_42 (dk_at dksX6_goesThrough_3 7 rfl rfl)
theorem dX6_goesThrough_79 : decode cX6_goesThrough 79 = .ok (.iconst 1, 1) := dk_4 (dk_at dksX6_goesThrough_3 8 rfl rfl)
theorem dX6_goesThrough_80 : decode cX6_goesThrough 80 = .ok (.invokevirtual 217, 3) := dk_182 0 217 (dk_at dksX6_goesThrough_3 9 rfl rfl)
theorem dX6_goesThrough_83 : decode cX6_goesThrough 83 = .ok (.ireturn, 1) := dk_172 (dk_at dksX6_goesThrough_3 12 rfl rfl)
theorem dX6_goesThrough_84 : decode cX6_goesThrough 84 = .ok (.aload_n 0, 1) := dk_42 (dk_at dksX6_goesThrough_3 13 rfl rfl)
theorem dX6_goesThrough_85 : decode cX6_goesThrough 85 = .ok (.getfield 230, 3) := dk_180 0 230 (dk_at dksX6_goesThrough_3 14 rfl rfl)
theorem dX6_goesThrough_88 : decode cX6_goesThrough 88 = .ok (.bipush 8, 2) := dk_16 8 (dk_at dksX6_goesThrough_3 17 rfl rfl)
theorem dX6_goesThrough_90 : decode cX6_goesThrough 90 = .ok (.if_icmp .ne 9, 3) := dk_160 0 9 (dk_at dksX6_goesThrough_3 19 rfl rfl)
theorem dX6_goesThrough_93 : decode cX6_goesThrough 93 = .ok (.aload_n 0, 1) := dk_42 (dk_at dksX6_goesThrough_3 22 rfl rfl)
theorem dX6_goesThrough_94 : decode cX6_goesThrough 94 = .ok (.iconst 2, 1) := dk_5 (dk_at dksX6_goesThrough_3 23 rfl rfl)
theorem dX6_goesThrough_95 : decode cX6_goesThrough 95 = .ok (.invokevirtual 217, 3) := dk_182 0 217 (dk_at dksX6_goesThrough_4 0 rfl rfl)
theorem dX6_goesThrough_98 : decode cX6_goesThrough 98 = .ok (.ireturn, 1) := dk_172 (dk_at dksX6_goesThrough_4 3 rfl rfl)
theorem dX6_goesThrough_99 : decode cX6_goesThrough 99 = .ok (.aload_n 0, 1) := dk_42 (dk_at dksX6_goesThrough_4 4 rfl rfl)
theorem dX6_goesThrough_100 : decode cX6_goesThrough 100 = .ok (.dup, 1) := dk_89 (dk_at dksX6_goesThrough_4 5 rfl rfl)
theorem dX6_goesThrough_101 : decode cX6_goesThrough 101 = .ok (.getfield 230, 3) := dk_180 0 230 (dk_at dksX6_goesThrough_4 6 rfl rfl)
theorem dX6_goesThrough_104 : decode cX6_goesThrough 104 = .ok (.iconst 1, 1) := dk_4 (dk_at dksX6_goesThrough_4 9 rfl rfl)
theorem dX6_goesThrough_105 : decode cX6_goesThrough 105 = .ok (.iadd, 1) := dk_96 (dk_at dksX6_goesThrough_4 10 rfl rfl)
theorem dX6_goesThrough_106 : decode cX6_goesThrough 106 = .ok (.putfield 230, 3) := dk_181 0 230 (dk_at dksX6_goesThrough_4 11 rfl rfl)
theorem dX6_goesThrough_109 : decode cX6_goesThrough 109 = .ok (.aload_n 0, 1) := dk_42 (dk_at dksX6_goesThrough_4 14 rfl rfl)
theorem dX6_goesThrough_110 : decode cX6_goesThrough 110 = .ok (.invokevirtual 220, 3) := dk_182 0 220 (dk_at dksX6_goesThrough_4 15 rfl rfl)
theorem dX6_goesThrough_113 : decode cX6_goesThrough 113 = .ok (.ifCond .eq 22, 3) := dk_153 0 22 (dk_at dksX6_goesThrough_4 18 rfl rfl)
theorem dX6_goesThrough_116 : decode cX6_goesThrough 116 = .ok (.aload_n 0, 1) := dk_42 (dk_at dksX6_goesThrough_4 21 rfl rfl)
theorem dX6_goesThrough_117 : decode cX6_goesThrough 117 = .ok (.iconst 0, 1) := dk_3 (dk_at dksX6_goesThrough_4 22 rfl rfl)
theorem dX6_goesThrough_118 : decode cX6_goesThrough 118 = .ok (.invokevirtual 233, 3) := dk_182 0 233 (dk_at dksX6_goesThrough_5 0 rfl rfl)
theorem dX6_goesThrough_121 : decode cX6_goesThrough 121 = .ok (.ifCond .eq 14, 3) := dk_153 0 14 (dk_at dksX6_goesThrough_5 3 rfl rfl)
theorem dX6_goesThrough_124 : decode cX6_goesThrough 124 = .ok (.aload_n 0, 1) := dk_42 (dk_at dksX6_goesThrough_5 6 rfl rfl)
theorem dX6_goesThrough_125 : decode cX6_goesThrough 125 = .ok (.invokevirtual 236, 3) := dk_182 0 236 (dk_at dksX6_goesThrough_5 7 rfl rfl)
theorem dX6_goesThrough_128 : decode cX6_goesThrough 128 = .ok (.ifCond .eq 7, 3) := dk_153 0 7 (dk_at dksX6_goesThrough_5 10 rfl rfl)
theorem dX6_goesThrough_131 : decode cX6_goesThrough 131 = .ok (.iconst 1, 1) := dk_4 (dk_at dksX6_goesThrough_5 13 rfl rfl)
theorem dX6_goesThrough_132 : decode cX6_goesThrough 132 = .ok (.goto 4, 3) := dk_167 0 4 (dk_at dksX6_goesThrough_5 14 rfl rfl)
theorem dX6_goesThrough_135 : decode cX6_goesThrough 135 = .ok (.iconst 0, 1) := dk_3 (dk_at dksX6_goesThrough_5 17 rfl rfl)
theorem dX6_goesThrough_136 : decode cX6_goesThrough 136 = .ok (.ireturn, 1) := dk_172 (dk_at dksX6_goesThrough_5 18 rfl rfl)
theorem dX6_goesThrough_137 : decode cX6_goesThrough 137 = .ok (.iload_n 1, 1) := dk_27 (dk_at dksX6_goesThrough_5 19 rfl rfl)
theorem dX6_goesThrough_138 : decode cX6_goesThrough 138 = .ok (.iconst 2, 1) := dk_5 (dk_at dksX6_goesThrough_5 20 rfl rfl)
theorem dX6_goesThrough_139 : decode cX6_goesThrough 139 = .ok (.if_icmp .lt 38, 3) := dk_161 0 38 (dk_at dksX6_goesThrough_5 21 rfl rfl)
theorem dX6_goesThrough_142 : decode cX6_goesThrough 142 = .ok (.iload_n 1, 1) := dk_27 (dk_at dksX6_goesThrough_6 0 rfl rfl)
theorem dX6_goesThrough_143 : decode cX6_goesThrough 143 = .ok (.iconst 4, 1) := dk_7 (dk_at dksX6_goesThrough_6 1 rfl rfl)
theorem dX6_goesThrough_144 : decode cX6_goesThrough 144 = .ok (.if_icmp .gt 33, 3) := dk_163 0 33 (dk_at dksX6_goesThrough_6 2 rfl rfl)
theorem dX6_goesThrough_147 : decode cX6_goesThrough 147 = .ok (.aload_n 0, 1) := dk_42 (dk_at dksX6_goesThrough_6 5 rfl rfl)
theorem dX6_goesThrough_148 : decode cX6_goesThrough 148 = .ok (.invokevirtual 220, 3) := dk_182 0 220 (dk_at dksX6_goesThrough_6 6 rfl rfl)
theorem dX6_goesThrough_151 : decode cX6_goesThrough 151 = .ok (.ifCond .eq 24, 3) := dk_153 0 24 (dk_at dksX6_goesThrough_6 9 rfl rfl)
theorem dX6_goesThrough_154 : decode cX6_goesThrough 154 = .ok (.aload_n 0, 1) := dk_42 (dk_at dksX6_goesThrough_6 12 rfl rfl)
theorem dX6_goesThrough_155 : decode cX6_goesThrough 155 = .ok (.iconst 1, 1) := dk_4 (dk_at dksX6_goesThrough_6 13 rfl rfl)
theorem dX6_goesThrough_156 : decode cX6_goesThrough 156 = .ok (.invokevirtual 233, 3) := dk_182 0 233 (dk_at dksX6_goesThrough_6 14 rfl rfl)
theorem dX6_goesThrough_159 : decode cX6_goesThrough 159 = .ok (.ifCond .eq 16, 3) := dk_153 0 16 (dk_at dksX6_goesThrough_6 17 rfl rfl)
theorem dX6_goesThrough_162 : decode cX6_goesThrough 162 = .ok (.aload_n 0, 1) := dk_42 (dk_at dksX6_goesThrough_6 20 rfl rfl)
theorem dX6_goesThrough_163 : decode cX6_goesThrough 163 = .ok (.bipush 59, 2) := dk_16 59 (dk_at dksX6_goesThrough_6 21 rfl rfl)
theorem dX6_goesThrough_165 : decode cX6_goesThrough 165 = .ok (.invokevirtual 239, 3) := dk_182 0 239 (dk_at dksX6_goesThrough_7 0 rfl rfl)
theorem dX6_goesThrough_168 : decode cX6_goesThrough 168 = .ok (.ifCond .eq 7, 3) := dk_153 0 7 (dk_at dksX6_goesThrough_7 3 rfl rfl)
theorem dX6_goesThrough_171 : decode cX6_goesThrough 171 = .ok (.iconst 1, 1) := dk_4 (dk_at dksX6_goesThrough_7 6 rfl rfl)
theorem dX6_goesThrough_172 : decode cX6_goesThrough 172 = .ok (.goto 4, 3) := dk_167 0 4 (dk_at dksX6_goesThrough_7 7 rfl rfl)
theorem dX6_goesThrough_175 : decode cX6_goesThrough 175 = .ok (.iconst 0, 1) := dk_3 (dk_at dksX6_goesThrough_7 10 rfl rfl)
theorem dX6_goesThrough_176 : decode cX6_goesThrough 176 = .ok (.ireturn, 1) := dk_172 (dk_at dksX6_goesThrough_7 11 rfl rfl)
theorem dX6_goesThrough_177 : decode cX6_goesThrough 177 = .ok (.iload_n 1, 1) := dk_27 (dk_at dksX6_goesThrough_7 12 rfl rfl)
theorem dX6_goesThrough_178 : decode cX6_goesThrough 178 = .ok (.iconst 5, 1) := dk_8 (dk_at dksX6_goesThrough_7 13 rfl rfl)
theorem dX6_goesThrough_179 : decode cX6_goesThrough 179 = .ok (.if_icmp .ne 49, 3) := dk_160 0 49 (dk_at dksX6_goesThrough_7 14 rfl rfl)
theorem dX6_goesThrough_182 : decode cX6_goesThrough 182 = .ok (.aload_n 0, 1) := dk_42 (dk_at dksX6_goesThrough_7 17 rfl rfl)
theorem dX6_goesThrough_183 : decode cX6_goesThrough 183 = .ok (.invokevirtual 220, 3) := dk_182 0 220 (dk_at dksX6_goesThrough_7 18 rfl rfl)
theorem dX6_goesThrough_186 : decode cX6_goesThrough 186 = .ok (.ifCond .eq 40, 3) := dk_153 0 40 (dk_at dksX6_goesThrough_7 21 rfl rfl)
theorem dX6_goesThrough_189 : decode cX6_goesThrough 189 = .ok (.aload_n 0, 1) := dk_42 (dk_at dksX6_goesThrough_8 0 rfl rfl)
theorem dX6_goesThrough_190 : decode cX6_goesThrough 190 = .ok (.iconst 1, 1) := dk_4 (dk_at dksX6_goesThrough_8 1 rfl rfl)
theorem dX6_goesThrough_191 : decode cX6_goesThrough 191 = .ok (.invokevirtual 233, 3) := dk_182 0 233 (dk_at dksX6_goesThrough_8 2 rfl rfl)
theorem dX6_goesThrough_194 : decode cX6_goesThrough 194 = .ok (.ifCond .eq 32, 3) := dk_153 0 32 (dk_at dksX6_goesThrough_8 5 rfl rfl)
theorem dX6_goesThrough_197 : decode cX6_goesThrough 197 = .ok (.aload_n 0, 1) := dk_42 (dk_at dksX6_goesThrough_8 8 rfl rfl)
theorem dX6_goesThrough_198 : decode cX6_goesThrough 198 = .ok (.iconst 1, 1) := dk_4 (dk_at dksX6_goesThrough_8 9 rfl rfl)
theorem dX6_goesThrough_199 : decode cX6_goesThrough 199 = .ok (.invokevirtual 233, 3) := dk_182 0 233 (dk_at dksX6_goesThrough_8 10 rfl rfl)
theorem dX6_goesThrough_202 : decode cX6_goesThrough 202 = .ok (.ifCond .eq 24, 3) := dk_153 0 24 (dk_at dksX6_goesThrough_8 13 rfl rfl)
theorem dX6_goesThrough_205 : decode cX6_goesThrough 205 = .ok (.aload_n 0, 1) := dk_42 (dk_at dksX6_goesThrough_8 16 rfl rfl)
theorem dX6_goesThrough_206 : decode cX6_goesThrough 206 = .ok (.iconst 1, 1) := dk_4 (dk_at dksX6_goesThrough_8 17 rfl rfl)
theorem dX6_goesThrough_207 : decode cX6_goesThrough 207 = .ok (.invokevirtual 233, 3) := dk_182 0 233 (dk_at dksX6_goesThrough_8 18 rfl rfl)
theorem dX6_goesThrough_210 : decode cX6_goesThrough 210 = .ok (.ifCond .eq 16, 3) := dk_153 0 16 (dk_at dksX6_goesThrough_8 21 rfl rfl)
theorem dX6_goesThrough_213 : decode cX6_goesThrough 213 = .ok (.aload_n 0, 1) := dk_42 (dk_at dksX6_goesThrough_9 0 rfl rfl)
theorem dX6_goesThrough_214 : decode cX6_goesThrough 214 = .ok (.bipush 59, 2) := dk_16 59 (dk_at dksX6_goesThrough_9 1 rfl rfl)
theorem dX6_goesThrough_216 : decode cX6_goesThrough 216 = .ok (.invokevirtual 239, 3) := dk_182 0 239 (dk_at dksX6_goesThrough_9 3 rfl rfl)
theorem dX6_goesThrough_219 : decode cX6_goesThrough 219 = .ok (.ifCond .eq 7, 3) := dk_153 0 7 (dk_at dksX6_goesThrough_9 6 rfl rfl)
theorem dX6_goesThrough_222 : decode cX6_goesThrough 222 = .ok (.iconst 1, 1) := dk_4 (dk_at dksX6_goesThrough_9 9 rfl rfl)
theorem dX6_goesThrough_223 : decode cX6_goesThrough 223 = .ok (.goto 4, 3) := dk_167 0 4 (dk_at dksX6_goesThrough_9 10 rfl rfl)
theorem dX6_goesThrough_226 : decode cX6_goesThrough 226 = .ok (.iconst 0, 1) := dk_3 (dk_at dksX6_goesThrough_9 13 rfl rfl)
theorem dX6_goesThrough_227 : decode cX6_goesThrough 227 = .ok (.ireturn, 1) := dk_172 (dk_at dksX6_goesThrough_9 14 rfl rfl)
theorem dX6_goesThrough_228 : decode cX6_goesThrough 228 = .ok (.iload_n 1, 1) := dk_27 (dk_at dksX6_goesThrough_9 15 rfl rfl)
theorem dX6_goesThrough_229 : decode cX6_goesThrough 229 = .ok (.bipush 9, 2) := dk_16 9 (dk_at dksX6_goesThrough_9 16 rfl rfl)
theorem dX6_goesThrough_231 : decode cX6_goesThrough 231 = .ok (.if_icmp .ne 31, 3) := dk_160 0 31 (dk_at dksX6_goesThrough_9 18 rfl rfl)
theorem dX6_goesThrough_234 : decode cX6_goesThrough 234 = .ok (.aload_n 0, 1) := dk_42 (dk_at dksX6_goesThrough_9 21 rfl rfl)
theorem dX6_goesThrough_235 : decode cX6_goesThrough 235 = .ok (.invokevirtual 220, 3) := dk_182 0 220 (dk_at dksX6_goesThrough_10 0 rfl rfl)
theorem dX6_goesThrough_238 : decode cX6_goesThrough 238 = .ok (.ifCond .eq 22, 3) := dk_153 0 22 (dk_at dksX6_goesThrough_10 3 rfl rfl)
theorem dX6_goesThrough_241 : decode cX6_goesThrough 241 = .ok (.aload_n 0, 1) := dk_42 (dk_at dksX6_goesThrough_10 6 rfl rfl)
theorem dX6_goesThrough_242 : decode cX6_goesThrough 242 = .ok (.iconst 1, 1) := dk_4 (dk_at dksX6_goesThrough_10 7 rfl rfl)
theorem dX6_goesThrough_243 : decode cX6_goesThrough 243 = .ok (.invokevirtual 233, 3) := dk_182 0 233 (dk_at dksX6_goesThrough_10 8 rfl rfl)
theorem dX6_goesThrough_246 : decode cX6_goesThrough 246 = .ok (.ifCond .eq 14, 3) := dk_153 0 14 (dk_at dksX6_goesThrough_10 11 rfl rfl)
theorem dX6_goesThrough_249 : decode cX6_goesThrough 249 = .ok (.aload_n 0, 1) := dk_42 (dk_at dksX6_goesThrough_10 14 rfl rfl)
theorem dX6_goesThrough_250 : decode cX6_goesThrough 250 = .ok (.invokevirtual 236, 3) := dk_182 0 236 (dk_at dksX6_goesThrough_10 15 rfl rfl)
theorem dX6_goesThrough_253 : decode cX6_goesThrough 253 = .ok (.ifCond .eq 7, 3) := dk_153 0 7 (dk_at dksX6_goesThrough_10 18 rfl rfl)
theorem dX6_goesThrough_256 : decode cX6_goesThrough 256 = .ok (.iconst 1, 1) := dk_4 (dk_at dksX6_goesThrough_10 21 rfl rfl)
theorem dX6_goesThrough_257 : decode cX6_goesThrough 257 = .ok (.goto 4, 3) := dk_167 0 4 (dk_at dksX6_goesThrough_11 0 rfl rfl)
theorem dX6_goesThrough_260 : decode cX6_goesThrough 260 = .ok (.iconst 0, 1) := dk_3 (dk_at dksX6_goesThrough_11 3 rfl rfl)
theorem dX6_goesThrough_261 : decode cX6_goesThrough 261 = .ok (.ireturn, 1) := dk_172 (dk_at dksX6_goesThrough_11 4 rfl rfl)
theorem dX6_goesThrough_262 : decode cX6_goesThrough 262 = .ok (.iload_n 1, 1) := dk_27 (dk_at dksX6_goesThrough_11 5 rfl rfl)
theorem dX6_goesThrough_263 : decode cX6_goesThrough 263 = .ok (.bipush 6, 2) := dk_16 6 (dk_at dksX6_goesThrough_11 6 rfl rfl)
theorem dX6_goesThrough_265 : decode cX6_goesThrough 265 = .ok (.if_icmp .eq 9, 3) := dk_159 0 9 (dk_at dksX6_goesThrough_11 8 rfl rfl)
theorem dX6_goesThrough_268 : decode cX6_goesThrough 268 = .ok (.aload_n 0, 1) := dk_42 (dk_at dksX6_goesThrough_11 11 rfl rfl)
theorem dX6_goesThrough_269 : decode cX6_goesThrough 269 = .ok (.iconst 1, 1) := dk_4 (dk_at dksX6_goesThrough_11 12 rfl rfl)
theorem dX6_goesThrough_270 : decode cX6_goesThrough 270 = .ok (.invokevirtual 217, 3) := dk_182 0 217 (dk_at dksX6_goesThrough_11 13 rfl rfl)
theorem dX6_goesThrough_273 : decode cX6_goesThrough 273 = .ok (.ireturn, 1) := dk_172 (dk_at dksX6_goesThrough_11 16 rfl rfl)
theorem dX6_goesThrough_274 : decode cX6_goesThrough 274 = .ok (.aload_n 0, 1) := dk_42 (dk_at dksX6_goesThrough_11 17 rfl rfl)
theorem dX6_goesThrough_275 : decode cX6_goesThrough 275 = .ok (.invokevirtual 220, 3) := dk_182 0 220 (dk_at dksX6_goesThrough_11 18 rfl rfl)
theorem dX6_goesThrough_278 : decode cX6_goesThrough 278 = .ok (.ifCond .eq 11, 3) := dk_153 0 11 (dk_at dksX6_goesThrough_11 21 rfl rfl)
theorem dX6_goesThrough_281 : decode cX6_goesThrough 281 = .ok (.aload_n 0, 1) := dk_42 (dk_at dksX6_goesThrough_12 0 rfl rfl)
theorem dX6_goesThrough_282 : decode cX6_goesThrough 282 = .ok (.iconst 0, 1) := dk_3 (dk_at dksX6_goesThrough_12 1 rfl rfl)
theorem dX6_goesThrough_283 : decode cX6_goesThrough 283 = .ok (.invokevirtual 233, 3) := dk_182 0 233 (dk_at dksX6_goesThrough_12 2 rfl rfl)
theorem dX6_goesThrough_286 : decode cX6_goesThrough 286 = .ok (.ifCond .ne 5, 3) := dk_154 0 5 (dk_at dksX6_goesThrough_12 5 rfl rfl)
theorem dX6_goesThrough_289 : decode cX6_goesThrough 289 = .ok (.iconst 0, 1) := dk_3 (dk_at dksX6_goesThrough_12 8 rfl rfl)
theorem dX6_goesThrough_290 : decode cX6_goesThrough 290 = .ok (.ireturn, 1) := dk_172 (dk_at dksX6_goesThrough_12 9 rfl rfl)
theorem dX6_goesThrough_291 : decode cX6_goesThrough 291 = .ok (.aload_n 0, 1) := dk_42 (dk_at dksX6_goesThrough_12 10 rfl rfl)
theorem dX6_goesThrough_292 : decode cX6_goesThrough 292 = .ok (.bipush 7, 2) := dk_16 7 (dk_at dksX6_goesThrough_12 11 rfl rfl)
theorem dX6_goesThrough_294 : decode cX6_goesThrough 294 = .ok (.invokevirtual 242, 3) := dk_182 0 242 (dk_at dksX6_goesThrough_12 13 rfl rfl)
theorem dX6_goesThrough_297 : decode cX6_goesThrough 297 = .ok (.ifCond .eq 12, 3) := dk_153 0 12 (dk_at dksX6_goesThrough_12 16 rfl rfl)
theorem dX6_goesThrough_300 : decode cX6_goesThrough 300 = .ok (.aload_n 0, 1) := dk_42 (dk_at dksX6_goesThrough_12 19 rfl rfl)
theorem dX6_goesThrough_301 : decode cX6_goesThrough 301 = .ok (.invokevirtual 220, 3) := dk_182 0 220 (dk_at dksX6_goesThrough_12 20 rfl rfl)
theorem dX6_goesThrough_304 : decode cX6_goesThrough 304 = .ok (.ifCond .ne 5, 3) := dk_154 0 5 (dk_at dksX6_goesThrough_13 0 rfl rfl)
theorem dX6_goesThrough_307 : decode cX6_goesThrough 307 = .ok (.iconst 0, 1) := dk_3 (dk_at dksX6_goesThrough_13 3 rfl rfl)
theorem dX6_goesThrough_308 : decode cX6_goesThrough 308 = .ok (.ireturn, 1) := dk_172 (dk_at dksX6_goesThrough_13 4 rfl rfl)
theorem dX6_goesThrough_309 : decode cX6_goesThrough 309 = .ok (.aload_n 0, 1) := dk_42 (dk_at dksX6_goesThrough_13 5 rfl rfl)
theorem dX6_goesThrough_310 : decode cX6_goesThrough 310 = .ok (.bipush 8, 2) := dk_16 8 (dk_at dksX6_goesThrough_13 6 rfl rfl)
theorem dX6_goesThrough_312 : decode cX6_goesThrough 312 = .ok (.invokevirtual 242, 3) := dk_182 0 242 (dk_at dksX6_goesThrough_13 8 rfl rfl)
theorem dX6_goesThrough_315 : decode cX6_goesThrough 315 = .ok (.ifCond .eq 12, 3) := dk_153 0 12 (dk_at dksX6_goesThrough_13 11 rfl rfl)
theorem dX6_goesThrough_318 : decode cX6_goesThrough 318 = .ok (.aload_n 0, 1) := dk_42 (dk_at dksX6_goesThrough_13 14 rfl rfl)
theorem dX6_goesThrough_319 : decode cX6_goesThrough 319 = .ok (.invokevirtual 220, 3) := dk_182 0 220 (dk_at dksX6_goesThrough_13 15 rfl rfl)
theorem dX6_goesThrough_322 : decode cX6_goesThrough 322 = .ok (.ifCond .ne 5, 3) := dk_154 0 5 (dk_at dksX6_goesThrough_13 18 rfl rfl)
theorem dX6_goesThrough_325 : decode cX6_goesThrough 325 = .ok (.iconst 0, 1) := dk_3 (dk_at dksX6_goesThrough_13 21 rfl rfl)
theorem dX6_goesThrough_326 : decode cX6_goesThrough 326 = .ok (.ireturn, 1) := dk_172 (dk_at dksX6_goesThrough_13 22 rfl rfl)
theorem dX6_goesThrough_327 : decode cX6_goesThrough 327 = .ok (.aload_n 0, 1) := dk_42 (dk_at dksX6_goesThrough_13 23 rfl rfl)
theorem dX6_goesThrough_328 : decode cX6_goesThrough 328 = .ok (.bipush 59, 2) := dk_16 59 (dk_at dksX6_goesThrough_14 0 rfl rfl)
theorem dX6_goesThrough_330 : decode cX6_goesThrough 330 = .ok (.invokevirtual 239, 3) := dk_182 0 239 (dk_at dksX6_goesThrough_14 2 rfl rfl)
theorem dX6_goesThrough_333 : decode cX6_goesThrough 333 = .ok (.ireturn, 1) := dk_172 (dk_at dksX6_goesThrough_14 5 rfl rfl)
abbrev cX6_opens : ByteArray := prog_14_method_18_code
def yX6_opens : MethodName := ⟨RX6, "opens", "()Z"⟩
def dkwX6_opens_2 : List UInt8 := [4, 172]
abbrev dktX6_opens_2 : List UInt8 := dkwX6_opens_2 ++ []
def dkwX6_opens_1 : List UInt8 := [5, 182, 0, 217, 172, 42, 182, 0, 220, 154, 0, 5, 3, 172, 42, 89, 180, 0, 227, 4, 96, 181, 0, 227]
abbrev dktX6_opens_1 : List UInt8 := dkwX6_opens_1 ++ dktX6_opens_2
def dkwX6_opens_0 : List UInt8 := [42, 16, 123, 182, 0, 224, 154, 0, 9, 42, 4, 182, 0, 217, 172, 42, 180, 0, 227, 7, 160, 0, 9, 42]
abbrev dktX6_opens_0 : List UInt8 := dkwX6_opens_0 ++ dktX6_opens_1
theorem dksX6_opens_0 : cX6_opens.data.toList.drop 0 = dktX6_opens_0 := by decide +kernel
theorem dksX6_opens_1 : cX6_opens.data.toList.drop 24 = dktX6_opens_1 := dk_seg dksX6_opens_0 24 rfl rfl
theorem dksX6_opens_2 : cX6_opens.data.toList.drop 48 = dktX6_opens_2 := dk_seg dksX6_opens_1 24 rfl rfl
theorem dX6_opens_0 : decode cX6_opens 0 = .ok (.aload_n 0, 1) := dk_42 (dk_at dksX6_opens_0 0 rfl rfl)
theorem dX6_opens_1 : decode cX6_opens 1 = .ok (.bipush 123, 2) := dk_16 123 (dk_at dksX6_opens_0 1 rfl rfl)
theorem dX6_opens_3 : decode cX6_opens 3 = .ok (.invokevirtual 224, 3) := dk_182 0 224 (dk_at dksX6_opens_0 3 rfl rfl)
theorem dX6_opens_6 : decode cX6_opens 6 = .ok (.ifCond .ne 9, 3) := dk_154 0 9 (dk_at dksX6_opens_0 6 rfl rfl)
theorem dX6_opens_9 : decode cX6_opens 9 = .ok (.aload_n 0, 1) := dk_42 (dk_at dksX6_opens_0 9 rfl rfl)
theorem dX6_opens_10 : decode cX6_opens 10 = .ok (.iconst 1, 1) := dk_4 (dk_at dksX6_opens_0 10 rfl rfl)
theorem dX6_opens_11 : decode cX6_opens 11 = .ok (.invokevirtual 217, 3) := dk_182 0 217 (dk_at dksX6_opens_0 11 rfl rfl)
theorem dX6_opens_14 : decode cX6_opens 14 = .ok (.ireturn, 1) := dk_172 (dk_at dksX6_opens_0 14 rfl rfl)
theorem dX6_opens_15 : decode cX6_opens 15 = .ok (.aload_n 0, 1) := dk_42 (dk_at dksX6_opens_0 15 rfl rfl)
theorem dX6_opens_16 : decode cX6_opens 16 = .ok (.getfield 227, 3) := dk_180 0 227 (dk_at dksX6_opens_0 16 rfl rfl)
theorem dX6_opens_19 : decode cX6_opens 19 = .ok (.iconst 4, 1) := dk_7 (dk_at dksX6_opens_0 19 rfl rfl)
theorem dX6_opens_20 : decode cX6_opens 20 = .ok (.if_icmp .ne 9, 3) := dk_160 0 9 (dk_at dksX6_opens_0 20 rfl rfl)
theorem dX6_opens_23 : decode cX6_opens 23 = .ok (.aload_n 0, 1) := dk_42 (dk_at dksX6_opens_0 23 rfl rfl)
theorem dX6_opens_24 : decode cX6_opens 24 = .ok (.iconst 2, 1) := dk_5 (dk_at dksX6_opens_1 0 rfl rfl)
theorem dX6_opens_25 : decode cX6_opens 25 = .ok (.invokevirtual 217, 3) := dk_182 0 217 (dk_at dksX6_opens_1 1 rfl rfl)
theorem dX6_opens_28 : decode cX6_opens 28 = .ok (.ireturn, 1) := dk_172 (dk_at dksX6_opens_1 4 rfl rfl)
theorem dX6_opens_29 : decode cX6_opens 29 = .ok (.aload_n 0, 1) := dk_42 (dk_at dksX6_opens_1 5 rfl rfl)
theorem dX6_opens_30 : decode cX6_opens 30 = .ok (.invokevirtual 220, 3) := dk_182 0 220 (dk_at dksX6_opens_1 6 rfl rfl)
theorem dX6_opens_33 : decode cX6_opens 33 = .ok (.ifCond .ne 5, 3) := dk_154 0 5 (dk_at dksX6_opens_1 9 rfl rfl)
theorem dX6_opens_36 : decode cX6_opens 36 = .ok (.iconst 0, 1) := dk_3 (dk_at dksX6_opens_1 12 rfl rfl)
theorem dX6_opens_37 : decode cX6_opens 37 = .ok (.ireturn, 1) := dk_172 (dk_at dksX6_opens_1 13 rfl rfl)
theorem dX6_opens_38 : decode cX6_opens 38 = .ok (.aload_n 0, 1) := dk_42 (dk_at dksX6_opens_1 14 rfl rfl)
theorem dX6_opens_39 : decode cX6_opens 39 = .ok (.dup, 1) := dk_89 (dk_at dksX6_opens_1 15 rfl rfl)
theorem dX6_opens_40 : decode cX6_opens 40 = .ok (.getfield 227, 3) := dk_180 0 227 (dk_at dksX6_opens_1 16 rfl rfl)
theorem dX6_opens_43 : decode cX6_opens 43 = .ok (.iconst 1, 1) := dk_4 (dk_at dksX6_opens_1 19 rfl rfl)
theorem dX6_opens_44 : decode cX6_opens 44 = .ok (.iadd, 1) := dk_96 (dk_at dksX6_opens_1 20 rfl rfl)
theorem dX6_opens_45 : decode cX6_opens 45 = .ok (.putfield 227, 3) := dk_181 0 227 (dk_at dksX6_opens_1 21 rfl rfl)
theorem dX6_opens_48 : decode cX6_opens 48 = .ok (.iconst 1, 1) := dk_4 (dk_at dksX6_opens_2 0 rfl rfl)
theorem dX6_opens_49 : decode cX6_opens 49 = .ok (.ireturn, 1) := dk_172 (dk_at dksX6_opens_2 1 rfl rfl)
abbrev cX6_tellAll : ByteArray := prog_14_method_31_code
def yX6_tellAll : MethodName := ⟨RX6, "tellAll", "()V"⟩
def dkwX6_tellAll_9 : List UInt8 := [160, 0, 17, 42, 182, 1, 9, 153, 0, 10, 42, 16, 6, 27, 182, 0, 254, 167, 255, 107, 177]
abbrev dktX6_tellAll_9 : List UInt8 := dkwX6_tellAll_9 ++ []
def dkwX6_tellAll_8 : List UInt8 := [182, 1, 24, 167, 0, 8, 42, 28, 182, 1, 27, 42, 180, 0, 227, 154, 0, 26, 42, 180, 0, 248, 16, 8]
abbrev dktX6_tellAll_8 : List UInt8 := dkwX6_tellAll_8 ++ dktX6_tellAll_9
def dkwX6_tellAll_7 : List UInt8 := [167, 0, 34, 28, 16, 6, 160, 0, 10, 42, 182, 1, 21, 167, 0, 21, 28, 16, 9, 160, 0, 10, 42]
abbrev dktX6_tellAll_7 : List UInt8 := dkwX6_tellAll_7 ++ dktX6_tellAll_8
def dkwX6_tellAll_6 : List UInt8 := [167, 0, 58, 28, 4, 160, 0, 10, 42, 182, 1, 15, 167, 0, 46, 28, 8, 160, 0, 10, 42, 182, 1, 18]
abbrev dktX6_tellAll_6 : List UInt8 := dkwX6_tellAll_6 ++ dktX6_tellAll_7
def dkwX6_tellAll_5 : List UInt8 := [180, 0, 49, 42, 180, 0, 214, 46, 167, 0, 4, 2, 61, 28, 2, 160, 0, 10, 42, 182, 1, 12]
abbrev dktX6_tellAll_5 : List UInt8 := dkwX6_tellAll_5 ++ dktX6_tellAll_6
def dkwX6_tellAll_4 : List UInt8 := [154, 0, 8, 42, 180, 0, 214, 60, 42, 180, 0, 43, 42, 180, 0, 214, 46, 6, 160, 0, 15, 42]
abbrev dktX6_tellAll_4 : List UInt8 := dkwX6_tellAll_4 ++ dktX6_tellAll_5
def dkwX6_tellAll_3 : List UInt8 := [42, 180, 0, 214, 60, 42, 180, 0, 43, 42, 180, 0, 214, 46, 7, 159, 0, 142, 42, 180, 0, 227]
abbrev dktX6_tellAll_3 : List UInt8 := dkwX6_tellAll_3 ++ dktX6_tellAll_4
def dkwX6_tellAll_2 : List UInt8 := [161, 0, 12, 42, 180, 0, 251, 16, 7, 164, 0, 15, 42, 8, 4, 182, 0, 254, 42, 16, 7, 181, 0, 251]
abbrev dktX6_tellAll_2 : List UInt8 := dkwX6_tellAll_2 ++ dktX6_tellAll_3
def dkwX6_tellAll_1 : List UInt8 := [180, 0, 70, 16, 8, 3, 79, 42, 42, 180, 0, 49, 4, 46, 181, 0, 251, 42, 180, 0, 251, 5]
abbrev dktX6_tellAll_1 : List UInt8 := dkwX6_tellAll_1 ++ dktX6_tellAll_2
def dkwX6_tellAll_0 : List UInt8 := [42, 6, 181, 0, 214, 42, 3, 181, 0, 227, 42, 3, 181, 0, 230, 42, 16, 8, 181, 0, 248, 42]
abbrev dktX6_tellAll_0 : List UInt8 := dkwX6_tellAll_0 ++ dktX6_tellAll_1
theorem dksX6_tellAll_0 : cX6_tellAll.data.toList.drop 0 = dktX6_tellAll_0 := by decide +kernel
theorem dksX6_tellAll_1 : cX6_tellAll.data.toList.drop 22 = dktX6_tellAll_1 := dk_seg dksX6_tellAll_0 22 rfl rfl
theorem dksX6_tellAll_2 : cX6_tellAll.data.toList.drop 44 = dktX6_tellAll_2 := dk_seg dksX6_tellAll_1 22 rfl rfl
theorem dksX6_tellAll_3 : cX6_tellAll.data.toList.drop 68 = dktX6_tellAll_3 := dk_seg dksX6_tellAll_2 24 rfl rfl
theorem dksX6_tellAll_4 : cX6_tellAll.data.toList.drop 90 = dktX6_tellAll_4 := dk_seg dksX6_tellAll_3 22 rfl rfl
theorem dksX6_tellAll_5 : cX6_tellAll.data.toList.drop 112 = dktX6_tellAll_5 := dk_seg dksX6_tellAll_4 22 rfl rfl
theorem dksX6_tellAll_6 : cX6_tellAll.data.toList.drop 134 = dktX6_tellAll_6 := dk_seg dksX6_tellAll_5 22 rfl rfl
theorem dksX6_tellAll_7 : cX6_tellAll.data.toList.drop 158 = dktX6_tellAll_7 := dk_seg dksX6_tellAll_6 24 rfl rfl
theorem dksX6_tellAll_8 : cX6_tellAll.data.toList.drop 181 = dktX6_tellAll_8 := dk_seg dksX6_tellAll_7 23 rfl rfl
theorem dksX6_tellAll_9 : cX6_tellAll.data.toList.drop 205 = dktX6_tellAll_9 := dk_seg dksX6_tellAll_8 24 rfl rfl
theorem dX6_tellAll_0 : decode cX6_tellAll 0 = .ok (.aload_n 0, 1) := dk_42 (dk_at dksX6_tellAll_0 0 rfl rfl)
theorem dX6_tellAll_1 : decode cX6_tellAll 1 = .ok (.iconst 3, 1) := dk_6 (dk_at dksX6_tellAll_0 1 rfl rfl)
theorem dX6_tellAll_2 : decode cX6_tellAll 2 = .ok (.putfield 214, 3) := dk_181 0 214 (dk_at dksX6_tellAll_0 2 rfl rfl)
theorem dX6_tellAll_5 : decode cX6_tellAll 5 = .ok (.aload_n 0, 1) := dk_42 (dk_at dksX6_tellAll_0 5 rfl rfl)
theorem dX6_tellAll_6 : decode cX6_tellAll 6 = .ok (.iconst 0, 1) := dk_3 (dk_at dksX6_tellAll_0 6 rfl rfl)
theorem dX6_tellAll_7 : decode cX6_tellAll 7 = .ok (.putfield 227, 3) := dk_181 0 227 (dk_at dksX6_tellAll_0 7 rfl rfl)
theorem dX6_tellAll_10 : decode cX6_tellAll 10 = .ok (.aload_n 0, 1) := dk_42 (dk_at dksX6_tellAll_0 10 rfl rfl)
theorem dX6_tellAll_11 : decode cX6_tellAll 11 = .ok (.iconst 0, 1) := dk_3 (dk_at dksX6_tellAll_0 11 rfl rfl)
theorem dX6_tellAll_12 : decode cX6_tellAll 12 = .ok (.putfield 230, 3) := dk_181 0 230 (dk_at dksX6_tellAll_0 12 rfl rfl)
theorem dX6_tellAll_15 : decode cX6_tellAll 15 = .ok (.aload_n 0, 1) := dk_42 (dk_at dksX6_tellAll_0 15 rfl rfl)
theorem dX6_tellAll_16 : decode cX6_tellAll 16 = .ok (.bipush 8, 2) := dk_16 8 (dk_at dksX6_tellAll_0 16 rfl rfl)
theorem dX6_tellAll_18 : decode cX6_tellAll 18 = .ok (.putfield 248, 3) := dk_181 0 248 (dk_at dksX6_tellAll_0 18 rfl rfl)
theorem dX6_tellAll_21 : decode cX6_tellAll 21 = .ok (.aload_n 0, 1) := dk_42 (dk_at dksX6_tellAll_0 21 rfl rfl)
theorem dX6_tellAll_22 : decode cX6_tellAll 22 = .ok (.getfield 70, 3) := dk_180 0 70 (dk_at dksX6_tellAll_1 0 rfl rfl)
theorem dX6_tellAll_25 : decode cX6_tellAll 25 = .ok (.bipush 8, 2) := dk_16 8 (dk_at dksX6_tellAll_1 3 rfl rfl)
theorem dX6_tellAll_27 : decode cX6_tellAll 27 = .ok (.iconst 0, 1) := dk_3 (dk_at dksX6_tellAll_1 5 rfl rfl)
theorem dX6_tellAll_28 : decode cX6_tellAll 28 = .ok (.iastore, 1) := dk_79 (dk_at dksX6_tellAll_1 6 rfl rfl)
theorem dX6_tellAll_29 : decode cX6_tellAll 29 = .ok (.aload_n 0, 1) := dk_42 (dk_at dksX6_tellAll_1 7 rfl rfl)
theorem dX6_tellAll_30 : decode cX6_tellAll 30 = .ok (.aload_n 0, 1) := dk_42 (dk_at dksX6_tellAll_1 8 rfl rfl)
theorem dX6_tellAll_31 : decode cX6_tellAll 31 = .ok (.getfield 49, 3) := dk_180 0 49 (dk_at dksX6_tellAll_1 9 rfl rfl)
theorem dX6_tellAll_34 : decode cX6_tellAll 34 = .ok (.iconst 1, 1) := dk_4 (dk_at dksX6_tellAll_1 12 rfl rfl)
theorem dX6_tellAll_35 : decode cX6_tellAll 35 = .ok (.iaload, 1) := dk_46 (dk_at dksX6_tellAll_1 13 rfl rfl)
theorem dX6_tellAll_36 : decode cX6_tellAll 36 = .ok (.putfield 251, 3) := dk_181 0 251 (dk_at dksX6_tellAll_1 14 rfl rfl)
theorem dX6_tellAll_39 : decode cX6_tellAll 39 = .ok (.aload_n 0, 1) := dk_42 (dk_at dksX6_tellAll_1 17 rfl rfl)
theorem dX6_tellAll_40 : decode cX6_tellAll 40 = .ok (.getfield 251, 3) := dk_180 0 251 (dk_at dksX6_tellAll_1 18 rfl rfl)
theorem dX6_tellAll_43 : decode cX6_tellAll 43 = .ok (.iconst 2, 1) := dk_5 (dk_at dksX6_tellAll_1 21 rfl rfl)
theorem dX6_tellAll_44 : decode cX6_tellAll 44 = .ok (.if_icmp .lt 12, 3) := dk_161 0 12 (dk_at dksX6_tellAll_2 0 rfl rfl)
theorem dX6_tellAll_47 : decode cX6_tellAll 47 = .ok (.aload_n 0, 1) := dk_42 (dk_at dksX6_tellAll_2 3 rfl rfl)
theorem dX6_tellAll_48 : decode cX6_tellAll 48 = .ok (.getfield 251, 3) := dk_180 0 251 (dk_at dksX6_tellAll_2 4 rfl rfl)
theorem dX6_tellAll_51 : decode cX6_tellAll 51 = .ok (.bipush 7, 2) := dk_16 7 (dk_at dksX6_tellAll_2 7 rfl rfl)
theorem dX6_tellAll_53 : decode cX6_tellAll 53 = .ok (.if_icmp .le 15, 3) := dk_164 0 15 (dk_at dksX6_tellAll_2 9 rfl rfl)
theorem dX6_tellAll_56 : decode cX6_tellAll 56 = .ok (.aload_n 0, 1) := dk_42 (dk_at dksX6_tellAll_2 12 rfl rfl)
theorem dX6_tellAll_57 : decode cX6_tellAll 57 = .ok (.iconst 5, 1) := dk_8 (dk_at dksX6_tellAll_2 13 rfl rfl)
theorem dX6_tellAll_58 : decode cX6_tellAll 58 = .ok (.iconst 1, 1) := dk_4 (dk_at dksX6_tellAll_2 14 rfl rfl)
theorem dX6_tellAll_59 : decode cX6_tellAll 59 = .ok (.invokevirtual 254, 3) := dk_182 0 254 (dk_at dksX6_tellAll_2 15 rfl rfl)
theorem dX6_tellAll_62 : decode cX6_tellAll 62 = .ok (.aload_n 0, 1) := dk_42 (dk_at dksX6_tellAll_2 18 rfl rfl)
theorem dX6_tellAll_63 : decode cX6_tellAll 63 = .ok (.bipush 7, 2) := dk_16 7 (dk_at dksX6_tellAll_2 19 rfl rfl)
theorem dX6_tellAll_65 : decode cX6_tellAll 65 = .ok (.putfield 251, 3) := dk_181 0 251 (dk_at dksX6_tellAll_2 21 rfl rfl)
theorem dX6_tellAll_68 : decode cX6_tellAll 68 = .ok (.aload_n 0, 1) := dk_42 (dk_at dksX6_tellAll_3 0 rfl rfl)
theorem dX6_tellAll_69 : decode cX6_tellAll 69 = .ok (.getfield 214, 3) := dk_180 0 214 (dk_at dksX6_tellAll_3 1 rfl rfl)
theorem dX6_tellAll_72 : decode cX6_tellAll 72 = .ok (.istore_n 1, 1) := dk_60 (dk_at dksX6_tellAll_3 4 rfl rfl)
theorem dX6_tellAll_73 : decode cX6_tellAll 73 = .ok (.aload_n 0, 1) := dk_42 (dk_at dksX6_tellAll_3 5 rfl rfl)
theorem dX6_tellAll_74 : decode cX6_tellAll 74 = .ok (.getfield 43, 3) := dk_180 0 43 (dk_at dksX6_tellAll_3 6 rfl rfl)
theorem dX6_tellAll_77 : decode cX6_tellAll 77 = .ok (.aload_n 0, 1) := dk_42 (dk_at dksX6_tellAll_3 9 rfl rfl)
theorem dX6_tellAll_78 : decode cX6_tellAll 78 = .ok (.getfield 214, 3) := dk_180 0 214 (dk_at dksX6_tellAll_3 10 rfl rfl)
theorem dX6_tellAll_81 : decode cX6_tellAll 81 = .ok (.iaload, 1) := dk_46 (dk_at dksX6_tellAll_3 13 rfl rfl)
theorem dX6_tellAll_82 : decode cX6_tellAll 82 = .ok (.iconst 4, 1) := dk_7 (dk_at dksX6_tellAll_3 14 rfl rfl)
theorem dX6_tellAll_83 : decode cX6_tellAll 83 = .ok (.if_icmp .eq 142, 3) := dk_159 0 142 (dk_at dksX6_tellAll_3 15 rfl rfl)
theorem dX6_tellAll_86 : decode cX6_tellAll 86 = .ok (.aload_n 0, 1) := dk_42 (dk_at dksX6_tellAll_3 18 rfl rfl)
theorem dX6_tellAll_87 : decode cX6_tellAll 87 = .ok (.getfield 227, 3) := dk_180 0 227 (dk_at dksX6_tellAll_3 19 rfl rfl)
theorem dX6_tellAll_90 : decode cX6_tellAll 90 = .ok (.ifCond .ne 8, 3) := dk_154 0 8 (dk_at dksX6_tellAll_4 0 rfl rfl)
theorem dX6_tellAll_93 : decode cX6_tellAll 93 = .ok (.aload_n 0, 1) := dk_42 (dk_at dksX6_tellAll_4 3 rfl rfl)
theorem dX6_tellAll_94 : decode cX6_tellAll 94 = .ok (.getfield 214, 3) := dk_180 0 214 (dk_at dksX6_tellAll_4 4 rfl rfl)
theorem dX6_tellAll_97 : decode cX6_tellAll 97 = .ok (.istore_n 1, 1) := dk_60 (dk_at dksX6_tellAll_4 7 rfl rfl)
theorem dX6_tellAll_98 : decode cX6_tellAll 98 = .ok (.aload_n 0, 1) := dk_42 (dk_at dksX6_tellAll_4 8 rfl rfl)
theorem dX6_tellAll_99 : decode cX6_tellAll 99 = .ok (.getfield 43, 3) := dk_180 0 43 (dk_at dksX6_tellAll_4 9 rfl rfl)
theorem dX6_tellAll_102 : decode cX6_tellAll 102 = .ok (.aload_n 0, 1) := dk_42 (dk_at dksX6_tellAll_4 12 rfl rfl)
theorem dX6_tellAll_103 : decode cX6_tellAll 103 = .ok (.getfield 214, 3) := dk_180 0 214 (dk_at dksX6_tellAll_4 13 rfl rfl)
theorem dX6_tellAll_106 : decode cX6_tellAll 106 = .ok (.iaload, 1) := dk_46 (dk_at dksX6_tellAll_4 16 rfl rfl)
theorem dX6_tellAll_107 : decode cX6_tellAll 107 = .ok (.iconst 3, 1) := dk_6 (dk_at dksX6_tellAll_4 17 rfl rfl)
theorem dX6_tellAll_108 : decode cX6_tellAll 108 = .ok (.if_icmp .ne 15, 3) := dk_160 0 15 (dk_at dksX6_tellAll_4 18 rfl rfl)
theorem dX6_tellAll_111 : decode cX6_tellAll 111 = .ok (.aload_n 0, 1) := dk_42 (dk_at dksX6_tellAll_4 21 rfl rfl)
theorem dX6_tellAll_112 : decode cX6_tellAll 112 = .ok (.getfield 49, 3) := dk_180 0 49 (dk_at dksX6_tellAll_5 0 rfl rfl)
theorem dX6_tellAll_115 : decode cX6_tellAll 115 = .ok (.aload_n 0, 1) := dk_42 (dk_at dksX6_tellAll_5 3 rfl rfl)
theorem dX6_tellAll_116 : decode cX6_tellAll 116 = .ok (.getfield 214, 3) := dk_180 0 214 (dk_at dksX6_tellAll_5 4 rfl rfl)
theorem dX6_tellAll_119 : decode cX6_tellAll 119 = .ok (.iaload, 1) := dk_46 (dk_at dksX6_tellAll_5 7 rfl rfl)
theorem dX6_tellAll_120 : decode cX6_tellAll 120 = .ok (.goto 4, 3) := dk_167 0 4 (dk_at dksX6_tellAll_5 8 rfl rfl)
theorem dX6_tellAll_123 : decode cX6_tellAll 123 = .ok (.iconst (-1), 1) := dk_2 (dk_at dksX6_tellAll_5 11 rfl rfl)
theorem dX6_tellAll_124 : decode cX6_tellAll 124 = .ok (.istore_n 2, 1) := dk_61 (dk_at dksX6_tellAll_5 12 rfl rfl)
theorem dX6_tellAll_125 : decode cX6_tellAll 125 = .ok (.iload_n 2, 1) := dk_28 (dk_at dksX6_tellAll_5 13 rfl rfl)
theorem dX6_tellAll_126 : decode cX6_tellAll 126 = .ok (.iconst (-1), 1) := dk_2 (dk_at dksX6_tellAll_5 14 rfl rfl)
theorem dX6_tellAll_127 : decode cX6_tellAll 127 = .ok (.if_icmp .ne 10, 3) := dk_160 0 10 (dk_at dksX6_tellAll_5 15 rfl rfl)
theorem dX6_tellAll_130 : decode cX6_tellAll 130 = .ok (.aload_n 0, 1) := dk_42 (dk_at dksX6_tellAll_5 18 rfl rfl)
theorem dX6_tellAll_131 : decode cX6_tellAll 131 = .ok (.invokevirtual 268, 3) := dk_182 1 12 (dk_at dksX6_tellAll_5 19 rfl rfl)
theorem dX6_tellAll_134 : decode cX6_tellAll 134 = .ok (.goto 58, 3) := dk_167 0 58 (dk_at dksX6_tellAll_6 0 rfl rfl)
theorem dX6_tellAll_137 : decode cX6_tellAll 137 = .ok (.iload_n 2, 1) := dk_28 (dk_at dksX6_tellAll_6 3 rfl rfl)
theorem dX6_tellAll_138 : decode cX6_tellAll 138 = .ok (.iconst 1, 1) := dk_4 (dk_at dksX6_tellAll_6 4 rfl rfl)
theorem dX6_tellAll_139 : decode cX6_tellAll 139 = .ok (.if_icmp .ne 10, 3) := dk_160 0 10 (dk_at dksX6_tellAll_6 5 rfl rfl)
theorem dX6_tellAll_142 : decode cX6_tellAll 142 = .ok (.aload_n 0, 1) := dk_42 (dk_at dksX6_tellAll_6 8 rfl rfl)
theorem dX6_tellAll_143 : decode cX6_tellAll 143 = .ok (.invokevirtual 271, 3) := dk_182 1 15 (dk_at dksX6_tellAll_6 9 rfl rfl)
theorem dX6_tellAll_146 : decode cX6_tellAll 146 = .ok (.goto 46, 3) := dk_167 0 46 (dk_at dksX6_tellAll_6 12 rfl rfl)
theorem dX6_tellAll_149 : decode cX6_tellAll 149 = .ok (.iload_n 2, 1) := dk_28 (dk_at dksX6_tellAll_6 15 rfl rfl)
theorem dX6_tellAll_150 : decode cX6_tellAll 150 = .ok (.iconst 5, 1) := dk_8 (dk_at dksX6_tellAll_6 16 rfl rfl)
theorem dX6_tellAll_151 : decode cX6_tellAll 151 = .ok (.if_icmp .ne 10, 3) := dk_160 0 10 (dk_at dksX6_tellAll_6 17 rfl rfl)
theorem dX6_tellAll_154 : decode cX6_tellAll 154 = .ok (.aload_n 0, 1) := dk_42 (dk_at dksX6_tellAll_6 20 rfl rfl)
theorem dX6_tellAll_155 : decode cX6_tellAll 155 = .ok (.invokevirtual 274, 3) := dk_182 1 18 (dk_at dksX6_tellAll_6 21 rfl rfl)
theorem dX6_tellAll_158 : decode cX6_tellAll 158 = .ok (.goto 34, 3) := dk_167 0 34 (dk_at dksX6_tellAll_7 0 rfl rfl)
theorem dX6_tellAll_161 : decode cX6_tellAll 161 = .ok (.iload_n 2, 1) := dk_28 (dk_at dksX6_tellAll_7 3 rfl rfl)
theorem dX6_tellAll_162 : decode cX6_tellAll 162 = .ok (.bipush 6, 2) := dk_16 6 (dk_at dksX6_tellAll_7 4 rfl rfl)
theorem dX6_tellAll_164 : decode cX6_tellAll 164 = .ok (.if_icmp .ne 10, 3) := dk_160 0 10 (dk_at dksX6_tellAll_7 6 rfl rfl)
theorem dX6_tellAll_167 : decode cX6_tellAll 167 = .ok (.aload_n 0, 1) := dk_42 (dk_at dksX6_tellAll_7 9 rfl rfl)
theorem dX6_tellAll_168 : decode cX6_tellAll 168 = .ok (.invokevirtual 277, 3) := dk_182 1 21 (dk_at dksX6_tellAll_7 10 rfl rfl)
theorem dX6_tellAll_171 : decode cX6_tellAll 171 = .ok (.goto 21, 3) := dk_167 0 21 (dk_at dksX6_tellAll_7 13 rfl rfl)
theorem dX6_tellAll_174 : decode cX6_tellAll 174 = .ok (.iload_n 2, 1) := dk_28 (dk_at dksX6_tellAll_7 16 rfl rfl)
theorem dX6_tellAll_175 : decode cX6_tellAll 175 = .ok (.bipush 9, 2) := dk_16 9 (dk_at dksX6_tellAll_7 17 rfl rfl)
theorem dX6_tellAll_177 : decode cX6_tellAll 177 = .ok (.if_icmp .ne 10, 3) := dk_160 0 10 (dk_at dksX6_tellAll_7 19 rfl rfl)
theorem dX6_tellAll_180 : decode cX6_tellAll 180 = .ok (.aload_n 0, 1) := dk_42 (dk_at dksX6_tellAll_7 22 rfl rfl)
theorem dX6_tellAll_181 : decode cX6_tellAll 181 = .ok (.invokevirtual 280, 3) := dk_182 1 24 (dk_at dksX6_tellAll_8 0 rfl rfl)
theorem dX6_tellAll_184 : decode cX6_tellAll 184 = .ok (.goto 8, 3) := dk_167 0 8 (dk_at dksX6_tellAll_8 3 rfl rfl)
theorem dX6_tellAll_187 : decode cX6_tellAll 187 = .ok (.aload_n 0, 1) := dk_42 (dk_at dksX6_tellAll_8 6 rfl rfl)
theorem dX6_tellAll_188 : decode cX6_tellAll 188 = .ok (.iload_n 2, 1) := dk_28 (dk_at dksX6_tellAll_8 7 rfl rfl)
theorem dX6_tellAll_189 : decode cX6_tellAll 189 = .ok (.invokevirtual 283, 3) := dk_182 1 27 (dk_at dksX6_tellAll_8 8 rfl rfl)
theorem dX6_tellAll_192 : decode cX6_tellAll 192 = .ok (.aload_n 0, 1) := dk_42 (dk_at dksX6_tellAll_8 11 rfl rfl)
theorem dX6_tellAll_193 : decode cX6_tellAll 193 = .ok (.getfield 227, 3) := dk_180 0 227 (dk_at dksX6_tellAll_8 12 rfl rfl)
theorem dX6_tellAll_196 : decode cX6_tellAll 196 = .ok (.ifCond .ne 26, 3) := dk_154 0 26 (dk_at dksX6_tellAll_8 15 rfl rfl)
theorem dX6_tellAll_199 : decode cX6_tellAll 199 = .ok (.aload_n 0, 1) := dk_42 (dk_at dksX6_tellAll_8 18 rfl rfl)
theorem dX6_tellAll_200 : decode cX6_tellAll 200 = .ok (.getfield 248, 3) := dk_180 0 248 (dk_at dksX6_tellAll_8 19 rfl rfl)
theorem dX6_tellAll_203 : decode cX6_tellAll 203 = .ok (.bipush 8, 2) := dk_16 8 (dk_at dksX6_tellAll_8 22 rfl rfl)
theorem dX6_tellAll_205 : decode cX6_tellAll 205 = .ok (.if_icmp .ne 17, 3) := dk_160 0 17 (dk_at dksX6_tellAll_9 0 rfl rfl)
theorem dX6_tellAll_208 : decode cX6_tellAll 208 = .ok (.aload_n 0, 1) := dk_42 (dk_at dksX6_tellAll_9 3 rfl rfl)
theorem dX6_tellAll_209 : decode cX6_tellAll 209 = .ok (.invokevirtual 265, 3) := dk_182 1 9 (dk_at dksX6_tellAll_9 4 rfl rfl)
theorem dX6_tellAll_212 : decode cX6_tellAll 212 = .ok (.ifCond .eq 10, 3) := dk_153 0 10 (dk_at dksX6_tellAll_9 7 rfl rfl)
theorem dX6_tellAll_215 : decode cX6_tellAll 215 = .ok (.aload_n 0, 1) := dk_42 (dk_at dksX6_tellAll_9 10 rfl rfl)
theorem dX6_tellAll_216 : decode cX6_tellAll 216 = .ok (.bipush 6, 2) := dk_16 6 (dk_at dksX6_tellAll_9 11 rfl rfl)
theorem dX6_tellAll_218 : decode cX6_tellAll 218 = .ok (.iload_n 1, 1) := dk_27 (dk_at dksX6_tellAll_9 13 rfl rfl)
theorem dX6_tellAll_219 : decode cX6_tellAll 219 = .ok (.invokevirtual 254, 3) := dk_182 0 254 (dk_at dksX6_tellAll_9 14 rfl rfl)
theorem dX6_tellAll_222 : decode cX6_tellAll 222 = .ok (.goto (-149), 3) := dk_167 255 107 (dk_at dksX6_tellAll_9 17 rfl rfl)
theorem dX6_tellAll_225 : decode cX6_tellAll 225 = .ok (.return_, 1) := dk_177 (dk_at dksX6_tellAll_9 20 rfl rfl)
abbrev cX6_tells : ByteArray := prog_14_method_21_code
def yX6_tells : MethodName := ⟨RX6, "tells", "(II)V"⟩
def dkwX6_tells_2 : List UInt8 := [181, 0, 56, 177]
abbrev dktX6_tells_2 : List UInt8 := dkwX6_tells_2 ++ []
def dkwX6_tells_1 : List UInt8 := [180, 0, 56, 160, 0, 12, 27, 42, 180, 0, 211, 161, 0, 4, 177, 42, 27, 181, 0, 211, 42, 29]
abbrev dktX6_tells_1 : List UInt8 := dkwX6_tells_1 ++ dktX6_tells_2
def dkwX6_tells_0 : List UInt8 := [42, 180, 0, 46, 28, 46, 62, 42, 180, 0, 211, 153, 0, 28, 29, 42, 180, 0, 56, 163, 0, 19, 29, 42]
abbrev dktX6_tells_0 : List UInt8 := dkwX6_tells_0 ++ dktX6_tells_1
theorem dksX6_tells_0 : cX6_tells.data.toList.drop 0 = dktX6_tells_0 := by decide +kernel
theorem dksX6_tells_1 : cX6_tells.data.toList.drop 24 = dktX6_tells_1 := dk_seg dksX6_tells_0 24 rfl rfl
theorem dksX6_tells_2 : cX6_tells.data.toList.drop 46 = dktX6_tells_2 := dk_seg dksX6_tells_1 22 rfl rfl
theorem dX6_tells_0 : decode cX6_tells 0 = .ok (.aload_n 0, 1) := dk_42 (dk_at dksX6_tells_0 0 rfl rfl)
theorem dX6_tells_1 : decode cX6_tells 1 = .ok (.getfield 46, 3) := dk_180 0 46 (dk_at dksX6_tells_0 1 rfl rfl)
theorem dX6_tells_4 : decode cX6_tells 4 = .ok (.iload_n 2, 1) := dk_28 (dk_at dksX6_tells_0 4 rfl rfl)
theorem dX6_tells_5 : decode cX6_tells 5 = .ok (.iaload, 1) := dk_46 (dk_at dksX6_tells_0 5 rfl rfl)
theorem dX6_tells_6 : decode cX6_tells 6 = .ok (.istore_n 3, 1) := dk_62 (dk_at dksX6_tells_0 6 rfl rfl)
theorem dX6_tells_7 : decode cX6_tells 7 = .ok (.aload_n 0, 1) := dk_42 (dk_at dksX6_tells_0 7 rfl rfl)
theorem dX6_tells_8 : decode cX6_tells 8 = .ok (.getfield 211, 3) := dk_180 0 211 (dk_at dksX6_tells_0 8 rfl rfl)
theorem dX6_tells_11 : decode cX6_tells 11 = .ok (.ifCond .eq 28, 3) := dk_153 0 28 (dk_at dksX6_tells_0 11 rfl rfl)
theorem dX6_tells_14 : decode cX6_tells 14 = .ok (.iload_n 3, 1) := dk_29 (dk_at dksX6_tells_0 14 rfl rfl)
theorem dX6_tells_15 : decode cX6_tells 15 = .ok (.aload_n 0, 1) := dk_42 (dk_at dksX6_tells_0 15 rfl rfl)
theorem dX6_tells_16 : decode cX6_tells 16 = .ok (.getfield 56, 3) := dk_180 0 56 (dk_at dksX6_tells_0 16 rfl rfl)
theorem dX6_tells_19 : decode cX6_tells 19 = .ok (.if_icmp .gt 19, 3) := dk_163 0 19 (dk_at dksX6_tells_0 19 rfl rfl)
theorem dX6_tells_22 : decode cX6_tells 22 = .ok (.iload_n 3, 1) := dk_29 (dk_at dksX6_tells_0 22 rfl rfl)
theorem dX6_tells_23 : decode cX6_tells 23 = .ok (.aload_n 0, 1) := dk_42 (dk_at dksX6_tells_0 23 rfl rfl)
theorem dX6_tells_24 : decode cX6_tells 24 = .ok (.getfield 56, 3) := dk_180 0 56 (dk_at dksX6_tells_1 0 rfl rfl)
theorem dX6_tells_27 : decode cX6_tells 27 = .ok (.if_icmp .ne 12, 3) := dk_160 0 12 (dk_at dksX6_tells_1 3 rfl rfl)
theorem dX6_tells_30 : decode cX6_tells 30 = .ok (.iload_n 1, 1) := dk_27 (dk_at dksX6_tells_1 6 rfl rfl)
theorem dX6_tells_31 : decode cX6_tells 31 = .ok (.aload_n 0, 1) := dk_42 (dk_at dksX6_tells_1 7 rfl rfl)
theorem dX6_tells_32 : decode cX6_tells 32 = .ok (.getfield 211, 3) := dk_180 0 211 (dk_at dksX6_tells_1 8 rfl rfl)
theorem dX6_tells_35 : decode cX6_tells 35 = .ok (.if_icmp .lt 4, 3) := dk_161 0 4 (dk_at dksX6_tells_1 11 rfl rfl)
theorem dX6_tells_38 : decode cX6_tells 38 = .ok (.return_, 1) := dk_177 (dk_at dksX6_tells_1 14 rfl rfl)
theorem dX6_tells_39 : decode cX6_tells 39 = .ok (.aload_n 0, 1) := dk_42 (dk_at dksX6_tells_1 15 rfl rfl)
theorem dX6_tells_40 : decode cX6_tells 40 = .ok (.iload_n 1, 1) := dk_27 (dk_at dksX6_tells_1 16 rfl rfl)
theorem dX6_tells_41 : decode cX6_tells 41 = .ok (.putfield 211, 3) := dk_181 0 211 (dk_at dksX6_tells_1 17 rfl rfl)
theorem dX6_tells_44 : decode cX6_tells 44 = .ok (.aload_n 0, 1) := dk_42 (dk_at dksX6_tells_1 20 rfl rfl)
theorem dX6_tells_45 : decode cX6_tells 45 = .ok (.iload_n 3, 1) := dk_29 (dk_at dksX6_tells_1 21 rfl rfl)
theorem dX6_tells_46 : decode cX6_tells 46 = .ok (.putfield 56, 3) := dk_181 0 56 (dk_at dksX6_tells_2 0 rfl rfl)
theorem dX6_tells_49 : decode cX6_tells 49 = .ok (.return_, 1) := dk_177 (dk_at dksX6_tells_2 3 rfl rfl)
abbrev cX6_shut : ByteArray := prog_14_method_30_code
def yX6_shut : MethodName := ⟨RX6, "shut", "()V"⟩
def dkwX6_shut_11 : List UInt8 := [167, 255, 137, 177]
abbrev dktX6_shut_11 : List UInt8 := dkwX6_shut_11 ++ []
def dkwX6_shut_10 : List UInt8 := [17, 0, 201, 42, 180, 0, 248, 104, 21, 4, 96, 46, 182, 1, 5, 132, 4, 1, 167, 255, 179, 132, 3, 1]
abbrev dktX6_shut_10 : List UInt8 := dkwX6_shut_10 ++ dktX6_shut_11
def dkwX6_shut_9 : List UInt8 := [21, 4, 96, 46, 42, 180, 0, 79, 17, 0, 201, 42, 180, 0, 248, 104, 21, 4, 96, 46, 42, 180, 0, 82]
abbrev dktX6_shut_9 : List UInt8 := dkwX6_shut_9 ++ dktX6_shut_10
def dkwX6_shut_8 : List UInt8 := [17, 0, 201, 42, 180, 0, 248, 104, 21, 4, 96, 46, 42, 180, 0, 76, 17, 0, 201, 42, 180, 0, 248, 104]
abbrev dktX6_shut_8 : List UInt8 := dkwX6_shut_8 ++ dktX6_shut_9
def dkwX6_shut_7 : List UInt8 := [180, 0, 248, 46, 17, 0, 200, 163, 0, 92, 27, 54, 4, 21, 4, 28, 162, 0, 77, 42, 42, 180, 0, 73]
abbrev dktX6_shut_7 : List UInt8 := dkwX6_shut_7 ++ dktX6_shut_8
def dkwX6_shut_6 : List UInt8 := [29, 42, 180, 0, 85, 42, 180, 0, 227, 46, 162, 0, 112, 27, 28, 162, 0, 107, 42, 180, 0, 70, 42]
abbrev dktX6_shut_6 : List UInt8 := dkwX6_shut_6 ++ dktX6_shut_7
def dkwX6_shut_5 : List UInt8 := [42, 180, 0, 85, 42, 180, 0, 227, 46, 154, 0, 13, 42, 180, 0, 70, 42, 180, 0, 248, 27, 79, 4, 62]
abbrev dktX6_shut_5 : List UInt8 := dkwX6_shut_5 ++ dktX6_shut_6
def dkwX6_shut_4 : List UInt8 := [181, 0, 248, 177, 42, 180, 0, 88, 42, 180, 0, 227, 46, 60, 42, 180, 0, 70, 42, 180, 0, 248, 46, 61]
abbrev dktX6_shut_4 : List UInt8 := dkwX6_shut_4 ++ dktX6_shut_5
def dkwX6_shut_3 : List UInt8 := [180, 0, 70, 42, 180, 0, 248, 17, 0, 200, 79, 42, 180, 0, 63, 42, 180, 0, 248, 4, 84, 42, 16, 8]
abbrev dktX6_shut_3 : List UInt8 := dkwX6_shut_3 ++ dktX6_shut_4
def dkwX6_shut_2 : List UInt8 := [180, 0, 248, 46, 182, 0, 254, 42, 180, 0, 70, 42, 180, 0, 248, 46, 17, 0, 200, 164, 0, 15, 42]
abbrev dktX6_shut_2 : List UInt8 := dkwX6_shut_2 ++ dktX6_shut_3
def dkwX6_shut_1 : List UInt8 := [42, 180, 0, 227, 46, 2, 160, 0, 69, 42, 182, 1, 9, 153, 0, 18, 42, 16, 6, 42, 180, 0, 67, 42]
abbrev dktX6_shut_1 : List UInt8 := dkwX6_shut_1 ++ dktX6_shut_2
def dkwX6_shut_0 : List UInt8 := [42, 89, 180, 0, 227, 4, 100, 181, 0, 227, 42, 89, 180, 0, 214, 4, 96, 181, 0, 214, 42, 180, 0, 85]
abbrev dktX6_shut_0 : List UInt8 := dkwX6_shut_0 ++ dktX6_shut_1
theorem dksX6_shut_0 : cX6_shut.data.toList.drop 0 = dktX6_shut_0 := by decide +kernel
theorem dksX6_shut_1 : cX6_shut.data.toList.drop 24 = dktX6_shut_1 := dk_seg dksX6_shut_0 24 rfl rfl
theorem dksX6_shut_2 : cX6_shut.data.toList.drop 48 = dktX6_shut_2 := dk_seg dksX6_shut_1 24 rfl rfl
theorem dksX6_shut_3 : cX6_shut.data.toList.drop 71 = dktX6_shut_3 := dk_seg dksX6_shut_2 23 rfl rfl
theorem dksX6_shut_4 : cX6_shut.data.toList.drop 95 = dktX6_shut_4 := dk_seg dksX6_shut_3 24 rfl rfl
theorem dksX6_shut_5 : cX6_shut.data.toList.drop 119 = dktX6_shut_5 := dk_seg dksX6_shut_4 24 rfl rfl
theorem dksX6_shut_6 : cX6_shut.data.toList.drop 143 = dktX6_shut_6 := dk_seg dksX6_shut_5 24 rfl rfl
theorem dksX6_shut_7 : cX6_shut.data.toList.drop 166 = dktX6_shut_7 := dk_seg dksX6_shut_6 23 rfl rfl
theorem dksX6_shut_8 : cX6_shut.data.toList.drop 190 = dktX6_shut_8 := dk_seg dksX6_shut_7 24 rfl rfl
theorem dksX6_shut_9 : cX6_shut.data.toList.drop 214 = dktX6_shut_9 := dk_seg dksX6_shut_8 24 rfl rfl
theorem dksX6_shut_10 : cX6_shut.data.toList.drop 238 = dktX6_shut_10 := dk_seg dksX6_shut_9 24 rfl rfl
theorem dksX6_shut_11 : cX6_shut.data.toList.drop 262 = dktX6_shut_11 := dk_seg dksX6_shut_10 24 rfl rfl
theorem dX6_shut_0 : decode cX6_shut 0 = .ok (.aload_n 0, 1) := dk_42 (dk_at dksX6_shut_0 0 rfl rfl)
theorem dX6_shut_1 : decode cX6_shut 1 = .ok (.dup, 1) := dk_89 (dk_at dksX6_shut_0 1 rfl rfl)
theorem dX6_shut_2 : decode cX6_shut 2 = .ok (.getfield 227, 3) := dk_180 0 227 (dk_at dksX6_shut_0 2 rfl rfl)
theorem dX6_shut_5 : decode cX6_shut 5 = .ok (.iconst 1, 1) := dk_4 (dk_at dksX6_shut_0 5 rfl rfl)
theorem dX6_shut_6 : decode cX6_shut 6 = .ok (.isub, 1) := dk_100 (dk_at dksX6_shut_0 6 rfl rfl)
theorem dX6_shut_7 : decode cX6_shut 7 = .ok (.putfield 227, 3) := dk_181 0 227 (dk_at dksX6_shut_0 7 rfl rfl)
theorem dX6_shut_10 : decode cX6_shut 10 = .ok (.aload_n 0, 1) := dk_42 (dk_at dksX6_shut_0 10 rfl rfl)
theorem dX6_shut_11 : decode cX6_shut 11 = .ok (.dup, 1) := dk_89 (dk_at dksX6_shut_0 11 rfl rfl)
theorem dX6_shut_12 : decode cX6_shut 12 = .ok (.getfield 214, 3) := dk_180 0 214 (dk_at dksX6_shut_0 12 rfl rfl)
theorem dX6_shut_15 : decode cX6_shut 15 = .ok (.iconst 1, 1) := dk_4 (dk_at dksX6_shut_0 15 rfl rfl)
theorem dX6_shut_16 : decode cX6_shut 16 = .ok (.iadd, 1) := dk_96 (dk_at dksX6_shut_0 16 rfl rfl)
theorem dX6_shut_17 : decode cX6_shut 17 = .ok (.putfield 214, 3) := dk_181 0 214 (dk_at dksX6_shut_0 17 rfl rfl)
theorem dX6_shut_20 : decode cX6_shut 20 = .ok (.aload_n 0, 1) := dk_42 (dk_at dksX6_shut_0 20 rfl rfl)
theorem dX6_shut_21 : decode cX6_shut 21 = .ok (.getfield 85, 3) := dk_180 0 85 (dk_at dksX6_shut_0 21 rfl rfl)
theorem dX6_shut_24 : decode cX6_shut 24 = .ok (.aload_n 0, 1) := dk_42 (dk_at dksX6_shut_1 0 rfl rfl)
theorem dX6_shut_25 : decode cX6_shut 25 = .ok (.getfield 227, 3) := dk_180 0 227 (dk_at dksX6_shut_1 1 rfl rfl)
theorem dX6_shut_28 : decode cX6_shut 28 = .ok (.iaload, 1) := dk_46 (dk_at dksX6_shut_1 4 rfl rfl)
theorem dX6_shut_29 : decode cX6_shut 29 = .ok (.iconst (-1), 1) := dk_2 (dk_at dksX6_shut_1 5 rfl rfl)
theorem dX6_shut_30 : decode cX6_shut 30 = .ok (.if_icmp .ne 69, 3) := dk_160 0 69 (dk_at dksX6_shut_1 6 rfl rfl)
theorem dX6_shut_33 : decode cX6_shut 33 = .ok (.aload_n 0, 1) := dk_42 (dk_at dksX6_shut_1 9 rfl rfl)
theorem dX6_shut_34 : decode cX6_shut 34 = .ok (.invokevirtual 265, 3) := dk_182 1 9 (dk_at dksX6_shut_1 10 rfl rfl)
theorem dX6_shut_37 : decode cX6_shut 37 = .ok (.ifCond .eq 18, 3) := dk_153 0 18 (dk_at dksX6_shut_1 13 rfl rfl)
theorem dX6_shut_40 : decode cX6_shut 40 = .ok (.aload_n 0, 1) := dk_42 (dk_at dksX6_shut_1 16 rfl rfl)
theorem dX6_shut_41 : decode cX6_shut 41 = .ok (.bipush 6, 2) := dk_16 6 (dk_at dksX6_shut_1 17 rfl rfl)
theorem dX6_shut_43 : decode cX6_shut 43 = .ok (.aload_n 0, 1) := dk_42 (dk_at dksX6_shut_1 19 rfl rfl)
theorem dX6_shut_44 : decode cX6_shut 44 = .ok (.getfield 67, 3) := dk_180 0 67 (dk_at dksX6_shut_1 20 rfl rfl)
theorem dX6_shut_47 : decode cX6_shut 47 = .ok (.aload_n 0, 1) := dk_42 (dk_at dksX6_shut_1 23 rfl rfl)
theorem dX6_shut_48 : decode cX6_shut 48 = .ok (.getfield 248, 3) := dk_180 0 248 (dk_at dksX6_shut_2 0 rfl rfl)
theorem dX6_shut_51 : decode cX6_shut 51 = .ok (.iaload, 1) := dk_46 (dk_at dksX6_shut_2 3 rfl rfl)
theorem dX6_shut_52 : decode cX6_shut 52 = .ok (.invokevirtual 254, 3) := dk_182 0 254 (dk_at dksX6_shut_2 4 rfl rfl)
theorem dX6_shut_55 : decode cX6_shut 55 = .ok (.aload_n 0, 1) := dk_42 (dk_at dksX6_shut_2 7 rfl rfl)
theorem dX6_shut_56 : decode cX6_shut 56 = .ok (.getfield 70, 3) := dk_180 0 70 (dk_at dksX6_shut_2 8 rfl rfl)
theorem dX6_shut_59 : decode cX6_shut 59 = .ok (.aload_n 0, 1) := dk_42 (dk_at dksX6_shut_2 11 rfl rfl)
theorem dX6_shut_60 : decode cX6_shut 60 = .ok (.getfield 248, 3) := dk_180 0 248 (dk_at dksX6_shut_2 12 rfl rfl)
theorem dX6_shut_63 : decode cX6_shut 63 = .ok (.iaload, 1) := dk_46 (dk_at dksX6_shut_2 15 rfl rfl)
theorem dX6_shut_64 : decode cX6_shut 64 = .ok (.sipush 200, 3) := dk_17 0 200 (dk_at dksX6_shut_2 16 rfl rfl)
theorem dX6_shut_67 : decode cX6_shut 67 = .ok (.if_icmp .le 15, 3) := dk_164 0 15 (dk_at dksX6_shut_2 19 rfl rfl)
theorem dX6_shut_70 : decode cX6_shut 70 = .ok (.aload_n 0, 1) := dk_42 (dk_at dksX6_shut_2 22 rfl rfl)
theorem dX6_shut_71 : decode cX6_shut 71 = .ok (.getfield 70, 3) := dk_180 0 70 (dk_at dksX6_shut_3 0 rfl rfl)
theorem dX6_shut_74 : decode cX6_shut 74 = .ok (.aload_n 0, 1) := dk_42 (dk_at dksX6_shut_3 3 rfl rfl)
theorem dX6_shut_75 : decode cX6_shut 75 = .ok (.getfield 248, 3) := dk_180 0 248 (dk_at dksX6_shut_3 4 rfl rfl)
theorem dX6_shut_78 : decode cX6_shut 78 = .ok (.sipush 200, 3) := dk_17 0 200 (dk_at dksX6_shut_3 7 rfl rfl)
theorem dX6_shut_81 : decode cX6_shut 81 = .ok (.iastore, 1) := dk_79 (dk_at dksX6_shut_3 10 rfl rfl)
theorem dX6_shut_82 : decode cX6_shut 82 = .ok (.aload_n 0, 1) := dk_42 (dk_at dksX6_shut_3 11 rfl rfl)
theorem dX6_shut_83 : decode cX6_shut 83 = .ok (.getfield 63, 3) := dk_180 0 63 (dk_at dksX6_shut_3 12 rfl rfl)
theorem dX6_shut_86 : decode cX6_shut 86 = .ok (.aload_n 0, 1) := dk_42 (dk_at dksX6_shut_3 15 rfl rfl)
theorem dX6_shut_87 : decode cX6_shut 87 = .ok (.getfield 248, 3) := dk_180 0 248 (dk_at dksX6_shut_3 16 rfl rfl)
theorem dX6_shut_90 : decode cX6_shut 90 = .ok (.iconst 1, 1) := dk_4 (dk_at dksX6_shut_3 19 rfl rfl)
theorem dX6_shut_91 : decode cX6_shut 91 = .ok (.bastore, 1) := dk_84 (dk_at dksX6_shut_3 20 rfl rfl)
theorem dX6_shut_92 : decode cX6_shut 92 = .ok (.aload_n 0, 1) := dk_42 (dk_at dksX6_shut_3 21 rfl rfl)
theorem dX6_shut_93 : decode cX6_shut 93 = .ok (.bipush 8, 2) := dk_16 8 (dk_at dksX6_shut_3 22 rfl rfl)
theorem dX6_shut_95 : decode cX6_shut 95 = .ok (.putfield 248, 3) := dk_181 0 248 (dk_at dksX6_shut_4 0 rfl rfl)
theorem dX6_shut_98 : decode cX6_shut 98 = .ok (.return_, 1) := dk_177 (dk_at dksX6_shut_4 3 rfl rfl)
theorem dX6_shut_99 : decode cX6_shut 99 = .ok (.aload_n 0, 1) := dk_42 (dk_at dksX6_shut_4 4 rfl rfl)
theorem dX6_shut_100 : decode cX6_shut 100 = .ok (.getfield 88, 3) := dk_180 0 88 (dk_at dksX6_shut_4 5 rfl rfl)
theorem dX6_shut_103 : decode cX6_shut 103 = .ok (.aload_n 0, 1) := dk_42 (dk_at dksX6_shut_4 8 rfl rfl)
theorem dX6_shut_104 : decode cX6_shut 104 = .ok (.getfield 227, 3) := dk_180 0 227 (dk_at dksX6_shut_4 9 rfl rfl)
theorem dX6_shut_107 : decode cX6_shut 107 = .ok (.iaload, 1) := dk_46 (dk_at dksX6_shut_4 12 rfl rfl)
theorem dX6_shut_108 : decode cX6_shut 108 = .ok (.istore_n 1, 1) := dk_60 (dk_at dksX6_shut_4 13 rfl rfl)
theorem dX6_shut_109 : decode cX6_shut 109 = .ok (.aload_n 0, 1) := dk_42 (dk_at dksX6_shut_4 14 rfl rfl)
theorem dX6_shut_110 : decode cX6_shut 110 = .ok (.getfield 70, 3) := dk_180 0 70 (dk_at dksX6_shut_4 15 rfl rfl)
theorem dX6_shut_113 : decode cX6_shut 113 = .ok (.aload_n 0, 1) := dk_42 (dk_at dksX6_shut_4 18 rfl rfl)
theorem dX6_shut_114 : decode cX6_shut 114 = .ok (.getfield 248, 3) := dk_180 0 248 (dk_at dksX6_shut_4 19 rfl rfl)
theorem dX6_shut_117 : decode cX6_shut 117 = .ok (.iaload, 1) := dk_46 (dk_at dksX6_shut_4 22 rfl rfl)
theorem dX6_shut_118 : decode cX6_shut 118 = .ok (.istore_n 2, 1) := dk_61 (dk_at dksX6_shut_4 23 rfl rfl)
theorem dX6_shut_119 : decode cX6_shut 119 = .ok (.aload_n 0, 1) := dk_42 (dk_at dksX6_shut_5 0 rfl rfl)
theorem dX6_shut_120 : decode cX6_shut 120 = .ok (.getfield 85, 3) := dk_180 0 85 (dk_at dksX6_shut_5 1 rfl rfl)
theorem dX6_shut_123 : decode cX6_shut 123 = .ok (.aload_n 0, 1) := dk_42 (dk_at dksX6_shut_5 4 rfl rfl)
theorem dX6_shut_124 : decode cX6_shut 124 = .ok (.getfield 227, 3) := dk_180 0 227 (dk_at dksX6_shut_5 5 rfl rfl)
theorem dX6_shut_127 : decode cX6_shut 127 = .ok (.iaload, 1) := dk_46 (dk_at dksX6_shut_5 8 rfl rfl)
theorem dX6_shut_128 : decode cX6_shut 128 = .ok (.ifCond .ne 13, 3) := dk_154 0 13 (dk_at dksX6_shut_5 9 rfl rfl)
theorem dX6_shut_131 : decode cX6_shut 131 = .ok (.aload_n 0, 1) := dk_42 (dk_at dksX6_shut_5 12 rfl rfl)
theorem dX6_shut_132 : decode cX6_shut 132 = .ok (.getfield 70, 3) := dk_180 0 70 (dk_at dksX6_shut_5 13 rfl rfl)
theorem dX6_shut_135 : decode cX6_shut 135 = .ok (.aload_n 0, 1) := dk_42 (dk_at dksX6_shut_5 16 rfl rfl)
theorem dX6_shut_136 : decode cX6_shut 136 = .ok (.getfield 248, 3) := dk_180 0 248 (dk_at dksX6_shut_5 17 rfl rfl)
theorem dX6_shut_139 : decode cX6_shut 139 = .ok (.iload_n 1, 1) := dk_27 (dk_at dksX6_shut_5 20 rfl rfl)
theorem dX6_shut_140 : decode cX6_shut 140 = .ok (.iastore, 1) := dk_79 (dk_at dksX6_shut_5 21 rfl rfl)
theorem dX6_shut_141 : decode cX6_shut 141 = .ok (.iconst 1, 1) := dk_4 (dk_at dksX6_shut_5 22 rfl rfl)
theorem dX6_shut_142 : decode cX6_shut 142 = .ok (.istore_n 3, 1) := dk_62 (dk_at dksX6_shut_5 23 rfl rfl)
theorem dX6_shut_143 : decode cX6_shut 143 = .ok (.iload_n 3, 1) := dk_29 (dk_at dksX6_shut_6 0 rfl rfl)
theorem dX6_shut_144 : decode cX6_shut 144 = .ok (.aload_n 0, 1) := dk_42 (dk_at dksX6_shut_6 1 rfl rfl)
theorem dX6_shut_145 : decode cX6_shut 145 = .ok (.getfield 85, 3) := dk_180 0 85 (dk_at dksX6_shut_6 2 rfl rfl)
theorem dX6_shut_148 : decode cX6_shut 148 = .ok (.aload_n 0, 1) := dk_42 (dk_at dksX6_shut_6 5 rfl rfl)
theorem dX6_shut_149 : decode cX6_shut 149 = .ok (.getfield 227, 3) := dk_180 0 227 (dk_at dksX6_shut_6 6 rfl rfl)
theorem dX6_shut_152 : decode cX6_shut 152 = .ok (.iaload, 1) := dk_46 (dk_at dksX6_shut_6 9 rfl rfl)
theorem dX6_shut_153 : decode cX6_shut 153 = .ok (.if_icmp .ge 112, 3) := dk_162 0 112 (dk_at dksX6_shut_6 10 rfl rfl)
theorem dX6_shut_156 : decode cX6_shut 156 = .ok (.iload_n 1, 1) := dk_27 (dk_at dksX6_shut_6 13 rfl rfl)
theorem dX6_shut_157 : decode cX6_shut 157 = .ok (.iload_n 2, 1) := dk_28 (dk_at dksX6_shut_6 14 rfl rfl)
theorem dX6_shut_158 : decode cX6_shut 158 = .ok (.if_icmp .ge 107, 3) := dk_162 0 107 (dk_at dksX6_shut_6 15 rfl rfl)
theorem dX6_shut_161 : decode cX6_shut 161 = .ok (.aload_n 0, 1) := dk_42 (dk_at dksX6_shut_6 18 rfl rfl)
theorem dX6_shut_162 : decode cX6_shut 162 = .ok (.getfield 70, 3) := dk_180 0 70 (dk_at dksX6_shut_6 19 rfl rfl)
theorem dX6_shut_165 : decode cX6_shut 165 = .ok (.aload_n 0, 1) := dk_42 (dk_at dksX6_shut_6 22 rfl rfl)
theorem dX6_shut_166 : decode cX6_shut 166 = .ok (.getfield 248, 3) := dk_180 0 248 (dk_at dksX6_shut_7 0 rfl rfl)
theorem dX6_shut_169 : decode cX6_shut 169 = .ok (.iaload, 1) := dk_46 (dk_at dksX6_shut_7 3 rfl rfl)
theorem dX6_shut_170 : decode cX6_shut 170 = .ok (.sipush 200, 3) := dk_17 0 200 (dk_at dksX6_shut_7 4 rfl rfl)
theorem dX6_shut_173 : decode cX6_shut 173 = .ok (.if_icmp .gt 92, 3) := dk_163 0 92 (dk_at dksX6_shut_7 7 rfl rfl)
theorem dX6_shut_176 : decode cX6_shut 176 = .ok (.iload_n 1, 1) := dk_27 (dk_at dksX6_shut_7 10 rfl rfl)
theorem dX6_shut_177 : decode cX6_shut 177 = .ok (.istore 4, 2) := dk_54 4 (dk_at dksX6_shut_7 11 rfl rfl)
theorem dX6_shut_179 : decode cX6_shut 179 = .ok (.iload 4, 2) := dk_21 4 (dk_at dksX6_shut_7 13 rfl rfl)
theorem dX6_shut_181 : decode cX6_shut 181 = .ok (.iload_n 2, 1) := dk_28 (dk_at dksX6_shut_7 15 rfl rfl)
theorem dX6_shut_182 : decode cX6_shut 182 = .ok (.if_icmp .ge 77, 3) := dk_162 0 77 (dk_at dksX6_shut_7 16 rfl rfl)
theorem dX6_shut_185 : decode cX6_shut 185 = .ok (.aload_n 0, 1) := dk_42 (dk_at dksX6_shut_7 19 rfl rfl)
theorem dX6_shut_186 : decode cX6_shut 186 = .ok (.aload_n 0, 1) := dk_42 (dk_at dksX6_shut_7 20 rfl rfl)
theorem dX6_shut_187 : decode cX6_shut 187 = .ok (.getfield 73, 3) := dk_180 0 73 (dk_at dksX6_shut_7 21 rfl rfl)
theorem dX6_shut_190 : decode cX6_shut 190 = .ok (.sipush 201, 3) := dk_17 0 201 (dk_at dksX6_shut_8 0 rfl rfl)
theorem dX6_shut_193 : decode cX6_shut 193 = .ok (.aload_n 0, 1) := dk_42 (dk_at dksX6_shut_8 3 rfl rfl)
theorem dX6_shut_194 : decode cX6_shut 194 = .ok (.getfield 248, 3) := dk_180 0 248 (dk_at dksX6_shut_8 4 rfl rfl)
theorem dX6_shut_197 : decode cX6_shut 197 = .ok (.imul, 1) := dk_104 (dk_at dksX6_shut_8 7 rfl rfl)
theorem dX6_shut_198 : decode cX6_shut 198 = .ok (.iload 4, 2) := dk_21 4 (dk_at dksX6_shut_8 8 rfl rfl)
theorem dX6_shut_200 : decode cX6_shut 200 = .ok (.iadd, 1) := dk_96 (dk_at dksX6_shut_8 10 rfl rfl)
theorem dX6_shut_201 : decode cX6_shut 201 = .ok (.iaload, 1) := dk_46 (dk_at dksX6_shut_8 11 rfl rfl)
theorem dX6_shut_202 : decode cX6_shut 202 = .ok (.aload_n 0, 1) := dk_42 (dk_at dksX6_shut_8 12 rfl rfl)
theorem dX6_shut_203 : decode cX6_shut 203 = .ok (.getfield 76, 3) := dk_180 0 76 (dk_at dksX6_shut_8 13 rfl rfl)
theorem dX6_shut_206 : decode cX6_shut 206 = .ok (.sipush 201, 3) := dk_17 0 201 (dk_at dksX6_shut_8 16 rfl rfl)
theorem dX6_shut_209 : decode cX6_shut 209 = .ok (.aload_n 0, 1) := dk_42 (dk_at dksX6_shut_8 19 rfl rfl)
theorem dX6_shut_210 : decode cX6_shut 210 = .ok (.getfield 248, 3) := dk_180 0 248 (dk_at dksX6_shut_8 20 rfl rfl)
theorem dX6_shut_213 : decode cX6_shut 213 = .ok (.imul, 1) := dk_104 (dk_at dksX6_shut_8 23 rfl rfl)
theorem dX6_shut_214 : decode cX6_shut 214 = .ok (.iload 4, 2) := dk_21 4 (dk_at dksX6_shut_9 0 rfl rfl)
theorem dX6_shut_216 : decode cX6_shut 216 = .ok (.iadd, 1) := dk_96 (dk_at dksX6_shut_9 2 rfl rfl)
theorem dX6_shut_217 : decode cX6_shut 217 = .ok (.iaload, 1) := dk_46 (dk_at dksX6_shut_9 3 rfl rfl)
theorem dX6_shut_218 : decode cX6_shut 218 = .ok (.aload_n 0, 1) := dk_42 (dk_at dksX6_shut_9 4 rfl rfl)
theorem dX6_shut_219 : decode cX6_shut 219 = .ok (.getfield 79, 3) := dk_180 0 79 (dk_at dksX6_shut_9 5 rfl rfl)
theorem dX6_shut_222 : decode cX6_shut 222 = .ok (.sipush 201, 3) := dk_17 0 201 (dk_at dksX6_shut_9 8 rfl rfl)
theorem dX6_shut_225 : decode cX6_shut 225 = .ok (.aload_n 0, 1) := dk_42 (dk_at dksX6_shut_9 11 rfl rfl)
theorem dX6_shut_226 : decode cX6_shut 226 = .ok (.getfield 248, 3) := dk_180 0 248 (dk_at dksX6_shut_9 12 rfl rfl)
theorem dX6_shut_229 : decode cX6_shut 229 = .ok (.imul, 1) := dk_104 (dk_at dksX6_shut_9 15 rfl rfl)
theorem dX6_shut_230 : decode cX6_shut 230 = .ok (.iload 4, 2) := dk_21 4 (dk_at dksX6_shut_9 16 rfl rfl)
theorem dX6_shut_232 : decode cX6_shut 232 = .ok (.iadd, 1) := dk_96 (dk_at dksX6_shut_9 18 rfl rfl)
theorem dX6_shut_233 : decode cX6_shut 233 = .ok (.iaload, 1) := dk_46 (dk_at dksX6_shut_9 19 rfl rfl)
theorem dX6_shut_234 : decode cX6_shut 234 = .ok (.aload_n 0, 1) := dk_42 (dk_at dksX6_shut_9 20 rfl rfl)
theorem dX6_shut_235 : decode cX6_shut 235 = .ok (.getfield 82, 3) := dk_180 0 82 (dk_at dksX6_shut_9 21 rfl rfl)
theorem dX6_shut_238 : decode cX6_shut 238 = .ok (.sipush 201, 3) := dk_17 0 201 (dk_at dksX6_shut_10 0 rfl rfl)
theorem dX6_shut_241 : decode cX6_shut 241 = .ok (.aload_n 0, 1) := dk_42 (dk_at dksX6_shut_10 3 rfl rfl)
theorem dX6_shut_242 : decode cX6_shut 242 = .ok (.getfield 248, 3) := dk_180 0 248 (dk_at dksX6_shut_10 4 rfl rfl)
theorem dX6_shut_245 : decode cX6_shut 245 = .ok (.imul, 1) := dk_104 (dk_at dksX6_shut_10 7 rfl rfl)
theorem dX6_shut_246 : decode cX6_shut 246 = .ok (.iload 4, 2) := dk_21 4 (dk_at dksX6_shut_10 8 rfl rfl)
theorem dX6_shut_248 : decode cX6_shut 248 = .ok (.iadd, 1) := dk_96 (dk_at dksX6_shut_10 10 rfl rfl)
theorem dX6_shut_249 : decode cX6_shut 249 = .ok (.iaload, 1) := dk_46 (dk_at dksX6_shut_10 11 rfl rfl)
theorem dX6_shut_250 : decode cX6_shut 250 = .ok (.invokevirtual 261, 3) := dk_182 1 5 (dk_at dksX6_shut_10 12 rfl rfl)
theorem dX6_shut_253 : decode cX6_shut 253 = .ok (.iinc 4 1, 3) := dk_132 4 1 (dk_at dksX6_shut_10 15 rfl rfl)
theorem dX6_shut_256 : decode cX6_shut 256 = .ok (.goto (-77), 3) := dk_167 255 179 (dk_at dksX6_shut_10 18 rfl rfl)
theorem dX6_shut_259 : decode cX6_shut 259 = .ok (.iinc 3 1, 3) := dk_132 3 1 (dk_at dksX6_shut_10 21 rfl rfl)
theorem dX6_shut_262 : decode cX6_shut 262 = .ok (.goto (-119), 3) := dk_167 255 137 (dk_at dksX6_shut_11 0 rfl rfl)
theorem dX6_shut_265 : decode cX6_shut 265 = .ok (.return_, 1) := dk_177 (dk_at dksX6_shut_11 3 rfl rfl)
abbrev cX6_isLong : ByteArray := prog_14_method_23_code
def yX6_isLong : MethodName := ⟨RX6, "isLong", "()Z"⟩
def dkwX6_isLong_3 : List UInt8 := [3, 172]
abbrev dktX6_isLong_3 : List UInt8 := dkwX6_isLong_3 ++ []
def dkwX6_isLong_2 : List UInt8 := [180, 0, 70, 42, 180, 0, 248, 46, 17, 0, 200, 163, 0, 9, 27, 16, 20, 164, 0, 7, 4, 167, 0, 4]
abbrev dktX6_isLong_2 : List UInt8 := dkwX6_isLong_2 ++ dktX6_isLong_3
def dkwX6_isLong_1 : List UInt8 := [42, 180, 0, 248, 104, 28, 96, 46, 6, 160, 0, 6, 132, 1, 1, 132, 2, 1, 167, 255, 218, 42]
abbrev dktX6_isLong_1 : List UInt8 := dkwX6_isLong_1 ++ dktX6_isLong_2
def dkwX6_isLong_0 : List UInt8 := [3, 60, 3, 61, 28, 42, 180, 0, 70, 42, 180, 0, 248, 46, 162, 0, 31, 42, 180, 0, 73, 17, 0, 201]
abbrev dktX6_isLong_0 : List UInt8 := dkwX6_isLong_0 ++ dktX6_isLong_1
theorem dksX6_isLong_0 : cX6_isLong.data.toList.drop 0 = dktX6_isLong_0 := by decide +kernel
theorem dksX6_isLong_1 : cX6_isLong.data.toList.drop 24 = dktX6_isLong_1 := dk_seg dksX6_isLong_0 24 rfl rfl
theorem dksX6_isLong_2 : cX6_isLong.data.toList.drop 46 = dktX6_isLong_2 := dk_seg dksX6_isLong_1 22 rfl rfl
theorem dksX6_isLong_3 : cX6_isLong.data.toList.drop 70 = dktX6_isLong_3 := dk_seg dksX6_isLong_2 24 rfl rfl
theorem dX6_isLong_0 : decode cX6_isLong 0 = .ok (.iconst 0, 1) := dk_3 (dk_at dksX6_isLong_0 0 rfl rfl)
theorem dX6_isLong_1 : decode cX6_isLong 1 = .ok (.istore_n 1, 1) := dk_60 (dk_at dksX6_isLong_0 1 rfl rfl)
theorem dX6_isLong_2 : decode cX6_isLong 2 = .ok (.iconst 0, 1) := dk_3 (dk_at dksX6_isLong_0 2 rfl rfl)
theorem dX6_isLong_3 : decode cX6_isLong 3 = .ok (.istore_n 2, 1) := dk_61 (dk_at dksX6_isLong_0 3 rfl rfl)
theorem dX6_isLong_4 : decode cX6_isLong 4 = .ok (.iload_n 2, 1) := dk_28 (dk_at dksX6_isLong_0 4 rfl rfl)
theorem dX6_isLong_5 : decode cX6_isLong 5 = .ok (.aload_n 0, 1) := dk_42 (dk_at dksX6_isLong_0 5 rfl rfl)
theorem dX6_isLong_6 : decode cX6_isLong 6 = .ok (.getfield 70, 3) := dk_180 0 70 (dk_at dksX6_isLong_0 6 rfl rfl)
theorem dX6_isLong_9 : decode cX6_isLong 9 = .ok (.aload_n 0, 1) := dk_42 (dk_at dksX6_isLong_0 9 rfl rfl)
theorem dX6_isLong_10 : decode cX6_isLong 10 = .ok (.getfield 248, 3) := dk_180 0 248 (dk_at dksX6_isLong_0 10 rfl rfl)
theorem dX6_isLong_13 : decode cX6_isLong 13 = .ok (.iaload, 1) := dk_46 (dk_at dksX6_isLong_0 13 rfl rfl)
theorem dX6_isLong_14 : decode cX6_isLong 14 = .ok (.if_icmp .ge 31, 3) := dk_162 0 31 (dk_at dksX6_isLong_0 14 rfl rfl)
theorem dX6_isLong_17 : decode cX6_isLong 17 = .ok (.aload_n 0, 1) := dk_42 (dk_at dksX6_isLong_0 17 rfl rfl)
theorem dX6_isLong_18 : decode cX6_isLong 18 = .ok (.getfield 73, 3) := dk_180 0 73 (dk_at dksX6_isLong_0 18 rfl rfl)
theorem dX6_isLong_21 : decode cX6_isLong 21 = .ok (.sipush 201, 3) := dk_17 0 201 (dk_at dksX6_isLong_0 21 rfl rfl)
theorem dX6_isLong_24 : decode cX6_isLong 24 = .ok (.aload_n 0, 1) := dk_42 (dk_at dksX6_isLong_1 0 rfl rfl)
theorem dX6_isLong_25 : decode cX6_isLong 25 = .ok (.getfield 248, 3) := dk_180 0 248 (dk_at dksX6_isLong_1 1 rfl rfl)
theorem dX6_isLong_28 : decode cX6_isLong 28 = .ok (.imul, 1) := dk_104 (dk_at dksX6_isLong_1 4 rfl rfl)
theorem dX6_isLong_29 : decode cX6_isLong 29 = .ok (.iload_n 2, 1) := dk_28 (dk_at dksX6_isLong_1 5 rfl rfl)
theorem dX6_isLong_30 : decode cX6_isLong 30 = .ok (.iadd, 1) := dk_96 (dk_at dksX6_isLong_1 6 rfl rfl)
theorem dX6_isLong_31 : decode cX6_isLong 31 = .ok (.iaload, 1) := dk_46 (dk_at dksX6_isLong_1 7 rfl rfl)
theorem dX6_isLong_32 : decode cX6_isLong 32 = .ok (.iconst 3, 1) := dk_6 (dk_at dksX6_isLong_1 8 rfl rfl)
theorem dX6_isLong_33 : decode cX6_isLong 33 = .ok (.if_icmp .ne 6, 3) := dk_160 0 6 (dk_at dksX6_isLong_1 9 rfl rfl)
theorem dX6_isLong_36 : decode cX6_isLong 36 = .ok (.iinc 1 1, 3) := dk_132 1 1 (dk_at dksX6_isLong_1 12 rfl rfl)
theorem dX6_isLong_39 : decode cX6_isLong 39 = .ok (.iinc 2 1, 3) := dk_132 2 1 (dk_at dksX6_isLong_1 15 rfl rfl)
theorem dX6_isLong_42 : decode cX6_isLong 42 = .ok (.goto (-38), 3) := dk_167 255 218 (dk_at dksX6_isLong_1 18 rfl rfl)
theorem dX6_isLong_45 : decode cX6_isLong 45 = .ok (.aload_n 0, 1) := dk_42 (dk_at dksX6_isLong_1 21 rfl rfl)
theorem dX6_isLong_46 : decode cX6_isLong 46 = .ok (.getfield 70, 3) := dk_180 0 70 (dk_at dksX6_isLong_2 0 rfl rfl)
theorem dX6_isLong_49 : decode cX6_isLong 49 = .ok (.aload_n 0, 1) := dk_42 (dk_at dksX6_isLong_2 3 rfl rfl)
theorem dX6_isLong_50 : decode cX6_isLong 50 = .ok (.getfield 248, 3) := dk_180 0 248 (dk_at dksX6_isLong_2 4 rfl rfl)
theorem dX6_isLong_53 : decode cX6_isLong 53 = .ok (.iaload, 1) := dk_46 (dk_at dksX6_isLong_2 7 rfl rfl)
theorem dX6_isLong_54 : decode cX6_isLong 54 = .ok (.sipush 200, 3) := dk_17 0 200 (dk_at dksX6_isLong_2 8 rfl rfl)
theorem dX6_isLong_57 : decode cX6_isLong 57 = .ok (.if_icmp .gt 9, 3) := dk_163 0 9 (dk_at dksX6_isLong_2 11 rfl rfl)
theorem dX6_isLong_60 : decode cX6_isLong 60 = .ok (.iload_n 1, 1) := dk_27 (dk_at dksX6_isLong_2 14 rfl rfl)
theorem dX6_isLong_61 : decode cX6_isLong 61 = .ok (.bipush 20, 2) := dk_16 20 (dk_at dksX6_isLong_2 15 rfl rfl)
theorem dX6_isLong_63 : decode cX6_isLong 63 = .ok (.if_icmp .le 7, 3) := dk_164 0 7 (dk_at dksX6_isLong_2 17 rfl rfl)
theorem dX6_isLong_66 : decode cX6_isLong 66 = .ok (.iconst 1, 1) := dk_4 (dk_at dksX6_isLong_2 20 rfl rfl)
theorem dX6_isLong_67 : decode cX6_isLong 67 = .ok (.goto 4, 3) := dk_167 0 4 (dk_at dksX6_isLong_2 21 rfl rfl)
theorem dX6_isLong_70 : decode cX6_isLong 70 = .ok (.iconst 0, 1) := dk_3 (dk_at dksX6_isLong_3 0 rfl rfl)
theorem dX6_isLong_71 : decode cX6_isLong 71 = .ok (.ireturn, 1) := dk_172 (dk_at dksX6_isLong_3 1 rfl rfl)
abbrev cX6_put : ByteArray := prog_14_method_22_code
def yX6_put : MethodName := ⟨RX6, "put", "(IIII)V"⟩
def dkwX6_put_3 : List UInt8 := [180, 0, 70, 42, 180, 0, 248, 92, 46, 4, 96, 79, 177]
abbrev dktX6_put_3 : List UInt8 := dkwX6_put_3 ++ []
def dkwX6_put_2 : List UInt8 := [21, 5, 28, 79, 42, 180, 0, 79, 21, 5, 29, 79, 42, 180, 0, 82, 21, 5, 21, 4, 79, 42]
abbrev dktX6_put_2 : List UInt8 := dkwX6_put_2 ++ dktX6_put_3
def dkwX6_put_1 : List UInt8 := [42, 180, 0, 70, 42, 180, 0, 248, 46, 96, 54, 5, 42, 180, 0, 73, 21, 5, 27, 79, 42, 180, 0, 76]
abbrev dktX6_put_1 : List UInt8 := dkwX6_put_1 ++ dktX6_put_2
def dkwX6_put_0 : List UInt8 := [42, 180, 0, 70, 42, 180, 0, 248, 46, 17, 0, 200, 164, 0, 4, 177, 17, 0, 201, 42, 180, 0, 248, 104]
abbrev dktX6_put_0 : List UInt8 := dkwX6_put_0 ++ dktX6_put_1
theorem dksX6_put_0 : cX6_put.data.toList.drop 0 = dktX6_put_0 := by decide +kernel
theorem dksX6_put_1 : cX6_put.data.toList.drop 24 = dktX6_put_1 := dk_seg dksX6_put_0 24 rfl rfl
theorem dksX6_put_2 : cX6_put.data.toList.drop 48 = dktX6_put_2 := dk_seg dksX6_put_1 24 rfl rfl
theorem dksX6_put_3 : cX6_put.data.toList.drop 70 = dktX6_put_3 := dk_seg dksX6_put_2 22 rfl rfl
theorem dX6_put_0 : decode cX6_put 0 = .ok (.aload_n 0, 1) := dk_42 (dk_at dksX6_put_0 0 rfl rfl)
theorem dX6_put_1 : decode cX6_put 1 = .ok (.getfield 70, 3) := dk_180 0 70 (dk_at dksX6_put_0 1 rfl rfl)
theorem dX6_put_4 : decode cX6_put 4 = .ok (.aload_n 0, 1) := dk_42 (dk_at dksX6_put_0 4 rfl rfl)
theorem dX6_put_5 : decode cX6_put 5 = .ok (.getfield 248, 3) := dk_180 0 248 (dk_at dksX6_put_0 5 rfl rfl)
theorem dX6_put_8 : decode cX6_put 8 = .ok (.iaload, 1) := dk_46 (dk_at dksX6_put_0 8 rfl rfl)
theorem dX6_put_9 : decode cX6_put 9 = .ok (.sipush 200, 3) := dk_17 0 200 (dk_at dksX6_put_0 9 rfl rfl)
theorem dX6_put_12 : decode cX6_put 12 = .ok (.if_icmp .le 4, 3) := dk_164 0 4 (dk_at dksX6_put_0 12 rfl rfl)
theorem dX6_put_15 : decode cX6_put 15 = .ok (.return_, 1) := dk_177 (dk_at dksX6_put_0 15 rfl rfl)
theorem dX6_put_16 : decode cX6_put 16 = .ok (.sipush 201, 3) := dk_17 0 201 (dk_at dksX6_put_0 16 rfl rfl)
theorem dX6_put_19 : decode cX6_put 19 = .ok (.aload_n 0, 1) := dk_42 (dk_at dksX6_put_0 19 rfl rfl)
theorem dX6_put_20 : decode cX6_put 20 = .ok (.getfield 248, 3) := dk_180 0 248 (dk_at dksX6_put_0 20 rfl rfl)
theorem dX6_put_23 : decode cX6_put 23 = .ok (.imul, 1) := dk_104 (dk_at dksX6_put_0 23 rfl rfl)
theorem dX6_put_24 : decode cX6_put 24 = .ok (.aload_n 0, 1) := dk_42 (dk_at dksX6_put_1 0 rfl rfl)
theorem dX6_put_25 : decode cX6_put 25 = .ok (.getfield 70, 3) := dk_180 0 70 (dk_at dksX6_put_1 1 rfl rfl)
theorem dX6_put_28 : decode cX6_put 28 = .ok (.aload_n 0, 1) := dk_42 (dk_at dksX6_put_1 4 rfl rfl)
theorem dX6_put_29 : decode cX6_put 29 = .ok (.getfield 248, 3) := dk_180 0 248 (dk_at dksX6_put_1 5 rfl rfl)
theorem dX6_put_32 : decode cX6_put 32 = .ok (.iaload, 1) := dk_46 (dk_at dksX6_put_1 8 rfl rfl)
theorem dX6_put_33 : decode cX6_put 33 = .ok (.iadd, 1) := dk_96 (dk_at dksX6_put_1 9 rfl rfl)
theorem dX6_put_34 : decode cX6_put 34 = .ok (.istore 5, 2) := dk_54 5 (dk_at dksX6_put_1 10 rfl rfl)
theorem dX6_put_36 : decode cX6_put 36 = .ok (.aload_n 0, 1) := dk_42 (dk_at dksX6_put_1 12 rfl rfl)
theorem dX6_put_37 : decode cX6_put 37 = .ok (.getfield 73, 3) := dk_180 0 73 (dk_at dksX6_put_1 13 rfl rfl)
theorem dX6_put_40 : decode cX6_put 40 = .ok (.iload 5, 2) := dk_21 5 (dk_at dksX6_put_1 16 rfl rfl)
theorem dX6_put_42 : decode cX6_put 42 = .ok (.iload_n 1, 1) := dk_27 (dk_at dksX6_put_1 18 rfl rfl)
theorem dX6_put_43 : decode cX6_put 43 = .ok (.iastore, 1) := dk_79 (dk_at dksX6_put_1 19 rfl rfl)
theorem dX6_put_44 : decode cX6_put 44 = .ok (.aload_n 0, 1) := dk_42 (dk_at dksX6_put_1 20 rfl rfl)
theorem dX6_put_45 : decode cX6_put 45 = .ok (.getfield 76, 3) := dk_180 0 76 (dk_at dksX6_put_1 21 rfl rfl)
theorem dX6_put_48 : decode cX6_put 48 = .ok (.iload 5, 2) := dk_21 5 (dk_at dksX6_put_2 0 rfl rfl)
theorem dX6_put_50 : decode cX6_put 50 = .ok (.iload_n 2, 1) := dk_28 (dk_at dksX6_put_2 2 rfl rfl)
theorem dX6_put_51 : decode cX6_put 51 = .ok (.iastore, 1) := dk_79 (dk_at dksX6_put_2 3 rfl rfl)
theorem dX6_put_52 : decode cX6_put 52 = .ok (.aload_n 0, 1) := dk_42 (dk_at dksX6_put_2 4 rfl rfl)
theorem dX6_put_53 : decode cX6_put 53 = .ok (.getfield 79, 3) := dk_180 0 79 (dk_at dksX6_put_2 5 rfl rfl)
theorem dX6_put_56 : decode cX6_put 56 = .ok (.iload 5, 2) := dk_21 5 (dk_at dksX6_put_2 8 rfl rfl)
theorem dX6_put_58 : decode cX6_put 58 = .ok (.iload_n 3, 1) := dk_29 (dk_at dksX6_put_2 10 rfl rfl)
theorem dX6_put_59 : decode cX6_put 59 = .ok (.iastore, 1) := dk_79 (dk_at dksX6_put_2 11 rfl rfl)
theorem dX6_put_60 : decode cX6_put 60 = .ok (.aload_n 0, 1) := dk_42 (dk_at dksX6_put_2 12 rfl rfl)
theorem dX6_put_61 : decode cX6_put 61 = .ok (.getfield 82, 3) := dk_180 0 82 (dk_at dksX6_put_2 13 rfl rfl)
theorem dX6_put_64 : decode cX6_put 64 = .ok (.iload 5, 2) := dk_21 5 (dk_at dksX6_put_2 16 rfl rfl)
theorem dX6_put_66 : decode cX6_put 66 = .ok (.iload 4, 2) := dk_21 4 (dk_at dksX6_put_2 18 rfl rfl)
theorem dX6_put_68 : decode cX6_put 68 = .ok (.iastore, 1) := dk_79 (dk_at dksX6_put_2 20 rfl rfl)
theorem dX6_put_69 : decode cX6_put 69 = .ok (.aload_n 0, 1) := dk_42 (dk_at dksX6_put_2 21 rfl rfl)
theorem dX6_put_70 : decode cX6_put 70 = .ok (.getfield 70, 3) := dk_180 0 70 (dk_at dksX6_put_3 0 rfl rfl)
theorem dX6_put_73 : decode cX6_put 73 = .ok (.aload_n 0, 1) := dk_42 (dk_at dksX6_put_3 3 rfl rfl)
theorem dX6_put_74 : decode cX6_put 74 = .ok (.getfield 248, 3) := dk_180 0 248 (dk_at dksX6_put_3 4 rfl rfl)
theorem dX6_put_77 : decode cX6_put 77 = .ok (.dup2, 1) := dk_92 (dk_at dksX6_put_3 7 rfl rfl)
theorem dX6_put_78 : decode cX6_put 78 = .ok (.iaload, 1) := dk_46 (dk_at dksX6_put_3 8 rfl rfl)
theorem dX6_put_79 : decode cX6_put 79 = .ok (.iconst 1, 1) := dk_4 (dk_at dksX6_put_3 9 rfl rfl)
theorem dX6_put_80 : decode cX6_put 80 = .ok (.iadd, 1) := dk_96 (dk_at dksX6_put_3 10 rfl rfl)
theorem dX6_put_81 : decode cX6_put 81 = .ok (.iastore, 1) := dk_79 (dk_at dksX6_put_3 11 rfl rfl)
theorem dX6_put_82 : decode cX6_put 82 = .ok (.return_, 1) := dk_177 (dk_at dksX6_put_3 12 rfl rfl)
abbrev cX6_tellPart : ByteArray := prog_14_method_28_code
def yX6_tellPart : MethodName := ⟨RX6, "tellPart", "()V"⟩
def dkwX6_tellPart_6 : List UInt8 := [89, 180, 0, 214, 6, 96, 181, 0, 214, 177]
abbrev dktX6_tellPart_6 : List UInt8 := dkwX6_tellPart_6 ++ []
def dkwX6_tellPart_5 : List UInt8 := [181, 0, 230, 42, 180, 0, 85, 42, 180, 0, 227, 2, 79, 42, 89, 180, 0, 227, 4, 96, 181, 0, 227, 42]
abbrev dktX6_tellPart_5 : List UInt8 := dkwX6_tellPart_5 ++ dktX6_tellPart_6
def dkwX6_tellPart_4 : List UInt8 := [180, 0, 230, 181, 0, 248, 42, 180, 0, 70, 42, 180, 0, 248, 3, 79, 42, 89, 180, 0, 230, 4, 96]
abbrev dktX6_tellPart_4 : List UInt8 := dkwX6_tellPart_4 ++ dktX6_tellPart_5
def dkwX6_tellPart_3 : List UInt8 := [42, 180, 0, 230, 3, 84, 42, 180, 0, 67, 42, 180, 0, 230, 42, 180, 0, 214, 4, 96, 79, 42, 42]
abbrev dktX6_tellPart_3 : List UInt8 := dkwX6_tellPart_3 ++ dktX6_tellPart_4
def dkwX6_tellPart_2 : List UInt8 := [42, 180, 0, 60, 42, 180, 0, 230, 42, 180, 0, 52, 42, 180, 0, 214, 4, 96, 47, 80, 42, 180, 0, 63]
abbrev dktX6_tellPart_2 : List UInt8 := dkwX6_tellPart_2 ++ dktX6_tellPart_3
def dkwX6_tellPart_1 : List UInt8 := [4, 96, 47, 148, 154, 0, 14, 42, 6, 42, 180, 0, 214, 4, 96, 182, 0, 254, 132, 1, 1, 167, 255, 213]
abbrev dktX6_tellPart_1 : List UInt8 := dkwX6_tellPart_1 ++ dktX6_tellPart_2
def dkwX6_tellPart_0 : List UInt8 := [3, 60, 27, 42, 180, 0, 230, 162, 0, 41, 42, 180, 0, 60, 27, 47, 42, 180, 0, 52, 42, 180, 0, 214]
abbrev dktX6_tellPart_0 : List UInt8 := dkwX6_tellPart_0 ++ dktX6_tellPart_1
theorem dksX6_tellPart_0 : cX6_tellPart.data.toList.drop 0 = dktX6_tellPart_0 := by decide +kernel
theorem dksX6_tellPart_1 : cX6_tellPart.data.toList.drop 24 = dktX6_tellPart_1 := dk_seg dksX6_tellPart_0 24 rfl rfl
theorem dksX6_tellPart_2 : cX6_tellPart.data.toList.drop 48 = dktX6_tellPart_2 := dk_seg dksX6_tellPart_1 24 rfl rfl
theorem dksX6_tellPart_3 : cX6_tellPart.data.toList.drop 72 = dktX6_tellPart_3 := dk_seg dksX6_tellPart_2 24 rfl rfl
theorem dksX6_tellPart_4 : cX6_tellPart.data.toList.drop 95 = dktX6_tellPart_4 := dk_seg dksX6_tellPart_3 23 rfl rfl
theorem dksX6_tellPart_5 : cX6_tellPart.data.toList.drop 118 = dktX6_tellPart_5 := dk_seg dksX6_tellPart_4 23 rfl rfl
theorem dksX6_tellPart_6 : cX6_tellPart.data.toList.drop 142 = dktX6_tellPart_6 := dk_seg dksX6_tellPart_5 24 rfl rfl
theorem dX6_tellPart_0 : decode cX6_tellPart 0 = .ok (.iconst 0, 1) := dk_3 (dk_at dksX6_tellPart_0 0 rfl rfl)
theorem dX6_tellPart_1 : decode cX6_tellPart 1 = .ok (.istore_n 1, 1) := dk_60 (dk_at dksX6_tellPart_0 1 rfl rfl)
theorem dX6_tellPart_2 : decode cX6_tellPart 2 = .ok (.iload_n 1, 1) := dk_27 (dk_at dksX6_tellPart_0 2 rfl rfl)
theorem dX6_tellPart_3 : decode cX6_tellPart 3 = .ok (.aload_n 0, 1) := dk_42 (dk_at dksX6_tellPart_0 3 rfl rfl)
theorem dX6_tellPart_4 : decode cX6_tellPart 4 = .ok (.getfield 230, 3) := dk_180 0 230 (dk_at dksX6_tellPart_0 4 rfl rfl)
theorem dX6_tellPart_7 : decode cX6_tellPart 7 = .ok (.if_icmp .ge 41, 3) := dk_162 0 41 (dk_at dksX6_tellPart_0 7 rfl rfl)
theorem dX6_tellPart_10 : decode cX6_tellPart 10 = .ok (.aload_n 0, 1) := dk_42 (dk_at dksX6_tellPart_0 10 rfl rfl)
theorem dX6_tellPart_11 : decode cX6_tellPart 11 = .ok (.getfield 60, 3) := dk_180 0 60 (dk_at dksX6_tellPart_0 11 rfl rfl)
theorem dX6_tellPart_14 : decode cX6_tellPart 14 = .ok (.iload_n 1, 1) := dk_27 (dk_at dksX6_tellPart_0 14 rfl rfl)
theorem dX6_tellPart_15 : decode cX6_tellPart 15 = .ok (.laload, 1) := dk_47 (dk_at dksX6_tellPart_0 15 rfl rfl)
theorem dX6_tellPart_16 : decode cX6_tellPart 16 = .ok (.aload_n 0, 1) := dk_42 (dk_at dksX6_tellPart_0 16 rfl rfl)
theorem dX6_tellPart_17 : decode cX6_tellPart 17 = .ok (.getfield 52, 3) := dk_180 0 52 (dk_at dksX6_tellPart_0 17 rfl rfl)
theorem dX6_tellPart_20 : decode cX6_tellPart 20 = .ok (.aload_n 0, 1) := dk_42 (dk_at dksX6_tellPart_0 20 rfl rfl)
theorem dX6_tellPart_21 : decode cX6_tellPart 21 = .ok (.getfield 214, 3) := dk_180 0 214 (dk_at dksX6_tellPart_0 21 rfl rfl)
theorem dX6_tellPart_24 : decode cX6_tellPart 24 = .ok (.iconst 1, 1) := dk_4 (dk_at dksX6_tellPart_1 0 rfl rfl)
theorem dX6_tellPart_25 : decode cX6_tellPart 25 = .ok (.iadd, 1) := dk_96 (dk_at dksX6_tellPart_1 1 rfl rfl)
theorem dX6_tellPart_26 : decode cX6_tellPart 26 = .ok (.laload, 1) := dk_47 (dk_at dksX6_tellPart_1 2 rfl rfl)
theorem dX6_tellPart_27 : decode cX6_tellPart 27 = .ok (.lcmp, 1) := dk_148 (dk_at dksX6_tellPart_1 3 rfl rfl)
theorem dX6_tellPart_28 : decode cX6_tellPart 28 = .ok (.ifCond .ne 14, 3) := dk_154 0 14 (dk_at dksX6_tellPart_1 4 rfl rfl)
theorem dX6_tellPart_31 : decode cX6_tellPart 31 = .ok (.aload_n 0, 1) := dk_42 (dk_at dksX6_tellPart_1 7 rfl rfl)
theorem dX6_tellPart_32 : decode cX6_tellPart 32 = .ok (.iconst 3, 1) := dk_6 (dk_at dksX6_tellPart_1 8 rfl rfl)
theorem dX6_tellPart_33 : decode cX6_tellPart 33 = .ok (.aload_n 0, 1) := dk_42 (dk_at dksX6_tellPart_1 9 rfl rfl)
theorem dX6_tellPart_34 : decode cX6_tellPart 34 = .ok (.getfield 214, 3) := dk_180 0 214 (dk_at dksX6_tellPart_1 10 rfl rfl)
theorem dX6_tellPart_37 : decode cX6_tellPart 37 = .ok (.iconst 1, 1) := dk_4 (dk_at dksX6_tellPart_1 13 rfl rfl)
theorem dX6_tellPart_38 : decode cX6_tellPart 38 = .ok (.iadd, 1) := dk_96 (dk_at dksX6_tellPart_1 14 rfl rfl)
theorem dX6_tellPart_39 : decode cX6_tellPart 39 = .ok (.invokevirtual 254, 3) := dk_182 0 254 (dk_at dksX6_tellPart_1 15 rfl rfl)
theorem dX6_tellPart_42 : decode cX6_tellPart 42 = .ok (.iinc 1 1, 3) := dk_132 1 1 (dk_at dksX6_tellPart_1 18 rfl rfl)
theorem dX6_tellPart_45 : decode cX6_tellPart 45 = .ok (.goto (-43), 3) := dk_167 255 213 (dk_at dksX6_tellPart_1 21 rfl rfl)
theorem dX6_tellPart_48 : decode cX6_tellPart 48 = .ok (.aload_n 0, 1) := dk_42 (dk_at dksX6_tellPart_2 0 rfl rfl)
theorem dX6_tellPart_49 : decode cX6_tellPart 49 = .ok (.getfield 60, 3) := dk_180 0 60 (dk_at dksX6_tellPart_2 1 rfl rfl)
theorem dX6_tellPart_52 : decode cX6_tellPart 52 = .ok (.aload_n 0, 1) := dk_42 (dk_at dksX6_tellPart_2 4 rfl rfl)
theorem dX6_tellPart_53 : decode cX6_tellPart 53 = .ok (.getfield 230, 3) := dk_180 0 230 (dk_at dksX6_tellPart_2 5 rfl rfl)
theorem dX6_tellPart_56 : decode cX6_tellPart 56 = .ok (.aload_n 0, 1) := dk_42 (dk_at dksX6_tellPart_2 8 rfl rfl)
theorem dX6_tellPart_57 : decode cX6_tellPart 57 = .ok (.getfield 52, 3) := dk_180 0 52 (dk_at dksX6_tellPart_2 9 rfl rfl)
theorem dX6_tellPart_60 : decode cX6_tellPart 60 = .ok (.aload_n 0, 1) := dk_42 (dk_at dksX6_tellPart_2 12 rfl rfl)
theorem dX6_tellPart_61 : decode cX6_tellPart 61 = .ok (.getfield 214, 3) := dk_180 0 214 (dk_at dksX6_tellPart_2 13 rfl rfl)
theorem dX6_tellPart_64 : decode cX6_tellPart 64 = .ok (.iconst 1, 1) := dk_4 (dk_at dksX6_tellPart_2 16 rfl rfl)
theorem dX6_tellPart_65 : decode cX6_tellPart 65 = .ok (.iadd, 1) := dk_96 (dk_at dksX6_tellPart_2 17 rfl rfl)
theorem dX6_tellPart_66 : decode cX6_tellPart 66 = .ok (.laload, 1) := dk_47 (dk_at dksX6_tellPart_2 18 rfl rfl)
theorem dX6_tellPart_67 : decode cX6_tellPart 67 = .ok (.lastore, 1) := dk_80 (dk_at dksX6_tellPart_2 19 rfl rfl)
theorem dX6_tellPart_68 : decode cX6_tellPart 68 = .ok (.aload_n 0, 1) := dk_42 (dk_at dksX6_tellPart_2 20 rfl rfl)
theorem dX6_tellPart_69 : decode cX6_tellPart 69 = .ok (.getfield 63, 3) := dk_180 0 63 (dk_at dksX6_tellPart_2 21 rfl rfl)
theorem dX6_tellPart_72 : decode cX6_tellPart 72 = .ok (.aload_n 0, 1) := dk_42 (dk_at dksX6_tellPart_3 0 rfl rfl)
theorem dX6_tellPart_73 : decode cX6_tellPart 73 = .ok (.getfield 230, 3) := dk_180 0 230 (dk_at dksX6_tellPart_3 1 rfl rfl)
theorem dX6_tellPart_76 : decode cX6_tellPart 76 = .ok (.iconst 0, 1) := dk_3 (dk_at dksX6_tellPart_3 4 rfl rfl)
theorem dX6_tellPart_77 : decode cX6_tellPart 77 = .ok (.bastore, 1) := dk_84 (dk_at dksX6_tellPart_3 5 rfl rfl)
theorem dX6_tellPart_78 : decode cX6_tellPart 78 = .ok (.aload_n 0, 1) := dk_42 (dk_at dksX6_tellPart_3 6 rfl rfl)
theorem dX6_tellPart_79 : decode cX6_tellPart 79 = .ok (.getfield 67, 3) := dk_180 0 67 (dk_at dksX6_tellPart_3 7 rfl rfl)
theorem dX6_tellPart_82 : decode cX6_tellPart 82 = .ok (.aload_n 0, 1) := dk_42 (dk_at dksX6_tellPart_3 10 rfl rfl)
theorem dX6_tellPart_83 : decode cX6_tellPart 83 = .ok (.getfield 230, 3) := dk_180 0 230 (dk_at dksX6_tellPart_3 11 rfl rfl)
theorem dX6_tellPart_86 : decode cX6_tellPart 86 = .ok (.aload_n 0, 1) := dk_42 (dk_at dksX6_tellPart_3 14 rfl rfl)
theorem dX6_tellPart_87 : decode cX6_tellPart 87 = .ok (.getfield 214, 3) := dk_180 0 214 (dk_at dksX6_tellPart_3 15 rfl rfl)
theorem dX6_tellPart_90 : decode cX6_tellPart 90 = .ok (.iconst 1, 1) := dk_4 (dk_at dksX6_tellPart_3 18 rfl rfl)
theorem dX6_tellPart_91 : decode cX6_tellPart 91 = .ok (.iadd, 1) := dk_96 (dk_at dksX6_tellPart_3 19 rfl rfl)
theorem dX6_tellPart_92 : decode cX6_tellPart 92 = .ok (.iastore, 1) := dk_79 (dk_at dksX6_tellPart_3 20 rfl rfl)
theorem dX6_tellPart_93 : decode cX6_tellPart 93 = .ok (.aload_n 0, 1) := dk_42 (dk_at dksX6_tellPart_3 21 rfl rfl)
theorem dX6_tellPart_94 : decode cX6_tellPart 94 = .ok (.aload_n 0, 1) := dk_42 (dk_at dksX6_tellPart_3 22 rfl rfl)
theorem dX6_tellPart_95 : decode cX6_tellPart 95 = .ok (.getfield 230, 3) := dk_180 0 230 (dk_at dksX6_tellPart_4 0 rfl rfl)
theorem dX6_tellPart_98 : decode cX6_tellPart 98 = .ok (.putfield 248, 3) := dk_181 0 248 (dk_at dksX6_tellPart_4 3 rfl rfl)
theorem dX6_tellPart_101 : decode cX6_tellPart 101 = .ok (.aload_n 0, 1) := dk_42 (dk_at dksX6_tellPart_4 6 rfl rfl)
theorem dX6_tellPart_102 : decode cX6_tellPart 102 = .ok (.getfield 70, 3) := dk_180 0 70 (dk_at dksX6_tellPart_4 7 rfl rfl)
theorem dX6_tellPart_105 : decode cX6_tellPart 105 = .ok (.aload_n 0, 1) := dk_42 (dk_at dksX6_tellPart_4 10 rfl rfl)
theorem dX6_tellPart_106 : decode cX6_tellPart 106 = .ok (.getfield 248, 3) := dk_180 0 248 (dk_at dksX6_tellPart_4 11 rfl rfl)
theorem dX6_tellPart_109 : decode cX6_tellPart 109 = .ok (.iconst 0, 1) := dk_3 (dk_at dksX6_tellPart_4 14 rfl rfl)
theorem dX6_tellPart_110 : decode cX6_tellPart 110 = .ok (.iastore, 1) := dk_79 (dk_at dksX6_tellPart_4 15 rfl rfl)
theorem dX6_tellPart_111 : decode cX6_tellPart 111 = .ok (.aload_n 0, 1) := dk_42 (dk_at dksX6_tellPart_4 16 rfl rfl)
theorem dX6_tellPart_112 : decode cX6_tellPart 112 = .ok (.dup, 1) := dk_89 (dk_at dksX6_tellPart_4 17 rfl rfl)
theorem dX6_tellPart_113 : decode cX6_tellPart 113 = .ok (.getfield 230, 3) := dk_180 0 230 (dk_at dksX6_tellPart_4 18 rfl rfl)
theorem dX6_tellPart_116 : decode cX6_tellPart 116 = .ok (.iconst 1, 1) := dk_4 (dk_at dksX6_tellPart_4 21 rfl rfl)
theorem dX6_tellPart_117 : decode cX6_tellPart 117 = .ok (.iadd, 1) := dk_96 (dk_at dksX6_tellPart_4 22 rfl rfl)
theorem dX6_tellPart_118 : decode cX6_tellPart 118 = .ok (.putfield 230, 3) := dk_181 0 230 (dk_at dksX6_tellPart_5 0 rfl rfl)
theorem dX6_tellPart_121 : decode cX6_tellPart 121 = .ok (.aload_n 0, 1) := dk_42 (dk_at dksX6_tellPart_5 3 rfl rfl)
theorem dX6_tellPart_122 : decode cX6_tellPart 122 = .ok (.getfield 85, 3) := dk_180 0 85 (dk_at dksX6_tellPart_5 4 rfl rfl)
theorem dX6_tellPart_125 : decode cX6_tellPart 125 = .ok (.aload_n 0, 1) := dk_42 (dk_at dksX6_tellPart_5 7 rfl rfl)
theorem dX6_tellPart_126 : decode cX6_tellPart 126 = .ok (.getfield 227, 3) := dk_180 0 227 (dk_at dksX6_tellPart_5 8 rfl rfl)
theorem dX6_tellPart_129 : decode cX6_tellPart 129 = .ok (.iconst (-1), 1) := dk_2 (dk_at dksX6_tellPart_5 11 rfl rfl)
theorem dX6_tellPart_130 : decode cX6_tellPart 130 = .ok (.iastore, 1) := dk_79 (dk_at dksX6_tellPart_5 12 rfl rfl)
theorem dX6_tellPart_131 : decode cX6_tellPart 131 = .ok (.aload_n 0, 1) := dk_42 (dk_at dksX6_tellPart_5 13 rfl rfl)
theorem dX6_tellPart_132 : decode cX6_tellPart 132 = .ok (.dup, 1) := dk_89 (dk_at dksX6_tellPart_5 14 rfl rfl)
theorem dX6_tellPart_133 : decode cX6_tellPart 133 = .ok (.getfield 227, 3) := dk_180 0 227 (dk_at dksX6_tellPart_5 15 rfl rfl)
theorem dX6_tellPart_136 : decode cX6_tellPart 136 = .ok (.iconst 1, 1) := dk_4 (dk_at dksX6_tellPart_5 18 rfl rfl)
theorem dX6_tellPart_137 : decode cX6_tellPart 137 = .ok (.iadd, 1) := dk_96 (dk_at dksX6_tellPart_5 19 rfl rfl)
theorem dX6_tellPart_138 : decode cX6_tellPart 138 = .ok (.putfield 227, 3) := dk_181 0 227 (dk_at dksX6_tellPart_5 20 rfl rfl)
theorem dX6_tellPart_141 : decode cX6_tellPart 141 = .ok (.aload_n 0, 1) := dk_42 (dk_at dksX6_tellPart_5 23 rfl rfl)
theorem dX6_tellPart_142 : decode cX6_tellPart 142 = .ok (.dup, 1) := dk_89 (dk_at dksX6_tellPart_6 0 rfl rfl)
theorem dX6_tellPart_143 : decode cX6_tellPart 143 = .ok (.getfield 214, 3) := dk_180 0 214 (dk_at dksX6_tellPart_6 1 rfl rfl)
theorem dX6_tellPart_146 : decode cX6_tellPart 146 = .ok (.iconst 3, 1) := dk_6 (dk_at dksX6_tellPart_6 4 rfl rfl)
theorem dX6_tellPart_147 : decode cX6_tellPart 147 = .ok (.iadd, 1) := dk_96 (dk_at dksX6_tellPart_6 5 rfl rfl)
theorem dX6_tellPart_148 : decode cX6_tellPart 148 = .ok (.putfield 214, 3) := dk_181 0 214 (dk_at dksX6_tellPart_6 6 rfl rfl)
theorem dX6_tellPart_151 : decode cX6_tellPart 151 = .ok (.return_, 1) := dk_177 (dk_at dksX6_tellPart_6 9 rfl rfl)
abbrev cX6_tellMaybe : ByteArray := prog_14_method_26_code
def yX6_tellMaybe : MethodName := ⟨RX6, "tellMaybe", "()V"⟩
def dkwX6_tellMaybe_4 : List UInt8 := [96, 181, 0, 214, 177]
abbrev dktX6_tellMaybe_4 : List UInt8 := dkwX6_tellMaybe_4 ++ []
def dkwX6_tellMaybe_3 : List UInt8 := [42, 6, 42, 180, 0, 49, 42, 180, 0, 214, 4, 96, 46, 27, 28, 182, 1, 5, 42, 89, 180, 0, 214, 8]
abbrev dktX6_tellMaybe_3 : List UInt8 := dkwX6_tellMaybe_3 ++ dktX6_tellMaybe_4
def dkwX6_tellMaybe_2 : List UInt8 := [180, 0, 214, 6, 96, 182, 0, 254, 27, 28, 164, 0, 14, 42, 8, 42, 180, 0, 214, 5, 96, 182, 0, 254]
abbrev dktX6_tellMaybe_2 : List UInt8 := dkwX6_tellMaybe_2 ++ dktX6_tellMaybe_3
def dkwX6_tellMaybe_1 : List UInt8 := [180, 0, 49, 42, 180, 0, 214, 6, 96, 46, 61, 28, 4, 161, 0, 8, 28, 7, 164, 0, 14, 42, 8, 42]
abbrev dktX6_tellMaybe_1 : List UInt8 := dkwX6_tellMaybe_1 ++ dktX6_tellMaybe_2
def dkwX6_tellMaybe_0 : List UInt8 := [42, 42, 180, 0, 214, 4, 96, 182, 1, 2, 42, 180, 0, 49, 42, 180, 0, 214, 5, 96, 46, 60, 42]
abbrev dktX6_tellMaybe_0 : List UInt8 := dkwX6_tellMaybe_0 ++ dktX6_tellMaybe_1
theorem dksX6_tellMaybe_0 : cX6_tellMaybe.data.toList.drop 0 = dktX6_tellMaybe_0 := by decide +kernel
theorem dksX6_tellMaybe_1 : cX6_tellMaybe.data.toList.drop 23 = dktX6_tellMaybe_1 := dk_seg dksX6_tellMaybe_0 23 rfl rfl
theorem dksX6_tellMaybe_2 : cX6_tellMaybe.data.toList.drop 47 = dktX6_tellMaybe_2 := dk_seg dksX6_tellMaybe_1 24 rfl rfl
theorem dksX6_tellMaybe_3 : cX6_tellMaybe.data.toList.drop 71 = dktX6_tellMaybe_3 := dk_seg dksX6_tellMaybe_2 24 rfl rfl
theorem dksX6_tellMaybe_4 : cX6_tellMaybe.data.toList.drop 95 = dktX6_tellMaybe_4 := dk_seg dksX6_tellMaybe_3 24 rfl rfl
theorem dX6_tellMaybe_0 : decode cX6_tellMaybe 0 = .ok (.aload_n 0, 1) := dk_42 (dk_at dksX6_tellMaybe_0 0 rfl rfl)
theorem dX6_tellMaybe_1 : decode cX6_tellMaybe 1 = .ok (.aload_n 0, 1) := dk_42 (dk_at dksX6_tellMaybe_0 1 rfl rfl)
theorem dX6_tellMaybe_2 : decode cX6_tellMaybe 2 = .ok (.getfield 214, 3) := dk_180 0 214 (dk_at dksX6_tellMaybe_0 2 rfl rfl)
theorem dX6_tellMaybe_5 : decode cX6_tellMaybe 5 = .ok (.iconst 1, 1) := dk_4 (dk_at dksX6_tellMaybe_0 5 rfl rfl)
theorem dX6_tellMaybe_6 : decode cX6_tellMaybe 6 = .ok (.iadd, 1) := dk_96 (dk_at dksX6_tellMaybe_0 6 rfl rfl)
theorem dX6_tellMaybe_7 : decode cX6_tellMaybe 7 = .ok (.invokevirtual 258, 3) := dk_182 1 2 (dk_at dksX6_tellMaybe_0 7 rfl rfl)
theorem dX6_tellMaybe_10 : decode cX6_tellMaybe 10 = .ok (.aload_n 0, 1) := dk_42 (dk_at dksX6_tellMaybe_0 10 rfl rfl)
theorem dX6_tellMaybe_11 : decode cX6_tellMaybe 11 = .ok (.getfield 49, 3) := dk_180 0 49 (dk_at dksX6_tellMaybe_0 11 rfl rfl)
theorem dX6_tellMaybe_14 : decode cX6_tellMaybe 14 = .ok (.aload_n 0, 1) := dk_42 (dk_at dksX6_tellMaybe_0 14 rfl rfl)
theorem dX6_tellMaybe_15 : decode cX6_tellMaybe 15 = .ok (.getfield 214, 3) := dk_180 0 214 (dk_at dksX6_tellMaybe_0 15 rfl rfl)
theorem dX6_tellMaybe_18 : decode cX6_tellMaybe 18 = .ok (.iconst 2, 1) := dk_5 (dk_at dksX6_tellMaybe_0 18 rfl rfl)
theorem dX6_tellMaybe_19 : decode cX6_tellMaybe 19 = .ok (.iadd, 1) := dk_96 (dk_at dksX6_tellMaybe_0 19 rfl rfl)
theorem dX6_tellMaybe_20 : decode cX6_tellMaybe 20 = .ok (.iaload, 1) := dk_46 (dk_at dksX6_tellMaybe_0 20 rfl rfl)
theorem dX6_tellMaybe_21 : decode cX6_tellMaybe 21 = .ok (.istore_n 1, 1) := dk_60 (dk_at dksX6_tellMaybe_0 21 rfl rfl)
theorem dX6_tellMaybe_22 : decode cX6_tellMaybe 22 = .ok (.aload_n 0, 1) := dk_42 (dk_at dksX6_tellMaybe_0 22 rfl rfl)
theorem dX6_tellMaybe_23 : decode cX6_tellMaybe 23 = .ok (.getfield 49, 3) := dk_180 0 49 (dk_at dksX6_tellMaybe_1 0 rfl rfl)
theorem dX6_tellMaybe_26 : decode cX6_tellMaybe 26 = .ok (.aload_n 0, 1) := dk_42 (dk_at dksX6_tellMaybe_1 3 rfl rfl)
theorem dX6_tellMaybe_27 : decode cX6_tellMaybe 27 = .ok (.getfield 214, 3) := dk_180 0 214 (dk_at dksX6_tellMaybe_1 4 rfl rfl)
theorem dX6_tellMaybe_30 : decode cX6_tellMaybe 30 = .ok (.iconst 3, 1) := dk_6 (dk_at dksX6_tellMaybe_1 7 rfl rfl)
theorem dX6_tellMaybe_31 : decode cX6_tellMaybe 31 = .ok (.iadd, 1) := dk_96 (dk_at dksX6_tellMaybe_1 8 rfl rfl)
theorem dX6_tellMaybe_32 : decode cX6_tellMaybe 32 = .ok (.iaload, 1) := dk_46 (dk_at dksX6_tellMaybe_1 9 rfl rfl)
theorem dX6_tellMaybe_33 : decode cX6_tellMaybe 33 = .ok (.istore_n 2, 1) := dk_61 (dk_at dksX6_tellMaybe_1 10 rfl rfl)
theorem dX6_tellMaybe_34 : decode cX6_tellMaybe 34 = .ok (.iload_n 2, 1) := dk_28 (dk_at dksX6_tellMaybe_1 11 rfl rfl)
theorem dX6_tellMaybe_35 : decode cX6_tellMaybe 35 = .ok (.iconst 1, 1) := dk_4 (dk_at dksX6_tellMaybe_1 12 rfl rfl)
theorem dX6_tellMaybe_36 : decode cX6_tellMaybe 36 = .ok (.if_icmp .lt 8, 3) := dk_161 0 8 (dk_at dksX6_tellMaybe_1 13 rfl rfl)
theorem dX6_tellMaybe_39 : decode cX6_tellMaybe 39 = .ok (.iload_n 2, 1) := dk_28 (dk_at dksX6_tellMaybe_1 16 rfl rfl)
theorem dX6_tellMaybe_40 : decode cX6_tellMaybe 40 = .ok (.iconst 4, 1) := dk_7 (dk_at dksX6_tellMaybe_1 17 rfl rfl)
theorem dX6_tellMaybe_41 : decode cX6_tellMaybe 41 = .ok (.if_icmp .le 14, 3) := dk_164 0 14 (dk_at dksX6_tellMaybe_1 18 rfl rfl)
theorem dX6_tellMaybe_44 : decode cX6_tellMaybe 44 = .ok (.aload_n 0, 1) := dk_42 (dk_at dksX6_tellMaybe_1 21 rfl rfl)
theorem dX6_tellMaybe_45 : decode cX6_tellMaybe 45 = .ok (.iconst 5, 1) := dk_8 (dk_at dksX6_tellMaybe_1 22 rfl rfl)
theorem dX6_tellMaybe_46 : decode cX6_tellMaybe 46 = .ok (.aload_n 0, 1) := dk_42 (dk_at dksX6_tellMaybe_1 23 rfl rfl)
theorem dX6_tellMaybe_47 : decode cX6_tellMaybe 47 = .ok (.getfield 214, 3) := dk_180 0 214 (dk_at dksX6_tellMaybe_2 0 rfl rfl)
theorem dX6_tellMaybe_50 : decode cX6_tellMaybe 50 = .ok (.iconst 3, 1) := dk_6 (dk_at dksX6_tellMaybe_2 3 rfl rfl)
theorem dX6_tellMaybe_51 : decode cX6_tellMaybe 51 = .ok (.iadd, 1) := dk_96 (dk_at dksX6_tellMaybe_2 4 rfl rfl)
theorem dX6_tellMaybe_52 : decode cX6_tellMaybe 52 = .ok (.invokevirtual 254, 3) := dk_182 0 254 (dk_at dksX6_tellMaybe_2 5 rfl rfl)
theorem dX6_tellMaybe_55 : decode cX6_tellMaybe 55 = .ok (.iload_n 1, 1) := dk_27 (dk_at dksX6_tellMaybe_2 8 rfl rfl)
theorem dX6_tellMaybe_56 : decode cX6_tellMaybe 56 = .ok (.iload_n 2, 1) := dk_28 (dk_at dksX6_tellMaybe_2 9 rfl rfl)
theorem dX6_tellMaybe_57 : decode cX6_tellMaybe 57 = .ok (.if_icmp .le 14, 3) := dk_164 0 14 (dk_at dksX6_tellMaybe_2 10 rfl rfl)
theorem dX6_tellMaybe_60 : decode cX6_tellMaybe 60 = .ok (.aload_n 0, 1) := dk_42 (dk_at dksX6_tellMaybe_2 13 rfl rfl)
theorem dX6_tellMaybe_61 : decode cX6_tellMaybe 61 = .ok (.iconst 5, 1) := dk_8 (dk_at dksX6_tellMaybe_2 14 rfl rfl)
theorem dX6_tellMaybe_62 : decode cX6_tellMaybe 62 = .ok (.aload_n 0, 1) := dk_42 (dk_at dksX6_tellMaybe_2 15 rfl rfl)
theorem dX6_tellMaybe_63 : decode cX6_tellMaybe 63 = .ok (.getfield 214, 3) := dk_180 0 214 (dk_at dksX6_tellMaybe_2 16 rfl rfl)
theorem dX6_tellMaybe_66 : decode cX6_tellMaybe 66 = .ok (.iconst 2, 1) := dk_5 (dk_at dksX6_tellMaybe_2 19 rfl rfl)
theorem dX6_tellMaybe_67 : decode cX6_tellMaybe 67 = .ok (.iadd, 1) := dk_96 (dk_at dksX6_tellMaybe_2 20 rfl rfl)
theorem dX6_tellMaybe_68 : decode cX6_tellMaybe 68 = .ok (.invokevirtual 254, 3) := dk_182 0 254 (dk_at dksX6_tellMaybe_2 21 rfl rfl)
theorem dX6_tellMaybe_71 : decode cX6_tellMaybe 71 = .ok (.aload_n 0, 1) := dk_42 (dk_at dksX6_tellMaybe_3 0 rfl rfl)
theorem dX6_tellMaybe_72 : decode cX6_tellMaybe 72 = .ok (.iconst 3, 1) := dk_6 (dk_at dksX6_tellMaybe_3 1 rfl rfl)
theorem dX6_tellMaybe_73 : decode cX6_tellMaybe 73 = .ok (.aload_n 0, 1) := dk_42 (dk_at dksX6_tellMaybe_3 2 rfl rfl)
theorem dX6_tellMaybe_74 : decode cX6_tellMaybe 74 = .ok (.getfield 49, 3) := dk_180 0 49 (dk_at dksX6_tellMaybe_3 3 rfl rfl)
theorem dX6_tellMaybe_77 : decode cX6_tellMaybe 77 = .ok (.aload_n 0, 1) := dk_42 (dk_at dksX6_tellMaybe_3 6 rfl rfl)
theorem dX6_tellMaybe_78 : decode cX6_tellMaybe 78 = .ok (.getfield 214, 3) := dk_180 0 214 (dk_at dksX6_tellMaybe_3 7 rfl rfl)
theorem dX6_tellMaybe_81 : decode cX6_tellMaybe 81 = .ok (.iconst 1, 1) := dk_4 (dk_at dksX6_tellMaybe_3 10 rfl rfl)
theorem dX6_tellMaybe_82 : decode cX6_tellMaybe 82 = .ok (.iadd, 1) := dk_96 (dk_at dksX6_tellMaybe_3 11 rfl rfl)
theorem dX6_tellMaybe_83 : decode cX6_tellMaybe 83 = .ok (.iaload, 1) := dk_46 (dk_at dksX6_tellMaybe_3 12 rfl rfl)
theorem dX6_tellMaybe_84 : decode cX6_tellMaybe 84 = .ok (.iload_n 1, 1) := dk_27 (dk_at dksX6_tellMaybe_3 13 rfl rfl)
theorem dX6_tellMaybe_85 : decode cX6_tellMaybe 85 = .ok (.iload_n 2, 1) := dk_28 (dk_at dksX6_tellMaybe_3 14 rfl rfl)
theorem dX6_tellMaybe_86 : decode cX6_tellMaybe 86 = .ok (.invokevirtual 261, 3) := dk_182 1 5 (dk_at dksX6_tellMaybe_3 15 rfl rfl)
theorem dX6_tellMaybe_89 : decode cX6_tellMaybe 89 = .ok (.aload_n 0, 1) := dk_42 (dk_at dksX6_tellMaybe_3 18 rfl rfl)
theorem dX6_tellMaybe_90 : decode cX6_tellMaybe 90 = .ok (.dup, 1) := dk_89 (dk_at dksX6_tellMaybe_3 19 rfl rfl)
theorem dX6_tellMaybe_91 : decode cX6_tellMaybe 91 = .ok (.getfield 214, 3) := dk_180 0 214 (dk_at dksX6_tellMaybe_3 20 rfl rfl)
theorem dX6_tellMaybe_94 : decode cX6_tellMaybe 94 = .ok (.iconst 5, 1) := dk_8 (dk_at dksX6_tellMaybe_3 23 rfl rfl)
theorem dX6_tellMaybe_95 : decode cX6_tellMaybe 95 = .ok (.iadd, 1) := dk_96 (dk_at dksX6_tellMaybe_4 0 rfl rfl)
theorem dX6_tellMaybe_96 : decode cX6_tellMaybe 96 = .ok (.putfield 214, 3) := dk_181 0 214 (dk_at dksX6_tellMaybe_4 1 rfl rfl)
theorem dX6_tellMaybe_99 : decode cX6_tellMaybe 99 = .ok (.return_, 1) := dk_177 (dk_at dksX6_tellMaybe_4 4 rfl rfl)
abbrev cX6_checkLeg : ByteArray := prog_14_method_24_code
def yX6_checkLeg : MethodName := ⟨RX6, "checkLeg", "(I)V"⟩
def dkwX6_checkLeg_0 : List UInt8 := [42, 180, 0, 49, 27, 46, 42, 180, 0, 251, 5, 100, 164, 0, 9, 42, 8, 27, 182, 0, 254, 177]
abbrev dktX6_checkLeg_0 : List UInt8 := dkwX6_checkLeg_0 ++ []
theorem dksX6_checkLeg_0 : cX6_checkLeg.data.toList.drop 0 = dktX6_checkLeg_0 := by decide +kernel
theorem dX6_checkLeg_0 : decode cX6_checkLeg 0 = .ok (.aload_n 0, 1) := dk_42 (dk_at dksX6_checkLeg_0 0 rfl rfl)
theorem dX6_checkLeg_1 : decode cX6_checkLeg 1 = .ok (.getfield 49, 3) := dk_180 0 49 (dk_at dksX6_checkLeg_0 1 rfl rfl)
theorem dX6_checkLeg_4 : decode cX6_checkLeg 4 = .ok (.iload_n 1, 1) := dk_27 (dk_at dksX6_checkLeg_0 4 rfl rfl)
theorem dX6_checkLeg_5 : decode cX6_checkLeg 5 = .ok (.iaload, 1) := dk_46 (dk_at dksX6_checkLeg_0 5 rfl rfl)
theorem dX6_checkLeg_6 : decode cX6_checkLeg 6 = .ok (.aload_n 0, 1) := dk_42 (dk_at dksX6_checkLeg_0 6 rfl rfl)
theorem dX6_checkLeg_7 : decode cX6_checkLeg 7 = .ok (.getfield 251, 3) := dk_180 0 251 (dk_at dksX6_checkLeg_0 7 rfl rfl)
theorem dX6_checkLeg_10 : decode cX6_checkLeg 10 = .ok (.iconst 2, 1) := dk_5 (dk_at dksX6_checkLeg_0 10 rfl rfl)
theorem dX6_checkLeg_11 : decode cX6_checkLeg 11 = .ok (.isub, 1) := dk_100 (dk_at dksX6_checkLeg_0 11 rfl rfl)
theorem dX6_checkLeg_12 : decode cX6_checkLeg 12 = .ok (.if_icmp .le 9, 3) := dk_164 0 9 (dk_at dksX6_checkLeg_0 12 rfl rfl)
theorem dX6_checkLeg_15 : decode cX6_checkLeg 15 = .ok (.aload_n 0, 1) := dk_42 (dk_at dksX6_checkLeg_0 15 rfl rfl)
theorem dX6_checkLeg_16 : decode cX6_checkLeg 16 = .ok (.iconst 5, 1) := dk_8 (dk_at dksX6_checkLeg_0 16 rfl rfl)
theorem dX6_checkLeg_17 : decode cX6_checkLeg 17 = .ok (.iload_n 1, 1) := dk_27 (dk_at dksX6_checkLeg_0 17 rfl rfl)
theorem dX6_checkLeg_18 : decode cX6_checkLeg 18 = .ok (.invokevirtual 254, 3) := dk_182 0 254 (dk_at dksX6_checkLeg_0 18 rfl rfl)
theorem dX6_checkLeg_21 : decode cX6_checkLeg 21 = .ok (.return_, 1) := dk_177 (dk_at dksX6_checkLeg_0 21 rfl rfl)
abbrev cX6_tellUse : ByteArray := prog_14_method_27_code
def yX6_tellUse : MethodName := ⟨RX6, "tellUse", "()V"⟩
def dkwX6_tellUse_11 : List UInt8 := [182, 1, 5, 132, 5, 1, 167, 255, 143, 177]
abbrev dktX6_tellUse_11 : List UInt8 := dkwX6_tellUse_11 ++ []
def dkwX6_tellUse_10 : List UInt8 := [167, 0, 10, 42, 180, 0, 76, 21, 6, 46, 42, 180, 0, 79, 21, 6, 46, 42, 180, 0, 82, 21, 6, 46]
abbrev dktX6_tellUse_10 : List UInt8 := dkwX6_tellUse_10 ++ dktX6_tellUse_11
def dkwX6_tellUse_9 : List UInt8 := [54, 7, 42, 21, 7, 29, 153, 0, 20, 42, 180, 0, 251, 5, 100, 42, 180, 0, 76, 21, 6, 46, 100]
abbrev dktX6_tellUse_9 : List UInt8 := dkwX6_tellUse_9 ++ dktX6_tellUse_10
def dkwX6_tellUse_8 : List UInt8 := [46, 54, 7, 29, 153, 0, 21, 21, 7, 4, 159, 0, 9, 21, 7, 5, 160, 0, 9, 6, 21, 7, 100]
abbrev dktX6_tellUse_8 : List UInt8 := dkwX6_tellUse_8 ++ dktX6_tellUse_9
def dkwX6_tellUse_7 : List UInt8 := [153, 0, 13, 21, 4, 4, 100, 21, 5, 100, 167, 0, 5, 21, 5, 96, 54, 6, 42, 180, 0, 73, 21, 6]
abbrev dktX6_tellUse_7 : List UInt8 := dkwX6_tellUse_7 ++ dktX6_tellUse_8
def dkwX6_tellUse_6 : List UInt8 := [180, 0, 70, 27, 46, 54, 4, 3, 54, 5, 21, 5, 21, 4, 162, 0, 112, 17, 0, 201, 27, 104, 28]
abbrev dktX6_tellUse_6 : List UInt8 := dkwX6_tellUse_6 ++ dktX6_tellUse_7
def dkwX6_tellUse_5 : List UInt8 := [181, 0, 214, 42, 89, 180, 0, 214, 4, 96, 181, 0, 214, 27, 156, 0, 7, 3, 167, 0, 9, 42]
abbrev dktX6_tellUse_5 : List UInt8 := dkwX6_tellUse_5 ++ dktX6_tellUse_6
def dkwX6_tellUse_4 : List UInt8 := [4, 96, 181, 0, 214, 42, 16, 8, 182, 0, 242, 62, 29, 153, 0, 13, 42, 89, 180, 0, 214, 4, 96]
abbrev dktX6_tellUse_4 : List UInt8 := dkwX6_tellUse_4 ++ dktX6_tellUse_5
def dkwX6_tellUse_3 : List UInt8 := [180, 0, 214, 5, 96, 181, 0, 214, 42, 16, 7, 182, 0, 242, 61, 28, 153, 0, 13, 42, 89, 180, 0, 214]
abbrev dktX6_tellUse_3 : List UInt8 := dkwX6_tellUse_3 ++ dktX6_tellUse_4
def dkwX6_tellUse_2 : List UInt8 := [132, 2, 1, 167, 255, 213, 27, 156, 0, 14, 42, 7, 42, 180, 0, 214, 4, 96, 182, 0, 254, 42, 89]
abbrev dktX6_tellUse_2 : List UInt8 := dkwX6_tellUse_2 ++ dktX6_tellUse_3
def dkwX6_tellUse_1 : List UInt8 := [180, 0, 60, 28, 47, 42, 180, 0, 52, 42, 180, 0, 214, 4, 96, 47, 148, 154, 0, 5, 28, 60]
abbrev dktX6_tellUse_1 : List UInt8 := dkwX6_tellUse_1 ++ dktX6_tellUse_2
def dkwX6_tellUse_0 : List UInt8 := [2, 60, 3, 61, 28, 42, 180, 0, 230, 162, 0, 41, 42, 180, 0, 63, 28, 51, 153, 0, 26, 42]
abbrev dktX6_tellUse_0 : List UInt8 := dkwX6_tellUse_0 ++ dktX6_tellUse_1
theorem dksX6_tellUse_0 : cX6_tellUse.data.toList.drop 0 = dktX6_tellUse_0 := by decide +kernel
theorem dksX6_tellUse_1 : cX6_tellUse.data.toList.drop 22 = dktX6_tellUse_1 := dk_seg dksX6_tellUse_0 22 rfl rfl
theorem dksX6_tellUse_2 : cX6_tellUse.data.toList.drop 44 = dktX6_tellUse_2 := dk_seg dksX6_tellUse_1 22 rfl rfl
theorem dksX6_tellUse_3 : cX6_tellUse.data.toList.drop 67 = dktX6_tellUse_3 := dk_seg dksX6_tellUse_2 23 rfl rfl
theorem dksX6_tellUse_4 : cX6_tellUse.data.toList.drop 91 = dktX6_tellUse_4 := dk_seg dksX6_tellUse_3 24 rfl rfl
theorem dksX6_tellUse_5 : cX6_tellUse.data.toList.drop 114 = dktX6_tellUse_5 := dk_seg dksX6_tellUse_4 23 rfl rfl
theorem dksX6_tellUse_6 : cX6_tellUse.data.toList.drop 136 = dktX6_tellUse_6 := dk_seg dksX6_tellUse_5 22 rfl rfl
theorem dksX6_tellUse_7 : cX6_tellUse.data.toList.drop 159 = dktX6_tellUse_7 := dk_seg dksX6_tellUse_6 23 rfl rfl
theorem dksX6_tellUse_8 : cX6_tellUse.data.toList.drop 183 = dktX6_tellUse_8 := dk_seg dksX6_tellUse_7 24 rfl rfl
theorem dksX6_tellUse_9 : cX6_tellUse.data.toList.drop 206 = dktX6_tellUse_9 := dk_seg dksX6_tellUse_8 23 rfl rfl
theorem dksX6_tellUse_10 : cX6_tellUse.data.toList.drop 229 = dktX6_tellUse_10 := dk_seg dksX6_tellUse_9 23 rfl rfl
theorem dksX6_tellUse_11 : cX6_tellUse.data.toList.drop 253 = dktX6_tellUse_11 := dk_seg dksX6_tellUse_10 24 rfl rfl
theorem dX6_tellUse_0 : decode cX6_tellUse 0 = .ok (.iconst (-1), 1) := dk_2 (dk_at dksX6_tellUse_0 0 rfl rfl)
theorem dX6_tellUse_1 : decode cX6_tellUse 1 = .ok (.istore_n 1, 1) := dk_60 (dk_at dksX6_tellUse_0 1 rfl rfl)
theorem dX6_tellUse_2 : decode cX6_tellUse 2 = .ok (.iconst 0, 1) := dk_3 (dk_at dksX6_tellUse_0 2 rfl rfl)
theorem dX6_tellUse_3 : decode cX6_tellUse 3 = .ok (.istore_n 2, 1) := dk_61 (dk_at dksX6_tellUse_0 3 rfl rfl)
theorem dX6_tellUse_4 : decode cX6_tellUse 4 = .ok (.iload_n 2, 1) := dk_28 (dk_at dksX6_tellUse_0 4 rfl rfl)
theorem dX6_tellUse_5 : decode cX6_tellUse 5 = .ok (.aload_n 0, 1) := dk_42 (dk_at dksX6_tellUse_0 5 rfl rfl)
theorem dX6_tellUse_6 : decode cX6_tellUse 6 = .ok (.getfield 230, 3) := dk_180 0 230 (dk_at dksX6_tellUse_0 6 rfl rfl)
theorem dX6_tellUse_9 : decode cX6_tellUse 9 = .ok (.if_icmp .ge 41, 3) := dk_162 0 41 (dk_at dksX6_tellUse_0 9 rfl rfl)
theorem dX6_tellUse_12 : decode cX6_tellUse 12 = .ok (.aload_n 0, 1) := dk_42 (dk_at dksX6_tellUse_0 12 rfl rfl)
theorem dX6_tellUse_13 : decode cX6_tellUse 13 = .ok (.getfield 63, 3) := dk_180 0 63 (dk_at dksX6_tellUse_0 13 rfl rfl)
theorem dX6_tellUse_16 : decode cX6_tellUse 16 = .ok (.iload_n 2, 1) := dk_28 (dk_at dksX6_tellUse_0 16 rfl rfl)
theorem dX6_tellUse_17 : decode cX6_tellUse 17 = .ok (.baload, 1) := dk_51 (dk_at dksX6_tellUse_0 17 rfl rfl)
theorem dX6_tellUse_18 : decode cX6_tellUse 18 = .ok (.ifCond .eq 26, 3) := dk_153 0 26 (dk_at dksX6_tellUse_0 18 rfl rfl)
theorem dX6_tellUse_21 : decode cX6_tellUse 21 = .ok (.aload_n 0, 1) := dk_42 (dk_at dksX6_tellUse_0 21 rfl rfl)
theorem dX6_tellUse_22 : decode cX6_tellUse 22 = .ok (.getfield 60, 3) := dk_180 0 60 (dk_at dksX6_tellUse_1 0 rfl rfl)
theorem dX6_tellUse_25 : decode cX6_tellUse 25 = .ok (.iload_n 2, 1) := dk_28 (dk_at dksX6_tellUse_1 3 rfl rfl)
theorem dX6_tellUse_26 : decode cX6_tellUse 26 = .ok (.laload, 1) := dk_47 (dk_at dksX6_tellUse_1 4 rfl rfl)
theorem dX6_tellUse_27 : decode cX6_tellUse 27 = .ok (.aload_n 0, 1) := dk_42 (dk_at dksX6_tellUse_1 5 rfl rfl)
theorem dX6_tellUse_28 : decode cX6_tellUse 28 = .ok (.getfield 52, 3) := dk_180 0 52 (dk_at dksX6_tellUse_1 6 rfl rfl)
theorem dX6_tellUse_31 : decode cX6_tellUse 31 = .ok (.aload_n 0, 1) := dk_42 (dk_at dksX6_tellUse_1 9 rfl rfl)
theorem dX6_tellUse_32 : decode cX6_tellUse 32 = .ok (.getfield 214, 3) := dk_180 0 214 (dk_at dksX6_tellUse_1 10 rfl rfl)
theorem dX6_tellUse_35 : decode cX6_tellUse 35 = .ok (.iconst 1, 1) := dk_4 (dk_at dksX6_tellUse_1 13 rfl rfl)
theorem dX6_tellUse_36 : decode cX6_tellUse 36 = .ok (.iadd, 1) := dk_96 (dk_at dksX6_tellUse_1 14 rfl rfl)
theorem dX6_tellUse_37 : decode cX6_tellUse 37 = .ok (.laload, 1) := dk_47 (dk_at dksX6_tellUse_1 15 rfl rfl)
theorem dX6_tellUse_38 : decode cX6_tellUse 38 = .ok (.lcmp, 1) := dk_148 (dk_at dksX6_tellUse_1 16 rfl rfl)
theorem dX6_tellUse_39 : decode cX6_tellUse 39 = .ok (.ifCond .ne 5, 3) := dk_154 0 5 (dk_at dksX6_tellUse_1 17 rfl rfl)
theorem dX6_tellUse_42 : decode cX6_tellUse 42 = .ok (.iload_n 2, 1) := dk_28 (dk_at dksX6_tellUse_1 20 rfl rfl)
theorem dX6_tellUse_43 : decode cX6_tellUse 43 = .ok (.istore_n 1, 1) := dk_60 (dk_at dksX6_tellUse_1 21 rfl rfl)
theorem dX6_tellUse_44 : decode cX6_tellUse 44 = .ok (.iinc 2 1, 3) := dk_132 2 1 (dk_at dksX6_tellUse_2 0 rfl rfl)
theorem dX6_tellUse_47 : decode cX6_tellUse 47 = .ok (.goto (-43), 3) := dk_167 255 213 (dk_at dksX6_tellUse_2 3 rfl rfl)
theorem dX6_tellUse_50 : decode cX6_tellUse 50 = .ok (.iload_n 1, 1) := dk_27 (dk_at dksX6_tellUse_2 6 rfl rfl)
theorem dX6_tellUse_51 : decode cX6_tellUse 51 = .ok (.ifCond .ge 14, 3) := dk_156 0 14 (dk_at dksX6_tellUse_2 7 rfl rfl)
theorem dX6_tellUse_54 : decode cX6_tellUse 54 = .ok (.aload_n 0, 1) := dk_42 (dk_at dksX6_tellUse_2 10 rfl rfl)
theorem dX6_tellUse_55 : decode cX6_tellUse 55 = .ok (.iconst 4, 1) := dk_7 (dk_at dksX6_tellUse_2 11 rfl rfl)
theorem dX6_tellUse_56 : decode cX6_tellUse 56 = .ok (.aload_n 0, 1) := dk_42 (dk_at dksX6_tellUse_2 12 rfl rfl)
theorem dX6_tellUse_57 : decode cX6_tellUse 57 = .ok (.getfield 214, 3) := dk_180 0 214 (dk_at dksX6_tellUse_2 13 rfl rfl)
theorem dX6_tellUse_60 : decode cX6_tellUse 60 = .ok (.iconst 1, 1) := dk_4 (dk_at dksX6_tellUse_2 16 rfl rfl)
theorem dX6_tellUse_61 : decode cX6_tellUse 61 = .ok (.iadd, 1) := dk_96 (dk_at dksX6_tellUse_2 17 rfl rfl)
theorem dX6_tellUse_62 : decode cX6_tellUse 62 = .ok (.invokevirtual 254, 3) := dk_182 0 254 (dk_at dksX6_tellUse_2 18 rfl rfl)
theorem dX6_tellUse_65 : decode cX6_tellUse 65 = .ok (.aload_n 0, 1) := dk_42 (dk_at dksX6_tellUse_2 21 rfl rfl)
theorem dX6_tellUse_66 : decode cX6_tellUse 66 = .ok (.dup, 1) := dk_89 (dk_at dksX6_tellUse_2 22 rfl rfl)
theorem dX6_tellUse_67 : decode cX6_tellUse 67 = .ok (.getfield 214, 3) := dk_180 0 214 (dk_at dksX6_tellUse_3 0 rfl rfl)
theorem dX6_tellUse_70 : decode cX6_tellUse 70 = .ok (.iconst 2, 1) := dk_5 (dk_at dksX6_tellUse_3 3 rfl rfl)
theorem dX6_tellUse_71 : decode cX6_tellUse 71 = .ok (.iadd, 1) := dk_96 (dk_at dksX6_tellUse_3 4 rfl rfl)
theorem dX6_tellUse_72 : decode cX6_tellUse 72 = .ok (.putfield 214, 3) := dk_181 0 214 (dk_at dksX6_tellUse_3 5 rfl rfl)
theorem dX6_tellUse_75 : decode cX6_tellUse 75 = .ok (.aload_n 0, 1) := dk_42 (dk_at dksX6_tellUse_3 8 rfl rfl)
theorem dX6_tellUse_76 : decode cX6_tellUse 76 = .ok (.bipush 7, 2) := dk_16 7 (dk_at dksX6_tellUse_3 9 rfl rfl)
theorem dX6_tellUse_78 : decode cX6_tellUse 78 = .ok (.invokevirtual 242, 3) := dk_182 0 242 (dk_at dksX6_tellUse_3 11 rfl rfl)
theorem dX6_tellUse_81 : decode cX6_tellUse 81 = .ok (.istore_n 2, 1) := dk_61 (dk_at dksX6_tellUse_3 14 rfl rfl)
theorem dX6_tellUse_82 : decode cX6_tellUse 82 = .ok (.iload_n 2, 1) := dk_28 (dk_at dksX6_tellUse_3 15 rfl rfl)
theorem dX6_tellUse_83 : decode cX6_tellUse 83 = .ok (.ifCond .eq 13, 3) := dk_153 0 13 (dk_at dksX6_tellUse_3 16 rfl rfl)
theorem dX6_tellUse_86 : decode cX6_tellUse 86 = .ok (.aload_n 0, 1) := dk_42 (dk_at dksX6_tellUse_3 19 rfl rfl)
theorem dX6_tellUse_87 : decode cX6_tellUse 87 = .ok (.dup, 1) := dk_89 (dk_at dksX6_tellUse_3 20 rfl rfl)
theorem dX6_tellUse_88 : decode cX6_tellUse 88 = .ok (.getfield 214, 3) := dk_180 0 214 (dk_at dksX6_tellUse_3 21 rfl rfl)
theorem dX6_tellUse_91 : decode cX6_tellUse 91 = .ok (.iconst 1, 1) := dk_4 (dk_at dksX6_tellUse_4 0 rfl rfl)
theorem dX6_tellUse_92 : decode cX6_tellUse 92 = .ok (.iadd, 1) := dk_96 (dk_at dksX6_tellUse_4 1 rfl rfl)
theorem dX6_tellUse_93 : decode cX6_tellUse 93 = .ok (.putfield 214, 3) := dk_181 0 214 (dk_at dksX6_tellUse_4 2 rfl rfl)
theorem dX6_tellUse_96 : decode cX6_tellUse 96 = .ok (.aload_n 0, 1) := dk_42 (dk_at dksX6_tellUse_4 5 rfl rfl)
theorem dX6_tellUse_97 : decode cX6_tellUse 97 = .ok (.bipush 8, 2) := dk_16 8 (dk_at dksX6_tellUse_4 6 rfl rfl)
theorem dX6_tellUse_99 : decode cX6_tellUse 99 = .ok (.invokevirtual 242, 3) := dk_182 0 242 (dk_at dksX6_tellUse_4 8 rfl rfl)
theorem dX6_tellUse_102 : decode cX6_tellUse 102 = .ok (.istore_n 3, 1) := dk_62 (dk_at dksX6_tellUse_4 11 rfl rfl)
theorem dX6_tellUse_103 : decode cX6_tellUse 103 = .ok (.iload_n 3, 1) := dk_29 (dk_at dksX6_tellUse_4 12 rfl rfl)
theorem dX6_tellUse_104 : decode cX6_tellUse 104 = .ok (.ifCond .eq 13, 3) := dk_153 0 13 (dk_at dksX6_tellUse_4 13 rfl rfl)
theorem dX6_tellUse_107 : decode cX6_tellUse 107 = .ok (.aload_n 0, 1) := dk_42 (dk_at dksX6_tellUse_4 16 rfl rfl)
theorem dX6_tellUse_108 : decode cX6_tellUse 108 = .ok (.dup, 1) := dk_89 (dk_at dksX6_tellUse_4 17 rfl rfl)
theorem dX6_tellUse_109 : decode cX6_tellUse 109 = .ok (.getfield 214, 3) := dk_180 0 214 (dk_at dksX6_tellUse_4 18 rfl rfl)
theorem dX6_tellUse_112 : decode cX6_tellUse 112 = .ok (.iconst 1, 1) := dk_4 (dk_at dksX6_tellUse_4 21 rfl rfl)
theorem dX6_tellUse_113 : decode cX6_tellUse 113 = .ok (.iadd, 1) := dk_96 (dk_at dksX6_tellUse_4 22 rfl rfl)
theorem dX6_tellUse_114 : decode cX6_tellUse 114 = .ok (.putfield 214, 3) := dk_181 0 214 (dk_at dksX6_tellUse_5 0 rfl rfl)
theorem dX6_tellUse_117 : decode cX6_tellUse 117 = .ok (.aload_n 0, 1) := dk_42 (dk_at dksX6_tellUse_5 3 rfl rfl)
theorem dX6_tellUse_118 : decode cX6_tellUse 118 = .ok (.dup, 1) := dk_89 (dk_at dksX6_tellUse_5 4 rfl rfl)
theorem dX6_tellUse_119 : decode cX6_tellUse 119 = .ok (.getfield 214, 3) := dk_180 0 214 (dk_at dksX6_tellUse_5 5 rfl rfl)
theorem dX6_tellUse_122 : decode cX6_tellUse 122 = .ok (.iconst 1, 1) := dk_4 (dk_at dksX6_tellUse_5 8 rfl rfl)
theorem dX6_tellUse_123 : decode cX6_tellUse 123 = .ok (.iadd, 1) := dk_96 (dk_at dksX6_tellUse_5 9 rfl rfl)
theorem dX6_tellUse_124 : decode cX6_tellUse 124 = .ok (.putfield 214, 3) := dk_181 0 214 (dk_at dksX6_tellUse_5 10 rfl rfl)
theorem dX6_tellUse_127 : decode cX6_tellUse 127 = .ok (.iload_n 1, 1) := dk_27 (dk_at dksX6_tellUse_5 13 rfl rfl)
theorem dX6_tellUse_128 : decode cX6_tellUse 128 = .ok (.ifCond .ge 7, 3) := dk_156 0 7 (dk_at dksX6_tellUse_5 14 rfl rfl)
theorem dX6_tellUse_131 : decode cX6_tellUse 131 = .ok (.iconst 0, 1) := dk_3 (dk_at dksX6_tellUse_5 17 rfl rfl)
theorem dX6_tellUse_132 : decode cX6_tellUse 132 = .ok (.goto 9, 3) := dk_167 0 9 (dk_at dksX6_tellUse_5 18 rfl rfl)
theorem dX6_tellUse_135 : decode cX6_tellUse 135 = .ok (.aload_n 0, 1) := dk_42 (dk_at dksX6_tellUse_5 21 rfl rfl)
theorem dX6_tellUse_136 : decode cX6_tellUse 136 = .ok (.getfield 70, 3) := dk_180 0 70 (dk_at dksX6_tellUse_6 0 rfl rfl)
theorem dX6_tellUse_139 : decode cX6_tellUse 139 = .ok (.iload_n 1, 1) := dk_27 (dk_at dksX6_tellUse_6 3 rfl rfl)
theorem dX6_tellUse_140 : decode cX6_tellUse 140 = .ok (.iaload, 1) := dk_46 (dk_at dksX6_tellUse_6 4 rfl rfl)
theorem dX6_tellUse_141 : decode cX6_tellUse 141 = .ok (.istore 4, 2) := dk_54 4 (dk_at dksX6_tellUse_6 5 rfl rfl)
theorem dX6_tellUse_143 : decode cX6_tellUse 143 = .ok (.iconst 0, 1) := dk_3 (dk_at dksX6_tellUse_6 7 rfl rfl)
theorem dX6_tellUse_144 : decode cX6_tellUse 144 = .ok (.istore 5, 2) := dk_54 5 (dk_at dksX6_tellUse_6 8 rfl rfl)
theorem dX6_tellUse_146 : decode cX6_tellUse 146 = .ok (.iload 5, 2) := dk_21 5 (dk_at dksX6_tellUse_6 10 rfl rfl)
theorem dX6_tellUse_148 : decode cX6_tellUse 148 = .ok (.iload 4, 2) := dk_21 4 (dk_at dksX6_tellUse_6 12 rfl rfl)
theorem dX6_tellUse_150 : decode cX6_tellUse 150 = .ok (.if_icmp .ge 112, 3) := dk_162 0 112 (dk_at dksX6_tellUse_6 14 rfl rfl)
theorem dX6_tellUse_153 : decode cX6_tellUse 153 = .ok (.sipush 201, 3) := dk_17 0 201 (dk_at dksX6_tellUse_6 17 rfl rfl)
theorem dX6_tellUse_156 : decode cX6_tellUse 156 = .ok (.iload_n 1, 1) := dk_27 (dk_at dksX6_tellUse_6 20 rfl rfl)
theorem dX6_tellUse_157 : decode cX6_tellUse 157 = .ok (.imul, 1) := dk_104 (dk_at dksX6_tellUse_6 21 rfl rfl)
theorem dX6_tellUse_158 : decode cX6_tellUse 158 = .ok (.iload_n 2, 1) := dk_28 (dk_at dksX6_tellUse_6 22 rfl rfl)
theorem dX6_tellUse_159 : decode cX6_tellUse 159 = .ok (.ifCond .eq 13, 3) := dk_153 0 13 (dk_at dksX6_tellUse_7 0 rfl rfl)
theorem dX6_tellUse_162 : decode cX6_tellUse 162 = .ok (.iload 4, 2) := dk_21 4 (dk_at dksX6_tellUse_7 3 rfl rfl)
theorem dX6_tellUse_164 : decode cX6_tellUse 164 = .ok (.iconst 1, 1) := dk_4 (dk_at dksX6_tellUse_7 5 rfl rfl)
theorem dX6_tellUse_165 : decode cX6_tellUse 165 = .ok (.isub, 1) := dk_100 (dk_at dksX6_tellUse_7 6 rfl rfl)
theorem dX6_tellUse_166 : decode cX6_tellUse 166 = .ok (.iload 5, 2) := dk_21 5 (dk_at dksX6_tellUse_7 7 rfl rfl)
theorem dX6_tellUse_168 : decode cX6_tellUse 168 = .ok (.isub, 1) := dk_100 (dk_at dksX6_tellUse_7 9 rfl rfl)
theorem dX6_tellUse_169 : decode cX6_tellUse 169 = .ok (.goto 5, 3) := dk_167 0 5 (dk_at dksX6_tellUse_7 10 rfl rfl)
theorem dX6_tellUse_172 : decode cX6_tellUse 172 = .ok (.iload 5, 2) := dk_21 5 (dk_at dksX6_tellUse_7 13 rfl rfl)
theorem dX6_tellUse_174 : decode cX6_tellUse 174 = .ok (.iadd, 1) := dk_96 (dk_at dksX6_tellUse_7 15 rfl rfl)
theorem dX6_tellUse_175 : decode cX6_tellUse 175 = .ok (.istore 6, 2) := dk_54 6 (dk_at dksX6_tellUse_7 16 rfl rfl)
theorem dX6_tellUse_177 : decode cX6_tellUse 177 = .ok (.aload_n 0, 1) := dk_42 (dk_at dksX6_tellUse_7 18 rfl rfl)
theorem dX6_tellUse_178 : decode cX6_tellUse 178 = .ok (.getfield 73, 3) := dk_180 0 73 (dk_at dksX6_tellUse_7 19 rfl rfl)
theorem dX6_tellUse_181 : decode cX6_tellUse 181 = .ok (.iload 6, 2) := dk_21 6 (dk_at dksX6_tellUse_7 22 rfl rfl)
theorem dX6_tellUse_183 : decode cX6_tellUse 183 = .ok (.iaload, 1) := dk_46 (dk_at dksX6_tellUse_8 0 rfl rfl)
theorem dX6_tellUse_184 : decode cX6_tellUse 184 = .ok (.istore 7, 2) := dk_54 7 (dk_at dksX6_tellUse_8 1 rfl rfl)
theorem dX6_tellUse_186 : decode cX6_tellUse 186 = .ok (.iload_n 3, 1) := dk_29 (dk_at dksX6_tellUse_8 3 rfl rfl)
theorem dX6_tellUse_187 : decode cX6_tellUse 187 = .ok (.ifCond .eq 21, 3) := dk_153 0 21 (dk_at dksX6_tellUse_8 4 rfl rfl)
theorem dX6_tellUse_190 : decode cX6_tellUse 190 = .ok (.iload 7, 2) := dk_21 7 (dk_at dksX6_tellUse_8 7 rfl rfl)
theorem dX6_tellUse_192 : decode cX6_tellUse 192 = .ok (.iconst 1, 1) := dk_4 (dk_at dksX6_tellUse_8 9 rfl rfl)
theorem dX6_tellUse_193 : decode cX6_tellUse 193 = .ok (.if_icmp .eq 9, 3) := dk_159 0 9 (dk_at dksX6_tellUse_8 10 rfl rfl)
theorem dX6_tellUse_196 : decode cX6_tellUse 196 = .ok (.iload 7, 2) := dk_21 7 (dk_at dksX6_tellUse_8 13 rfl rfl)
theorem dX6_tellUse_198 : decode cX6_tellUse 198 = .ok (.iconst 2, 1) := dk_5 (dk_at dksX6_tellUse_8 15 rfl rfl)
theorem dX6_tellUse_199 : decode cX6_tellUse 199 = .ok (.if_icmp .ne 9, 3) := dk_160 0 9 (dk_at dksX6_tellUse_8 16 rfl rfl)
theorem dX6_tellUse_202 : decode cX6_tellUse 202 = .ok (.iconst 3, 1) := dk_6 (dk_at dksX6_tellUse_8 19 rfl rfl)
theorem dX6_tellUse_203 : decode cX6_tellUse 203 = .ok (.iload 7, 2) := dk_21 7 (dk_at dksX6_tellUse_8 20 rfl rfl)
theorem dX6_tellUse_205 : decode cX6_tellUse 205 = .ok (.isub, 1) := dk_100 (dk_at dksX6_tellUse_8 22 rfl rfl)
theorem dX6_tellUse_206 : decode cX6_tellUse 206 = .ok (.istore 7, 2) := dk_54 7 (dk_at dksX6_tellUse_9 0 rfl rfl)
theorem dX6_tellUse_208 : decode cX6_tellUse 208 = .ok (.aload_n 0, 1) := dk_42 (dk_at dksX6_tellUse_9 2 rfl rfl)
theorem dX6_tellUse_209 : decode cX6_tellUse 209 = .ok (.iload 7, 2) := dk_21 7 (dk_at dksX6_tellUse_9 3 rfl rfl)
theorem dX6_tellUse_211 : decode cX6_tellUse 211 = .ok (.iload_n 3, 1) := dk_29 (dk_at dksX6_tellUse_9 5 rfl rfl)
theorem dX6_tellUse_212 : decode cX6_tellUse 212 = .ok (.ifCond .eq 20, 3) := dk_153 0 20 (dk_at dksX6_tellUse_9 6 rfl rfl)
theorem dX6_tellUse_215 : decode cX6_tellUse 215 = .ok (.aload_n 0, 1) := dk_42 (dk_at dksX6_tellUse_9 9 rfl rfl)
theorem dX6_tellUse_216 : decode cX6_tellUse 216 = .ok (.getfield 251, 3) := dk_180 0 251 (dk_at dksX6_tellUse_9 10 rfl rfl)
theorem dX6_tellUse_219 : decode cX6_tellUse 219 = .ok (.iconst 2, 1) := dk_5 (dk_at dksX6_tellUse_9 13 rfl rfl)
theorem dX6_tellUse_220 : decode cX6_tellUse 220 = .ok (.isub, 1) := dk_100 (dk_at dksX6_tellUse_9 14 rfl rfl)
theorem dX6_tellUse_221 : decode cX6_tellUse 221 = .ok (.aload_n 0, 1) := dk_42 (dk_at dksX6_tellUse_9 15 rfl rfl)
theorem dX6_tellUse_222 : decode cX6_tellUse 222 = .ok (.getfield 76, 3) := dk_180 0 76 (dk_at dksX6_tellUse_9 16 rfl rfl)
theorem dX6_tellUse_225 : decode cX6_tellUse 225 = .ok (.iload 6, 2) := dk_21 6 (dk_at dksX6_tellUse_9 19 rfl rfl)
theorem dX6_tellUse_227 : decode cX6_tellUse 227 = .ok (.iaload, 1) := dk_46 (dk_at dksX6_tellUse_9 21 rfl rfl)
theorem dX6_tellUse_228 : decode cX6_tellUse 228 = .ok (.isub, 1) := dk_100 (dk_at dksX6_tellUse_9 22 rfl rfl)
theorem dX6_tellUse_229 : decode cX6_tellUse 229 = .ok (.goto 10, 3) := dk_167 0 10 (dk_at dksX6_tellUse_10 0 rfl rfl)
theorem dX6_tellUse_232 : decode cX6_tellUse 232 = .ok (.aload_n 0, 1) := dk_42 (dk_at dksX6_tellUse_10 3 rfl rfl)
theorem dX6_tellUse_233 : decode cX6_tellUse 233 = .ok (.getfield 76, 3) := dk_180 0 76 (dk_at dksX6_tellUse_10 4 rfl rfl)
theorem dX6_tellUse_236 : decode cX6_tellUse 236 = .ok (.iload 6, 2) := dk_21 6 (dk_at dksX6_tellUse_10 7 rfl rfl)
theorem dX6_tellUse_238 : decode cX6_tellUse 238 = .ok (.iaload, 1) := dk_46 (dk_at dksX6_tellUse_10 9 rfl rfl)
theorem dX6_tellUse_239 : decode cX6_tellUse 239 = .ok (.aload_n 0, 1) := dk_42 (dk_at dksX6_tellUse_10 10 rfl rfl)
theorem dX6_tellUse_240 : decode cX6_tellUse 240 = .ok (.getfield 79, 3) := dk_180 0 79 (dk_at dksX6_tellUse_10 11 rfl rfl)
theorem dX6_tellUse_243 : decode cX6_tellUse 243 = .ok (.iload 6, 2) := dk_21 6 (dk_at dksX6_tellUse_10 14 rfl rfl)
theorem dX6_tellUse_245 : decode cX6_tellUse 245 = .ok (.iaload, 1) := dk_46 (dk_at dksX6_tellUse_10 16 rfl rfl)
theorem dX6_tellUse_246 : decode cX6_tellUse 246 = .ok (.aload_n 0, 1) := dk_42 (dk_at dksX6_tellUse_10 17 rfl rfl)
theorem dX6_tellUse_247 : decode cX6_tellUse 247 = .ok (.getfield 82, 3) := dk_180 0 82 (dk_at dksX6_tellUse_10 18 rfl rfl)
theorem dX6_tellUse_250 : decode cX6_tellUse 250 = .ok (.iload 6, 2) := dk_21 6 (dk_at dksX6_tellUse_10 21 rfl rfl)
theorem dX6_tellUse_252 : decode cX6_tellUse 252 = .ok (.iaload, 1) := dk_46 (dk_at dksX6_tellUse_10 23 rfl rfl)
theorem dX6_tellUse_253 : decode cX6_tellUse 253 = .ok (.invokevirtual 261, 3) := dk_182 1 5 (dk_at dksX6_tellUse_11 0 rfl rfl)
theorem dX6_tellUse_256 : decode cX6_tellUse 256 = .ok (.iinc 5 1, 3) := dk_132 5 1 (dk_at dksX6_tellUse_11 3 rfl rfl)
theorem dX6_tellUse_259 : decode cX6_tellUse 259 = .ok (.goto (-113), 3) := dk_167 255 143 (dk_at dksX6_tellUse_11 6 rfl rfl)
theorem dX6_tellUse_262 : decode cX6_tellUse 262 = .ok (.return_, 1) := dk_177 (dk_at dksX6_tellUse_11 9 rfl rfl)
abbrev cX6_tellTimes : ByteArray := prog_14_method_29_code
def yX6_tellTimes : MethodName := ⟨RX6, "tellTimes", "()V"⟩
def dkwX6_tellTimes_3 : List UInt8 := [181, 0, 227, 42, 89, 180, 0, 214, 6, 96, 181, 0, 214, 177]
abbrev dktX6_tellTimes_3 : List UInt8 := dkwX6_tellTimes_3 ++ []
def dkwX6_tellTimes_2 : List UInt8 := [180, 0, 88, 42, 180, 0, 227, 42, 180, 0, 70, 42, 180, 0, 248, 46, 79, 42, 89, 180, 0, 227, 4, 96]
abbrev dktX6_tellTimes_2 : List UInt8 := dkwX6_tellTimes_2 ++ dktX6_tellTimes_3
def dkwX6_tellTimes_1 : List UInt8 := [182, 0, 254, 42, 180, 0, 85, 42, 180, 0, 227, 42, 180, 0, 49, 42, 180, 0, 214, 4, 96, 46, 79, 42]
abbrev dktX6_tellTimes_1 : List UInt8 := dkwX6_tellTimes_1 ++ dktX6_tellTimes_2
def dkwX6_tellTimes_0 : List UInt8 := [42, 180, 0, 49, 42, 180, 0, 214, 4, 96, 46, 16, 20, 164, 0, 14, 42, 8, 42, 180, 0, 214, 4, 96]
abbrev dktX6_tellTimes_0 : List UInt8 := dkwX6_tellTimes_0 ++ dktX6_tellTimes_1
theorem dksX6_tellTimes_0 : cX6_tellTimes.data.toList.drop 0 = dktX6_tellTimes_0 := by decide +kernel
theorem dksX6_tellTimes_1 : cX6_tellTimes.data.toList.drop 24 = dktX6_tellTimes_1 := dk_seg dksX6_tellTimes_0 24 rfl rfl
theorem dksX6_tellTimes_2 : cX6_tellTimes.data.toList.drop 48 = dktX6_tellTimes_2 := dk_seg dksX6_tellTimes_1 24 rfl rfl
theorem dksX6_tellTimes_3 : cX6_tellTimes.data.toList.drop 72 = dktX6_tellTimes_3 := dk_seg dksX6_tellTimes_2 24 rfl rfl
theorem dX6_tellTimes_0 : decode cX6_tellTimes 0 = .ok (.aload_n 0, 1) := dk_42 (dk_at dksX6_tellTimes_0 0 rfl rfl)
theorem dX6_tellTimes_1 : decode cX6_tellTimes 1 = .ok (.getfield 49, 3) := dk_180 0 49 (dk_at dksX6_tellTimes_0 1 rfl rfl)
theorem dX6_tellTimes_4 : decode cX6_tellTimes 4 = .ok (.aload_n 0, 1) := dk_42 (dk_at dksX6_tellTimes_0 4 rfl rfl)
theorem dX6_tellTimes_5 : decode cX6_tellTimes 5 = .ok (.getfield 214, 3) := dk_180 0 214 (dk_at dksX6_tellTimes_0 5 rfl rfl)
theorem dX6_tellTimes_8 : decode cX6_tellTimes 8 = .ok (.iconst 1, 1) := dk_4 (dk_at dksX6_tellTimes_0 8 rfl rfl)
theorem dX6_tellTimes_9 : decode cX6_tellTimes 9 = .ok (.iadd, 1) := dk_96 (dk_at dksX6_tellTimes_0 9 rfl rfl)
theorem dX6_tellTimes_10 : decode cX6_tellTimes 10 = .ok (.iaload, 1) := dk_46 (dk_at dksX6_tellTimes_0 10 rfl rfl)
theorem dX6_tellTimes_11 : decode cX6_tellTimes 11 = .ok (.bipush 20, 2) := dk_16 20 (dk_at dksX6_tellTimes_0 11 rfl rfl)
theorem dX6_tellTimes_13 : decode cX6_tellTimes 13 = .ok (.if_icmp .le 14, 3) := dk_164 0 14 (dk_at dksX6_tellTimes_0 13 rfl rfl)
theorem dX6_tellTimes_16 : decode cX6_tellTimes 16 = .ok (.aload_n 0, 1) := dk_42 (dk_at dksX6_tellTimes_0 16 rfl rfl)
theorem dX6_tellTimes_17 : decode cX6_tellTimes 17 = .ok (.iconst 5, 1) := dk_8 (dk_at dksX6_tellTimes_0 17 rfl rfl)
theorem dX6_tellTimes_18 : decode cX6_tellTimes 18 = .ok (.aload_n 0, 1) := dk_42 (dk_at dksX6_tellTimes_0 18 rfl rfl)
theorem dX6_tellTimes_19 : decode cX6_tellTimes 19 = .ok (.getfield 214, 3) := dk_180 0 214 (dk_at dksX6_tellTimes_0 19 rfl rfl)
theorem dX6_tellTimes_22 : decode cX6_tellTimes 22 = .ok (.iconst 1, 1) := dk_4 (dk_at dksX6_tellTimes_0 22 rfl rfl)
theorem dX6_tellTimes_23 : decode cX6_tellTimes 23 = .ok (.iadd, 1) := dk_96 (dk_at dksX6_tellTimes_0 23 rfl rfl)
theorem dX6_tellTimes_24 : decode cX6_tellTimes 24 = .ok (.invokevirtual 254, 3) := dk_182 0 254 (dk_at dksX6_tellTimes_1 0 rfl rfl)
theorem dX6_tellTimes_27 : decode cX6_tellTimes 27 = .ok (.aload_n 0, 1) := dk_42 (dk_at dksX6_tellTimes_1 3 rfl rfl)
theorem dX6_tellTimes_28 : decode cX6_tellTimes 28 = .ok (.getfield 85, 3) := dk_180 0 85 (dk_at dksX6_tellTimes_1 4 rfl rfl)
theorem dX6_tellTimes_31 : decode cX6_tellTimes 31 = .ok (.aload_n 0, 1) := dk_42 (dk_at dksX6_tellTimes_1 7 rfl rfl)
theorem dX6_tellTimes_32 : decode cX6_tellTimes 32 = .ok (.getfield 227, 3) := dk_180 0 227 (dk_at dksX6_tellTimes_1 8 rfl rfl)
theorem dX6_tellTimes_35 : decode cX6_tellTimes 35 = .ok (.aload_n 0, 1) := dk_42 (dk_at dksX6_tellTimes_1 11 rfl rfl)
theorem dX6_tellTimes_36 : decode cX6_tellTimes 36 = .ok (.getfield 49, 3) := dk_180 0 49 (dk_at dksX6_tellTimes_1 12 rfl rfl)
theorem dX6_tellTimes_39 : decode cX6_tellTimes 39 = .ok (.aload_n 0, 1) := dk_42 (dk_at dksX6_tellTimes_1 15 rfl rfl)
theorem dX6_tellTimes_40 : decode cX6_tellTimes 40 = .ok (.getfield 214, 3) := dk_180 0 214 (dk_at dksX6_tellTimes_1 16 rfl rfl)
theorem dX6_tellTimes_43 : decode cX6_tellTimes 43 = .ok (.iconst 1, 1) := dk_4 (dk_at dksX6_tellTimes_1 19 rfl rfl)
theorem dX6_tellTimes_44 : decode cX6_tellTimes 44 = .ok (.iadd, 1) := dk_96 (dk_at dksX6_tellTimes_1 20 rfl rfl)
theorem dX6_tellTimes_45 : decode cX6_tellTimes 45 = .ok (.iaload, 1) := dk_46 (dk_at dksX6_tellTimes_1 21 rfl rfl)
theorem dX6_tellTimes_46 : decode cX6_tellTimes 46 = .ok (.iastore, 1) := dk_79 (dk_at dksX6_tellTimes_1 22 rfl rfl)
theorem dX6_tellTimes_47 : decode cX6_tellTimes 47 = .ok (.aload_n 0, 1) := dk_42 (dk_at dksX6_tellTimes_1 23 rfl rfl)
theorem dX6_tellTimes_48 : decode cX6_tellTimes 48 = .ok (.getfield 88, 3) := dk_180 0 88 (dk_at dksX6_tellTimes_2 0 rfl rfl)
theorem dX6_tellTimes_51 : decode cX6_tellTimes 51 = .ok (.aload_n 0, 1) := dk_42 (dk_at dksX6_tellTimes_2 3 rfl rfl)
theorem dX6_tellTimes_52 : decode cX6_tellTimes 52 = .ok (.getfield 227, 3) := dk_180 0 227 (dk_at dksX6_tellTimes_2 4 rfl rfl)
theorem dX6_tellTimes_55 : decode cX6_tellTimes 55 = .ok (.aload_n 0, 1) := dk_42 (dk_at dksX6_tellTimes_2 7 rfl rfl)
theorem dX6_tellTimes_56 : decode cX6_tellTimes 56 = .ok (.getfield 70, 3) := dk_180 0 70 (dk_at dksX6_tellTimes_2 8 rfl rfl)
theorem dX6_tellTimes_59 : decode cX6_tellTimes 59 = .ok (.aload_n 0, 1) := dk_42 (dk_at dksX6_tellTimes_2 11 rfl rfl)
theorem dX6_tellTimes_60 : decode cX6_tellTimes 60 = .ok (.getfield 248, 3) := dk_180 0 248 (dk_at dksX6_tellTimes_2 12 rfl rfl)
theorem dX6_tellTimes_63 : decode cX6_tellTimes 63 = .ok (.iaload, 1) := dk_46 (dk_at dksX6_tellTimes_2 15 rfl rfl)
theorem dX6_tellTimes_64 : decode cX6_tellTimes 64 = .ok (.iastore, 1) := dk_79 (dk_at dksX6_tellTimes_2 16 rfl rfl)
theorem dX6_tellTimes_65 : decode cX6_tellTimes 65 = .ok (.aload_n 0, 1) := dk_42 (dk_at dksX6_tellTimes_2 17 rfl rfl)
theorem dX6_tellTimes_66 : decode cX6_tellTimes 66 = .ok (.dup, 1) := dk_89 (dk_at dksX6_tellTimes_2 18 rfl rfl)
theorem dX6_tellTimes_67 : decode cX6_tellTimes 67 = .ok (.getfield 227, 3) := dk_180 0 227 (dk_at dksX6_tellTimes_2 19 rfl rfl)
theorem dX6_tellTimes_70 : decode cX6_tellTimes 70 = .ok (.iconst 1, 1) := dk_4 (dk_at dksX6_tellTimes_2 22 rfl rfl)
theorem dX6_tellTimes_71 : decode cX6_tellTimes 71 = .ok (.iadd, 1) := dk_96 (dk_at dksX6_tellTimes_2 23 rfl rfl)
theorem dX6_tellTimes_72 : decode cX6_tellTimes 72 = .ok (.putfield 227, 3) := dk_181 0 227 (dk_at dksX6_tellTimes_3 0 rfl rfl)
theorem dX6_tellTimes_75 : decode cX6_tellTimes 75 = .ok (.aload_n 0, 1) := dk_42 (dk_at dksX6_tellTimes_3 3 rfl rfl)
theorem dX6_tellTimes_76 : decode cX6_tellTimes 76 = .ok (.dup, 1) := dk_89 (dk_at dksX6_tellTimes_3 4 rfl rfl)
theorem dX6_tellTimes_77 : decode cX6_tellTimes 77 = .ok (.getfield 214, 3) := dk_180 0 214 (dk_at dksX6_tellTimes_3 5 rfl rfl)
theorem dX6_tellTimes_80 : decode cX6_tellTimes 80 = .ok (.iconst 3, 1) := dk_6 (dk_at dksX6_tellTimes_3 8 rfl rfl)
theorem dX6_tellTimes_81 : decode cX6_tellTimes 81 = .ok (.iadd, 1) := dk_96 (dk_at dksX6_tellTimes_3 9 rfl rfl)
theorem dX6_tellTimes_82 : decode cX6_tellTimes 82 = .ok (.putfield 214, 3) := dk_181 0 214 (dk_at dksX6_tellTimes_3 10 rfl rfl)
theorem dX6_tellTimes_85 : decode cX6_tellTimes 85 = .ok (.return_, 1) := dk_177 (dk_at dksX6_tellTimes_3 13 rfl rfl)
abbrev cX6_tellElement : ByteArray := prog_14_method_25_code
def yX6_tellElement : MethodName := ⟨RX6, "tellElement", "(I)V"⟩
def dkwX6_tellElement_1 : List UInt8 := [46, 3, 4, 182, 1, 5, 42, 89, 180, 0, 214, 6, 96, 181, 0, 214, 177]
abbrev dktX6_tellElement_1 : List UInt8 := dkwX6_tellElement_1 ++ []
def dkwX6_tellElement_0 : List UInt8 := [42, 42, 180, 0, 214, 4, 96, 182, 1, 2, 42, 27, 5, 100, 42, 180, 0, 49, 42, 180, 0, 214, 4, 96]
abbrev dktX6_tellElement_0 : List UInt8 := dkwX6_tellElement_0 ++ dktX6_tellElement_1
theorem dksX6_tellElement_0 : cX6_tellElement.data.toList.drop 0 = dktX6_tellElement_0 := by decide +kernel
theorem dksX6_tellElement_1 : cX6_tellElement.data.toList.drop 24 = dktX6_tellElement_1 := dk_seg dksX6_tellElement_0 24 rfl rfl
theorem dX6_tellElement_0 : decode cX6_tellElement 0 = .ok (.aload_n 0, 1) := dk_42 (dk_at dksX6_tellElement_0 0 rfl rfl)
theorem dX6_tellElement_1 : decode cX6_tellElement 1 = .ok (.aload_n 0, 1) := dk_42 (dk_at dksX6_tellElement_0 1 rfl rfl)
theorem dX6_tellElement_2 : decode cX6_tellElement 2 = .ok (.getfield 214, 3) := dk_180 0 214 (dk_at dksX6_tellElement_0 2 rfl rfl)
theorem dX6_tellElement_5 : decode cX6_tellElement 5 = .ok (.iconst 1, 1) := dk_4 (dk_at dksX6_tellElement_0 5 rfl rfl)
theorem dX6_tellElement_6 : decode cX6_tellElement 6 = .ok (.iadd, 1) := dk_96 (dk_at dksX6_tellElement_0 6 rfl rfl)
theorem dX6_tellElement_7 : decode cX6_tellElement 7 = .ok (.invokevirtual 258, 3) := dk_182 1 2 (dk_at dksX6_tellElement_0 7 rfl rfl)
theorem dX6_tellElement_10 : decode cX6_tellElement 10 = .ok (.aload_n 0, 1) := dk_42 (dk_at dksX6_tellElement_0 10 rfl rfl)
theorem dX6_tellElement_11 : decode cX6_tellElement 11 = .ok (.iload_n 1, 1) := dk_27 (dk_at dksX6_tellElement_0 11 rfl rfl)
theorem dX6_tellElement_12 : decode cX6_tellElement 12 = .ok (.iconst 2, 1) := dk_5 (dk_at dksX6_tellElement_0 12 rfl rfl)
theorem dX6_tellElement_13 : decode cX6_tellElement 13 = .ok (.isub, 1) := dk_100 (dk_at dksX6_tellElement_0 13 rfl rfl)
theorem dX6_tellElement_14 : decode cX6_tellElement 14 = .ok (.aload_n 0, 1) := dk_42 (dk_at dksX6_tellElement_0 14 rfl rfl)
theorem dX6_tellElement_15 : decode cX6_tellElement 15 = .ok (.getfield 49, 3) := dk_180 0 49 (dk_at dksX6_tellElement_0 15 rfl rfl)
theorem dX6_tellElement_18 : decode cX6_tellElement 18 = .ok (.aload_n 0, 1) := dk_42 (dk_at dksX6_tellElement_0 18 rfl rfl)
theorem dX6_tellElement_19 : decode cX6_tellElement 19 = .ok (.getfield 214, 3) := dk_180 0 214 (dk_at dksX6_tellElement_0 19 rfl rfl)
theorem dX6_tellElement_22 : decode cX6_tellElement 22 = .ok (.iconst 1, 1) := dk_4 (dk_at dksX6_tellElement_0 22 rfl rfl)
theorem dX6_tellElement_23 : decode cX6_tellElement 23 = .ok (.iadd, 1) := dk_96 (dk_at dksX6_tellElement_0 23 rfl rfl)
theorem dX6_tellElement_24 : decode cX6_tellElement 24 = .ok (.iaload, 1) := dk_46 (dk_at dksX6_tellElement_1 0 rfl rfl)
theorem dX6_tellElement_25 : decode cX6_tellElement 25 = .ok (.iconst 0, 1) := dk_3 (dk_at dksX6_tellElement_1 1 rfl rfl)
theorem dX6_tellElement_26 : decode cX6_tellElement 26 = .ok (.iconst 1, 1) := dk_4 (dk_at dksX6_tellElement_1 2 rfl rfl)
theorem dX6_tellElement_27 : decode cX6_tellElement 27 = .ok (.invokevirtual 261, 3) := dk_182 1 5 (dk_at dksX6_tellElement_1 3 rfl rfl)
theorem dX6_tellElement_30 : decode cX6_tellElement 30 = .ok (.aload_n 0, 1) := dk_42 (dk_at dksX6_tellElement_1 6 rfl rfl)
theorem dX6_tellElement_31 : decode cX6_tellElement 31 = .ok (.dup, 1) := dk_89 (dk_at dksX6_tellElement_1 7 rfl rfl)
theorem dX6_tellElement_32 : decode cX6_tellElement 32 = .ok (.getfield 214, 3) := dk_180 0 214 (dk_at dksX6_tellElement_1 8 rfl rfl)
theorem dX6_tellElement_35 : decode cX6_tellElement 35 = .ok (.iconst 3, 1) := dk_6 (dk_at dksX6_tellElement_1 11 rfl rfl)
theorem dX6_tellElement_36 : decode cX6_tellElement 36 = .ok (.iadd, 1) := dk_96 (dk_at dksX6_tellElement_1 12 rfl rfl)
theorem dX6_tellElement_37 : decode cX6_tellElement 37 = .ok (.putfield 214, 3) := dk_181 0 214 (dk_at dksX6_tellElement_1 13 rfl rfl)
theorem dX6_tellElement_40 : decode cX6_tellElement 40 = .ok (.return_, 1) := dk_177 (dk_at dksX6_tellElement_1 16 rfl rfl)
abbrev cX6_begin : ByteArray := prog_14_method_34_code
def yX6_begin : MethodName := ⟨RX6, "begin", "(I)V"⟩
def dkwX6_begin_1 : List UInt8 := [180, 1, 30, 4, 96, 181, 1, 30, 177]
abbrev dktX6_begin_1 : List UInt8 := dkwX6_begin_1 ++ []
def dkwX6_begin_0 : List UInt8 := [42, 180, 0, 7, 42, 180, 1, 30, 27, 79, 42, 180, 0, 13, 42, 180, 1, 30, 3, 79, 42, 89]
abbrev dktX6_begin_0 : List UInt8 := dkwX6_begin_0 ++ dktX6_begin_1
theorem dksX6_begin_0 : cX6_begin.data.toList.drop 0 = dktX6_begin_0 := by decide +kernel
theorem dksX6_begin_1 : cX6_begin.data.toList.drop 22 = dktX6_begin_1 := dk_seg dksX6_begin_0 22 rfl rfl
theorem dX6_begin_0 : decode cX6_begin 0 = .ok (.aload_n 0, 1) := dk_42 (dk_at dksX6_begin_0 0 rfl rfl)
theorem dX6_begin_1 : decode cX6_begin 1 = .ok (.getfield 7, 3) := dk_180 0 7 (dk_at dksX6_begin_0 1 rfl rfl)
theorem dX6_begin_4 : decode cX6_begin 4 = .ok (.aload_n 0, 1) := dk_42 (dk_at dksX6_begin_0 4 rfl rfl)
theorem dX6_begin_5 : decode cX6_begin 5 = .ok (.getfield 286, 3) := dk_180 1 30 (dk_at dksX6_begin_0 5 rfl rfl)
theorem dX6_begin_8 : decode cX6_begin 8 = .ok (.iload_n 1, 1) := dk_27 (dk_at dksX6_begin_0 8 rfl rfl)
theorem dX6_begin_9 : decode cX6_begin 9 = .ok (.iastore, 1) := dk_79 (dk_at dksX6_begin_0 9 rfl rfl)
theorem dX6_begin_10 : decode cX6_begin 10 = .ok (.aload_n 0, 1) := dk_42 (dk_at dksX6_begin_0 10 rfl rfl)
theorem dX6_begin_11 : decode cX6_begin 11 = .ok (.getfield 13, 3) := dk_180 0 13 (dk_at dksX6_begin_0 11 rfl rfl)
theorem dX6_begin_14 : decode cX6_begin 14 = .ok (.aload_n 0, 1) := dk_42 (dk_at dksX6_begin_0 14 rfl rfl)
theorem dX6_begin_15 : decode cX6_begin 15 = .ok (.getfield 286, 3) := dk_180 1 30 (dk_at dksX6_begin_0 15 rfl rfl)
theorem dX6_begin_18 : decode cX6_begin 18 = .ok (.iconst 0, 1) := dk_3 (dk_at dksX6_begin_0 18 rfl rfl)
theorem dX6_begin_19 : decode cX6_begin 19 = .ok (.iastore, 1) := dk_79 (dk_at dksX6_begin_0 19 rfl rfl)
theorem dX6_begin_20 : decode cX6_begin 20 = .ok (.aload_n 0, 1) := dk_42 (dk_at dksX6_begin_0 20 rfl rfl)
theorem dX6_begin_21 : decode cX6_begin 21 = .ok (.dup, 1) := dk_89 (dk_at dksX6_begin_0 21 rfl rfl)
theorem dX6_begin_22 : decode cX6_begin 22 = .ok (.getfield 286, 3) := dk_180 1 30 (dk_at dksX6_begin_1 0 rfl rfl)
theorem dX6_begin_25 : decode cX6_begin 25 = .ok (.iconst 1, 1) := dk_4 (dk_at dksX6_begin_1 3 rfl rfl)
theorem dX6_begin_26 : decode cX6_begin 26 = .ok (.iadd, 1) := dk_96 (dk_at dksX6_begin_1 4 rfl rfl)
theorem dX6_begin_27 : decode cX6_begin 27 = .ok (.putfield 286, 3) := dk_181 1 30 (dk_at dksX6_begin_1 5 rfl rfl)
theorem dX6_begin_30 : decode cX6_begin 30 = .ok (.return_, 1) := dk_177 (dk_at dksX6_begin_1 8 rfl rfl)
abbrev cX6_add : ByteArray := prog_14_method_35_code
def yX6_add : MethodName := ⟨RX6, "add", "(IIII)V"⟩
def dkwX6_add_2 : List UInt8 := [42, 180, 0, 25, 21, 6, 21, 4, 79, 42, 180, 0, 13, 21, 5, 92, 46, 4, 96, 79, 177]
abbrev dktX6_add_2 : List UInt8 := dkwX6_add_2 ++ []
def dkwX6_add_1 : List UInt8 := [42, 180, 0, 16, 21, 6, 27, 79, 42, 180, 0, 19, 21, 6, 28, 79, 42, 180, 0, 22, 21, 6, 29, 79]
abbrev dktX6_add_1 : List UInt8 := dkwX6_add_1 ++ dktX6_add_2
def dkwX6_add_0 : List UInt8 := [42, 180, 1, 30, 4, 100, 54, 5, 17, 0, 200, 21, 5, 104, 42, 180, 0, 13, 21, 5, 46, 96, 54, 6]
abbrev dktX6_add_0 : List UInt8 := dkwX6_add_0 ++ dktX6_add_1
theorem dksX6_add_0 : cX6_add.data.toList.drop 0 = dktX6_add_0 := by decide +kernel
theorem dksX6_add_1 : cX6_add.data.toList.drop 24 = dktX6_add_1 := dk_seg dksX6_add_0 24 rfl rfl
theorem dksX6_add_2 : cX6_add.data.toList.drop 48 = dktX6_add_2 := dk_seg dksX6_add_1 24 rfl rfl
theorem dX6_add_0 : decode cX6_add 0 = .ok (.aload_n 0, 1) := dk_42 (dk_at dksX6_add_0 0 rfl rfl)
theorem dX6_add_1 : decode cX6_add 1 = .ok (.getfield 286, 3) := dk_180 1 30 (dk_at dksX6_add_0 1 rfl rfl)
theorem dX6_add_4 : decode cX6_add 4 = .ok (.iconst 1, 1) := dk_4 (dk_at dksX6_add_0 4 rfl rfl)
theorem dX6_add_5 : decode cX6_add 5 = .ok (.isub, 1) := dk_100 (dk_at dksX6_add_0 5 rfl rfl)
theorem dX6_add_6 : decode cX6_add 6 = .ok (.istore 5, 2) := dk_54 5 (dk_at dksX6_add_0 6 rfl rfl)
theorem dX6_add_8 : decode cX6_add 8 = .ok (.sipush 200, 3) := dk_17 0 200 (dk_at dksX6_add_0 8 rfl rfl)
theorem dX6_add_11 : decode cX6_add 11 = .ok (.iload 5, 2) := dk_21 5 (dk_at dksX6_add_0 11 rfl rfl)
theorem dX6_add_13 : decode cX6_add 13 = .ok (.imul, 1) := dk_104 (dk_at dksX6_add_0 13 rfl rfl)
theorem dX6_add_14 : decode cX6_add 14 = .ok (.aload_n 0, 1) := dk_42 (dk_at dksX6_add_0 14 rfl rfl)
theorem dX6_add_15 : decode cX6_add 15 = .ok (.getfield 13, 3) := dk_180 0 13 (dk_at dksX6_add_0 15 rfl rfl)
theorem dX6_add_18 : decode cX6_add 18 = .ok (.iload 5, 2) := dk_21 5 (dk_at dksX6_add_0 18 rfl rfl)
theorem dX6_add_20 : decode cX6_add 20 = .ok (.iaload, 1) := dk_46 (dk_at dksX6_add_0 20 rfl rfl)
theorem dX6_add_21 : decode cX6_add 21 = .ok (.iadd, 1) := dk_96 (dk_at dksX6_add_0 21 rfl rfl)
theorem dX6_add_22 : decode cX6_add 22 = .ok (.istore 6, 2) := dk_54 6 (dk_at dksX6_add_0 22 rfl rfl)
theorem dX6_add_24 : decode cX6_add 24 = .ok (.aload_n 0, 1) := dk_42 (dk_at dksX6_add_1 0 rfl rfl)
theorem dX6_add_25 : decode cX6_add 25 = .ok (.getfield 16, 3) := dk_180 0 16 (dk_at dksX6_add_1 1 rfl rfl)
theorem dX6_add_28 : decode cX6_add 28 = .ok (.iload 6, 2) := dk_21 6 (dk_at dksX6_add_1 4 rfl rfl)
theorem dX6_add_30 : decode cX6_add 30 = .ok (.iload_n 1, 1) := dk_27 (dk_at dksX6_add_1 6 rfl rfl)
theorem dX6_add_31 : decode cX6_add 31 = .ok (.iastore, 1) := dk_79 (dk_at dksX6_add_1 7 rfl rfl)
theorem dX6_add_32 : decode cX6_add 32 = .ok (.aload_n 0, 1) := dk_42 (dk_at dksX6_add_1 8 rfl rfl)
theorem dX6_add_33 : decode cX6_add 33 = .ok (.getfield 19, 3) := dk_180 0 19 (dk_at dksX6_add_1 9 rfl rfl)
theorem dX6_add_36 : decode cX6_add 36 = .ok (.iload 6, 2) := dk_21 6 (dk_at dksX6_add_1 12 rfl rfl)
theorem dX6_add_38 : decode cX6_add 38 = .ok (.iload_n 2, 1) := dk_28 (dk_at dksX6_add_1 14 rfl rfl)
theorem dX6_add_39 : decode cX6_add 39 = .ok (.iastore, 1) := dk_79 (dk_at dksX6_add_1 15 rfl rfl)
theorem dX6_add_40 : decode cX6_add 40 = .ok (.aload_n 0, 1) := dk_42 (dk_at dksX6_add_1 16 rfl rfl)
theorem dX6_add_41 : decode cX6_add 41 = .ok (.getfield 22, 3) := dk_180 0 22 (dk_at dksX6_add_1 17 rfl rfl)
theorem dX6_add_44 : decode cX6_add 44 = .ok (.iload 6, 2) := dk_21 6 (dk_at dksX6_add_1 20 rfl rfl)
theorem dX6_add_46 : decode cX6_add 46 = .ok (.iload_n 3, 1) := dk_29 (dk_at dksX6_add_1 22 rfl rfl)
theorem dX6_add_47 : decode cX6_add 47 = .ok (.iastore, 1) := dk_79 (dk_at dksX6_add_1 23 rfl rfl)
theorem dX6_add_48 : decode cX6_add 48 = .ok (.aload_n 0, 1) := dk_42 (dk_at dksX6_add_2 0 rfl rfl)
theorem dX6_add_49 : decode cX6_add 49 = .ok (.getfield 25, 3) := dk_180 0 25 (dk_at dksX6_add_2 1 rfl rfl)
theorem dX6_add_52 : decode cX6_add 52 = .ok (.iload 6, 2) := dk_21 6 (dk_at dksX6_add_2 4 rfl rfl)
theorem dX6_add_54 : decode cX6_add 54 = .ok (.iload 4, 2) := dk_21 4 (dk_at dksX6_add_2 6 rfl rfl)
theorem dX6_add_56 : decode cX6_add 56 = .ok (.iastore, 1) := dk_79 (dk_at dksX6_add_2 8 rfl rfl)
theorem dX6_add_57 : decode cX6_add 57 = .ok (.aload_n 0, 1) := dk_42 (dk_at dksX6_add_2 9 rfl rfl)
theorem dX6_add_58 : decode cX6_add 58 = .ok (.getfield 13, 3) := dk_180 0 13 (dk_at dksX6_add_2 10 rfl rfl)
theorem dX6_add_61 : decode cX6_add 61 = .ok (.iload 5, 2) := dk_21 5 (dk_at dksX6_add_2 13 rfl rfl)
theorem dX6_add_63 : decode cX6_add 63 = .ok (.dup2, 1) := dk_92 (dk_at dksX6_add_2 15 rfl rfl)
theorem dX6_add_64 : decode cX6_add 64 = .ok (.iaload, 1) := dk_46 (dk_at dksX6_add_2 16 rfl rfl)
theorem dX6_add_65 : decode cX6_add 65 = .ok (.iconst 1, 1) := dk_4 (dk_at dksX6_add_2 17 rfl rfl)
theorem dX6_add_66 : decode cX6_add 66 = .ok (.iadd, 1) := dk_96 (dk_at dksX6_add_2 18 rfl rfl)
theorem dX6_add_67 : decode cX6_add 67 = .ok (.iastore, 1) := dk_79 (dk_at dksX6_add_2 19 rfl rfl)
theorem dX6_add_68 : decode cX6_add 68 = .ok (.return_, 1) := dk_177 (dk_at dksX6_add_2 20 rfl rfl)
abbrev cX6_place : ByteArray := prog_14_method_33_code
def yX6_place : MethodName := ⟨RX6, "place", "()I"⟩
theorem dX6_place_0 : decode cX6_place 0 = .ok (.aload_n 0, 1) := by decide +kernel
theorem dX6_place_1 : decode cX6_place 1 = .ok (.getfield 56, 3) := by decide +kernel
theorem dX6_place_4 : decode cX6_place 4 = .ok (.ireturn, 1) := by decide +kernel
abbrev cX6_clear : ByteArray := prog_14_method_39_code
def yX6_clear : MethodName := ⟨RX6, "clear", "()I"⟩
def dkwX6_clear_0 : List UInt8 := [42, 180, 1, 30, 60, 42, 3, 181, 1, 30, 42, 3, 181, 1, 48, 27, 172]
abbrev dktX6_clear_0 : List UInt8 := dkwX6_clear_0 ++ []
theorem dksX6_clear_0 : cX6_clear.data.toList.drop 0 = dktX6_clear_0 := by decide +kernel
theorem dX6_clear_0 : decode cX6_clear 0 = .ok (.aload_n 0, 1) := dk_42 (dk_at dksX6_clear_0 0 rfl rfl)
theorem dX6_clear_1 : decode cX6_clear 1 = .ok (.getfield 286, 3) := dk_180 1 30 (dk_at dksX6_clear_0 1 rfl rfl)
theorem dX6_clear_4 : decode cX6_clear 4 = .ok (.istore_n 1, 1) := dk_60 (dk_at dksX6_clear_0 4 rfl rfl)
theorem dX6_clear_5 : decode cX6_clear 5 = .ok (.aload_n 0, 1) := dk_42 (dk_at dksX6_clear_0 5 rfl rfl)
theorem dX6_clear_6 : decode cX6_clear 6 = .ok (.iconst 0, 1) := dk_3 (dk_at dksX6_clear_0 6 rfl rfl)
theorem dX6_clear_7 : decode cX6_clear 7 = .ok (.putfield 286, 3) := dk_181 1 30 (dk_at dksX6_clear_0 7 rfl rfl)
theorem dX6_clear_10 : decode cX6_clear 10 = .ok (.aload_n 0, 1) := dk_42 (dk_at dksX6_clear_0 10 rfl rfl)
theorem dX6_clear_11 : decode cX6_clear 11 = .ok (.iconst 0, 1) := dk_3 (dk_at dksX6_clear_0 11 rfl rfl)
theorem dX6_clear_12 : decode cX6_clear 12 = .ok (.putfield 304, 3) := dk_181 1 48 (dk_at dksX6_clear_0 12 rfl rfl)
theorem dX6_clear_15 : decode cX6_clear 15 = .ok (.iload_n 1, 1) := dk_27 (dk_at dksX6_clear_0 15 rfl rfl)
theorem dX6_clear_16 : decode cX6_clear 16 = .ok (.ireturn, 1) := dk_172 (dk_at dksX6_clear_0 16 rfl rfl)
abbrev cX6_copy : ByteArray := prog_14_method_40_code
def yX6_copy : MethodName := ⟨RX6, "copy", "(IZZ)I"⟩
def dkwX6_copy_6 : List UInt8 := [42, 180, 0, 25, 21, 5, 46, 182, 1, 45, 132, 4, 1, 167, 255, 133, 42, 180, 1, 30, 4, 100, 172]
abbrev dktX6_copy_6 : List UInt8 := dkwX6_copy_6 ++ []
def dkwX6_copy_5 : List UInt8 := [180, 0, 19, 21, 5, 46, 100, 167, 0, 10, 42, 180, 0, 19, 21, 5, 46, 42, 180, 0, 22, 21, 5, 46]
abbrev dktX6_copy_5 : List UInt8 := dkwX6_copy_5 ++ dktX6_copy_6
def dkwX6_copy_4 : List UInt8 := [6, 21, 6, 100, 54, 6, 42, 21, 6, 29, 153, 0, 22, 42, 180, 0, 7, 27, 46, 5, 100, 42]
abbrev dktX6_copy_4 : List UInt8 := dkwX6_copy_4 ++ dktX6_copy_5
def dkwX6_copy_3 : List UInt8 := [180, 0, 16, 21, 5, 46, 54, 6, 29, 153, 0, 21, 21, 6, 4, 159, 0, 9, 21, 6, 5, 160, 0, 9]
abbrev dktX6_copy_3 : List UInt8 := dkwX6_copy_3 ++ dktX6_copy_4
def dkwX6_copy_2 : List UInt8 := [28, 153, 0, 17, 42, 180, 0, 13, 27, 46, 4, 100, 21, 4, 100, 167, 0, 5, 21, 4, 96, 54, 5, 42]
abbrev dktX6_copy_2 : List UInt8 := dkwX6_copy_2 ++ dktX6_copy_3
def dkwX6_copy_1 : List UInt8 := [27, 46, 182, 1, 42, 3, 54, 4, 21, 4, 42, 180, 0, 13, 27, 46, 162, 0, 118, 17, 0, 200, 27, 104]
abbrev dktX6_copy_1 : List UInt8 := dkwX6_copy_1 ++ dktX6_copy_2
def dkwX6_copy_0 : List UInt8 := [42, 180, 1, 30, 16, 6, 159, 0, 11, 42, 27, 182, 1, 51, 154, 0, 5, 2, 172, 42, 42, 180, 0, 7]
abbrev dktX6_copy_0 : List UInt8 := dkwX6_copy_0 ++ dktX6_copy_1
theorem dksX6_copy_0 : cX6_copy.data.toList.drop 0 = dktX6_copy_0 := by decide +kernel
theorem dksX6_copy_1 : cX6_copy.data.toList.drop 24 = dktX6_copy_1 := dk_seg dksX6_copy_0 24 rfl rfl
theorem dksX6_copy_2 : cX6_copy.data.toList.drop 48 = dktX6_copy_2 := dk_seg dksX6_copy_1 24 rfl rfl
theorem dksX6_copy_3 : cX6_copy.data.toList.drop 72 = dktX6_copy_3 := dk_seg dksX6_copy_2 24 rfl rfl
theorem dksX6_copy_4 : cX6_copy.data.toList.drop 96 = dktX6_copy_4 := dk_seg dksX6_copy_3 24 rfl rfl
theorem dksX6_copy_5 : cX6_copy.data.toList.drop 118 = dktX6_copy_5 := dk_seg dksX6_copy_4 22 rfl rfl
theorem dksX6_copy_6 : cX6_copy.data.toList.drop 142 = dktX6_copy_6 := dk_seg dksX6_copy_5 24 rfl rfl
theorem dX6_copy_0 : decode cX6_copy 0 = .ok (.aload_n 0, 1) := dk_42 (dk_at dksX6_copy_0 0 rfl rfl)
theorem dX6_copy_1 : decode cX6_copy 1 = .ok (.getfield 286, 3) := dk_180 1 30 (dk_at dksX6_copy_0 1 rfl rfl)
theorem dX6_copy_4 : decode cX6_copy 4 = .ok (.bipush 6, 2) := dk_16 6 (dk_at dksX6_copy_0 4 rfl rfl)
theorem dX6_copy_6 : decode cX6_copy 6 = .ok (.if_icmp .eq 11, 3) := dk_159 0 11 (dk_at dksX6_copy_0 6 rfl rfl)
theorem dX6_copy_9 : decode cX6_copy 9 = .ok (.aload_n 0, 1) := dk_42 (dk_at dksX6_copy_0 9 rfl rfl)
theorem dX6_copy_10 : decode cX6_copy 10 = .ok (.iload_n 1, 1) := dk_27 (dk_at dksX6_copy_0 10 rfl rfl)
theorem dX6_copy_11 : decode cX6_copy 11 = .ok (.invokevirtual 307, 3) := dk_182 1 51 (dk_at dksX6_copy_0 11 rfl rfl)
theorem dX6_copy_14 : decode cX6_copy 14 = .ok (.ifCond .ne 5, 3) := dk_154 0 5 (dk_at dksX6_copy_0 14 rfl rfl)
theorem dX6_copy_17 : decode cX6_copy 17 = .ok (.iconst (-1), 1) := dk_2 (dk_at dksX6_copy_0 17 rfl rfl)
theorem dX6_copy_18 : decode cX6_copy 18 = .ok (.ireturn, 1) := dk_172 (dk_at dksX6_copy_0 18 rfl rfl)
theorem dX6_copy_19 : decode cX6_copy 19 = .ok (.aload_n 0, 1) := dk_42 (dk_at dksX6_copy_0 19 rfl rfl)
theorem dX6_copy_20 : decode cX6_copy 20 = .ok (.aload_n 0, 1) := dk_42 (dk_at dksX6_copy_0 20 rfl rfl)
theorem dX6_copy_21 : decode cX6_copy 21 = .ok (.getfield 7, 3) := dk_180 0 7 (dk_at dksX6_copy_0 21 rfl rfl)
theorem dX6_copy_24 : decode cX6_copy 24 = .ok (.iload_n 1, 1) := dk_27 (dk_at dksX6_copy_1 0 rfl rfl)
theorem dX6_copy_25 : decode cX6_copy 25 = .ok (.iaload, 1) := dk_46 (dk_at dksX6_copy_1 1 rfl rfl)
theorem dX6_copy_26 : decode cX6_copy 26 = .ok (.invokevirtual 298, 3) := dk_182 1 42 (dk_at dksX6_copy_1 2 rfl rfl)
theorem dX6_copy_29 : decode cX6_copy 29 = .ok (.iconst 0, 1) := dk_3 (dk_at dksX6_copy_1 5 rfl rfl)
theorem dX6_copy_30 : decode cX6_copy 30 = .ok (.istore 4, 2) := dk_54 4 (dk_at dksX6_copy_1 6 rfl rfl)
theorem dX6_copy_32 : decode cX6_copy 32 = .ok (.iload 4, 2) := dk_21 4 (dk_at dksX6_copy_1 8 rfl rfl)
theorem dX6_copy_34 : decode cX6_copy 34 = .ok (.aload_n 0, 1) := dk_42 (dk_at dksX6_copy_1 10 rfl rfl)
theorem dX6_copy_35 : decode cX6_copy 35 = .ok (.getfield 13, 3) := dk_180 0 13 (dk_at dksX6_copy_1 11 rfl rfl)
theorem dX6_copy_38 : decode cX6_copy 38 = .ok (.iload_n 1, 1) := dk_27 (dk_at dksX6_copy_1 14 rfl rfl)
theorem dX6_copy_39 : decode cX6_copy 39 = .ok (.iaload, 1) := dk_46 (dk_at dksX6_copy_1 15 rfl rfl)
theorem dX6_copy_40 : decode cX6_copy 40 = .ok (.if_icmp .ge 118, 3) := dk_162 0 118 (dk_at dksX6_copy_1 16 rfl rfl)
theorem dX6_copy_43 : decode cX6_copy 43 = .ok (.sipush 200, 3) := dk_17 0 200 (dk_at dksX6_copy_1 19 rfl rfl)
theorem dX6_copy_46 : decode cX6_copy 46 = .ok (.iload_n 1, 1) := dk_27 (dk_at dksX6_copy_1 22 rfl rfl)
theorem dX6_copy_47 : decode cX6_copy 47 = .ok (.imul, 1) := dk_104 (dk_at dksX6_copy_1 23 rfl rfl)
theorem dX6_copy_48 : decode cX6_copy 48 = .ok (.iload_n 2, 1) := dk_28 (dk_at dksX6_copy_2 0 rfl rfl)
theorem dX6_copy_49 : decode cX6_copy 49 = .ok (.ifCond .eq 17, 3) := dk_153 0 17 (dk_at dksX6_copy_2 1 rfl rfl)
theorem dX6_copy_52 : decode cX6_copy 52 = .ok (.aload_n 0, 1) := dk_42 (dk_at dksX6_copy_2 4 rfl rfl)
theorem dX6_copy_53 : decode cX6_copy 53 = .ok (.getfield 13, 3) := dk_180 0 13 (dk_at dksX6_copy_2 5 rfl rfl)
theorem dX6_copy_56 : decode cX6_copy 56 = .ok (.iload_n 1, 1) := dk_27 (dk_at dksX6_copy_2 8 rfl rfl)
theorem dX6_copy_57 : decode cX6_copy 57 = .ok (.iaload, 1) := dk_46 (dk_at dksX6_copy_2 9 rfl rfl)
theorem dX6_copy_58 : decode cX6_copy 58 = .ok (.iconst 1, 1) := dk_4 (dk_at dksX6_copy_2 10 rfl rfl)
theorem dX6_copy_59 : decode cX6_copy 59 = .ok (.isub, 1) := dk_100 (dk_at dksX6_copy_2 11 rfl rfl)
theorem dX6_copy_60 : decode cX6_copy 60 = .ok (.iload 4, 2) := dk_21 4 (dk_at dksX6_copy_2 12 rfl rfl)
theorem dX6_copy_62 : decode cX6_copy 62 = .ok (.isub, 1) := dk_100 (dk_at dksX6_copy_2 14 rfl rfl)
theorem dX6_copy_63 : decode cX6_copy 63 = .ok (.goto 5, 3) := dk_167 0 5 (dk_at dksX6_copy_2 15 rfl rfl)
theorem dX6_copy_66 : decode cX6_copy 66 = .ok (.iload 4, 2) := dk_21 4 (dk_at dksX6_copy_2 18 rfl rfl)
theorem dX6_copy_68 : decode cX6_copy 68 = .ok (.iadd, 1) := dk_96 (dk_at dksX6_copy_2 20 rfl rfl)
theorem dX6_copy_69 : decode cX6_copy 69 = .ok (.istore 5, 2) := dk_54 5 (dk_at dksX6_copy_2 21 rfl rfl)
theorem dX6_copy_71 : decode cX6_copy 71 = .ok (.aload_n 0, 1) := dk_42 (dk_at dksX6_copy_2 23 rfl rfl)
theorem dX6_copy_72 : decode cX6_copy 72 = .ok (.getfield 16, 3) := dk_180 0 16 (dk_at dksX6_copy_3 0 rfl rfl)
theorem dX6_copy_75 : decode cX6_copy 75 = .ok (.iload 5, 2) := dk_21 5 (dk_at dksX6_copy_3 3 rfl rfl)
theorem dX6_copy_77 : decode cX6_copy 77 = .ok (.iaload, 1) := dk_46 (dk_at dksX6_copy_3 5 rfl rfl)
theorem dX6_copy_78 : decode cX6_copy 78 = .ok (.istore 6, 2) := dk_54 6 (dk_at dksX6_copy_3 6 rfl rfl)
theorem dX6_copy_80 : decode cX6_copy 80 = .ok (.iload_n 3, 1) := dk_29 (dk_at dksX6_copy_3 8 rfl rfl)
theorem dX6_copy_81 : decode cX6_copy 81 = .ok (.ifCond .eq 21, 3) := dk_153 0 21 (dk_at dksX6_copy_3 9 rfl rfl)
theorem dX6_copy_84 : decode cX6_copy 84 = .ok (.iload 6, 2) := dk_21 6 (dk_at dksX6_copy_3 12 rfl rfl)
theorem dX6_copy_86 : decode cX6_copy 86 = .ok (.iconst 1, 1) := dk_4 (dk_at dksX6_copy_3 14 rfl rfl)
theorem dX6_copy_87 : decode cX6_copy 87 = .ok (.if_icmp .eq 9, 3) := dk_159 0 9 (dk_at dksX6_copy_3 15 rfl rfl)
theorem dX6_copy_90 : decode cX6_copy 90 = .ok (.iload 6, 2) := dk_21 6 (dk_at dksX6_copy_3 18 rfl rfl)
theorem dX6_copy_92 : decode cX6_copy 92 = .ok (.iconst 2, 1) := dk_5 (dk_at dksX6_copy_3 20 rfl rfl)
theorem dX6_copy_93 : decode cX6_copy 93 = .ok (.if_icmp .ne 9, 3) := dk_160 0 9 (dk_at dksX6_copy_3 21 rfl rfl)
theorem dX6_copy_96 : decode cX6_copy 96 = .ok (.iconst 3, 1) := dk_6 (dk_at dksX6_copy_4 0 rfl rfl)
theorem dX6_copy_97 : decode cX6_copy 97 = .ok (.iload 6, 2) := dk_21 6 (dk_at dksX6_copy_4 1 rfl rfl)
theorem dX6_copy_99 : decode cX6_copy 99 = .ok (.isub, 1) := dk_100 (dk_at dksX6_copy_4 3 rfl rfl)
theorem dX6_copy_100 : decode cX6_copy 100 = .ok (.istore 6, 2) := dk_54 6 (dk_at dksX6_copy_4 4 rfl rfl)
theorem dX6_copy_102 : decode cX6_copy 102 = .ok (.aload_n 0, 1) := dk_42 (dk_at dksX6_copy_4 6 rfl rfl)
theorem dX6_copy_103 : decode cX6_copy 103 = .ok (.iload 6, 2) := dk_21 6 (dk_at dksX6_copy_4 7 rfl rfl)
theorem dX6_copy_105 : decode cX6_copy 105 = .ok (.iload_n 3, 1) := dk_29 (dk_at dksX6_copy_4 9 rfl rfl)
theorem dX6_copy_106 : decode cX6_copy 106 = .ok (.ifCond .eq 22, 3) := dk_153 0 22 (dk_at dksX6_copy_4 10 rfl rfl)
theorem dX6_copy_109 : decode cX6_copy 109 = .ok (.aload_n 0, 1) := dk_42 (dk_at dksX6_copy_4 13 rfl rfl)
theorem dX6_copy_110 : decode cX6_copy 110 = .ok (.getfield 7, 3) := dk_180 0 7 (dk_at dksX6_copy_4 14 rfl rfl)
theorem dX6_copy_113 : decode cX6_copy 113 = .ok (.iload_n 1, 1) := dk_27 (dk_at dksX6_copy_4 17 rfl rfl)
theorem dX6_copy_114 : decode cX6_copy 114 = .ok (.iaload, 1) := dk_46 (dk_at dksX6_copy_4 18 rfl rfl)
theorem dX6_copy_115 : decode cX6_copy 115 = .ok (.iconst 2, 1) := dk_5 (dk_at dksX6_copy_4 19 rfl rfl)
theorem dX6_copy_116 : decode cX6_copy 116 = .ok (.isub, 1) := dk_100 (dk_at dksX6_copy_4 20 rfl rfl)
theorem dX6_copy_117 : decode cX6_copy 117 = .ok (.aload_n 0, 1) := dk_42 (dk_at dksX6_copy_4 21 rfl rfl)
theorem dX6_copy_118 : decode cX6_copy 118 = .ok (.getfield 19, 3) := dk_180 0 19 (dk_at dksX6_copy_5 0 rfl rfl)
theorem dX6_copy_121 : decode cX6_copy 121 = .ok (.iload 5, 2) := dk_21 5 (dk_at dksX6_copy_5 3 rfl rfl)
theorem dX6_copy_123 : decode cX6_copy 123 = .ok (.iaload, 1) := dk_46 (dk_at dksX6_copy_5 5 rfl rfl)
theorem dX6_copy_124 : decode cX6_copy 124 = .ok (.isub, 1) := dk_100 (dk_at dksX6_copy_5 6 rfl rfl)
theorem dX6_copy_125 : decode cX6_copy 125 = .ok (.goto 10, 3) := dk_167 0 10 (dk_at dksX6_copy_5 7 rfl rfl)
theorem dX6_copy_128 : decode cX6_copy 128 = .ok (.aload_n 0, 1) := dk_42 (dk_at dksX6_copy_5 10 rfl rfl)
theorem dX6_copy_129 : decode cX6_copy 129 = .ok (.getfield 19, 3) := dk_180 0 19 (dk_at dksX6_copy_5 11 rfl rfl)
theorem dX6_copy_132 : decode cX6_copy 132 = .ok (.iload 5, 2) := dk_21 5 (dk_at dksX6_copy_5 14 rfl rfl)
theorem dX6_copy_134 : decode cX6_copy 134 = .ok (.iaload, 1) := dk_46 (dk_at dksX6_copy_5 16 rfl rfl)
theorem dX6_copy_135 : decode cX6_copy 135 = .ok (.aload_n 0, 1) := dk_42 (dk_at dksX6_copy_5 17 rfl rfl)
theorem dX6_copy_136 : decode cX6_copy 136 = .ok (.getfield 22, 3) := dk_180 0 22 (dk_at dksX6_copy_5 18 rfl rfl)
theorem dX6_copy_139 : decode cX6_copy 139 = .ok (.iload 5, 2) := dk_21 5 (dk_at dksX6_copy_5 21 rfl rfl)
theorem dX6_copy_141 : decode cX6_copy 141 = .ok (.iaload, 1) := dk_46 (dk_at dksX6_copy_5 23 rfl rfl)
theorem dX6_copy_142 : decode cX6_copy 142 = .ok (.aload_n 0, 1) := dk_42 (dk_at dksX6_copy_6 0 rfl rfl)
theorem dX6_copy_143 : decode cX6_copy 143 = .ok (.getfield 25, 3) := dk_180 0 25 (dk_at dksX6_copy_6 1 rfl rfl)
theorem dX6_copy_146 : decode cX6_copy 146 = .ok (.iload 5, 2) := dk_21 5 (dk_at dksX6_copy_6 4 rfl rfl)
theorem dX6_copy_148 : decode cX6_copy 148 = .ok (.iaload, 1) := dk_46 (dk_at dksX6_copy_6 6 rfl rfl)
theorem dX6_copy_149 : decode cX6_copy 149 = .ok (.invokevirtual 301, 3) := dk_182 1 45 (dk_at dksX6_copy_6 7 rfl rfl)
theorem dX6_copy_152 : decode cX6_copy 152 = .ok (.iinc 4 1, 3) := dk_132 4 1 (dk_at dksX6_copy_6 10 rfl rfl)
theorem dX6_copy_155 : decode cX6_copy 155 = .ok (.goto (-123), 3) := dk_167 255 133 (dk_at dksX6_copy_6 13 rfl rfl)
theorem dX6_copy_158 : decode cX6_copy 158 = .ok (.aload_n 0, 1) := dk_42 (dk_at dksX6_copy_6 16 rfl rfl)
theorem dX6_copy_159 : decode cX6_copy 159 = .ok (.getfield 286, 3) := dk_180 1 30 (dk_at dksX6_copy_6 17 rfl rfl)
theorem dX6_copy_162 : decode cX6_copy 162 = .ok (.iconst 1, 1) := dk_4 (dk_at dksX6_copy_6 20 rfl rfl)
theorem dX6_copy_163 : decode cX6_copy 163 = .ok (.isub, 1) := dk_100 (dk_at dksX6_copy_6 21 rfl rfl)
theorem dX6_copy_164 : decode cX6_copy 164 = .ok (.ireturn, 1) := dk_172 (dk_at dksX6_copy_6 22 rfl rfl)
abbrev cX6_isLadder : ByteArray := prog_14_method_36_code
def yX6_isLadder : MethodName := ⟨RX6, "isLadder", "(I)Z"⟩
def dkwX6_isLadder_0 : List UInt8 := [27, 155, 0, 15, 27, 42, 180, 1, 30, 162, 0, 7, 4, 167, 0, 4, 3, 172]
abbrev dktX6_isLadder_0 : List UInt8 := dkwX6_isLadder_0 ++ []
theorem dksX6_isLadder_0 : cX6_isLadder.data.toList.drop 0 = dktX6_isLadder_0 := by decide +kernel
theorem dX6_isLadder_0 : decode cX6_isLadder 0 = .ok (.iload_n 1, 1) := dk_27 (dk_at dksX6_isLadder_0 0 rfl rfl)
theorem dX6_isLadder_1 : decode cX6_isLadder 1 = .ok (.ifCond .lt 15, 3) := dk_155 0 15 (dk_at dksX6_isLadder_0 1 rfl rfl)
theorem dX6_isLadder_4 : decode cX6_isLadder 4 = .ok (.iload_n 1, 1) := dk_27 (dk_at dksX6_isLadder_0 4 rfl rfl)
theorem dX6_isLadder_5 : decode cX6_isLadder 5 = .ok (.aload_n 0, 1) := dk_42 (dk_at dksX6_isLadder_0 5 rfl rfl)
theorem dX6_isLadder_6 : decode cX6_isLadder 6 = .ok (.getfield 286, 3) := dk_180 1 30 (dk_at dksX6_isLadder_0 6 rfl rfl)
theorem dX6_isLadder_9 : decode cX6_isLadder 9 = .ok (.if_icmp .ge 7, 3) := dk_162 0 7 (dk_at dksX6_isLadder_0 9 rfl rfl)
theorem dX6_isLadder_12 : decode cX6_isLadder 12 = .ok (.iconst 1, 1) := dk_4 (dk_at dksX6_isLadder_0 12 rfl rfl)
theorem dX6_isLadder_13 : decode cX6_isLadder 13 = .ok (.goto 4, 3) := dk_167 0 4 (dk_at dksX6_isLadder_0 13 rfl rfl)
theorem dX6_isLadder_16 : decode cX6_isLadder 16 = .ok (.iconst 0, 1) := dk_3 (dk_at dksX6_isLadder_0 16 rfl rfl)
theorem dX6_isLadder_17 : decode cX6_isLadder 17 = .ok (.ireturn, 1) := dk_172 (dk_at dksX6_isLadder_0 17 rfl rfl)
abbrev cX6_join : ByteArray := prog_14_method_41_code
def yX6_join : MethodName := ⟨RX6, "join", "(II)I"⟩
def dkwX6_join_9 : List UInt8 := [17, 0, 200, 28, 104, 29, 96, 46, 182, 1, 45, 132, 3, 1, 167, 255, 191, 42, 180, 1, 30, 4, 100, 172]
abbrev dktX6_join_9 : List UInt8 := dkwX6_join_9 ++ []
def dkwX6_join_8 : List UInt8 := [17, 0, 200, 28, 104, 29, 96, 46, 42, 180, 0, 22, 17, 0, 200, 28, 104, 29, 96, 46, 42, 180, 0, 25]
abbrev dktX6_join_8 : List UInt8 := dkwX6_join_8 ++ dktX6_join_9
def dkwX6_join_7 : List UInt8 := [28, 46, 162, 0, 61, 42, 42, 180, 0, 16, 17, 0, 200, 28, 104, 29, 96, 46, 42, 180, 0, 19]
abbrev dktX6_join_7 : List UInt8 := dkwX6_join_7 ++ dktX6_join_8
def dkwX6_join_6 : List UInt8 := [17, 0, 200, 27, 104, 29, 96, 46, 182, 1, 45, 132, 3, 1, 167, 255, 191, 3, 62, 29, 42, 180, 0, 13]
abbrev dktX6_join_6 : List UInt8 := dkwX6_join_6 ++ dktX6_join_7
def dkwX6_join_5 : List UInt8 := [17, 0, 200, 27, 104, 29, 96, 46, 42, 180, 0, 22, 17, 0, 200, 27, 104, 29, 96, 46, 42, 180, 0, 25]
abbrev dktX6_join_5 : List UInt8 := dkwX6_join_5 ++ dktX6_join_6
def dkwX6_join_4 : List UInt8 := [27, 46, 162, 0, 61, 42, 42, 180, 0, 16, 17, 0, 200, 27, 104, 29, 96, 46, 42, 180, 0, 19]
abbrev dktX6_join_4 : List UInt8 := dkwX6_join_4 ++ dktX6_join_5
def dkwX6_join_3 : List UInt8 := [16, 20, 164, 0, 5, 2, 172, 42, 42, 180, 0, 7, 27, 46, 182, 1, 42, 3, 62, 29, 42, 180, 0, 13]
abbrev dktX6_join_3 : List UInt8 := dkwX6_join_3 ++ dktX6_join_4
def dkwX6_join_2 : List UInt8 := [42, 180, 0, 13, 28, 46, 96, 17, 0, 200, 163, 0, 19, 42, 27, 182, 1, 54, 42, 28, 182, 1, 54, 96]
abbrev dktX6_join_2 : List UInt8 := dkwX6_join_2 ++ dktX6_join_3
def dkwX6_join_1 : List UInt8 := [153, 0, 53, 42, 180, 0, 7, 27, 46, 42, 180, 0, 7, 28, 46, 160, 0, 38, 42, 180, 0, 13, 27, 46]
abbrev dktX6_join_1 : List UInt8 := dkwX6_join_1 ++ dktX6_join_2
def dkwX6_join_0 : List UInt8 := [42, 180, 1, 30, 16, 6, 159, 0, 69, 42, 27, 182, 1, 51, 153, 0, 61, 42, 28, 182, 1, 51]
abbrev dktX6_join_0 : List UInt8 := dkwX6_join_0 ++ dktX6_join_1
theorem dksX6_join_0 : cX6_join.data.toList.drop 0 = dktX6_join_0 := by decide +kernel
theorem dksX6_join_1 : cX6_join.data.toList.drop 22 = dktX6_join_1 := dk_seg dksX6_join_0 22 rfl rfl
theorem dksX6_join_2 : cX6_join.data.toList.drop 46 = dktX6_join_2 := dk_seg dksX6_join_1 24 rfl rfl
theorem dksX6_join_3 : cX6_join.data.toList.drop 70 = dktX6_join_3 := dk_seg dksX6_join_2 24 rfl rfl
theorem dksX6_join_4 : cX6_join.data.toList.drop 94 = dktX6_join_4 := dk_seg dksX6_join_3 24 rfl rfl
theorem dksX6_join_5 : cX6_join.data.toList.drop 116 = dktX6_join_5 := dk_seg dksX6_join_4 22 rfl rfl
theorem dksX6_join_6 : cX6_join.data.toList.drop 140 = dktX6_join_6 := dk_seg dksX6_join_5 24 rfl rfl
theorem dksX6_join_7 : cX6_join.data.toList.drop 164 = dktX6_join_7 := dk_seg dksX6_join_6 24 rfl rfl
theorem dksX6_join_8 : cX6_join.data.toList.drop 186 = dktX6_join_8 := dk_seg dksX6_join_7 22 rfl rfl
theorem dksX6_join_9 : cX6_join.data.toList.drop 210 = dktX6_join_9 := dk_seg dksX6_join_8 24 rfl rfl
theorem dX6_join_0 : decode cX6_join 0 = .ok (.aload_n 0, 1) := dk_42 (dk_at dksX6_join_0 0 rfl rfl)
theorem dX6_join_1 : decode cX6_join 1 = .ok (.getfield 286, 3) := dk_180 1 30 (dk_at dksX6_join_0 1 rfl rfl)
theorem dX6_join_4 : decode cX6_join 4 = .ok (.bipush 6, 2) := dk_16 6 (dk_at dksX6_join_0 4 rfl rfl)
theorem dX6_join_6 : decode cX6_join 6 = .ok (.if_icmp .eq 69, 3) := dk_159 0 69 (dk_at dksX6_join_0 6 rfl rfl)
theorem dX6_join_9 : decode cX6_join 9 = .ok (.aload_n 0, 1) := dk_42 (dk_at dksX6_join_0 9 rfl rfl)
theorem dX6_join_10 : decode cX6_join 10 = .ok (.iload_n 1, 1) := dk_27 (dk_at dksX6_join_0 10 rfl rfl)
theorem dX6_join_11 : decode cX6_join 11 = .ok (.invokevirtual 307, 3) := dk_182 1 51 (dk_at dksX6_join_0 11 rfl rfl)
theorem dX6_join_14 : decode cX6_join 14 = .ok (.ifCond .eq 61, 3) := dk_153 0 61 (dk_at dksX6_join_0 14 rfl rfl)
theorem dX6_join_17 : decode cX6_join 17 = .ok (.aload_n 0, 1) := dk_42 (dk_at dksX6_join_0 17 rfl rfl)
theorem dX6_join_18 : decode cX6_join 18 = .ok (.iload_n 2, 1) := dk_28 (dk_at dksX6_join_0 18 rfl rfl)
theorem dX6_join_19 : decode cX6_join 19 = .ok (.invokevirtual 307, 3) := dk_182 1 51 (dk_at dksX6_join_0 19 rfl rfl)
theorem dX6_join_22 : decode cX6_join 22 = .ok (.ifCond .eq 53, 3) := dk_153 0 53 (dk_at dksX6_join_1 0 rfl rfl)
theorem dX6_join_25 : decode cX6_join 25 = .ok (.aload_n 0, 1) := dk_42 (dk_at dksX6_join_1 3 rfl rfl)
theorem dX6_join_26 : decode cX6_join 26 = .ok (.getfield 7, 3) := dk_180 0 7 (dk_at dksX6_join_1 4 rfl rfl)
theorem dX6_join_29 : decode cX6_join 29 = .ok (.iload_n 1, 1) := dk_27 (dk_at dksX6_join_1 7 rfl rfl)
theorem dX6_join_30 : decode cX6_join 30 = .ok (.iaload, 1) := dk_46 (dk_at dksX6_join_1 8 rfl rfl)
theorem dX6_join_31 : decode cX6_join 31 = .ok (.aload_n 0, 1) := dk_42 (dk_at dksX6_join_1 9 rfl rfl)
theorem dX6_join_32 : decode cX6_join 32 = .ok (.getfield 7, 3) := dk_180 0 7 (dk_at dksX6_join_1 10 rfl rfl)
theorem dX6_join_35 : decode cX6_join 35 = .ok (.iload_n 2, 1) := dk_28 (dk_at dksX6_join_1 13 rfl rfl)
theorem dX6_join_36 : decode cX6_join 36 = .ok (.iaload, 1) := dk_46 (dk_at dksX6_join_1 14 rfl rfl)
theorem dX6_join_37 : decode cX6_join 37 = .ok (.if_icmp .ne 38, 3) := dk_160 0 38 (dk_at dksX6_join_1 15 rfl rfl)
theorem dX6_join_40 : decode cX6_join 40 = .ok (.aload_n 0, 1) := dk_42 (dk_at dksX6_join_1 18 rfl rfl)
theorem dX6_join_41 : decode cX6_join 41 = .ok (.getfield 13, 3) := dk_180 0 13 (dk_at dksX6_join_1 19 rfl rfl)
theorem dX6_join_44 : decode cX6_join 44 = .ok (.iload_n 1, 1) := dk_27 (dk_at dksX6_join_1 22 rfl rfl)
theorem dX6_join_45 : decode cX6_join 45 = .ok (.iaload, 1) := dk_46 (dk_at dksX6_join_1 23 rfl rfl)
theorem dX6_join_46 : decode cX6_join 46 = .ok (.aload_n 0, 1) := dk_42 (dk_at dksX6_join_2 0 rfl rfl)
theorem dX6_join_47 : decode cX6_join 47 = .ok (.getfield 13, 3) := dk_180 0 13 (dk_at dksX6_join_2 1 rfl rfl)
theorem dX6_join_50 : decode cX6_join 50 = .ok (.iload_n 2, 1) := dk_28 (dk_at dksX6_join_2 4 rfl rfl)
theorem dX6_join_51 : decode cX6_join 51 = .ok (.iaload, 1) := dk_46 (dk_at dksX6_join_2 5 rfl rfl)
theorem dX6_join_52 : decode cX6_join 52 = .ok (.iadd, 1) := dk_96 (dk_at dksX6_join_2 6 rfl rfl)
theorem dX6_join_53 : decode cX6_join 53 = .ok (.sipush 200, 3) := dk_17 0 200 (dk_at dksX6_join_2 7 rfl rfl)
theorem dX6_join_56 : decode cX6_join 56 = .ok (.if_icmp .gt 19, 3) := dk_163 0 19 (dk_at dksX6_join_2 10 rfl rfl)
theorem dX6_join_59 : decode cX6_join 59 = .ok (.aload_n 0, 1) := dk_42 (dk_at dksX6_join_2 13 rfl rfl)
theorem dX6_join_60 : decode cX6_join 60 = .ok (.iload_n 1, 1) := dk_27 (dk_at dksX6_join_2 14 rfl rfl)
theorem dX6_join_61 : decode cX6_join 61 = .ok (.invokevirtual 310, 3) := dk_182 1 54 (dk_at dksX6_join_2 15 rfl rfl)
theorem dX6_join_64 : decode cX6_join 64 = .ok (.aload_n 0, 1) := dk_42 (dk_at dksX6_join_2 18 rfl rfl)
theorem dX6_join_65 : decode cX6_join 65 = .ok (.iload_n 2, 1) := dk_28 (dk_at dksX6_join_2 19 rfl rfl)
theorem dX6_join_66 : decode cX6_join 66 = .ok (.invokevirtual 310, 3) := dk_182 1 54 (dk_at dksX6_join_2 20 rfl rfl)
theorem dX6_join_69 : decode cX6_join 69 = .ok (.iadd, 1) := dk_96 (dk_at dksX6_join_2 23 rfl rfl)
theorem dX6_join_70 : decode cX6_join 70 = .ok (.bipush 20, 2) := dk_16 20 (dk_at dksX6_join_3 0 rfl rfl)
theorem dX6_join_72 : decode cX6_join 72 = .ok (.if_icmp .le 5, 3) := dk_164 0 5 (dk_at dksX6_join_3 2 rfl rfl)
theorem dX6_join_75 : decode cX6_join 75 = .ok (.iconst (-1), 1) := dk_2 (dk_at dksX6_join_3 5 rfl rfl)
theorem dX6_join_76 : decode cX6_join 76 = .ok (.ireturn, 1) := dk_172 (dk_at dksX6_join_3 6 rfl rfl)
theorem dX6_join_77 : decode cX6_join 77 = .ok (.aload_n 0, 1) := dk_42 (dk_at dksX6_join_3 7 rfl rfl)
theorem dX6_join_78 : decode cX6_join 78 = .ok (.aload_n 0, 1) := dk_42 (dk_at dksX6_join_3 8 rfl rfl)
theorem dX6_join_79 : decode cX6_join 79 = .ok (.getfield 7, 3) := dk_180 0 7 (dk_at dksX6_join_3 9 rfl rfl)
theorem dX6_join_82 : decode cX6_join 82 = .ok (.iload_n 1, 1) := dk_27 (dk_at dksX6_join_3 12 rfl rfl)
theorem dX6_join_83 : decode cX6_join 83 = .ok (.iaload, 1) := dk_46 (dk_at dksX6_join_3 13 rfl rfl)
theorem dX6_join_84 : decode cX6_join 84 = .ok (.invokevirtual 298, 3) := dk_182 1 42 (dk_at dksX6_join_3 14 rfl rfl)
theorem dX6_join_87 : decode cX6_join 87 = .ok (.iconst 0, 1) := dk_3 (dk_at dksX6_join_3 17 rfl rfl)
theorem dX6_join_88 : decode cX6_join 88 = .ok (.istore_n 3, 1) := dk_62 (dk_at dksX6_join_3 18 rfl rfl)
theorem dX6_join_89 : decode cX6_join 89 = .ok (.iload_n 3, 1) := dk_29 (dk_at dksX6_join_3 19 rfl rfl)
theorem dX6_join_90 : decode cX6_join 90 = .ok (.aload_n 0, 1) := dk_42 (dk_at dksX6_join_3 20 rfl rfl)
theorem dX6_join_91 : decode cX6_join 91 = .ok (.getfield 13, 3) := dk_180 0 13 (dk_at dksX6_join_3 21 rfl rfl)
theorem dX6_join_94 : decode cX6_join 94 = .ok (.iload_n 1, 1) := dk_27 (dk_at dksX6_join_4 0 rfl rfl)
theorem dX6_join_95 : decode cX6_join 95 = .ok (.iaload, 1) := dk_46 (dk_at dksX6_join_4 1 rfl rfl)
theorem dX6_join_96 : decode cX6_join 96 = .ok (.if_icmp .ge 61, 3) := dk_162 0 61 (dk_at dksX6_join_4 2 rfl rfl)
theorem dX6_join_99 : decode cX6_join 99 = .ok (.aload_n 0, 1) := dk_42 (dk_at dksX6_join_4 5 rfl rfl)
theorem dX6_join_100 : decode cX6_join 100 = .ok (.aload_n 0, 1) := dk_42 (dk_at dksX6_join_4 6 rfl rfl)
theorem dX6_join_101 : decode cX6_join 101 = .ok (.getfield 16, 3) := dk_180 0 16 (dk_at dksX6_join_4 7 rfl rfl)
theorem dX6_join_104 : decode cX6_join 104 = .ok (.sipush 200, 3) := dk_17 0 200 (dk_at dksX6_join_4 10 rfl rfl)
theorem dX6_join_107 : decode cX6_join 107 = .ok (.iload_n 1, 1) := dk_27 (dk_at dksX6_join_4 13 rfl rfl)
theorem dX6_join_108 : decode cX6_join 108 = .ok (.imul, 1) := dk_104 (dk_at dksX6_join_4 14 rfl rfl)
theorem dX6_join_109 : decode cX6_join 109 = .ok (.iload_n 3, 1) := dk_29 (dk_at dksX6_join_4 15 rfl rfl)
theorem dX6_join_110 : decode cX6_join 110 = .ok (.iadd, 1) := dk_96 (dk_at dksX6_join_4 16 rfl rfl)
theorem dX6_join_111 : decode cX6_join 111 = .ok (.iaload, 1) := dk_46 (dk_at dksX6_join_4 17 rfl rfl)
theorem dX6_join_112 : decode cX6_join 112 = .ok (.aload_n 0, 1) := dk_42 (dk_at dksX6_join_4 18 rfl rfl)
theorem dX6_join_113 : decode cX6_join 113 = .ok (.getfield 19, 3) := dk_180 0 19 (dk_at dksX6_join_4 19 rfl rfl)
theorem dX6_join_116 : decode cX6_join 116 = .ok (.sipush 200, 3) := dk_17 0 200 (dk_at dksX6_join_5 0 rfl rfl)
theorem dX6_join_119 : decode cX6_join 119 = .ok (.iload_n 1, 1) := dk_27 (dk_at dksX6_join_5 3 rfl rfl)
theorem dX6_join_120 : decode cX6_join 120 = .ok (.imul, 1) := dk_104 (dk_at dksX6_join_5 4 rfl rfl)
theorem dX6_join_121 : decode cX6_join 121 = .ok (.iload_n 3, 1) := dk_29 (dk_at dksX6_join_5 5 rfl rfl)
theorem dX6_join_122 : decode cX6_join 122 = .ok (.iadd, 1) := dk_96 (dk_at dksX6_join_5 6 rfl rfl)
theorem dX6_join_123 : decode cX6_join 123 = .ok (.iaload, 1) := dk_46 (dk_at dksX6_join_5 7 rfl rfl)
theorem dX6_join_124 : decode cX6_join 124 = .ok (.aload_n 0, 1) := dk_42 (dk_at dksX6_join_5 8 rfl rfl)
theorem dX6_join_125 : decode cX6_join 125 = .ok (.getfield 22, 3) := dk_180 0 22 (dk_at dksX6_join_5 9 rfl rfl)
theorem dX6_join_128 : decode cX6_join 128 = .ok (.sipush 200, 3) := dk_17 0 200 (dk_at dksX6_join_5 12 rfl rfl)
theorem dX6_join_131 : decode cX6_join 131 = .ok (.iload_n 1, 1) := dk_27 (dk_at dksX6_join_5 15 rfl rfl)
theorem dX6_join_132 : decode cX6_join 132 = .ok (.imul, 1) := dk_104 (dk_at dksX6_join_5 16 rfl rfl)
theorem dX6_join_133 : decode cX6_join 133 = .ok (.iload_n 3, 1) := dk_29 (dk_at dksX6_join_5 17 rfl rfl)
theorem dX6_join_134 : decode cX6_join 134 = .ok (.iadd, 1) := dk_96 (dk_at dksX6_join_5 18 rfl rfl)
theorem dX6_join_135 : decode cX6_join 135 = .ok (.iaload, 1) := dk_46 (dk_at dksX6_join_5 19 rfl rfl)
theorem dX6_join_136 : decode cX6_join 136 = .ok (.aload_n 0, 1) := dk_42 (dk_at dksX6_join_5 20 rfl rfl)
theorem dX6_join_137 : decode cX6_join 137 = .ok (.getfield 25, 3) := dk_180 0 25 (dk_at dksX6_join_5 21 rfl rfl)
theorem dX6_join_140 : decode cX6_join 140 = .ok (.sipush 200, 3) := dk_17 0 200 (dk_at dksX6_join_6 0 rfl rfl)
theorem dX6_join_143 : decode cX6_join 143 = .ok (.iload_n 1, 1) := dk_27 (dk_at dksX6_join_6 3 rfl rfl)
theorem dX6_join_144 : decode cX6_join 144 = .ok (.imul, 1) := dk_104 (dk_at dksX6_join_6 4 rfl rfl)
theorem dX6_join_145 : decode cX6_join 145 = .ok (.iload_n 3, 1) := dk_29 (dk_at dksX6_join_6 5 rfl rfl)
theorem dX6_join_146 : decode cX6_join 146 = .ok (.iadd, 1) := dk_96 (dk_at dksX6_join_6 6 rfl rfl)
theorem dX6_join_147 : decode cX6_join 147 = .ok (.iaload, 1) := dk_46 (dk_at dksX6_join_6 7 rfl rfl)
theorem dX6_join_148 : decode cX6_join 148 = .ok (.invokevirtual 301, 3) := dk_182 1 45 (dk_at dksX6_join_6 8 rfl rfl)
theorem dX6_join_151 : decode cX6_join 151 = .ok (.iinc 3 1, 3) := dk_132 3 1 (dk_at dksX6_join_6 11 rfl rfl)
theorem dX6_join_154 : decode cX6_join 154 = .ok (.goto (-65), 3) := dk_167 255 191 (dk_at dksX6_join_6 14 rfl rfl)
theorem dX6_join_157 : decode cX6_join 157 = .ok (.iconst 0, 1) := dk_3 (dk_at dksX6_join_6 17 rfl rfl)
theorem dX6_join_158 : decode cX6_join 158 = .ok (.istore_n 3, 1) := dk_62 (dk_at dksX6_join_6 18 rfl rfl)
theorem dX6_join_159 : decode cX6_join 159 = .ok (.iload_n 3, 1) := dk_29 (dk_at dksX6_join_6 19 rfl rfl)
theorem dX6_join_160 : decode cX6_join 160 = .ok (.aload_n 0, 1) := dk_42 (dk_at dksX6_join_6 20 rfl rfl)
theorem dX6_join_161 : decode cX6_join 161 = .ok (.getfield 13, 3) := dk_180 0 13 (dk_at dksX6_join_6 21 rfl rfl)
theorem dX6_join_164 : decode cX6_join 164 = .ok (.iload_n 2, 1) := dk_28 (dk_at dksX6_join_7 0 rfl rfl)
theorem dX6_join_165 : decode cX6_join 165 = .ok (.iaload, 1) := dk_46 (dk_at dksX6_join_7 1 rfl rfl)
theorem dX6_join_166 : decode cX6_join 166 = .ok (.if_icmp .ge 61, 3) := dk_162 0 61 (dk_at dksX6_join_7 2 rfl rfl)
theorem dX6_join_169 : decode cX6_join 169 = .ok (.aload_n 0, 1) := dk_42 (dk_at dksX6_join_7 5 rfl rfl)
theorem dX6_join_170 : decode cX6_join 170 = .ok (.aload_n 0, 1) := dk_42 (dk_at dksX6_join_7 6 rfl rfl)
theorem dX6_join_171 : decode cX6_join 171 = .ok (.getfield 16, 3) := dk_180 0 16 (dk_at dksX6_join_7 7 rfl rfl)
theorem dX6_join_174 : decode cX6_join 174 = .ok (.sipush 200, 3) := dk_17 0 200 (dk_at dksX6_join_7 10 rfl rfl)
theorem dX6_join_177 : decode cX6_join 177 = .ok (.iload_n 2, 1) := dk_28 (dk_at dksX6_join_7 13 rfl rfl)
theorem dX6_join_178 : decode cX6_join 178 = .ok (.imul, 1) := dk_104 (dk_at dksX6_join_7 14 rfl rfl)
theorem dX6_join_179 : decode cX6_join 179 = .ok (.iload_n 3, 1) := dk_29 (dk_at dksX6_join_7 15 rfl rfl)
theorem dX6_join_180 : decode cX6_join 180 = .ok (.iadd, 1) := dk_96 (dk_at dksX6_join_7 16 rfl rfl)
theorem dX6_join_181 : decode cX6_join 181 = .ok (.iaload, 1) := dk_46 (dk_at dksX6_join_7 17 rfl rfl)
theorem dX6_join_182 : decode cX6_join 182 = .ok (.aload_n 0, 1) := dk_42 (dk_at dksX6_join_7 18 rfl rfl)
theorem dX6_join_183 : decode cX6_join 183 = .ok (.getfield 19, 3) := dk_180 0 19 (dk_at dksX6_join_7 19 rfl rfl)
theorem dX6_join_186 : decode cX6_join 186 = .ok (.sipush 200, 3) := dk_17 0 200 (dk_at dksX6_join_8 0 rfl rfl)
theorem dX6_join_189 : decode cX6_join 189 = .ok (.iload_n 2, 1) := dk_28 (dk_at dksX6_join_8 3 rfl rfl)
theorem dX6_join_190 : decode cX6_join 190 = .ok (.imul, 1) := dk_104 (dk_at dksX6_join_8 4 rfl rfl)
theorem dX6_join_191 : decode cX6_join 191 = .ok (.iload_n 3, 1) := dk_29 (dk_at dksX6_join_8 5 rfl rfl)
theorem dX6_join_192 : decode cX6_join 192 = .ok (.iadd, 1) := dk_96 (dk_at dksX6_join_8 6 rfl rfl)
theorem dX6_join_193 : decode cX6_join 193 = .ok (.iaload, 1) := dk_46 (dk_at dksX6_join_8 7 rfl rfl)
theorem dX6_join_194 : decode cX6_join 194 = .ok (.aload_n 0, 1) := dk_42 (dk_at dksX6_join_8 8 rfl rfl)
theorem dX6_join_195 : decode cX6_join 195 = .ok (.getfield 22, 3) := dk_180 0 22 (dk_at dksX6_join_8 9 rfl rfl)
theorem dX6_join_198 : decode cX6_join 198 = .ok (.sipush 200, 3) := dk_17 0 200 (dk_at dksX6_join_8 12 rfl rfl)
theorem dX6_join_201 : decode cX6_join 201 = .ok (.iload_n 2, 1) := dk_28 (dk_at dksX6_join_8 15 rfl rfl)
theorem dX6_join_202 : decode cX6_join 202 = .ok (.imul, 1) := dk_104 (dk_at dksX6_join_8 16 rfl rfl)
theorem dX6_join_203 : decode cX6_join 203 = .ok (.iload_n 3, 1) := dk_29 (dk_at dksX6_join_8 17 rfl rfl)
theorem dX6_join_204 : decode cX6_join 204 = .ok (.iadd, 1) := dk_96 (dk_at dksX6_join_8 18 rfl rfl)
theorem dX6_join_205 : decode cX6_join 205 = .ok (.iaload, 1) := dk_46 (dk_at dksX6_join_8 19 rfl rfl)
theorem dX6_join_206 : decode cX6_join 206 = .ok (.aload_n 0, 1) := dk_42 (dk_at dksX6_join_8 20 rfl rfl)
theorem dX6_join_207 : decode cX6_join 207 = .ok (.getfield 25, 3) := dk_180 0 25 (dk_at dksX6_join_8 21 rfl rfl)
theorem dX6_join_210 : decode cX6_join 210 = .ok (.sipush 200, 3) := dk_17 0 200 (dk_at dksX6_join_9 0 rfl rfl)
theorem dX6_join_213 : decode cX6_join 213 = .ok (.iload_n 2, 1) := dk_28 (dk_at dksX6_join_9 3 rfl rfl)
theorem dX6_join_214 : decode cX6_join 214 = .ok (.imul, 1) := dk_104 (dk_at dksX6_join_9 4 rfl rfl)
theorem dX6_join_215 : decode cX6_join 215 = .ok (.iload_n 3, 1) := dk_29 (dk_at dksX6_join_9 5 rfl rfl)
theorem dX6_join_216 : decode cX6_join 216 = .ok (.iadd, 1) := dk_96 (dk_at dksX6_join_9 6 rfl rfl)
theorem dX6_join_217 : decode cX6_join 217 = .ok (.iaload, 1) := dk_46 (dk_at dksX6_join_9 7 rfl rfl)
theorem dX6_join_218 : decode cX6_join 218 = .ok (.invokevirtual 301, 3) := dk_182 1 45 (dk_at dksX6_join_9 8 rfl rfl)
theorem dX6_join_221 : decode cX6_join 221 = .ok (.iinc 3 1, 3) := dk_132 3 1 (dk_at dksX6_join_9 11 rfl rfl)
theorem dX6_join_224 : decode cX6_join 224 = .ok (.goto (-65), 3) := dk_167 255 191 (dk_at dksX6_join_9 14 rfl rfl)
theorem dX6_join_227 : decode cX6_join 227 = .ok (.aload_n 0, 1) := dk_42 (dk_at dksX6_join_9 17 rfl rfl)
theorem dX6_join_228 : decode cX6_join 228 = .ok (.getfield 286, 3) := dk_180 1 30 (dk_at dksX6_join_9 18 rfl rfl)
theorem dX6_join_231 : decode cX6_join 231 = .ok (.iconst 1, 1) := dk_4 (dk_at dksX6_join_9 21 rfl rfl)
theorem dX6_join_232 : decode cX6_join 232 = .ok (.isub, 1) := dk_100 (dk_at dksX6_join_9 22 rfl rfl)
theorem dX6_join_233 : decode cX6_join 233 = .ok (.ireturn, 1) := dk_172 (dk_at dksX6_join_9 23 rfl rfl)
abbrev cX6_maybesOf : ByteArray := prog_14_method_37_code
def yX6_maybesOf : MethodName := ⟨RX6, "maybesOf", "(I)I"⟩
def dkwX6_maybesOf_1 : List UInt8 := [29, 96, 46, 6, 160, 0, 7, 4, 167, 0, 4, 3, 96, 61, 132, 3, 1, 167, 255, 219, 28, 172]
abbrev dktX6_maybesOf_1 : List UInt8 := dkwX6_maybesOf_1 ++ []
def dkwX6_maybesOf_0 : List UInt8 := [3, 61, 3, 62, 29, 42, 180, 0, 13, 27, 46, 162, 0, 33, 28, 42, 180, 0, 16, 17, 0, 200, 27, 104]
abbrev dktX6_maybesOf_0 : List UInt8 := dkwX6_maybesOf_0 ++ dktX6_maybesOf_1
theorem dksX6_maybesOf_0 : cX6_maybesOf.data.toList.drop 0 = dktX6_maybesOf_0 := by decide +kernel
theorem dksX6_maybesOf_1 : cX6_maybesOf.data.toList.drop 24 = dktX6_maybesOf_1 := dk_seg dksX6_maybesOf_0 24 rfl rfl
theorem dX6_maybesOf_0 : decode cX6_maybesOf 0 = .ok (.iconst 0, 1) := dk_3 (dk_at dksX6_maybesOf_0 0 rfl rfl)
theorem dX6_maybesOf_1 : decode cX6_maybesOf 1 = .ok (.istore_n 2, 1) := dk_61 (dk_at dksX6_maybesOf_0 1 rfl rfl)
theorem dX6_maybesOf_2 : decode cX6_maybesOf 2 = .ok (.iconst 0, 1) := dk_3 (dk_at dksX6_maybesOf_0 2 rfl rfl)
theorem dX6_maybesOf_3 : decode cX6_maybesOf 3 = .ok (.istore_n 3, 1) := dk_62 (dk_at dksX6_maybesOf_0 3 rfl rfl)
theorem dX6_maybesOf_4 : decode cX6_maybesOf 4 = .ok (.iload_n 3, 1) := dk_29 (dk_at dksX6_maybesOf_0 4 rfl rfl)
theorem dX6_maybesOf_5 : decode cX6_maybesOf 5 = .ok (.aload_n 0, 1) := dk_42 (dk_at dksX6_maybesOf_0 5 rfl rfl)
theorem dX6_maybesOf_6 : decode cX6_maybesOf 6 = .ok (.getfield 13, 3) := dk_180 0 13 (dk_at dksX6_maybesOf_0 6 rfl rfl)
theorem dX6_maybesOf_9 : decode cX6_maybesOf 9 = .ok (.iload_n 1, 1) := dk_27 (dk_at dksX6_maybesOf_0 9 rfl rfl)
theorem dX6_maybesOf_10 : decode cX6_maybesOf 10 = .ok (.iaload, 1) := dk_46 (dk_at dksX6_maybesOf_0 10 rfl rfl)
theorem dX6_maybesOf_11 : decode cX6_maybesOf 11 = .ok (.if_icmp .ge 33, 3) := dk_162 0 33 (dk_at dksX6_maybesOf_0 11 rfl rfl)
theorem dX6_maybesOf_14 : decode cX6_maybesOf 14 = .ok (.iload_n 2, 1) := dk_28 (dk_at dksX6_maybesOf_0 14 rfl rfl)
theorem dX6_maybesOf_15 : decode cX6_maybesOf 15 = .ok (.aload_n 0, 1) := dk_42 (dk_at dksX6_maybesOf_0 15 rfl rfl)
theorem dX6_maybesOf_16 : decode cX6_maybesOf 16 = .ok (.getfield 16, 3) := dk_180 0 16 (dk_at dksX6_maybesOf_0 16 rfl rfl)
theorem dX6_maybesOf_19 : decode cX6_maybesOf 19 = .ok (.sipush 200, 3) := dk_17 0 200 (dk_at dksX6_maybesOf_0 19 rfl rfl)
theorem dX6_maybesOf_22 : decode cX6_maybesOf 22 = .ok (.iload_n 1, 1) := dk_27 (dk_at dksX6_maybesOf_0 22 rfl rfl)
theorem dX6_maybesOf_23 : decode cX6_maybesOf 23 = .ok (.imul, 1) := dk_104 (dk_at dksX6_maybesOf_0 23 rfl rfl)
theorem dX6_maybesOf_24 : decode cX6_maybesOf 24 = .ok (.iload_n 3, 1) := dk_29 (dk_at dksX6_maybesOf_1 0 rfl rfl)
theorem dX6_maybesOf_25 : decode cX6_maybesOf 25 = .ok (.iadd, 1) := dk_96 (dk_at dksX6_maybesOf_1 1 rfl rfl)
theorem dX6_maybesOf_26 : decode cX6_maybesOf 26 = .ok (.iaload, 1) := dk_46 (dk_at dksX6_maybesOf_1 2 rfl rfl)
theorem dX6_maybesOf_27 : decode cX6_maybesOf 27 = .ok (.iconst 3, 1) := dk_6 (dk_at dksX6_maybesOf_1 3 rfl rfl)
theorem dX6_maybesOf_28 : decode cX6_maybesOf 28 = .ok (.if_icmp .ne 7, 3) := dk_160 0 7 (dk_at dksX6_maybesOf_1 4 rfl rfl)
theorem dX6_maybesOf_31 : decode cX6_maybesOf 31 = .ok (.iconst 1, 1) := dk_4 (dk_at dksX6_maybesOf_1 7 rfl rfl)
theorem dX6_maybesOf_32 : decode cX6_maybesOf 32 = .ok (.goto 4, 3) := dk_167 0 4 (dk_at dksX6_maybesOf_1 8 rfl rfl)
theorem dX6_maybesOf_35 : decode cX6_maybesOf 35 = .ok (.iconst 0, 1) := dk_3 (dk_at dksX6_maybesOf_1 11 rfl rfl)
theorem dX6_maybesOf_36 : decode cX6_maybesOf 36 = .ok (.iadd, 1) := dk_96 (dk_at dksX6_maybesOf_1 12 rfl rfl)
theorem dX6_maybesOf_37 : decode cX6_maybesOf 37 = .ok (.istore_n 2, 1) := dk_61 (dk_at dksX6_maybesOf_1 13 rfl rfl)
theorem dX6_maybesOf_38 : decode cX6_maybesOf 38 = .ok (.iinc 3 1, 3) := dk_132 3 1 (dk_at dksX6_maybesOf_1 14 rfl rfl)
theorem dX6_maybesOf_41 : decode cX6_maybesOf 41 = .ok (.goto (-37), 3) := dk_167 255 219 (dk_at dksX6_maybesOf_1 17 rfl rfl)
theorem dX6_maybesOf_44 : decode cX6_maybesOf 44 = .ok (.iload_n 2, 1) := dk_28 (dk_at dksX6_maybesOf_1 20 rfl rfl)
theorem dX6_maybesOf_45 : decode cX6_maybesOf 45 = .ok (.ireturn, 1) := dk_172 (dk_at dksX6_maybesOf_1 21 rfl rfl)
abbrev cX6_lots : ByteArray := prog_14_method_45_code
def yX6_lots : MethodName := ⟨RX6, "lots", "(IIIZ)I"⟩
def dkwX6_lots_4 : List UInt8 := [180, 1, 30, 4, 100, 172]
abbrev dktX6_lots_4 : List UInt8 := dkwX6_lots_4 ++ []
def dkwX6_lots_3 : List UInt8 := [5, 21, 5, 104, 28, 4, 100, 184, 1, 65, 3, 4, 182, 1, 45, 132, 5, 1, 167, 255, 205, 42]
abbrev dktX6_lots_3 : List UInt8 := dkwX6_lots_3 ++ dktX6_lots_4
def dkwX6_lots_2 : List UInt8 := [153, 0, 22, 27, 5, 21, 5, 104, 4, 96, 5, 184, 1, 65, 4, 160, 0, 7, 4, 167, 0, 4, 3, 27]
abbrev dktX6_lots_2 : List UInt8 := dkwX6_lots_2 ++ dktX6_lots_3
def dkwX6_lots_1 : List UInt8 := [164, 0, 5, 2, 172, 42, 28, 182, 1, 42, 3, 54, 5, 21, 5, 29, 162, 0, 51, 42, 21, 4]
abbrev dktX6_lots_1 : List UInt8 := dkwX6_lots_1 ++ dktX6_lots_2
def dkwX6_lots_0 : List UInt8 := [42, 180, 1, 30, 16, 6, 159, 0, 21, 28, 184, 1, 62, 153, 0, 14, 29, 155, 0, 10, 29, 17, 0, 200]
abbrev dktX6_lots_0 : List UInt8 := dkwX6_lots_0 ++ dktX6_lots_1
theorem dksX6_lots_0 : cX6_lots.data.toList.drop 0 = dktX6_lots_0 := by decide +kernel
theorem dksX6_lots_1 : cX6_lots.data.toList.drop 24 = dktX6_lots_1 := dk_seg dksX6_lots_0 24 rfl rfl
theorem dksX6_lots_2 : cX6_lots.data.toList.drop 46 = dktX6_lots_2 := dk_seg dksX6_lots_1 22 rfl rfl
theorem dksX6_lots_3 : cX6_lots.data.toList.drop 70 = dktX6_lots_3 := dk_seg dksX6_lots_2 24 rfl rfl
theorem dksX6_lots_4 : cX6_lots.data.toList.drop 92 = dktX6_lots_4 := dk_seg dksX6_lots_3 22 rfl rfl
theorem dX6_lots_0 : decode cX6_lots 0 = .ok (.aload_n 0, 1) := dk_42 (dk_at dksX6_lots_0 0 rfl rfl)
theorem dX6_lots_1 : decode cX6_lots 1 = .ok (.getfield 286, 3) := dk_180 1 30 (dk_at dksX6_lots_0 1 rfl rfl)
theorem dX6_lots_4 : decode cX6_lots 4 = .ok (.bipush 6, 2) := dk_16 6 (dk_at dksX6_lots_0 4 rfl rfl)
theorem dX6_lots_6 : decode cX6_lots 6 = .ok (.if_icmp .eq 21, 3) := dk_159 0 21 (dk_at dksX6_lots_0 6 rfl rfl)
theorem dX6_lots_9 : decode cX6_lots 9 = .ok (.iload_n 2, 1) := dk_28 (dk_at dksX6_lots_0 9 rfl rfl)
theorem dX6_lots_10 : decode cX6_lots 10 = .ok (.invokestatic 318, 3) := dk_184 1 62 (dk_at dksX6_lots_0 10 rfl rfl)
theorem dX6_lots_13 : decode cX6_lots 13 = .ok (.ifCond .eq 14, 3) := dk_153 0 14 (dk_at dksX6_lots_0 13 rfl rfl)
theorem dX6_lots_16 : decode cX6_lots 16 = .ok (.iload_n 3, 1) := dk_29 (dk_at dksX6_lots_0 16 rfl rfl)
theorem dX6_lots_17 : decode cX6_lots 17 = .ok (.ifCond .lt 10, 3) := dk_155 0 10 (dk_at dksX6_lots_0 17 rfl rfl)
theorem dX6_lots_20 : decode cX6_lots 20 = .ok (.iload_n 3, 1) := dk_29 (dk_at dksX6_lots_0 20 rfl rfl)
theorem dX6_lots_21 : decode cX6_lots 21 = .ok (.sipush 200, 3) := dk_17 0 200 (dk_at dksX6_lots_0 21 rfl rfl)
theorem dX6_lots_24 : decode cX6_lots 24 = .ok (.if_icmp .le 5, 3) := dk_164 0 5 (dk_at dksX6_lots_1 0 rfl rfl)
theorem dX6_lots_27 : decode cX6_lots 27 = .ok (.iconst (-1), 1) := dk_2 (dk_at dksX6_lots_1 3 rfl rfl)
theorem dX6_lots_28 : decode cX6_lots 28 = .ok (.ireturn, 1) := dk_172 (dk_at dksX6_lots_1 4 rfl rfl)
theorem dX6_lots_29 : decode cX6_lots 29 = .ok (.aload_n 0, 1) := dk_42 (dk_at dksX6_lots_1 5 rfl rfl)
theorem dX6_lots_30 : decode cX6_lots 30 = .ok (.iload_n 2, 1) := dk_28 (dk_at dksX6_lots_1 6 rfl rfl)
theorem dX6_lots_31 : decode cX6_lots 31 = .ok (.invokevirtual 298, 3) := dk_182 1 42 (dk_at dksX6_lots_1 7 rfl rfl)
theorem dX6_lots_34 : decode cX6_lots 34 = .ok (.iconst 0, 1) := dk_3 (dk_at dksX6_lots_1 10 rfl rfl)
theorem dX6_lots_35 : decode cX6_lots 35 = .ok (.istore 5, 2) := dk_54 5 (dk_at dksX6_lots_1 11 rfl rfl)
theorem dX6_lots_37 : decode cX6_lots 37 = .ok (.iload 5, 2) := dk_21 5 (dk_at dksX6_lots_1 13 rfl rfl)
theorem dX6_lots_39 : decode cX6_lots 39 = .ok (.iload_n 3, 1) := dk_29 (dk_at dksX6_lots_1 15 rfl rfl)
theorem dX6_lots_40 : decode cX6_lots 40 = .ok (.if_icmp .ge 51, 3) := dk_162 0 51 (dk_at dksX6_lots_1 16 rfl rfl)
theorem dX6_lots_43 : decode cX6_lots 43 = .ok (.aload_n 0, 1) := dk_42 (dk_at dksX6_lots_1 19 rfl rfl)
theorem dX6_lots_44 : decode cX6_lots 44 = .ok (.iload 4, 2) := dk_21 4 (dk_at dksX6_lots_1 20 rfl rfl)
theorem dX6_lots_46 : decode cX6_lots 46 = .ok (.ifCond .eq 22, 3) := dk_153 0 22 (dk_at dksX6_lots_2 0 rfl rfl)
theorem dX6_lots_49 : decode cX6_lots 49 = .ok (.iload_n 1, 1) := dk_27 (dk_at dksX6_lots_2 3 rfl rfl)
theorem dX6_lots_50 : decode cX6_lots 50 = .ok (.iconst 2, 1) := dk_5 (dk_at dksX6_lots_2 4 rfl rfl)
theorem dX6_lots_51 : decode cX6_lots 51 = .ok (.iload 5, 2) := dk_21 5 (dk_at dksX6_lots_2 5 rfl rfl)
theorem dX6_lots_53 : decode cX6_lots 53 = .ok (.imul, 1) := dk_104 (dk_at dksX6_lots_2 7 rfl rfl)
theorem dX6_lots_54 : decode cX6_lots 54 = .ok (.iconst 1, 1) := dk_4 (dk_at dksX6_lots_2 8 rfl rfl)
theorem dX6_lots_55 : decode cX6_lots 55 = .ok (.iadd, 1) := dk_96 (dk_at dksX6_lots_2 9 rfl rfl)
theorem dX6_lots_56 : decode cX6_lots 56 = .ok (.iconst 2, 1) := dk_5 (dk_at dksX6_lots_2 10 rfl rfl)
theorem dX6_lots_57 : decode cX6_lots 57 = .ok (.invokestatic 321, 3) := dk_184 1 65 (dk_at dksX6_lots_2 11 rfl rfl)
theorem dX6_lots_60 : decode cX6_lots 60 = .ok (.iconst 1, 1) := dk_4 (dk_at dksX6_lots_2 14 rfl rfl)
theorem dX6_lots_61 : decode cX6_lots 61 = .ok (.if_icmp .ne 7, 3) := dk_160 0 7 (dk_at dksX6_lots_2 15 rfl rfl)
theorem dX6_lots_64 : decode cX6_lots 64 = .ok (.iconst 1, 1) := dk_4 (dk_at dksX6_lots_2 18 rfl rfl)
theorem dX6_lots_65 : decode cX6_lots 65 = .ok (.goto 4, 3) := dk_167 0 4 (dk_at dksX6_lots_2 19 rfl rfl)
theorem dX6_lots_68 : decode cX6_lots 68 = .ok (.iconst 0, 1) := dk_3 (dk_at dksX6_lots_2 22 rfl rfl)
theorem dX6_lots_69 : decode cX6_lots 69 = .ok (.iload_n 1, 1) := dk_27 (dk_at dksX6_lots_2 23 rfl rfl)
theorem dX6_lots_70 : decode cX6_lots 70 = .ok (.iconst 2, 1) := dk_5 (dk_at dksX6_lots_3 0 rfl rfl)
theorem dX6_lots_71 : decode cX6_lots 71 = .ok (.iload 5, 2) := dk_21 5 (dk_at dksX6_lots_3 1 rfl rfl)
theorem dX6_lots_73 : decode cX6_lots 73 = .ok (.imul, 1) := dk_104 (dk_at dksX6_lots_3 3 rfl rfl)
theorem dX6_lots_74 : decode cX6_lots 74 = .ok (.iload_n 2, 1) := dk_28 (dk_at dksX6_lots_3 4 rfl rfl)
theorem dX6_lots_75 : decode cX6_lots 75 = .ok (.iconst 1, 1) := dk_4 (dk_at dksX6_lots_3 5 rfl rfl)
theorem dX6_lots_76 : decode cX6_lots 76 = .ok (.isub, 1) := dk_100 (dk_at dksX6_lots_3 6 rfl rfl)
theorem dX6_lots_77 : decode cX6_lots 77 = .ok (.invokestatic 321, 3) := dk_184 1 65 (dk_at dksX6_lots_3 7 rfl rfl)
theorem dX6_lots_80 : decode cX6_lots 80 = .ok (.iconst 0, 1) := dk_3 (dk_at dksX6_lots_3 10 rfl rfl)
theorem dX6_lots_81 : decode cX6_lots 81 = .ok (.iconst 1, 1) := dk_4 (dk_at dksX6_lots_3 11 rfl rfl)
theorem dX6_lots_82 : decode cX6_lots 82 = .ok (.invokevirtual 301, 3) := dk_182 1 45 (dk_at dksX6_lots_3 12 rfl rfl)
theorem dX6_lots_85 : decode cX6_lots 85 = .ok (.iinc 5 1, 3) := dk_132 5 1 (dk_at dksX6_lots_3 15 rfl rfl)
theorem dX6_lots_88 : decode cX6_lots 88 = .ok (.goto (-51), 3) := dk_167 255 205 (dk_at dksX6_lots_3 18 rfl rfl)
theorem dX6_lots_91 : decode cX6_lots 91 = .ok (.aload_n 0, 1) := dk_42 (dk_at dksX6_lots_3 21 rfl rfl)
theorem dX6_lots_92 : decode cX6_lots 92 = .ok (.getfield 286, 3) := dk_180 1 30 (dk_at dksX6_lots_4 0 rfl rfl)
theorem dX6_lots_95 : decode cX6_lots 95 = .ok (.iconst 1, 1) := dk_4 (dk_at dksX6_lots_4 3 rfl rfl)
theorem dX6_lots_96 : decode cX6_lots 96 = .ok (.isub, 1) := dk_100 (dk_at dksX6_lots_4 4 rfl rfl)
theorem dX6_lots_97 : decode cX6_lots 97 = .ok (.ireturn, 1) := dk_172 (dk_at dksX6_lots_4 5 rfl rfl)
abbrev cX6_isLegs : ByteArray := prog_14_method_44_code
def yX6_isLegs : MethodName := ⟨RX6, "isLegs", "(I)Z"⟩
def dkwX6_isLegs_0 : List UInt8 := [26, 5, 161, 0, 13, 26, 16, 7, 163, 0, 7, 4, 167, 0, 4, 3, 172]
abbrev dktX6_isLegs_0 : List UInt8 := dkwX6_isLegs_0 ++ []
theorem dksX6_isLegs_0 : cX6_isLegs.data.toList.drop 0 = dktX6_isLegs_0 := by decide +kernel
theorem dX6_isLegs_0 : decode cX6_isLegs 0 = .ok (.iload_n 0, 1) := dk_26 (dk_at dksX6_isLegs_0 0 rfl rfl)
theorem dX6_isLegs_1 : decode cX6_isLegs 1 = .ok (.iconst 2, 1) := dk_5 (dk_at dksX6_isLegs_0 1 rfl rfl)
theorem dX6_isLegs_2 : decode cX6_isLegs 2 = .ok (.if_icmp .lt 13, 3) := dk_161 0 13 (dk_at dksX6_isLegs_0 2 rfl rfl)
theorem dX6_isLegs_5 : decode cX6_isLegs 5 = .ok (.iload_n 0, 1) := dk_26 (dk_at dksX6_isLegs_0 5 rfl rfl)
theorem dX6_isLegs_6 : decode cX6_isLegs 6 = .ok (.bipush 7, 2) := dk_16 7 (dk_at dksX6_isLegs_0 6 rfl rfl)
theorem dX6_isLegs_8 : decode cX6_isLegs 8 = .ok (.if_icmp .gt 7, 3) := dk_163 0 7 (dk_at dksX6_isLegs_0 8 rfl rfl)
theorem dX6_isLegs_11 : decode cX6_isLegs 11 = .ok (.iconst 1, 1) := dk_4 (dk_at dksX6_isLegs_0 11 rfl rfl)
theorem dX6_isLegs_12 : decode cX6_isLegs 12 = .ok (.goto 4, 3) := dk_167 0 4 (dk_at dksX6_isLegs_0 12 rfl rfl)
theorem dX6_isLegs_15 : decode cX6_isLegs 15 = .ok (.iconst 0, 1) := dk_3 (dk_at dksX6_isLegs_0 15 rfl rfl)
theorem dX6_isLegs_16 : decode cX6_isLegs 16 = .ok (.ireturn, 1) := dk_172 (dk_at dksX6_isLegs_0 16 rfl rfl)
abbrev cX6_lot : ByteArray := prog_14_method_43_code
def yX6_lot : MethodName := ⟨RX6, "lot", "(III)I"⟩
def dkwX6_lot_0 : List UInt8 := [26, 16, 9, 184, 1, 58, 27, 184, 1, 58, 4, 124, 28, 112, 172]
abbrev dktX6_lot_0 : List UInt8 := dkwX6_lot_0 ++ []
theorem dksX6_lot_0 : cX6_lot.data.toList.drop 0 = dktX6_lot_0 := by decide +kernel
theorem dX6_lot_0 : decode cX6_lot 0 = .ok (.iload_n 0, 1) := dk_26 (dk_at dksX6_lot_0 0 rfl rfl)
theorem dX6_lot_1 : decode cX6_lot 1 = .ok (.bipush 9, 2) := dk_16 9 (dk_at dksX6_lot_0 1 rfl rfl)
theorem dX6_lot_3 : decode cX6_lot 3 = .ok (.invokestatic 314, 3) := dk_184 1 58 (dk_at dksX6_lot_0 3 rfl rfl)
theorem dX6_lot_6 : decode cX6_lot 6 = .ok (.iload_n 1, 1) := dk_27 (dk_at dksX6_lot_0 6 rfl rfl)
theorem dX6_lot_7 : decode cX6_lot 7 = .ok (.invokestatic 314, 3) := dk_184 1 58 (dk_at dksX6_lot_0 7 rfl rfl)
theorem dX6_lot_10 : decode cX6_lot 10 = .ok (.iconst 1, 1) := dk_4 (dk_at dksX6_lot_0 10 rfl rfl)
theorem dX6_lot_11 : decode cX6_lot 11 = .ok (.iushr, 1) := dk_124 (dk_at dksX6_lot_0 11 rfl rfl)
theorem dX6_lot_12 : decode cX6_lot 12 = .ok (.iload_n 2, 1) := dk_28 (dk_at dksX6_lot_0 12 rfl rfl)
theorem dX6_lot_13 : decode cX6_lot 13 = .ok (.irem, 1) := dk_112 (dk_at dksX6_lot_0 13 rfl rfl)
theorem dX6_lot_14 : decode cX6_lot 14 = .ok (.ireturn, 1) := dk_172 (dk_at dksX6_lot_0 14 rfl rfl)
abbrev cX6_mixed : ByteArray := prog_14_method_42_code
def yX6_mixed : MethodName := ⟨RX6, "mixed", "(II)I"⟩
def dkwX6_mixed_0 : List UInt8 := [26, 27, 130, 19, 1, 57, 104, 17, 48, 57, 96, 61, 28, 28, 16, 15, 124, 130, 172]
abbrev dktX6_mixed_0 : List UInt8 := dkwX6_mixed_0 ++ []
theorem dksX6_mixed_0 : cX6_mixed.data.toList.drop 0 = dktX6_mixed_0 := by decide +kernel
theorem dX6_mixed_0 : decode cX6_mixed 0 = .ok (.iload_n 0, 1) := dk_26 (dk_at dksX6_mixed_0 0 rfl rfl)
theorem dX6_mixed_1 : decode cX6_mixed 1 = .ok (.iload_n 1, 1) := dk_27 (dk_at dksX6_mixed_0 1 rfl rfl)
theorem dX6_mixed_2 : decode cX6_mixed 2 = .ok (.ixor, 1) := dk_130 (dk_at dksX6_mixed_0 2 rfl rfl)
theorem dX6_mixed_3 : decode cX6_mixed 3 = .ok (.ldc_w 313, 3) := dk_19 1 57 (dk_at dksX6_mixed_0 3 rfl rfl)
theorem dX6_mixed_6 : decode cX6_mixed 6 = .ok (.imul, 1) := dk_104 (dk_at dksX6_mixed_0 6 rfl rfl)
theorem dX6_mixed_7 : decode cX6_mixed 7 = .ok (.sipush 12345, 3) := dk_17 48 57 (dk_at dksX6_mixed_0 7 rfl rfl)
theorem dX6_mixed_10 : decode cX6_mixed 10 = .ok (.iadd, 1) := dk_96 (dk_at dksX6_mixed_0 10 rfl rfl)
theorem dX6_mixed_11 : decode cX6_mixed 11 = .ok (.istore_n 2, 1) := dk_61 (dk_at dksX6_mixed_0 11 rfl rfl)
theorem dX6_mixed_12 : decode cX6_mixed 12 = .ok (.iload_n 2, 1) := dk_28 (dk_at dksX6_mixed_0 12 rfl rfl)
theorem dX6_mixed_13 : decode cX6_mixed 13 = .ok (.iload_n 2, 1) := dk_28 (dk_at dksX6_mixed_0 13 rfl rfl)
theorem dX6_mixed_14 : decode cX6_mixed 14 = .ok (.bipush 15, 2) := dk_16 15 (dk_at dksX6_mixed_0 14 rfl rfl)
theorem dX6_mixed_16 : decode cX6_mixed 16 = .ok (.iushr, 1) := dk_124 (dk_at dksX6_mixed_0 16 rfl rfl)
theorem dX6_mixed_17 : decode cX6_mixed 17 = .ok (.ixor, 1) := dk_130 (dk_at dksX6_mixed_0 17 rfl rfl)
theorem dX6_mixed_18 : decode cX6_mixed 18 = .ok (.ireturn, 1) := dk_172 (dk_at dksX6_mixed_0 18 rfl rfl)
abbrev cX6_ladder : ByteArray := prog_14_method_47_code
def yX6_ladder : MethodName := ⟨RX6, "ladder", "(II)I"⟩
def dkwX6_ladder_3 : List UInt8 := [42, 27, 182, 1, 72, 153, 0, 7, 4, 167, 0, 4, 3, 172]
abbrev dktX6_ladder_3 : List UInt8 := dkwX6_ladder_3 ++ []
def dkwX6_ladder_2 : List UInt8 := [160, 0, 11, 42, 27, 182, 1, 54, 167, 0, 29, 28, 6, 160, 0, 11, 42, 27, 182, 1, 69, 167, 0, 16]
abbrev dktX6_ladder_2 : List UInt8 := dkwX6_ladder_2 ++ dktX6_ladder_3
def dkwX6_ladder_1 : List UInt8 := [180, 0, 7, 27, 46, 167, 0, 56, 28, 4, 160, 0, 12, 42, 180, 0, 13, 27, 46, 167, 0, 42, 28, 5]
abbrev dktX6_ladder_1 : List UInt8 := dkwX6_ladder_1 ++ dktX6_ladder_2
def dkwX6_ladder_0 : List UInt8 := [42, 27, 182, 1, 51, 153, 0, 12, 28, 155, 0, 8, 28, 7, 164, 0, 5, 2, 172, 28, 154, 0, 12, 42]
abbrev dktX6_ladder_0 : List UInt8 := dkwX6_ladder_0 ++ dktX6_ladder_1
theorem dksX6_ladder_0 : cX6_ladder.data.toList.drop 0 = dktX6_ladder_0 := by decide +kernel
theorem dksX6_ladder_1 : cX6_ladder.data.toList.drop 24 = dktX6_ladder_1 := dk_seg dksX6_ladder_0 24 rfl rfl
theorem dksX6_ladder_2 : cX6_ladder.data.toList.drop 48 = dktX6_ladder_2 := dk_seg dksX6_ladder_1 24 rfl rfl
theorem dksX6_ladder_3 : cX6_ladder.data.toList.drop 72 = dktX6_ladder_3 := dk_seg dksX6_ladder_2 24 rfl rfl
theorem dX6_ladder_0 : decode cX6_ladder 0 = .ok (.aload_n 0, 1) := dk_42 (dk_at dksX6_ladder_0 0 rfl rfl)
theorem dX6_ladder_1 : decode cX6_ladder 1 = .ok (.iload_n 1, 1) := dk_27 (dk_at dksX6_ladder_0 1 rfl rfl)
theorem dX6_ladder_2 : decode cX6_ladder 2 = .ok (.invokevirtual 307, 3) := dk_182 1 51 (dk_at dksX6_ladder_0 2 rfl rfl)
theorem dX6_ladder_5 : decode cX6_ladder 5 = .ok (.ifCond .eq 12, 3) := dk_153 0 12 (dk_at dksX6_ladder_0 5 rfl rfl)
theorem dX6_ladder_8 : decode cX6_ladder 8 = .ok (.iload_n 2, 1) := dk_28 (dk_at dksX6_ladder_0 8 rfl rfl)
theorem dX6_ladder_9 : decode cX6_ladder 9 = .ok (.ifCond .lt 8, 3) := dk_155 0 8 (dk_at dksX6_ladder_0 9 rfl rfl)
theorem dX6_ladder_12 : decode cX6_ladder 12 = .ok (.iload_n 2, 1) := dk_28 (dk_at dksX6_ladder_0 12 rfl rfl)
theorem dX6_ladder_13 : decode cX6_ladder 13 = .ok (.iconst 4, 1) := dk_7 (dk_at dksX6_ladder_0 13 rfl rfl)
theorem dX6_ladder_14 : decode cX6_ladder 14 = .ok (.if_icmp .le 5, 3) := dk_164 0 5 (dk_at dksX6_ladder_0 14 rfl rfl)
theorem dX6_ladder_17 : decode cX6_ladder 17 = .ok (.iconst (-1), 1) := dk_2 (dk_at dksX6_ladder_0 17 rfl rfl)
theorem dX6_ladder_18 : decode cX6_ladder 18 = .ok (.ireturn, 1) := dk_172 (dk_at dksX6_ladder_0 18 rfl rfl)
theorem dX6_ladder_19 : decode cX6_ladder 19 = .ok (.iload_n 2, 1) := dk_28 (dk_at dksX6_ladder_0 19 rfl rfl)
theorem dX6_ladder_20 : decode cX6_ladder 20 = .ok (.ifCond .ne 12, 3) := dk_154 0 12 (dk_at dksX6_ladder_0 20 rfl rfl)
theorem dX6_ladder_23 : decode cX6_ladder 23 = .ok (.aload_n 0, 1) := dk_42 (dk_at dksX6_ladder_0 23 rfl rfl)
theorem dX6_ladder_24 : decode cX6_ladder 24 = .ok (.getfield 7, 3) := dk_180 0 7 (dk_at dksX6_ladder_1 0 rfl rfl)
theorem dX6_ladder_27 : decode cX6_ladder 27 = .ok (.iload_n 1, 1) := dk_27 (dk_at dksX6_ladder_1 3 rfl rfl)
theorem dX6_ladder_28 : decode cX6_ladder 28 = .ok (.iaload, 1) := dk_46 (dk_at dksX6_ladder_1 4 rfl rfl)
theorem dX6_ladder_29 : decode cX6_ladder 29 = .ok (.goto 56, 3) := dk_167 0 56 (dk_at dksX6_ladder_1 5 rfl rfl)
theorem dX6_ladder_32 : decode cX6_ladder 32 = .ok (.iload_n 2, 1) := dk_28 (dk_at dksX6_ladder_1 8 rfl rfl)
theorem dX6_ladder_33 : decode cX6_ladder 33 = .ok (.iconst 1, 1) := dk_4 (dk_at dksX6_ladder_1 9 rfl rfl)
theorem dX6_ladder_34 : decode cX6_ladder 34 = .ok (.if_icmp .ne 12, 3) := dk_160 0 12 (dk_at dksX6_ladder_1 10 rfl rfl)
theorem dX6_ladder_37 : decode cX6_ladder 37 = .ok (.aload_n 0, 1) := dk_42 (dk_at dksX6_ladder_1 13 rfl rfl)
theorem dX6_ladder_38 : decode cX6_ladder 38 = .ok (.getfield 13, 3) := dk_180 0 13 (dk_at dksX6_ladder_1 14 rfl rfl)
theorem dX6_ladder_41 : decode cX6_ladder 41 = .ok (.iload_n 1, 1) := dk_27 (dk_at dksX6_ladder_1 17 rfl rfl)
theorem dX6_ladder_42 : decode cX6_ladder 42 = .ok (.iaload, 1) := dk_46 (dk_at dksX6_ladder_1 18 rfl rfl)
theorem dX6_ladder_43 : decode cX6_ladder 43 = .ok (.goto 42, 3) := dk_167 0 42 (dk_at dksX6_ladder_1 19 rfl rfl)
theorem dX6_ladder_46 : decode cX6_ladder 46 = .ok (.iload_n 2, 1) := dk_28 (dk_at dksX6_ladder_1 22 rfl rfl)
theorem dX6_ladder_47 : decode cX6_ladder 47 = .ok (.iconst 2, 1) := dk_5 (dk_at dksX6_ladder_1 23 rfl rfl)
theorem dX6_ladder_48 : decode cX6_ladder 48 = .ok (.if_icmp .ne 11, 3) := dk_160 0 11 (dk_at dksX6_ladder_2 0 rfl rfl)
theorem dX6_ladder_51 : decode cX6_ladder 51 = .ok (.aload_n 0, 1) := dk_42 (dk_at dksX6_ladder_2 3 rfl rfl)
theorem dX6_ladder_52 : decode cX6_ladder 52 = .ok (.iload_n 1, 1) := dk_27 (dk_at dksX6_ladder_2 4 rfl rfl)
theorem dX6_ladder_53 : decode cX6_ladder 53 = .ok (.invokevirtual 310, 3) := dk_182 1 54 (dk_at dksX6_ladder_2 5 rfl rfl)
theorem dX6_ladder_56 : decode cX6_ladder 56 = .ok (.goto 29, 3) := dk_167 0 29 (dk_at dksX6_ladder_2 8 rfl rfl)
theorem dX6_ladder_59 : decode cX6_ladder 59 = .ok (.iload_n 2, 1) := dk_28 (dk_at dksX6_ladder_2 11 rfl rfl)
theorem dX6_ladder_60 : decode cX6_ladder 60 = .ok (.iconst 3, 1) := dk_6 (dk_at dksX6_ladder_2 12 rfl rfl)
theorem dX6_ladder_61 : decode cX6_ladder 61 = .ok (.if_icmp .ne 11, 3) := dk_160 0 11 (dk_at dksX6_ladder_2 13 rfl rfl)
theorem dX6_ladder_64 : decode cX6_ladder 64 = .ok (.aload_n 0, 1) := dk_42 (dk_at dksX6_ladder_2 16 rfl rfl)
theorem dX6_ladder_65 : decode cX6_ladder 65 = .ok (.iload_n 1, 1) := dk_27 (dk_at dksX6_ladder_2 17 rfl rfl)
theorem dX6_ladder_66 : decode cX6_ladder 66 = .ok (.invokevirtual 325, 3) := dk_182 1 69 (dk_at dksX6_ladder_2 18 rfl rfl)
theorem dX6_ladder_69 : decode cX6_ladder 69 = .ok (.goto 16, 3) := dk_167 0 16 (dk_at dksX6_ladder_2 21 rfl rfl)
theorem dX6_ladder_72 : decode cX6_ladder 72 = .ok (.aload_n 0, 1) := dk_42 (dk_at dksX6_ladder_3 0 rfl rfl)
theorem dX6_ladder_73 : decode cX6_ladder 73 = .ok (.iload_n 1, 1) := dk_27 (dk_at dksX6_ladder_3 1 rfl rfl)
theorem dX6_ladder_74 : decode cX6_ladder 74 = .ok (.invokevirtual 328, 3) := dk_182 1 72 (dk_at dksX6_ladder_3 2 rfl rfl)
theorem dX6_ladder_77 : decode cX6_ladder 77 = .ok (.ifCond .eq 7, 3) := dk_153 0 7 (dk_at dksX6_ladder_3 5 rfl rfl)
theorem dX6_ladder_80 : decode cX6_ladder 80 = .ok (.iconst 1, 1) := dk_4 (dk_at dksX6_ladder_3 8 rfl rfl)
theorem dX6_ladder_81 : decode cX6_ladder 81 = .ok (.goto 4, 3) := dk_167 0 4 (dk_at dksX6_ladder_3 9 rfl rfl)
theorem dX6_ladder_84 : decode cX6_ladder 84 = .ok (.iconst 0, 1) := dk_3 (dk_at dksX6_ladder_3 12 rfl rfl)
theorem dX6_ladder_85 : decode cX6_ladder 85 = .ok (.ireturn, 1) := dk_172 (dk_at dksX6_ladder_3 13 rfl rfl)
abbrev cX6_layer : ByteArray := prog_14_method_46_code
def yX6_layer : MethodName := ⟨RX6, "layer", "(I)I"⟩
def dkwX6_layer_5 : List UInt8 := [21, 5, 79, 21, 5, 28, 164, 0, 8, 21, 5, 167, 0, 4, 28, 61, 132, 3, 1, 167, 255, 146, 28, 172]
abbrev dktX6_layer_5 : List UInt8 := dkwX6_layer_5 ++ []
def dkwX6_layer_4 : List UInt8 := [180, 0, 94, 21, 4, 21, 5, 79, 42, 180, 0, 94, 21, 4, 4, 96, 21, 5, 79, 42, 180, 0, 91, 29]
abbrev dktX6_layer_4 : List UInt8 := dkwX6_layer_4 ++ dktX6_layer_5
def dkwX6_layer_3 : List UInt8 := [180, 0, 94, 21, 4, 46, 167, 0, 12, 42, 180, 0, 94, 21, 4, 4, 96, 46, 4, 96, 54, 5, 42]
abbrev dktX6_layer_3 : List UInt8 := dkwX6_layer_3 ++ dktX6_layer_4
def dkwX6_layer_2 : List UInt8 := [54, 4, 42, 180, 0, 94, 21, 4, 46, 42, 180, 0, 94, 21, 4, 4, 96, 46, 164, 0, 13, 42]
abbrev dktX6_layer_2 : List UInt8 := dkwX6_layer_2 ++ dktX6_layer_3
def dkwX6_layer_1 : List UInt8 := [62, 29, 42, 180, 0, 13, 27, 46, 162, 0, 106, 42, 180, 0, 19, 17, 0, 200, 27, 104, 29, 96, 46]
abbrev dktX6_layer_1 : List UInt8 := dkwX6_layer_1 ++ dktX6_layer_2
def dkwX6_layer_0 : List UInt8 := [3, 61, 3, 62, 29, 16, 7, 162, 0, 16, 42, 180, 0, 94, 29, 3, 79, 132, 3, 1, 167, 255, 240, 3]
abbrev dktX6_layer_0 : List UInt8 := dkwX6_layer_0 ++ dktX6_layer_1
theorem dksX6_layer_0 : cX6_layer.data.toList.drop 0 = dktX6_layer_0 := by decide +kernel
theorem dksX6_layer_1 : cX6_layer.data.toList.drop 24 = dktX6_layer_1 := dk_seg dksX6_layer_0 24 rfl rfl
theorem dksX6_layer_2 : cX6_layer.data.toList.drop 47 = dktX6_layer_2 := dk_seg dksX6_layer_1 23 rfl rfl
theorem dksX6_layer_3 : cX6_layer.data.toList.drop 69 = dktX6_layer_3 := dk_seg dksX6_layer_2 22 rfl rfl
theorem dksX6_layer_4 : cX6_layer.data.toList.drop 92 = dktX6_layer_4 := dk_seg dksX6_layer_3 23 rfl rfl
theorem dksX6_layer_5 : cX6_layer.data.toList.drop 116 = dktX6_layer_5 := dk_seg dksX6_layer_4 24 rfl rfl
theorem dX6_layer_0 : decode cX6_layer 0 = .ok (.iconst 0, 1) := dk_3 (dk_at dksX6_layer_0 0 rfl rfl)
theorem dX6_layer_1 : decode cX6_layer 1 = .ok (.istore_n 2, 1) := dk_61 (dk_at dksX6_layer_0 1 rfl rfl)
theorem dX6_layer_2 : decode cX6_layer 2 = .ok (.iconst 0, 1) := dk_3 (dk_at dksX6_layer_0 2 rfl rfl)
theorem dX6_layer_3 : decode cX6_layer 3 = .ok (.istore_n 3, 1) := dk_62 (dk_at dksX6_layer_0 3 rfl rfl)
theorem dX6_layer_4 : decode cX6_layer 4 = .ok (.iload_n 3, 1) := dk_29 (dk_at dksX6_layer_0 4 rfl rfl)
theorem dX6_layer_5 : decode cX6_layer 5 = .ok (.bipush 7, 2) := dk_16 7 (dk_at dksX6_layer_0 5 rfl rfl)
theorem dX6_layer_7 : decode cX6_layer 7 = .ok (.if_icmp .ge 16, 3) := dk_162 0 16 (dk_at dksX6_layer_0 7 rfl rfl)
theorem dX6_layer_10 : decode cX6_layer 10 = .ok (.aload_n 0, 1) := dk_42 (dk_at dksX6_layer_0 10 rfl rfl)
theorem dX6_layer_11 : decode cX6_layer 11 = .ok (.getfield 94, 3) := dk_180 0 94 (dk_at dksX6_layer_0 11 rfl rfl)
theorem dX6_layer_14 : decode cX6_layer 14 = .ok (.iload_n 3, 1) := dk_29 (dk_at dksX6_layer_0 14 rfl rfl)
theorem dX6_layer_15 : decode cX6_layer 15 = .ok (.iconst 0, 1) := dk_3 (dk_at dksX6_layer_0 15 rfl rfl)
theorem dX6_layer_16 : decode cX6_layer 16 = .ok (.iastore, 1) := dk_79 (dk_at dksX6_layer_0 16 rfl rfl)
theorem dX6_layer_17 : decode cX6_layer 17 = .ok (.iinc 3 1, 3) := dk_132 3 1 (dk_at dksX6_layer_0 17 rfl rfl)
theorem dX6_layer_20 : decode cX6_layer 20 = .ok (.goto (-16), 3) := dk_167 255 240 (dk_at dksX6_layer_0 20 rfl rfl)
theorem dX6_layer_23 : decode cX6_layer 23 = .ok (.iconst 0, 1) := dk_3 (dk_at dksX6_layer_0 23 rfl rfl)
theorem dX6_layer_24 : decode cX6_layer 24 = .ok (.istore_n 3, 1) := dk_62 (dk_at dksX6_layer_1 0 rfl rfl)
theorem dX6_layer_25 : decode cX6_layer 25 = .ok (.iload_n 3, 1) := dk_29 (dk_at dksX6_layer_1 1 rfl rfl)
theorem dX6_layer_26 : decode cX6_layer 26 = .ok (.aload_n 0, 1) := dk_42 (dk_at dksX6_layer_1 2 rfl rfl)
theorem dX6_layer_27 : decode cX6_layer 27 = .ok (.getfield 13, 3) := dk_180 0 13 (dk_at dksX6_layer_1 3 rfl rfl)
theorem dX6_layer_30 : decode cX6_layer 30 = .ok (.iload_n 1, 1) := dk_27 (dk_at dksX6_layer_1 6 rfl rfl)
theorem dX6_layer_31 : decode cX6_layer 31 = .ok (.iaload, 1) := dk_46 (dk_at dksX6_layer_1 7 rfl rfl)
theorem dX6_layer_32 : decode cX6_layer 32 = .ok (.if_icmp .ge 106, 3) := dk_162 0 106 (dk_at dksX6_layer_1 8 rfl rfl)
theorem dX6_layer_35 : decode cX6_layer 35 = .ok (.aload_n 0, 1) := dk_42 (dk_at dksX6_layer_1 11 rfl rfl)
theorem dX6_layer_36 : decode cX6_layer 36 = .ok (.getfield 19, 3) := dk_180 0 19 (dk_at dksX6_layer_1 12 rfl rfl)
theorem dX6_layer_39 : decode cX6_layer 39 = .ok (.sipush 200, 3) := dk_17 0 200 (dk_at dksX6_layer_1 15 rfl rfl)
theorem dX6_layer_42 : decode cX6_layer 42 = .ok (.iload_n 1, 1) := dk_27 (dk_at dksX6_layer_1 18 rfl rfl)
theorem dX6_layer_43 : decode cX6_layer 43 = .ok (.imul, 1) := dk_104 (dk_at dksX6_layer_1 19 rfl rfl)
theorem dX6_layer_44 : decode cX6_layer 44 = .ok (.iload_n 3, 1) := dk_29 (dk_at dksX6_layer_1 20 rfl rfl)
theorem dX6_layer_45 : decode cX6_layer 45 = .ok (.iadd, 1) := dk_96 (dk_at dksX6_layer_1 21 rfl rfl)
theorem dX6_layer_46 : decode cX6_layer 46 = .ok (.iaload, 1) := dk_46 (dk_at dksX6_layer_1 22 rfl rfl)
theorem dX6_layer_47 : decode cX6_layer 47 = .ok (.istore 4, 2) := dk_54 4 (dk_at dksX6_layer_2 0 rfl rfl)
theorem dX6_layer_49 : decode cX6_layer 49 = .ok (.aload_n 0, 1) := dk_42 (dk_at dksX6_layer_2 2 rfl rfl)
theorem dX6_layer_50 : decode cX6_layer 50 = .ok (.getfield 94, 3) := dk_180 0 94 (dk_at dksX6_layer_2 3 rfl rfl)
theorem dX6_layer_53 : decode cX6_layer 53 = .ok (.iload 4, 2) := dk_21 4 (dk_at dksX6_layer_2 6 rfl rfl)
theorem dX6_layer_55 : decode cX6_layer 55 = .ok (.iaload, 1) := dk_46 (dk_at dksX6_layer_2 8 rfl rfl)
theorem dX6_layer_56 : decode cX6_layer 56 = .ok (.aload_n 0, 1) := dk_42 (dk_at dksX6_layer_2 9 rfl rfl)
theorem dX6_layer_57 : decode cX6_layer 57 = .ok (.getfield 94, 3) := dk_180 0 94 (dk_at dksX6_layer_2 10 rfl rfl)
theorem dX6_layer_60 : decode cX6_layer 60 = .ok (.iload 4, 2) := dk_21 4 (dk_at dksX6_layer_2 13 rfl rfl)
theorem dX6_layer_62 : decode cX6_layer 62 = .ok (.iconst 1, 1) := dk_4 (dk_at dksX6_layer_2 15 rfl rfl)
theorem dX6_layer_63 : decode cX6_layer 63 = .ok (.iadd, 1) := dk_96 (dk_at dksX6_layer_2 16 rfl rfl)
theorem dX6_layer_64 : decode cX6_layer 64 = .ok (.iaload, 1) := dk_46 (dk_at dksX6_layer_2 17 rfl rfl)
theorem dX6_layer_65 : decode cX6_layer 65 = .ok (.if_icmp .le 13, 3) := dk_164 0 13 (dk_at dksX6_layer_2 18 rfl rfl)
theorem dX6_layer_68 : decode cX6_layer 68 = .ok (.aload_n 0, 1) := dk_42 (dk_at dksX6_layer_2 21 rfl rfl)
theorem dX6_layer_69 : decode cX6_layer 69 = .ok (.getfield 94, 3) := dk_180 0 94 (dk_at dksX6_layer_3 0 rfl rfl)
theorem dX6_layer_72 : decode cX6_layer 72 = .ok (.iload 4, 2) := dk_21 4 (dk_at dksX6_layer_3 3 rfl rfl)
theorem dX6_layer_74 : decode cX6_layer 74 = .ok (.iaload, 1) := dk_46 (dk_at dksX6_layer_3 5 rfl rfl)
theorem dX6_layer_75 : decode cX6_layer 75 = .ok (.goto 12, 3) := dk_167 0 12 (dk_at dksX6_layer_3 6 rfl rfl)
theorem dX6_layer_78 : decode cX6_layer 78 = .ok (.aload_n 0, 1) := dk_42 (dk_at dksX6_layer_3 9 rfl rfl)
theorem dX6_layer_79 : decode cX6_layer 79 = .ok (.getfield 94, 3) := dk_180 0 94 (dk_at dksX6_layer_3 10 rfl rfl)
theorem dX6_layer_82 : decode cX6_layer 82 = .ok (.iload 4, 2) := dk_21 4 (dk_at dksX6_layer_3 13 rfl rfl)
theorem dX6_layer_84 : decode cX6_layer 84 = .ok (.iconst 1, 1) := dk_4 (dk_at dksX6_layer_3 15 rfl rfl)
theorem dX6_layer_85 : decode cX6_layer 85 = .ok (.iadd, 1) := dk_96 (dk_at dksX6_layer_3 16 rfl rfl)
theorem dX6_layer_86 : decode cX6_layer 86 = .ok (.iaload, 1) := dk_46 (dk_at dksX6_layer_3 17 rfl rfl)
theorem dX6_layer_87 : decode cX6_layer 87 = .ok (.iconst 1, 1) := dk_4 (dk_at dksX6_layer_3 18 rfl rfl)
theorem dX6_layer_88 : decode cX6_layer 88 = .ok (.iadd, 1) := dk_96 (dk_at dksX6_layer_3 19 rfl rfl)
theorem dX6_layer_89 : decode cX6_layer 89 = .ok (.istore 5, 2) := dk_54 5 (dk_at dksX6_layer_3 20 rfl rfl)
theorem dX6_layer_91 : decode cX6_layer 91 = .ok (.aload_n 0, 1) := dk_42 (dk_at dksX6_layer_3 22 rfl rfl)
theorem dX6_layer_92 : decode cX6_layer 92 = .ok (.getfield 94, 3) := dk_180 0 94 (dk_at dksX6_layer_4 0 rfl rfl)
theorem dX6_layer_95 : decode cX6_layer 95 = .ok (.iload 4, 2) := dk_21 4 (dk_at dksX6_layer_4 3 rfl rfl)
theorem dX6_layer_97 : decode cX6_layer 97 = .ok (.iload 5, 2) := dk_21 5 (dk_at dksX6_layer_4 5 rfl rfl)
theorem dX6_layer_99 : decode cX6_layer 99 = .ok (.iastore, 1) := dk_79 (dk_at dksX6_layer_4 7 rfl rfl)
theorem dX6_layer_100 : decode cX6_layer 100 = .ok (.aload_n 0, 1) := dk_42 (dk_at dksX6_layer_4 8 rfl rfl)
theorem dX6_layer_101 : decode cX6_layer 101 = .ok (.getfield 94, 3) := dk_180 0 94 (dk_at dksX6_layer_4 9 rfl rfl)
theorem dX6_layer_104 : decode cX6_layer 104 = .ok (.iload 4, 2) := dk_21 4 (dk_at dksX6_layer_4 12 rfl rfl)
theorem dX6_layer_106 : decode cX6_layer 106 = .ok (.iconst 1, 1) := dk_4 (dk_at dksX6_layer_4 14 rfl rfl)
theorem dX6_layer_107 : decode cX6_layer 107 = .ok (.iadd, 1) := dk_96 (dk_at dksX6_layer_4 15 rfl rfl)
theorem dX6_layer_108 : decode cX6_layer 108 = .ok (.iload 5, 2) := dk_21 5 (dk_at dksX6_layer_4 16 rfl rfl)
theorem dX6_layer_110 : decode cX6_layer 110 = .ok (.iastore, 1) := dk_79 (dk_at dksX6_layer_4 18 rfl rfl)
theorem dX6_layer_111 : decode cX6_layer 111 = .ok (.aload_n 0, 1) := dk_42 (dk_at dksX6_layer_4 19 rfl rfl)
theorem dX6_layer_112 : decode cX6_layer 112 = .ok (.getfield 91, 3) := dk_180 0 91 (dk_at dksX6_layer_4 20 rfl rfl)
theorem dX6_layer_115 : decode cX6_layer 115 = .ok (.iload_n 3, 1) := dk_29 (dk_at dksX6_layer_4 23 rfl rfl)
theorem dX6_layer_116 : decode cX6_layer 116 = .ok (.iload 5, 2) := dk_21 5 (dk_at dksX6_layer_5 0 rfl rfl)
theorem dX6_layer_118 : decode cX6_layer 118 = .ok (.iastore, 1) := dk_79 (dk_at dksX6_layer_5 2 rfl rfl)
theorem dX6_layer_119 : decode cX6_layer 119 = .ok (.iload 5, 2) := dk_21 5 (dk_at dksX6_layer_5 3 rfl rfl)
theorem dX6_layer_121 : decode cX6_layer 121 = .ok (.iload_n 2, 1) := dk_28 (dk_at dksX6_layer_5 5 rfl rfl)
theorem dX6_layer_122 : decode cX6_layer 122 = .ok (.if_icmp .le 8, 3) := dk_164 0 8 (dk_at dksX6_layer_5 6 rfl rfl)
theorem dX6_layer_125 : decode cX6_layer 125 = .ok (.iload 5, 2) := dk_21 5 (dk_at dksX6_layer_5 9 rfl rfl)
theorem dX6_layer_127 : decode cX6_layer 127 = .ok (.goto 4, 3) := dk_167 0 4 (dk_at dksX6_layer_5 11 rfl rfl)
theorem dX6_layer_130 : decode cX6_layer 130 = .ok (.iload_n 2, 1) := dk_28 (dk_at dksX6_layer_5 14 rfl rfl)
theorem dX6_layer_131 : decode cX6_layer 131 = .ok (.istore_n 2, 1) := dk_61 (dk_at dksX6_layer_5 15 rfl rfl)
theorem dX6_layer_132 : decode cX6_layer 132 = .ok (.iinc 3 1, 3) := dk_132 3 1 (dk_at dksX6_layer_5 16 rfl rfl)
theorem dX6_layer_135 : decode cX6_layer 135 = .ok (.goto (-110), 3) := dk_167 255 146 (dk_at dksX6_layer_5 19 rfl rfl)
theorem dX6_layer_138 : decode cX6_layer 138 = .ok (.iload_n 2, 1) := dk_28 (dk_at dksX6_layer_5 22 rfl rfl)
theorem dX6_layer_139 : decode cX6_layer 139 = .ok (.ireturn, 1) := dk_172 (dk_at dksX6_layer_5 23 rfl rfl)
abbrev cX6_isPlain : ByteArray := prog_14_method_38_code
def yX6_isPlain : MethodName := ⟨RX6, "isPlain", "(I)Z"⟩
def dkwX6_isPlain_1 : List UInt8 := [153, 0, 5, 3, 172, 132, 2, 1, 167, 255, 226, 4, 172]
abbrev dktX6_isPlain_1 : List UInt8 := dkwX6_isPlain_1 ++ []
def dkwX6_isPlain_0 : List UInt8 := [3, 61, 28, 42, 180, 0, 13, 27, 46, 162, 0, 26, 42, 180, 0, 16, 17, 0, 200, 27, 104, 28, 96, 46]
abbrev dktX6_isPlain_0 : List UInt8 := dkwX6_isPlain_0 ++ dktX6_isPlain_1
theorem dksX6_isPlain_0 : cX6_isPlain.data.toList.drop 0 = dktX6_isPlain_0 := by decide +kernel
theorem dksX6_isPlain_1 : cX6_isPlain.data.toList.drop 24 = dktX6_isPlain_1 := dk_seg dksX6_isPlain_0 24 rfl rfl
theorem dX6_isPlain_0 : decode cX6_isPlain 0 = .ok (.iconst 0, 1) := dk_3 (dk_at dksX6_isPlain_0 0 rfl rfl)
theorem dX6_isPlain_1 : decode cX6_isPlain 1 = .ok (.istore_n 2, 1) := dk_61 (dk_at dksX6_isPlain_0 1 rfl rfl)
theorem dX6_isPlain_2 : decode cX6_isPlain 2 = .ok (.iload_n 2, 1) := dk_28 (dk_at dksX6_isPlain_0 2 rfl rfl)
theorem dX6_isPlain_3 : decode cX6_isPlain 3 = .ok (.aload_n 0, 1) := dk_42 (dk_at dksX6_isPlain_0 3 rfl rfl)
theorem dX6_isPlain_4 : decode cX6_isPlain 4 = .ok (.getfield 13, 3) := dk_180 0 13 (dk_at dksX6_isPlain_0 4 rfl rfl)
theorem dX6_isPlain_7 : decode cX6_isPlain 7 = .ok (.iload_n 1, 1) := dk_27 (dk_at dksX6_isPlain_0 7 rfl rfl)
theorem dX6_isPlain_8 : decode cX6_isPlain 8 = .ok (.iaload, 1) := dk_46 (dk_at dksX6_isPlain_0 8 rfl rfl)
theorem dX6_isPlain_9 : decode cX6_isPlain 9 = .ok (.if_icmp .ge 26, 3) := dk_162 0 26 (dk_at dksX6_isPlain_0 9 rfl rfl)
theorem dX6_isPlain_12 : decode cX6_isPlain 12 = .ok (.aload_n 0, 1) := dk_42 (dk_at dksX6_isPlain_0 12 rfl rfl)
theorem dX6_isPlain_13 : decode cX6_isPlain 13 = .ok (.getfield 16, 3) := dk_180 0 16 (dk_at dksX6_isPlain_0 13 rfl rfl)
theorem dX6_isPlain_16 : decode cX6_isPlain 16 = .ok (.sipush 200, 3) := dk_17 0 200 (dk_at dksX6_isPlain_0 16 rfl rfl)
theorem dX6_isPlain_19 : decode cX6_isPlain 19 = .ok (.iload_n 1, 1) := dk_27 (dk_at dksX6_isPlain_0 19 rfl rfl)
theorem dX6_isPlain_20 : decode cX6_isPlain 20 = .ok (.imul, 1) := dk_104 (dk_at dksX6_isPlain_0 20 rfl rfl)
theorem dX6_isPlain_21 : decode cX6_isPlain 21 = .ok (.iload_n 2, 1) := dk_28 (dk_at dksX6_isPlain_0 21 rfl rfl)
theorem dX6_isPlain_22 : decode cX6_isPlain 22 = .ok (.iadd, 1) := dk_96 (dk_at dksX6_isPlain_0 22 rfl rfl)
theorem dX6_isPlain_23 : decode cX6_isPlain 23 = .ok (.iaload, 1) := dk_46 (dk_at dksX6_isPlain_0 23 rfl rfl)
theorem dX6_isPlain_24 : decode cX6_isPlain 24 = .ok (.ifCond .eq 5, 3) := dk_153 0 5 (dk_at dksX6_isPlain_1 0 rfl rfl)
theorem dX6_isPlain_27 : decode cX6_isPlain 27 = .ok (.iconst 0, 1) := dk_3 (dk_at dksX6_isPlain_1 3 rfl rfl)
theorem dX6_isPlain_28 : decode cX6_isPlain 28 = .ok (.ireturn, 1) := dk_172 (dk_at dksX6_isPlain_1 4 rfl rfl)
theorem dX6_isPlain_29 : decode cX6_isPlain 29 = .ok (.iinc 2 1, 3) := dk_132 2 1 (dk_at dksX6_isPlain_1 5 rfl rfl)
theorem dX6_isPlain_32 : decode cX6_isPlain 32 = .ok (.goto (-30), 3) := dk_167 255 226 (dk_at dksX6_isPlain_1 8 rfl rfl)
theorem dX6_isPlain_35 : decode cX6_isPlain 35 = .ok (.iconst 1, 1) := dk_4 (dk_at dksX6_isPlain_1 11 rfl rfl)
theorem dX6_isPlain_36 : decode cX6_isPlain 36 = .ok (.ireturn, 1) := dk_172 (dk_at dksX6_isPlain_1 12 rfl rfl)
abbrev cX6_element : ByteArray := prog_14_method_48_code
def yX6_element : MethodName := ⟨RX6, "element", "(III)I"⟩
def dkwX6_element_5 : List UInt8 := [180, 0, 25, 21, 4, 46, 172]
abbrev dktX6_element_5 : List UInt8 := dkwX6_element_5 ++ []
def dkwX6_element_4 : List UInt8 := [6, 159, 0, 7, 2, 167, 0, 25, 29, 5, 160, 0, 13, 42, 180, 0, 22, 21, 4, 46, 167, 0, 10, 42]
abbrev dktX6_element_4 : List UInt8 := dkwX6_element_4 ++ dktX6_element_5
def dkwX6_element_3 : List UInt8 := [160, 0, 17, 42, 27, 182, 1, 69, 54, 5, 42, 180, 0, 91, 28, 46, 172, 42, 180, 0, 16, 21, 4, 46]
abbrev dktX6_element_3 : List UInt8 := dkwX6_element_3 ++ dktX6_element_4
def dkwX6_element_2 : List UInt8 := [29, 154, 0, 13, 42, 180, 0, 19, 21, 4, 46, 167, 0, 10, 42, 180, 0, 16, 21, 4, 46, 172, 29, 7]
abbrev dktX6_element_2 : List UInt8 := dkwX6_element_2 ++ dktX6_element_3
def dkwX6_element_1 : List UInt8 := [155, 0, 8, 29, 7, 164, 0, 5, 2, 172, 17, 0, 200, 27, 104, 28, 96, 54, 4, 29, 5, 162, 0, 25]
abbrev dktX6_element_1 : List UInt8 := dkwX6_element_1 ++ dktX6_element_2
def dkwX6_element_0 : List UInt8 := [42, 27, 182, 1, 51, 153, 0, 26, 28, 155, 0, 22, 28, 42, 180, 0, 13, 27, 46, 162, 0, 12, 29]
abbrev dktX6_element_0 : List UInt8 := dkwX6_element_0 ++ dktX6_element_1
theorem dksX6_element_0 : cX6_element.data.toList.drop 0 = dktX6_element_0 := by decide +kernel
theorem dksX6_element_1 : cX6_element.data.toList.drop 23 = dktX6_element_1 := dk_seg dksX6_element_0 23 rfl rfl
theorem dksX6_element_2 : cX6_element.data.toList.drop 47 = dktX6_element_2 := dk_seg dksX6_element_1 24 rfl rfl
theorem dksX6_element_3 : cX6_element.data.toList.drop 71 = dktX6_element_3 := dk_seg dksX6_element_2 24 rfl rfl
theorem dksX6_element_4 : cX6_element.data.toList.drop 95 = dktX6_element_4 := dk_seg dksX6_element_3 24 rfl rfl
theorem dksX6_element_5 : cX6_element.data.toList.drop 119 = dktX6_element_5 := dk_seg dksX6_element_4 24 rfl rfl
theorem dX6_element_0 : decode cX6_element 0 = .ok (.aload_n 0, 1) := dk_42 (dk_at dksX6_element_0 0 rfl rfl)
theorem dX6_element_1 : decode cX6_element 1 = .ok (.iload_n 1, 1) := dk_27 (dk_at dksX6_element_0 1 rfl rfl)
theorem dX6_element_2 : decode cX6_element 2 = .ok (.invokevirtual 307, 3) := dk_182 1 51 (dk_at dksX6_element_0 2 rfl rfl)
theorem dX6_element_5 : decode cX6_element 5 = .ok (.ifCond .eq 26, 3) := dk_153 0 26 (dk_at dksX6_element_0 5 rfl rfl)
theorem dX6_element_8 : decode cX6_element 8 = .ok (.iload_n 2, 1) := dk_28 (dk_at dksX6_element_0 8 rfl rfl)
theorem dX6_element_9 : decode cX6_element 9 = .ok (.ifCond .lt 22, 3) := dk_155 0 22 (dk_at dksX6_element_0 9 rfl rfl)
theorem dX6_element_12 : decode cX6_element 12 = .ok (.iload_n 2, 1) := dk_28 (dk_at dksX6_element_0 12 rfl rfl)
theorem dX6_element_13 : decode cX6_element 13 = .ok (.aload_n 0, 1) := dk_42 (dk_at dksX6_element_0 13 rfl rfl)
theorem dX6_element_14 : decode cX6_element 14 = .ok (.getfield 13, 3) := dk_180 0 13 (dk_at dksX6_element_0 14 rfl rfl)
theorem dX6_element_17 : decode cX6_element 17 = .ok (.iload_n 1, 1) := dk_27 (dk_at dksX6_element_0 17 rfl rfl)
theorem dX6_element_18 : decode cX6_element 18 = .ok (.iaload, 1) := dk_46 (dk_at dksX6_element_0 18 rfl rfl)
theorem dX6_element_19 : decode cX6_element 19 = .ok (.if_icmp .ge 12, 3) := dk_162 0 12 (dk_at dksX6_element_0 19 rfl rfl)
theorem dX6_element_22 : decode cX6_element 22 = .ok (.iload_n 3, 1) := dk_29 (dk_at dksX6_element_0 22 rfl rfl)
theorem dX6_element_23 : decode cX6_element 23 = .ok (.ifCond .lt 8, 3) := dk_155 0 8 (dk_at dksX6_element_1 0 rfl rfl)
theorem dX6_element_26 : decode cX6_element 26 = .ok (.iload_n 3, 1) := dk_29 (dk_at dksX6_element_1 3 rfl rfl)
theorem dX6_element_27 : decode cX6_element 27 = .ok (.iconst 4, 1) := dk_7 (dk_at dksX6_element_1 4 rfl rfl)
theorem dX6_element_28 : decode cX6_element 28 = .ok (.if_icmp .le 5, 3) := dk_164 0 5 (dk_at dksX6_element_1 5 rfl rfl)
theorem dX6_element_31 : decode cX6_element 31 = .ok (.iconst (-1), 1) := dk_2 (dk_at dksX6_element_1 8 rfl rfl)
theorem dX6_element_32 : decode cX6_element 32 = .ok (.ireturn, 1) := dk_172 (dk_at dksX6_element_1 9 rfl rfl)
theorem dX6_element_33 : decode cX6_element 33 = .ok (.sipush 200, 3) := dk_17 0 200 (dk_at dksX6_element_1 10 rfl rfl)
theorem dX6_element_36 : decode cX6_element 36 = .ok (.iload_n 1, 1) := dk_27 (dk_at dksX6_element_1 13 rfl rfl)
theorem dX6_element_37 : decode cX6_element 37 = .ok (.imul, 1) := dk_104 (dk_at dksX6_element_1 14 rfl rfl)
theorem dX6_element_38 : decode cX6_element 38 = .ok (.iload_n 2, 1) := dk_28 (dk_at dksX6_element_1 15 rfl rfl)
theorem dX6_element_39 : decode cX6_element 39 = .ok (.iadd, 1) := dk_96 (dk_at dksX6_element_1 16 rfl rfl)
theorem dX6_element_40 : decode cX6_element 40 = .ok (.istore 4, 2) := dk_54 4 (dk_at dksX6_element_1 17 rfl rfl)
theorem dX6_element_42 : decode cX6_element 42 = .ok (.iload_n 3, 1) := dk_29 (dk_at dksX6_element_1 19 rfl rfl)
theorem dX6_element_43 : decode cX6_element 43 = .ok (.iconst 2, 1) := dk_5 (dk_at dksX6_element_1 20 rfl rfl)
theorem dX6_element_44 : decode cX6_element 44 = .ok (.if_icmp .ge 25, 3) := dk_162 0 25 (dk_at dksX6_element_1 21 rfl rfl)
theorem dX6_element_47 : decode cX6_element 47 = .ok (.iload_n 3, 1) := dk_29 (dk_at dksX6_element_2 0 rfl rfl)
theorem dX6_element_48 : decode cX6_element 48 = .ok (.ifCond .ne 13, 3) := dk_154 0 13 (dk_at dksX6_element_2 1 rfl rfl)
theorem dX6_element_51 : decode cX6_element 51 = .ok (.aload_n 0, 1) := dk_42 (dk_at dksX6_element_2 4 rfl rfl)
theorem dX6_element_52 : decode cX6_element 52 = .ok (.getfield 19, 3) := dk_180 0 19 (dk_at dksX6_element_2 5 rfl rfl)
theorem dX6_element_55 : decode cX6_element 55 = .ok (.iload 4, 2) := dk_21 4 (dk_at dksX6_element_2 8 rfl rfl)
theorem dX6_element_57 : decode cX6_element 57 = .ok (.iaload, 1) := dk_46 (dk_at dksX6_element_2 10 rfl rfl)
theorem dX6_element_58 : decode cX6_element 58 = .ok (.goto 10, 3) := dk_167 0 10 (dk_at dksX6_element_2 11 rfl rfl)
theorem dX6_element_61 : decode cX6_element 61 = .ok (.aload_n 0, 1) := dk_42 (dk_at dksX6_element_2 14 rfl rfl)
theorem dX6_element_62 : decode cX6_element 62 = .ok (.getfield 16, 3) := dk_180 0 16 (dk_at dksX6_element_2 15 rfl rfl)
theorem dX6_element_65 : decode cX6_element 65 = .ok (.iload 4, 2) := dk_21 4 (dk_at dksX6_element_2 18 rfl rfl)
theorem dX6_element_67 : decode cX6_element 67 = .ok (.iaload, 1) := dk_46 (dk_at dksX6_element_2 20 rfl rfl)
theorem dX6_element_68 : decode cX6_element 68 = .ok (.ireturn, 1) := dk_172 (dk_at dksX6_element_2 21 rfl rfl)
theorem dX6_element_69 : decode cX6_element 69 = .ok (.iload_n 3, 1) := dk_29 (dk_at dksX6_element_2 22 rfl rfl)
theorem dX6_element_70 : decode cX6_element 70 = .ok (.iconst 4, 1) := dk_7 (dk_at dksX6_element_2 23 rfl rfl)
theorem dX6_element_71 : decode cX6_element 71 = .ok (.if_icmp .ne 17, 3) := dk_160 0 17 (dk_at dksX6_element_3 0 rfl rfl)
theorem dX6_element_74 : decode cX6_element 74 = .ok (.aload_n 0, 1) := dk_42 (dk_at dksX6_element_3 3 rfl rfl)
theorem dX6_element_75 : decode cX6_element 75 = .ok (.iload_n 1, 1) := dk_27 (dk_at dksX6_element_3 4 rfl rfl)
theorem dX6_element_76 : decode cX6_element 76 = .ok (.invokevirtual 325, 3) := dk_182 1 69 (dk_at dksX6_element_3 5 rfl rfl)
theorem dX6_element_79 : decode cX6_element 79 = .ok (.istore 5, 2) := dk_54 5 (dk_at dksX6_element_3 8 rfl rfl)
theorem dX6_element_81 : decode cX6_element 81 = .ok (.aload_n 0, 1) := dk_42 (dk_at dksX6_element_3 10 rfl rfl)
theorem dX6_element_82 : decode cX6_element 82 = .ok (.getfield 91, 3) := dk_180 0 91 (dk_at dksX6_element_3 11 rfl rfl)
theorem dX6_element_85 : decode cX6_element 85 = .ok (.iload_n 2, 1) := dk_28 (dk_at dksX6_element_3 14 rfl rfl)
theorem dX6_element_86 : decode cX6_element 86 = .ok (.iaload, 1) := dk_46 (dk_at dksX6_element_3 15 rfl rfl)
theorem dX6_element_87 : decode cX6_element 87 = .ok (.ireturn, 1) := dk_172 (dk_at dksX6_element_3 16 rfl rfl)
theorem dX6_element_88 : decode cX6_element 88 = .ok (.aload_n 0, 1) := dk_42 (dk_at dksX6_element_3 17 rfl rfl)
theorem dX6_element_89 : decode cX6_element 89 = .ok (.getfield 16, 3) := dk_180 0 16 (dk_at dksX6_element_3 18 rfl rfl)
theorem dX6_element_92 : decode cX6_element 92 = .ok (.iload 4, 2) := dk_21 4 (dk_at dksX6_element_3 21 rfl rfl)
theorem dX6_element_94 : decode cX6_element 94 = .ok (.iaload, 1) := dk_46 (dk_at dksX6_element_3 23 rfl rfl)
theorem dX6_element_95 : decode cX6_element 95 = .ok (.iconst 3, 1) := dk_6 (dk_at dksX6_element_4 0 rfl rfl)
theorem dX6_element_96 : decode cX6_element 96 = .ok (.if_icmp .eq 7, 3) := dk_159 0 7 (dk_at dksX6_element_4 1 rfl rfl)
theorem dX6_element_99 : decode cX6_element 99 = .ok (.iconst (-1), 1) := dk_2 (dk_at dksX6_element_4 4 rfl rfl)
theorem dX6_element_100 : decode cX6_element 100 = .ok (.goto 25, 3) := dk_167 0 25 (dk_at dksX6_element_4 5 rfl rfl)
theorem dX6_element_103 : decode cX6_element 103 = .ok (.iload_n 3, 1) := dk_29 (dk_at dksX6_element_4 8 rfl rfl)
theorem dX6_element_104 : decode cX6_element 104 = .ok (.iconst 2, 1) := dk_5 (dk_at dksX6_element_4 9 rfl rfl)
theorem dX6_element_105 : decode cX6_element 105 = .ok (.if_icmp .ne 13, 3) := dk_160 0 13 (dk_at dksX6_element_4 10 rfl rfl)
theorem dX6_element_108 : decode cX6_element 108 = .ok (.aload_n 0, 1) := dk_42 (dk_at dksX6_element_4 13 rfl rfl)
theorem dX6_element_109 : decode cX6_element 109 = .ok (.getfield 22, 3) := dk_180 0 22 (dk_at dksX6_element_4 14 rfl rfl)
theorem dX6_element_112 : decode cX6_element 112 = .ok (.iload 4, 2) := dk_21 4 (dk_at dksX6_element_4 17 rfl rfl)
theorem dX6_element_114 : decode cX6_element 114 = .ok (.iaload, 1) := dk_46 (dk_at dksX6_element_4 19 rfl rfl)
theorem dX6_element_115 : decode cX6_element 115 = .ok (.goto 10, 3) := dk_167 0 10 (dk_at dksX6_element_4 20 rfl rfl)
theorem dX6_element_118 : decode cX6_element 118 = .ok (.aload_n 0, 1) := dk_42 (dk_at dksX6_element_4 23 rfl rfl)
theorem dX6_element_119 : decode cX6_element 119 = .ok (.getfield 25, 3) := dk_180 0 25 (dk_at dksX6_element_5 0 rfl rfl)
theorem dX6_element_122 : decode cX6_element 122 = .ok (.iload 4, 2) := dk_21 4 (dk_at dksX6_element_5 3 rfl rfl)
theorem dX6_element_124 : decode cX6_element 124 = .ok (.iaload, 1) := dk_46 (dk_at dksX6_element_5 5 rfl rfl)
theorem dX6_element_125 : decode cX6_element 125 = .ok (.ireturn, 1) := dk_172 (dk_at dksX6_element_5 6 rfl rfl)
abbrev cX6_digit : ByteArray := prog_14_method_58_code
def yX6_digit : MethodName := ⟨RX6, "digit", "(III)I"⟩
def dkwX6_digit_1 : List UInt8 := [182, 1, 107, 42, 180, 0, 98, 16, 7, 28, 104, 29, 96, 46, 172]
abbrev dktX6_digit_1 : List UInt8 := dkwX6_digit_1 ++ []
def dkwX6_digit_0 : List UInt8 := [42, 27, 28, 182, 1, 103, 153, 0, 12, 29, 155, 0, 8, 29, 27, 161, 0, 5, 2, 172, 42, 27]
abbrev dktX6_digit_0 : List UInt8 := dkwX6_digit_0 ++ dktX6_digit_1
theorem dksX6_digit_0 : cX6_digit.data.toList.drop 0 = dktX6_digit_0 := by decide +kernel
theorem dksX6_digit_1 : cX6_digit.data.toList.drop 22 = dktX6_digit_1 := dk_seg dksX6_digit_0 22 rfl rfl
theorem dX6_digit_0 : decode cX6_digit 0 = .ok (.aload_n 0, 1) := dk_42 (dk_at dksX6_digit_0 0 rfl rfl)
theorem dX6_digit_1 : decode cX6_digit 1 = .ok (.iload_n 1, 1) := dk_27 (dk_at dksX6_digit_0 1 rfl rfl)
theorem dX6_digit_2 : decode cX6_digit 2 = .ok (.iload_n 2, 1) := dk_28 (dk_at dksX6_digit_0 2 rfl rfl)
theorem dX6_digit_3 : decode cX6_digit 3 = .ok (.invokevirtual 359, 3) := dk_182 1 103 (dk_at dksX6_digit_0 3 rfl rfl)
theorem dX6_digit_6 : decode cX6_digit 6 = .ok (.ifCond .eq 12, 3) := dk_153 0 12 (dk_at dksX6_digit_0 6 rfl rfl)
theorem dX6_digit_9 : decode cX6_digit 9 = .ok (.iload_n 3, 1) := dk_29 (dk_at dksX6_digit_0 9 rfl rfl)
theorem dX6_digit_10 : decode cX6_digit 10 = .ok (.ifCond .lt 8, 3) := dk_155 0 8 (dk_at dksX6_digit_0 10 rfl rfl)
theorem dX6_digit_13 : decode cX6_digit 13 = .ok (.iload_n 3, 1) := dk_29 (dk_at dksX6_digit_0 13 rfl rfl)
theorem dX6_digit_14 : decode cX6_digit 14 = .ok (.iload_n 1, 1) := dk_27 (dk_at dksX6_digit_0 14 rfl rfl)
theorem dX6_digit_15 : decode cX6_digit 15 = .ok (.if_icmp .lt 5, 3) := dk_161 0 5 (dk_at dksX6_digit_0 15 rfl rfl)
theorem dX6_digit_18 : decode cX6_digit 18 = .ok (.iconst (-1), 1) := dk_2 (dk_at dksX6_digit_0 18 rfl rfl)
theorem dX6_digit_19 : decode cX6_digit 19 = .ok (.ireturn, 1) := dk_172 (dk_at dksX6_digit_0 19 rfl rfl)
theorem dX6_digit_20 : decode cX6_digit 20 = .ok (.aload_n 0, 1) := dk_42 (dk_at dksX6_digit_0 20 rfl rfl)
theorem dX6_digit_21 : decode cX6_digit 21 = .ok (.iload_n 1, 1) := dk_27 (dk_at dksX6_digit_0 21 rfl rfl)
theorem dX6_digit_22 : decode cX6_digit 22 = .ok (.invokevirtual 363, 3) := dk_182 1 107 (dk_at dksX6_digit_1 0 rfl rfl)
theorem dX6_digit_25 : decode cX6_digit 25 = .ok (.aload_n 0, 1) := dk_42 (dk_at dksX6_digit_1 3 rfl rfl)
theorem dX6_digit_26 : decode cX6_digit 26 = .ok (.getfield 98, 3) := dk_180 0 98 (dk_at dksX6_digit_1 4 rfl rfl)
theorem dX6_digit_29 : decode cX6_digit 29 = .ok (.bipush 7, 2) := dk_16 7 (dk_at dksX6_digit_1 7 rfl rfl)
theorem dX6_digit_31 : decode cX6_digit 31 = .ok (.iload_n 2, 1) := dk_28 (dk_at dksX6_digit_1 9 rfl rfl)
theorem dX6_digit_32 : decode cX6_digit 32 = .ok (.imul, 1) := dk_104 (dk_at dksX6_digit_1 10 rfl rfl)
theorem dX6_digit_33 : decode cX6_digit 33 = .ok (.iload_n 3, 1) := dk_29 (dk_at dksX6_digit_1 11 rfl rfl)
theorem dX6_digit_34 : decode cX6_digit 34 = .ok (.iadd, 1) := dk_96 (dk_at dksX6_digit_1 12 rfl rfl)
theorem dX6_digit_35 : decode cX6_digit 35 = .ok (.iaload, 1) := dk_46 (dk_at dksX6_digit_1 13 rfl rfl)
theorem dX6_digit_36 : decode cX6_digit 36 = .ok (.ireturn, 1) := dk_172 (dk_at dksX6_digit_1 14 rfl rfl)
abbrev cX6_isOrder : ByteArray := prog_14_method_57_code
def yX6_isOrder : MethodName := ⟨RX6, "isOrder", "(II)Z"⟩
def dkwX6_isOrder_1 : List UInt8 := [172]
abbrev dktX6_isOrder_1 : List UInt8 := dkwX6_isOrder_1 ++ []
def dkwX6_isOrder_0 : List UInt8 := [27, 184, 1, 62, 153, 0, 19, 28, 155, 0, 15, 28, 27, 184, 1, 81, 162, 0, 7, 4, 167, 0, 4, 3]
abbrev dktX6_isOrder_0 : List UInt8 := dkwX6_isOrder_0 ++ dktX6_isOrder_1
theorem dksX6_isOrder_0 : cX6_isOrder.data.toList.drop 0 = dktX6_isOrder_0 := by decide +kernel
theorem dksX6_isOrder_1 : cX6_isOrder.data.toList.drop 24 = dktX6_isOrder_1 := dk_seg dksX6_isOrder_0 24 rfl rfl
theorem dX6_isOrder_0 : decode cX6_isOrder 0 = .ok (.iload_n 1, 1) := dk_27 (dk_at dksX6_isOrder_0 0 rfl rfl)
theorem dX6_isOrder_1 : decode cX6_isOrder 1 = .ok (.invokestatic 318, 3) := dk_184 1 62 (dk_at dksX6_isOrder_0 1 rfl rfl)
theorem dX6_isOrder_4 : decode cX6_isOrder 4 = .ok (.ifCond .eq 19, 3) := dk_153 0 19 (dk_at dksX6_isOrder_0 4 rfl rfl)
theorem dX6_isOrder_7 : decode cX6_isOrder 7 = .ok (.iload_n 2, 1) := dk_28 (dk_at dksX6_isOrder_0 7 rfl rfl)
theorem dX6_isOrder_8 : decode cX6_isOrder 8 = .ok (.ifCond .lt 15, 3) := dk_155 0 15 (dk_at dksX6_isOrder_0 8 rfl rfl)
theorem dX6_isOrder_11 : decode cX6_isOrder 11 = .ok (.iload_n 2, 1) := dk_28 (dk_at dksX6_isOrder_0 11 rfl rfl)
theorem dX6_isOrder_12 : decode cX6_isOrder 12 = .ok (.iload_n 1, 1) := dk_27 (dk_at dksX6_isOrder_0 12 rfl rfl)
theorem dX6_isOrder_13 : decode cX6_isOrder 13 = .ok (.invokestatic 337, 3) := dk_184 1 81 (dk_at dksX6_isOrder_0 13 rfl rfl)
theorem dX6_isOrder_16 : decode cX6_isOrder 16 = .ok (.if_icmp .ge 7, 3) := dk_162 0 7 (dk_at dksX6_isOrder_0 16 rfl rfl)
theorem dX6_isOrder_19 : decode cX6_isOrder 19 = .ok (.iconst 1, 1) := dk_4 (dk_at dksX6_isOrder_0 19 rfl rfl)
theorem dX6_isOrder_20 : decode cX6_isOrder 20 = .ok (.goto 4, 3) := dk_167 0 4 (dk_at dksX6_isOrder_0 20 rfl rfl)
theorem dX6_isOrder_23 : decode cX6_isOrder 23 = .ok (.iconst 0, 1) := dk_3 (dk_at dksX6_isOrder_0 23 rfl rfl)
theorem dX6_isOrder_24 : decode cX6_isOrder 24 = .ok (.ireturn, 1) := dk_172 (dk_at dksX6_isOrder_1 0 rfl rfl)
abbrev cX6_ordersOf : ByteArray := prog_14_method_49_code
def yX6_ordersOf : MethodName := ⟨RX6, "ordersOf", "(I)I"⟩
def dkwX6_ordersOf_0 : List UInt8 := [4, 60, 5, 61, 28, 26, 163, 0, 13, 27, 28, 104, 60, 132, 2, 1, 167, 255, 244, 27, 172]
abbrev dktX6_ordersOf_0 : List UInt8 := dkwX6_ordersOf_0 ++ []
theorem dksX6_ordersOf_0 : cX6_ordersOf.data.toList.drop 0 = dktX6_ordersOf_0 := by decide +kernel
theorem dX6_ordersOf_0 : decode cX6_ordersOf 0 = .ok (.iconst 1, 1) := dk_4 (dk_at dksX6_ordersOf_0 0 rfl rfl)
theorem dX6_ordersOf_1 : decode cX6_ordersOf 1 = .ok (.istore_n 1, 1) := dk_60 (dk_at dksX6_ordersOf_0 1 rfl rfl)
theorem dX6_ordersOf_2 : decode cX6_ordersOf 2 = .ok (.iconst 2, 1) := dk_5 (dk_at dksX6_ordersOf_0 2 rfl rfl)
theorem dX6_ordersOf_3 : decode cX6_ordersOf 3 = .ok (.istore_n 2, 1) := dk_61 (dk_at dksX6_ordersOf_0 3 rfl rfl)
theorem dX6_ordersOf_4 : decode cX6_ordersOf 4 = .ok (.iload_n 2, 1) := dk_28 (dk_at dksX6_ordersOf_0 4 rfl rfl)
theorem dX6_ordersOf_5 : decode cX6_ordersOf 5 = .ok (.iload_n 0, 1) := dk_26 (dk_at dksX6_ordersOf_0 5 rfl rfl)
theorem dX6_ordersOf_6 : decode cX6_ordersOf 6 = .ok (.if_icmp .gt 13, 3) := dk_163 0 13 (dk_at dksX6_ordersOf_0 6 rfl rfl)
theorem dX6_ordersOf_9 : decode cX6_ordersOf 9 = .ok (.iload_n 1, 1) := dk_27 (dk_at dksX6_ordersOf_0 9 rfl rfl)
theorem dX6_ordersOf_10 : decode cX6_ordersOf 10 = .ok (.iload_n 2, 1) := dk_28 (dk_at dksX6_ordersOf_0 10 rfl rfl)
theorem dX6_ordersOf_11 : decode cX6_ordersOf 11 = .ok (.imul, 1) := dk_104 (dk_at dksX6_ordersOf_0 11 rfl rfl)
theorem dX6_ordersOf_12 : decode cX6_ordersOf 12 = .ok (.istore_n 1, 1) := dk_60 (dk_at dksX6_ordersOf_0 12 rfl rfl)
theorem dX6_ordersOf_13 : decode cX6_ordersOf 13 = .ok (.iinc 2 1, 3) := dk_132 2 1 (dk_at dksX6_ordersOf_0 13 rfl rfl)
theorem dX6_ordersOf_16 : decode cX6_ordersOf 16 = .ok (.goto (-12), 3) := dk_167 255 244 (dk_at dksX6_ordersOf_0 16 rfl rfl)
theorem dX6_ordersOf_19 : decode cX6_ordersOf 19 = .ok (.iload_n 1, 1) := dk_27 (dk_at dksX6_ordersOf_0 19 rfl rfl)
theorem dX6_ordersOf_20 : decode cX6_ordersOf 20 = .ok (.ireturn, 1) := dk_172 (dk_at dksX6_ordersOf_0 20 rfl rfl)
abbrev cX6_lay : ByteArray := prog_14_method_54_code
def yX6_lay : MethodName := ⟨RX6, "lay", "(I)V"⟩
def dkwX6_lay_16 : List UInt8 := [96, 46, 47, 97, 80, 132, 4, 1, 167, 255, 208, 132, 3, 1, 167, 255, 163, 132, 2, 1, 167, 255, 144, 177]
abbrev dktX6_lay_16 : List UInt8 := dkwX6_lay_16 ++ []
def dkwX6_lay_15 : List UInt8 := [153, 0, 29, 42, 180, 0, 110, 29, 92, 47, 42, 180, 0, 110, 42, 180, 0, 104, 16, 6, 29, 104, 21, 4]
abbrev dktX6_lay_15 : List UInt8 := dkwX6_lay_15 ++ dktX6_lay_16
def dkwX6_lay_14 : List UInt8 := [167, 0, 4, 9, 80, 3, 54, 4, 21, 4, 27, 4, 100, 162, 0, 46, 42, 27, 29, 21, 4, 182, 1, 99]
abbrev dktX6_lay_14 : List UInt8 := dkwX6_lay_14 ++ dktX6_lay_15
def dkwX6_lay_13 : List UInt8 := [180, 0, 107, 29, 46, 28, 159, 0, 6, 167, 0, 72, 42, 180, 0, 110, 29, 28, 154, 0, 7, 10]
abbrev dktX6_lay_13 : List UInt8 := dkwX6_lay_13 ++ dktX6_lay_14
def dkwX6_lay_12 : List UInt8 := [61, 28, 27, 27, 4, 100, 104, 5, 108, 163, 0, 107, 3, 62, 29, 42, 180, 1, 84, 162, 0, 91, 42]
abbrev dktX6_lay_12 : List UInt8 := dkwX6_lay_12 ++ dktX6_lay_13
def dkwX6_lay_11 : List UInt8 := [28, 104, 21, 4, 96, 42, 27, 182, 1, 93, 79, 132, 4, 1, 167, 255, 167, 132, 2, 1, 167, 255, 73, 3]
abbrev dktX6_lay_11 : List UInt8 := dkwX6_lay_11 ++ dktX6_lay_12
def dkwX6_lay_10 : List UInt8 := [21, 4, 182, 1, 96, 42, 27, 28, 21, 4, 4, 96, 182, 1, 96, 182, 1, 75, 42, 180, 0, 104, 16, 6]
abbrev dktX6_lay_10 : List UInt8 := dkwX6_lay_10 ++ dktX6_lay_11
def dkwX6_lay_9 : List UInt8 := [16, 6, 28, 104, 21, 4, 96, 42, 27, 182, 1, 93, 79, 42, 27, 28, 182, 1, 90, 42, 42, 27, 28]
abbrev dktX6_lay_9 : List UInt8 := dkwX6_lay_9 ++ dktX6_lay_10
def dkwX6_lay_8 : List UInt8 := [162, 0, 87, 42, 27, 28, 182, 1, 90, 42, 21, 4, 21, 4, 4, 96, 182, 1, 75, 42, 180, 0, 101]
abbrev dktX6_lay_8 : List UInt8 := dkwX6_lay_8 ++ dktX6_lay_9
def dkwX6_lay_7 : List UInt8 := [167, 255, 212, 132, 4, 1, 167, 255, 194, 42, 180, 0, 107, 28, 29, 79, 3, 54, 4, 21, 4, 27, 4, 100]
abbrev dktX6_lay_7 : List UInt8 := dkwX6_lay_7 ++ dktX6_lay_8
def dkwX6_lay_6 : List UInt8 := [180, 0, 98, 16, 7, 28, 104, 21, 5, 96, 46, 164, 0, 7, 4, 167, 0, 4, 3, 96, 62, 132, 5, 1]
abbrev dktX6_lay_6 : List UInt8 := dkwX6_lay_6 ++ dktX6_lay_7
def dkwX6_lay_5 : List UInt8 := [54, 5, 21, 5, 27, 162, 0, 44, 29, 42, 180, 0, 98, 16, 7, 28, 104, 21, 4, 96, 46, 42]
abbrev dktX6_lay_5 : List UInt8 := dkwX6_lay_5 ++ dktX6_lay_6
def dkwX6_lay_4 : List UInt8 := [61, 28, 42, 180, 1, 84, 162, 0, 181, 3, 62, 3, 54, 4, 21, 4, 27, 162, 0, 62, 21, 4, 4, 96]
abbrev dktX6_lay_4 : List UInt8 := dkwX6_lay_4 ++ dktX6_lay_5
def dkwX6_lay_3 : List UInt8 := [180, 0, 113, 29, 46, 79, 132, 3, 1, 167, 255, 231, 42, 27, 182, 1, 87, 132, 2, 1, 167, 255, 210, 3]
abbrev dktX6_lay_3 : List UInt8 := dkwX6_lay_3 ++ dktX6_lay_4
def dkwX6_lay_2 : List UInt8 := [180, 1, 84, 162, 0, 44, 3, 62, 29, 27, 162, 0, 26, 42, 180, 0, 98, 16, 7, 28, 104, 29, 96, 42]
abbrev dktX6_lay_2 : List UInt8 := dkwX6_lay_2 ++ dktX6_lay_3
def dkwX6_lay_1 : List UInt8 := [28, 27, 162, 0, 16, 42, 180, 0, 113, 28, 28, 79, 132, 2, 1, 167, 255, 241, 3, 61, 28, 42]
abbrev dktX6_lay_1 : List UInt8 := dkwX6_lay_1 ++ dktX6_lay_2
def dkwX6_lay_0 : List UInt8 := [42, 180, 1, 78, 27, 160, 0, 4, 177, 42, 27, 181, 1, 78, 42, 27, 184, 1, 81, 181, 1, 84, 3, 61]
abbrev dktX6_lay_0 : List UInt8 := dkwX6_lay_0 ++ dktX6_lay_1
theorem dksX6_lay_0 : cX6_lay.data.toList.drop 0 = dktX6_lay_0 := by decide +kernel
theorem dksX6_lay_1 : cX6_lay.data.toList.drop 24 = dktX6_lay_1 := dk_seg dksX6_lay_0 24 rfl rfl
theorem dksX6_lay_2 : cX6_lay.data.toList.drop 46 = dktX6_lay_2 := dk_seg dksX6_lay_1 22 rfl rfl
theorem dksX6_lay_3 : cX6_lay.data.toList.drop 70 = dktX6_lay_3 := dk_seg dksX6_lay_2 24 rfl rfl
theorem dksX6_lay_4 : cX6_lay.data.toList.drop 94 = dktX6_lay_4 := dk_seg dksX6_lay_3 24 rfl rfl
theorem dksX6_lay_5 : cX6_lay.data.toList.drop 118 = dktX6_lay_5 := dk_seg dksX6_lay_4 24 rfl rfl
theorem dksX6_lay_6 : cX6_lay.data.toList.drop 140 = dktX6_lay_6 := dk_seg dksX6_lay_5 22 rfl rfl
theorem dksX6_lay_7 : cX6_lay.data.toList.drop 164 = dktX6_lay_7 := dk_seg dksX6_lay_6 24 rfl rfl
theorem dksX6_lay_8 : cX6_lay.data.toList.drop 188 = dktX6_lay_8 := dk_seg dksX6_lay_7 24 rfl rfl
theorem dksX6_lay_9 : cX6_lay.data.toList.drop 211 = dktX6_lay_9 := dk_seg dksX6_lay_8 23 rfl rfl
theorem dksX6_lay_10 : cX6_lay.data.toList.drop 234 = dktX6_lay_10 := dk_seg dksX6_lay_9 23 rfl rfl
theorem dksX6_lay_11 : cX6_lay.data.toList.drop 258 = dktX6_lay_11 := dk_seg dksX6_lay_10 24 rfl rfl
theorem dksX6_lay_12 : cX6_lay.data.toList.drop 282 = dktX6_lay_12 := dk_seg dksX6_lay_11 24 rfl rfl
theorem dksX6_lay_13 : cX6_lay.data.toList.drop 305 = dktX6_lay_13 := dk_seg dksX6_lay_12 23 rfl rfl
theorem dksX6_lay_14 : cX6_lay.data.toList.drop 327 = dktX6_lay_14 := dk_seg dksX6_lay_13 22 rfl rfl
theorem dksX6_lay_15 : cX6_lay.data.toList.drop 351 = dktX6_lay_15 := dk_seg dksX6_lay_14 24 rfl rfl
theorem dksX6_lay_16 : cX6_lay.data.toList.drop 375 = dktX6_lay_16 := dk_seg dksX6_lay_15 24 rfl rfl
theorem dX6_lay_0 : decode cX6_lay 0 = .ok (.aload_n 0, 1) := dk_42 (dk_at dksX6_lay_0 0 rfl rfl)
theorem dX6_lay_1 : decode cX6_lay 1 = .ok (.getfield 334, 3) := dk_180 1 78 (dk_at dksX6_lay_0 1 rfl rfl)
theorem dX6_lay_4 : decode cX6_lay 4 = .ok (.iload_n 1, 1) := dk_27 (dk_at dksX6_lay_0 4 rfl rfl)
theorem dX6_lay_5 : decode cX6_lay 5 = .ok (.if_icmp .ne 4, 3) := dk_160 0 4 (dk_at dksX6_lay_0 5 rfl rfl)
theorem dX6_lay_8 : decode cX6_lay 8 = .ok (.return_, 1) := dk_177 (dk_at dksX6_lay_0 8 rfl rfl)
theorem dX6_lay_9 : decode cX6_lay 9 = .ok (.aload_n 0, 1) := dk_42 (dk_at dksX6_lay_0 9 rfl rfl)
theorem dX6_lay_10 : decode cX6_lay 10 = .ok (.iload_n 1, 1) := dk_27 (dk_at dksX6_lay_0 10 rfl rfl)
theorem dX6_lay_11 : decode cX6_lay 11 = .ok (.putfield 334, 3) := dk_181 1 78 (dk_at dksX6_lay_0 11 rfl rfl)
theorem dX6_lay_14 : decode cX6_lay 14 = .ok (.aload_n 0, 1) := dk_42 (dk_at dksX6_lay_0 14 rfl rfl)
theorem dX6_lay_15 : decode cX6_lay 15 = .ok (.iload_n 1, 1) := dk_27 (dk_at dksX6_lay_0 15 rfl rfl)
theorem dX6_lay_16 : decode cX6_lay 16 = .ok (.invokestatic 337, 3) := dk_184 1 81 (dk_at dksX6_lay_0 16 rfl rfl)
theorem dX6_lay_19 : decode cX6_lay 19 = .ok (.putfield 340, 3) := dk_181 1 84 (dk_at dksX6_lay_0 19 rfl rfl)
theorem dX6_lay_22 : decode cX6_lay 22 = .ok (.iconst 0, 1) := dk_3 (dk_at dksX6_lay_0 22 rfl rfl)
theorem dX6_lay_23 : decode cX6_lay 23 = .ok (.istore_n 2, 1) := dk_61 (dk_at dksX6_lay_0 23 rfl rfl)
theorem dX6_lay_24 : decode cX6_lay 24 = .ok (.iload_n 2, 1) := dk_28 (dk_at dksX6_lay_1 0 rfl rfl)
theorem dX6_lay_25 : decode cX6_lay 25 = .ok (.iload_n 1, 1) := dk_27 (dk_at dksX6_lay_1 1 rfl rfl)
theorem dX6_lay_26 : decode cX6_lay 26 = .ok (.if_icmp .ge 16, 3) := dk_162 0 16 (dk_at dksX6_lay_1 2 rfl rfl)
theorem dX6_lay_29 : decode cX6_lay 29 = .ok (.aload_n 0, 1) := dk_42 (dk_at dksX6_lay_1 5 rfl rfl)
theorem dX6_lay_30 : decode cX6_lay 30 = .ok (.getfield 113, 3) := dk_180 0 113 (dk_at dksX6_lay_1 6 rfl rfl)
theorem dX6_lay_33 : decode cX6_lay 33 = .ok (.iload_n 2, 1) := dk_28 (dk_at dksX6_lay_1 9 rfl rfl)
theorem dX6_lay_34 : decode cX6_lay 34 = .ok (.iload_n 2, 1) := dk_28 (dk_at dksX6_lay_1 10 rfl rfl)
theorem dX6_lay_35 : decode cX6_lay 35 = .ok (.iastore, 1) := dk_79 (dk_at dksX6_lay_1 11 rfl rfl)
theorem dX6_lay_36 : decode cX6_lay 36 = .ok (.iinc 2 1, 3) := dk_132 2 1 (dk_at dksX6_lay_1 12 rfl rfl)
theorem dX6_lay_39 : decode cX6_lay 39 = .ok (.goto (-15), 3) := dk_167 255 241 (dk_at dksX6_lay_1 15 rfl rfl)
theorem dX6_lay_42 : decode cX6_lay 42 = .ok (.iconst 0, 1) := dk_3 (dk_at dksX6_lay_1 18 rfl rfl)
theorem dX6_lay_43 : decode cX6_lay 43 = .ok (.istore_n 2, 1) := dk_61 (dk_at dksX6_lay_1 19 rfl rfl)
theorem dX6_lay_44 : decode cX6_lay 44 = .ok (.iload_n 2, 1) := dk_28 (dk_at dksX6_lay_1 20 rfl rfl)
theorem dX6_lay_45 : decode cX6_lay 45 = .ok (.aload_n 0, 1) := dk_42 (dk_at dksX6_lay_1 21 rfl rfl)
theorem dX6_lay_46 : decode cX6_lay 46 = .ok (.getfield 340, 3) := dk_180 1 84 (dk_at dksX6_lay_2 0 rfl rfl)
theorem dX6_lay_49 : decode cX6_lay 49 = .ok (.if_icmp .ge 44, 3) := dk_162 0 44 (dk_at dksX6_lay_2 3 rfl rfl)
theorem dX6_lay_52 : decode cX6_lay 52 = .ok (.iconst 0, 1) := dk_3 (dk_at dksX6_lay_2 6 rfl rfl)
theorem dX6_lay_53 : decode cX6_lay 53 = .ok (.istore_n 3, 1) := dk_62 (dk_at dksX6_lay_2 7 rfl rfl)
theorem dX6_lay_54 : decode cX6_lay 54 = .ok (.iload_n 3, 1) := dk_29 (dk_at dksX6_lay_2 8 rfl rfl)
theorem dX6_lay_55 : decode cX6_lay 55 = .ok (.iload_n 1, 1) := dk_27 (dk_at dksX6_lay_2 9 rfl rfl)
theorem dX6_lay_56 : decode cX6_lay 56 = .ok (.if_icmp .ge 26, 3) := dk_162 0 26 (dk_at dksX6_lay_2 10 rfl rfl)
theorem dX6_lay_59 : decode cX6_lay 59 = .ok (.aload_n 0, 1) := dk_42 (dk_at dksX6_lay_2 13 rfl rfl)
theorem dX6_lay_60 : decode cX6_lay 60 = .ok (.getfield 98, 3) := dk_180 0 98 (dk_at dksX6_lay_2 14 rfl rfl)
theorem dX6_lay_63 : decode cX6_lay 63 = .ok (.bipush 7, 2) := dk_16 7 (dk_at dksX6_lay_2 17 rfl rfl)
theorem dX6_lay_65 : decode cX6_lay 65 = .ok (.iload_n 2, 1) := dk_28 (dk_at dksX6_lay_2 19 rfl rfl)
theorem dX6_lay_66 : decode cX6_lay 66 = .ok (.imul, 1) := dk_104 (dk_at dksX6_lay_2 20 rfl rfl)
theorem dX6_lay_67 : decode cX6_lay 67 = .ok (.iload_n 3, 1) := dk_29 (dk_at dksX6_lay_2 21 rfl rfl)
theorem dX6_lay_68 : decode cX6_lay 68 = .ok (.iadd, 1) := dk_96 (dk_at dksX6_lay_2 22 rfl rfl)
theorem dX6_lay_69 : decode cX6_lay 69 = .ok (.aload_n 0, 1) := dk_42 (dk_at dksX6_lay_2 23 rfl rfl)
theorem dX6_lay_70 : decode cX6_lay 70 = .ok (.getfield 113, 3) := dk_180 0 113 (dk_at dksX6_lay_3 0 rfl rfl)
theorem dX6_lay_73 : decode cX6_lay 73 = .ok (.iload_n 3, 1) := dk_29 (dk_at dksX6_lay_3 3 rfl rfl)
theorem dX6_lay_74 : decode cX6_lay 74 = .ok (.iaload, 1) := dk_46 (dk_at dksX6_lay_3 4 rfl rfl)
theorem dX6_lay_75 : decode cX6_lay 75 = .ok (.iastore, 1) := dk_79 (dk_at dksX6_lay_3 5 rfl rfl)
theorem dX6_lay_76 : decode cX6_lay 76 = .ok (.iinc 3 1, 3) := dk_132 3 1 (dk_at dksX6_lay_3 6 rfl rfl)
theorem dX6_lay_79 : decode cX6_lay 79 = .ok (.goto (-25), 3) := dk_167 255 231 (dk_at dksX6_lay_3 9 rfl rfl)
theorem dX6_lay_82 : decode cX6_lay 82 = .ok (.aload_n 0, 1) := dk_42 (dk_at dksX6_lay_3 12 rfl rfl)
theorem dX6_lay_83 : decode cX6_lay 83 = .ok (.iload_n 1, 1) := dk_27 (dk_at dksX6_lay_3 13 rfl rfl)
theorem dX6_lay_84 : decode cX6_lay 84 = .ok (.invokevirtual 343, 3) := dk_182 1 87 (dk_at dksX6_lay_3 14 rfl rfl)
theorem dX6_lay_87 : decode cX6_lay 87 = .ok (.iinc 2 1, 3) := dk_132 2 1 (dk_at dksX6_lay_3 17 rfl rfl)
theorem dX6_lay_90 : decode cX6_lay 90 = .ok (.goto (-46), 3) := dk_167 255 210 (dk_at dksX6_lay_3 20 rfl rfl)
theorem dX6_lay_93 : decode cX6_lay 93 = .ok (.iconst 0, 1) := dk_3 (dk_at dksX6_lay_3 23 rfl rfl)
theorem dX6_lay_94 : decode cX6_lay 94 = .ok (.istore_n 2, 1) := dk_61 (dk_at dksX6_lay_4 0 rfl rfl)
theorem dX6_lay_95 : decode cX6_lay 95 = .ok (.iload_n 2, 1) := dk_28 (dk_at dksX6_lay_4 1 rfl rfl)
theorem dX6_lay_96 : decode cX6_lay 96 = .ok (.aload_n 0, 1) := dk_42 (dk_at dksX6_lay_4 2 rfl rfl)
theorem dX6_lay_97 : decode cX6_lay 97 = .ok (.getfield 340, 3) := dk_180 1 84 (dk_at dksX6_lay_4 3 rfl rfl)
theorem dX6_lay_100 : decode cX6_lay 100 = .ok (.if_icmp .ge 181, 3) := dk_162 0 181 (dk_at dksX6_lay_4 6 rfl rfl)
theorem dX6_lay_103 : decode cX6_lay 103 = .ok (.iconst 0, 1) := dk_3 (dk_at dksX6_lay_4 9 rfl rfl)
theorem dX6_lay_104 : decode cX6_lay 104 = .ok (.istore_n 3, 1) := dk_62 (dk_at dksX6_lay_4 10 rfl rfl)
theorem dX6_lay_105 : decode cX6_lay 105 = .ok (.iconst 0, 1) := dk_3 (dk_at dksX6_lay_4 11 rfl rfl)
theorem dX6_lay_106 : decode cX6_lay 106 = .ok (.istore 4, 2) := dk_54 4 (dk_at dksX6_lay_4 12 rfl rfl)
theorem dX6_lay_108 : decode cX6_lay 108 = .ok (.iload 4, 2) := dk_21 4 (dk_at dksX6_lay_4 14 rfl rfl)
theorem dX6_lay_110 : decode cX6_lay 110 = .ok (.iload_n 1, 1) := dk_27 (dk_at dksX6_lay_4 16 rfl rfl)
theorem dX6_lay_111 : decode cX6_lay 111 = .ok (.if_icmp .ge 62, 3) := dk_162 0 62 (dk_at dksX6_lay_4 17 rfl rfl)
theorem dX6_lay_114 : decode cX6_lay 114 = .ok (.iload 4, 2) := dk_21 4 (dk_at dksX6_lay_4 20 rfl rfl)
theorem dX6_lay_116 : decode cX6_lay 116 = .ok (.iconst 1, 1) := dk_4 (dk_at dksX6_lay_4 22 rfl rfl)
theorem dX6_lay_117 : decode cX6_lay 117 = .ok (.iadd, 1) := dk_96 (dk_at dksX6_lay_4 23 rfl rfl)
theorem dX6_lay_118 : decode cX6_lay 118 = .ok (.istore 5, 2) := dk_54 5 (dk_at dksX6_lay_5 0 rfl rfl)
theorem dX6_lay_120 : decode cX6_lay 120 = .ok (.iload 5, 2) := dk_21 5 (dk_at dksX6_lay_5 2 rfl rfl)
theorem dX6_lay_122 : decode cX6_lay 122 = .ok (.iload_n 1, 1) := dk_27 (dk_at dksX6_lay_5 4 rfl rfl)
theorem dX6_lay_123 : decode cX6_lay 123 = .ok (.if_icmp .ge 44, 3) := dk_162 0 44 (dk_at dksX6_lay_5 5 rfl rfl)
theorem dX6_lay_126 : decode cX6_lay 126 = .ok (.iload_n 3, 1) := dk_29 (dk_at dksX6_lay_5 8 rfl rfl)
theorem dX6_lay_127 : decode cX6_lay 127 = .ok (.aload_n 0, 1) := dk_42 (dk_at dksX6_lay_5 9 rfl rfl)
theorem dX6_lay_128 : decode cX6_lay 128 = .ok (.getfield 98, 3) := dk_180 0 98 (dk_at dksX6_lay_5 10 rfl rfl)
theorem dX6_lay_131 : decode cX6_lay 131 = .ok (.bipush 7, 2) := dk_16 7 (dk_at dksX6_lay_5 13 rfl rfl)
theorem dX6_lay_133 : decode cX6_lay 133 = .ok (.iload_n 2, 1) := dk_28 (dk_at dksX6_lay_5 15 rfl rfl)
theorem dX6_lay_134 : decode cX6_lay 134 = .ok (.imul, 1) := dk_104 (dk_at dksX6_lay_5 16 rfl rfl)
theorem dX6_lay_135 : decode cX6_lay 135 = .ok (.iload 4, 2) := dk_21 4 (dk_at dksX6_lay_5 17 rfl rfl)
theorem dX6_lay_137 : decode cX6_lay 137 = .ok (.iadd, 1) := dk_96 (dk_at dksX6_lay_5 19 rfl rfl)
theorem dX6_lay_138 : decode cX6_lay 138 = .ok (.iaload, 1) := dk_46 (dk_at dksX6_lay_5 20 rfl rfl)
theorem dX6_lay_139 : decode cX6_lay 139 = .ok (.aload_n 0, 1) := dk_42 (dk_at dksX6_lay_5 21 rfl rfl)
theorem dX6_lay_140 : decode cX6_lay 140 = .ok (.getfield 98, 3) := dk_180 0 98 (dk_at dksX6_lay_6 0 rfl rfl)
theorem dX6_lay_143 : decode cX6_lay 143 = .ok (.bipush 7, 2) := dk_16 7 (dk_at dksX6_lay_6 3 rfl rfl)
theorem dX6_lay_145 : decode cX6_lay 145 = .ok (.iload_n 2, 1) := dk_28 (dk_at dksX6_lay_6 5 rfl rfl)
theorem dX6_lay_146 : decode cX6_lay 146 = .ok (.imul, 1) := dk_104 (dk_at dksX6_lay_6 6 rfl rfl)
theorem dX6_lay_147 : decode cX6_lay 147 = .ok (.iload 5, 2) := dk_21 5 (dk_at dksX6_lay_6 7 rfl rfl)
theorem dX6_lay_149 : decode cX6_lay 149 = .ok (.iadd, 1) := dk_96 (dk_at dksX6_lay_6 9 rfl rfl)
theorem dX6_lay_150 : decode cX6_lay 150 = .ok (.iaload, 1) := dk_46 (dk_at dksX6_lay_6 10 rfl rfl)
theorem dX6_lay_151 : decode cX6_lay 151 = .ok (.if_icmp .le 7, 3) := dk_164 0 7 (dk_at dksX6_lay_6 11 rfl rfl)
theorem dX6_lay_154 : decode cX6_lay 154 = .ok (.iconst 1, 1) := dk_4 (dk_at dksX6_lay_6 14 rfl rfl)
theorem dX6_lay_155 : decode cX6_lay 155 = .ok (.goto 4, 3) := dk_167 0 4 (dk_at dksX6_lay_6 15 rfl rfl)
theorem dX6_lay_158 : decode cX6_lay 158 = .ok (.iconst 0, 1) := dk_3 (dk_at dksX6_lay_6 18 rfl rfl)
theorem dX6_lay_159 : decode cX6_lay 159 = .ok (.iadd, 1) := dk_96 (dk_at dksX6_lay_6 19 rfl rfl)
theorem dX6_lay_160 : decode cX6_lay 160 = .ok (.istore_n 3, 1) := dk_62 (dk_at dksX6_lay_6 20 rfl rfl)
theorem dX6_lay_161 : decode cX6_lay 161 = .ok (.iinc 5 1, 3) := dk_132 5 1 (dk_at dksX6_lay_6 21 rfl rfl)
theorem dX6_lay_164 : decode cX6_lay 164 = .ok (.goto (-44), 3) := dk_167 255 212 (dk_at dksX6_lay_7 0 rfl rfl)
theorem dX6_lay_167 : decode cX6_lay 167 = .ok (.iinc 4 1, 3) := dk_132 4 1 (dk_at dksX6_lay_7 3 rfl rfl)
theorem dX6_lay_170 : decode cX6_lay 170 = .ok (.goto (-62), 3) := dk_167 255 194 (dk_at dksX6_lay_7 6 rfl rfl)
theorem dX6_lay_173 : decode cX6_lay 173 = .ok (.aload_n 0, 1) := dk_42 (dk_at dksX6_lay_7 9 rfl rfl)
theorem dX6_lay_174 : decode cX6_lay 174 = .ok (.getfield 107, 3) := dk_180 0 107 (dk_at dksX6_lay_7 10 rfl rfl)
theorem dX6_lay_177 : decode cX6_lay 177 = .ok (.iload_n 2, 1) := dk_28 (dk_at dksX6_lay_7 13 rfl rfl)
theorem dX6_lay_178 : decode cX6_lay 178 = .ok (.iload_n 3, 1) := dk_29 (dk_at dksX6_lay_7 14 rfl rfl)
theorem dX6_lay_179 : decode cX6_lay 179 = .ok (.iastore, 1) := dk_79 (dk_at dksX6_lay_7 15 rfl rfl)
theorem dX6_lay_180 : decode cX6_lay 180 = .ok (.iconst 0, 1) := dk_3 (dk_at dksX6_lay_7 16 rfl rfl)
theorem dX6_lay_181 : decode cX6_lay 181 = .ok (.istore 4, 2) := dk_54 4 (dk_at dksX6_lay_7 17 rfl rfl)
theorem dX6_lay_183 : decode cX6_lay 183 = .ok (.iload 4, 2) := dk_21 4 (dk_at dksX6_lay_7 19 rfl rfl)
theorem dX6_lay_185 : decode cX6_lay 185 = .ok (.iload_n 1, 1) := dk_27 (dk_at dksX6_lay_7 21 rfl rfl)
theorem dX6_lay_186 : decode cX6_lay 186 = .ok (.iconst 1, 1) := dk_4 (dk_at dksX6_lay_7 22 rfl rfl)
theorem dX6_lay_187 : decode cX6_lay 187 = .ok (.isub, 1) := dk_100 (dk_at dksX6_lay_7 23 rfl rfl)
theorem dX6_lay_188 : decode cX6_lay 188 = .ok (.if_icmp .ge 87, 3) := dk_162 0 87 (dk_at dksX6_lay_8 0 rfl rfl)
theorem dX6_lay_191 : decode cX6_lay 191 = .ok (.aload_n 0, 1) := dk_42 (dk_at dksX6_lay_8 3 rfl rfl)
theorem dX6_lay_192 : decode cX6_lay 192 = .ok (.iload_n 1, 1) := dk_27 (dk_at dksX6_lay_8 4 rfl rfl)
theorem dX6_lay_193 : decode cX6_lay 193 = .ok (.iload_n 2, 1) := dk_28 (dk_at dksX6_lay_8 5 rfl rfl)
theorem dX6_lay_194 : decode cX6_lay 194 = .ok (.invokevirtual 346, 3) := dk_182 1 90 (dk_at dksX6_lay_8 6 rfl rfl)
theorem dX6_lay_197 : decode cX6_lay 197 = .ok (.aload_n 0, 1) := dk_42 (dk_at dksX6_lay_8 9 rfl rfl)
theorem dX6_lay_198 : decode cX6_lay 198 = .ok (.iload 4, 2) := dk_21 4 (dk_at dksX6_lay_8 10 rfl rfl)
theorem dX6_lay_200 : decode cX6_lay 200 = .ok (.iload 4, 2) := dk_21 4 (dk_at dksX6_lay_8 12 rfl rfl)
theorem dX6_lay_202 : decode cX6_lay 202 = .ok (.iconst 1, 1) := dk_4 (dk_at dksX6_lay_8 14 rfl rfl)
theorem dX6_lay_203 : decode cX6_lay 203 = .ok (.iadd, 1) := dk_96 (dk_at dksX6_lay_8 15 rfl rfl)
theorem dX6_lay_204 : decode cX6_lay 204 = .ok (.invokevirtual 331, 3) := dk_182 1 75 (dk_at dksX6_lay_8 16 rfl rfl)
theorem dX6_lay_207 : decode cX6_lay 207 = .ok (.aload_n 0, 1) := dk_42 (dk_at dksX6_lay_8 19 rfl rfl)
theorem dX6_lay_208 : decode cX6_lay 208 = .ok (.getfield 101, 3) := dk_180 0 101 (dk_at dksX6_lay_8 20 rfl rfl)
theorem dX6_lay_211 : decode cX6_lay 211 = .ok (.bipush 6, 2) := dk_16 6 (dk_at dksX6_lay_9 0 rfl rfl)
theorem dX6_lay_213 : decode cX6_lay 213 = .ok (.iload_n 2, 1) := dk_28 (dk_at dksX6_lay_9 2 rfl rfl)
theorem dX6_lay_214 : decode cX6_lay 214 = .ok (.imul, 1) := dk_104 (dk_at dksX6_lay_9 3 rfl rfl)
theorem dX6_lay_215 : decode cX6_lay 215 = .ok (.iload 4, 2) := dk_21 4 (dk_at dksX6_lay_9 4 rfl rfl)
theorem dX6_lay_217 : decode cX6_lay 217 = .ok (.iadd, 1) := dk_96 (dk_at dksX6_lay_9 6 rfl rfl)
theorem dX6_lay_218 : decode cX6_lay 218 = .ok (.aload_n 0, 1) := dk_42 (dk_at dksX6_lay_9 7 rfl rfl)
theorem dX6_lay_219 : decode cX6_lay 219 = .ok (.iload_n 1, 1) := dk_27 (dk_at dksX6_lay_9 8 rfl rfl)
theorem dX6_lay_220 : decode cX6_lay 220 = .ok (.invokevirtual 349, 3) := dk_182 1 93 (dk_at dksX6_lay_9 9 rfl rfl)
theorem dX6_lay_223 : decode cX6_lay 223 = .ok (.iastore, 1) := dk_79 (dk_at dksX6_lay_9 12 rfl rfl)
theorem dX6_lay_224 : decode cX6_lay 224 = .ok (.aload_n 0, 1) := dk_42 (dk_at dksX6_lay_9 13 rfl rfl)
theorem dX6_lay_225 : decode cX6_lay 225 = .ok (.iload_n 1, 1) := dk_27 (dk_at dksX6_lay_9 14 rfl rfl)
theorem dX6_lay_226 : decode cX6_lay 226 = .ok (.iload_n 2, 1) := dk_28 (dk_at dksX6_lay_9 15 rfl rfl)
theorem dX6_lay_227 : decode cX6_lay 227 = .ok (.invokevirtual 346, 3) := dk_182 1 90 (dk_at dksX6_lay_9 16 rfl rfl)
theorem dX6_lay_230 : decode cX6_lay 230 = .ok (.aload_n 0, 1) := dk_42 (dk_at dksX6_lay_9 19 rfl rfl)
theorem dX6_lay_231 : decode cX6_lay 231 = .ok (.aload_n 0, 1) := dk_42 (dk_at dksX6_lay_9 20 rfl rfl)
theorem dX6_lay_232 : decode cX6_lay 232 = .ok (.iload_n 1, 1) := dk_27 (dk_at dksX6_lay_9 21 rfl rfl)
theorem dX6_lay_233 : decode cX6_lay 233 = .ok (.iload_n 2, 1) := dk_28 (dk_at dksX6_lay_9 22 rfl rfl)
theorem dX6_lay_234 : decode cX6_lay 234 = .ok (.iload 4, 2) := dk_21 4 (dk_at dksX6_lay_10 0 rfl rfl)
theorem dX6_lay_236 : decode cX6_lay 236 = .ok (.invokevirtual 352, 3) := dk_182 1 96 (dk_at dksX6_lay_10 2 rfl rfl)
theorem dX6_lay_239 : decode cX6_lay 239 = .ok (.aload_n 0, 1) := dk_42 (dk_at dksX6_lay_10 5 rfl rfl)
theorem dX6_lay_240 : decode cX6_lay 240 = .ok (.iload_n 1, 1) := dk_27 (dk_at dksX6_lay_10 6 rfl rfl)
theorem dX6_lay_241 : decode cX6_lay 241 = .ok (.iload_n 2, 1) := dk_28 (dk_at dksX6_lay_10 7 rfl rfl)
theorem dX6_lay_242 : decode cX6_lay 242 = .ok (.iload 4, 2) := dk_21 4 (dk_at dksX6_lay_10 8 rfl rfl)
theorem dX6_lay_244 : decode cX6_lay 244 = .ok (.iconst 1, 1) := dk_4 (dk_at dksX6_lay_10 10 rfl rfl)
theorem dX6_lay_245 : decode cX6_lay 245 = .ok (.iadd, 1) := dk_96 (dk_at dksX6_lay_10 11 rfl rfl)
theorem dX6_lay_246 : decode cX6_lay 246 = .ok (.invokevirtual 352, 3) := dk_182 1 96 (dk_at dksX6_lay_10 12 rfl rfl)
theorem dX6_lay_249 : decode cX6_lay 249 = .ok (.invokevirtual 331, 3) := dk_182 1 75 (dk_at dksX6_lay_10 15 rfl rfl)
theorem dX6_lay_252 : decode cX6_lay 252 = .ok (.aload_n 0, 1) := dk_42 (dk_at dksX6_lay_10 18 rfl rfl)
theorem dX6_lay_253 : decode cX6_lay 253 = .ok (.getfield 104, 3) := dk_180 0 104 (dk_at dksX6_lay_10 19 rfl rfl)
theorem dX6_lay_256 : decode cX6_lay 256 = .ok (.bipush 6, 2) := dk_16 6 (dk_at dksX6_lay_10 22 rfl rfl)
theorem dX6_lay_258 : decode cX6_lay 258 = .ok (.iload_n 2, 1) := dk_28 (dk_at dksX6_lay_11 0 rfl rfl)
theorem dX6_lay_259 : decode cX6_lay 259 = .ok (.imul, 1) := dk_104 (dk_at dksX6_lay_11 1 rfl rfl)
theorem dX6_lay_260 : decode cX6_lay 260 = .ok (.iload 4, 2) := dk_21 4 (dk_at dksX6_lay_11 2 rfl rfl)
theorem dX6_lay_262 : decode cX6_lay 262 = .ok (.iadd, 1) := dk_96 (dk_at dksX6_lay_11 4 rfl rfl)
theorem dX6_lay_263 : decode cX6_lay 263 = .ok (.aload_n 0, 1) := dk_42 (dk_at dksX6_lay_11 5 rfl rfl)
theorem dX6_lay_264 : decode cX6_lay 264 = .ok (.iload_n 1, 1) := dk_27 (dk_at dksX6_lay_11 6 rfl rfl)
theorem dX6_lay_265 : decode cX6_lay 265 = .ok (.invokevirtual 349, 3) := dk_182 1 93 (dk_at dksX6_lay_11 7 rfl rfl)
theorem dX6_lay_268 : decode cX6_lay 268 = .ok (.iastore, 1) := dk_79 (dk_at dksX6_lay_11 10 rfl rfl)
theorem dX6_lay_269 : decode cX6_lay 269 = .ok (.iinc 4 1, 3) := dk_132 4 1 (dk_at dksX6_lay_11 11 rfl rfl)
theorem dX6_lay_272 : decode cX6_lay 272 = .ok (.goto (-89), 3) := dk_167 255 167 (dk_at dksX6_lay_11 14 rfl rfl)
theorem dX6_lay_275 : decode cX6_lay 275 = .ok (.iinc 2 1, 3) := dk_132 2 1 (dk_at dksX6_lay_11 17 rfl rfl)
theorem dX6_lay_278 : decode cX6_lay 278 = .ok (.goto (-183), 3) := dk_167 255 73 (dk_at dksX6_lay_11 20 rfl rfl)
theorem dX6_lay_281 : decode cX6_lay 281 = .ok (.iconst 0, 1) := dk_3 (dk_at dksX6_lay_11 23 rfl rfl)
theorem dX6_lay_282 : decode cX6_lay 282 = .ok (.istore_n 2, 1) := dk_61 (dk_at dksX6_lay_12 0 rfl rfl)
theorem dX6_lay_283 : decode cX6_lay 283 = .ok (.iload_n 2, 1) := dk_28 (dk_at dksX6_lay_12 1 rfl rfl)
theorem dX6_lay_284 : decode cX6_lay 284 = .ok (.iload_n 1, 1) := dk_27 (dk_at dksX6_lay_12 2 rfl rfl)
theorem dX6_lay_285 : decode cX6_lay 285 = .ok (.iload_n 1, 1) := dk_27 (dk_at dksX6_lay_12 3 rfl rfl)
theorem dX6_lay_286 : decode cX6_lay 286 = .ok (.iconst 1, 1) := dk_4 (dk_at dksX6_lay_12 4 rfl rfl)
theorem dX6_lay_287 : decode cX6_lay 287 = .ok (.isub, 1) := dk_100 (dk_at dksX6_lay_12 5 rfl rfl)
theorem dX6_lay_288 : decode cX6_lay 288 = .ok (.imul, 1) := dk_104 (dk_at dksX6_lay_12 6 rfl rfl)
theorem dX6_lay_289 : decode cX6_lay 289 = .ok (.iconst 2, 1) := dk_5 (dk_at dksX6_lay_12 7 rfl rfl)
theorem dX6_lay_290 : decode cX6_lay 290 = .ok (.idiv, 1) := dk_108 (dk_at dksX6_lay_12 8 rfl rfl)
theorem dX6_lay_291 : decode cX6_lay 291 = .ok (.if_icmp .gt 107, 3) := dk_163 0 107 (dk_at dksX6_lay_12 9 rfl rfl)
theorem dX6_lay_294 : decode cX6_lay 294 = .ok (.iconst 0, 1) := dk_3 (dk_at dksX6_lay_12 12 rfl rfl)
theorem dX6_lay_295 : decode cX6_lay 295 = .ok (.istore_n 3, 1) := dk_62 (dk_at dksX6_lay_12 13 rfl rfl)
theorem dX6_lay_296 : decode cX6_lay 296 = .ok (.iload_n 3, 1) := dk_29 (dk_at dksX6_lay_12 14 rfl rfl)
theorem dX6_lay_297 : decode cX6_lay 297 = .ok (.aload_n 0, 1) := dk_42 (dk_at dksX6_lay_12 15 rfl rfl)
theorem dX6_lay_298 : decode cX6_lay 298 = .ok (.getfield 340, 3) := dk_180 1 84 (dk_at dksX6_lay_12 16 rfl rfl)
theorem dX6_lay_301 : decode cX6_lay 301 = .ok (.if_icmp .ge 91, 3) := dk_162 0 91 (dk_at dksX6_lay_12 19 rfl rfl)
theorem dX6_lay_304 : decode cX6_lay 304 = .ok (.aload_n 0, 1) := dk_42 (dk_at dksX6_lay_12 22 rfl rfl)
theorem dX6_lay_305 : decode cX6_lay 305 = .ok (.getfield 107, 3) := dk_180 0 107 (dk_at dksX6_lay_13 0 rfl rfl)
theorem dX6_lay_308 : decode cX6_lay 308 = .ok (.iload_n 3, 1) := dk_29 (dk_at dksX6_lay_13 3 rfl rfl)
theorem dX6_lay_309 : decode cX6_lay 309 = .ok (.iaload, 1) := dk_46 (dk_at dksX6_lay_13 4 rfl rfl)
theorem dX6_lay_310 : decode cX6_lay 310 = .ok (.iload_n 2, 1) := dk_28 (dk_at dksX6_lay_13 5 rfl rfl)
theorem dX6_lay_311 : decode cX6_lay 311 = .ok (.if_icmp .eq 6, 3) := dk_159 0 6 (dk_at dksX6_lay_13 6 rfl rfl)
theorem dX6_lay_314 : decode cX6_lay 314 = .ok (.goto 72, 3) := dk_167 0 72 (dk_at dksX6_lay_13 9 rfl rfl)
theorem dX6_lay_317 : decode cX6_lay 317 = .ok (.aload_n 0, 1) := dk_42 (dk_at dksX6_lay_13 12 rfl rfl)
theorem dX6_lay_318 : decode cX6_lay 318 = .ok (.getfield 110, 3) := dk_180 0 110 (dk_at dksX6_lay_13 13 rfl rfl)
theorem dX6_lay_321 : decode cX6_lay 321 = .ok (.iload_n 3, 1) := dk_29 (dk_at dksX6_lay_13 16 rfl rfl)
theorem dX6_lay_322 : decode cX6_lay 322 = .ok (.iload_n 2, 1) := dk_28 (dk_at dksX6_lay_13 17 rfl rfl)
theorem dX6_lay_323 : decode cX6_lay 323 = .ok (.ifCond .ne 7, 3) := dk_154 0 7 (dk_at dksX6_lay_13 18 rfl rfl)
theorem dX6_lay_326 : decode cX6_lay 326 = .ok (.lconst 1, 1) := dk_10 (dk_at dksX6_lay_13 21 rfl rfl)
theorem dX6_lay_327 : decode cX6_lay 327 = .ok (.goto 4, 3) := dk_167 0 4 (dk_at dksX6_lay_14 0 rfl rfl)
theorem dX6_lay_330 : decode cX6_lay 330 = .ok (.lconst 0, 1) := dk_9 (dk_at dksX6_lay_14 3 rfl rfl)
theorem dX6_lay_331 : decode cX6_lay 331 = .ok (.lastore, 1) := dk_80 (dk_at dksX6_lay_14 4 rfl rfl)
theorem dX6_lay_332 : decode cX6_lay 332 = .ok (.iconst 0, 1) := dk_3 (dk_at dksX6_lay_14 5 rfl rfl)
theorem dX6_lay_333 : decode cX6_lay 333 = .ok (.istore 4, 2) := dk_54 4 (dk_at dksX6_lay_14 6 rfl rfl)
theorem dX6_lay_335 : decode cX6_lay 335 = .ok (.iload 4, 2) := dk_21 4 (dk_at dksX6_lay_14 8 rfl rfl)
theorem dX6_lay_337 : decode cX6_lay 337 = .ok (.iload_n 1, 1) := dk_27 (dk_at dksX6_lay_14 10 rfl rfl)
theorem dX6_lay_338 : decode cX6_lay 338 = .ok (.iconst 1, 1) := dk_4 (dk_at dksX6_lay_14 11 rfl rfl)
theorem dX6_lay_339 : decode cX6_lay 339 = .ok (.isub, 1) := dk_100 (dk_at dksX6_lay_14 12 rfl rfl)
theorem dX6_lay_340 : decode cX6_lay 340 = .ok (.if_icmp .ge 46, 3) := dk_162 0 46 (dk_at dksX6_lay_14 13 rfl rfl)
theorem dX6_lay_343 : decode cX6_lay 343 = .ok (.aload_n 0, 1) := dk_42 (dk_at dksX6_lay_14 16 rfl rfl)
theorem dX6_lay_344 : decode cX6_lay 344 = .ok (.iload_n 1, 1) := dk_27 (dk_at dksX6_lay_14 17 rfl rfl)
theorem dX6_lay_345 : decode cX6_lay 345 = .ok (.iload_n 3, 1) := dk_29 (dk_at dksX6_lay_14 18 rfl rfl)
theorem dX6_lay_346 : decode cX6_lay 346 = .ok (.iload 4, 2) := dk_21 4 (dk_at dksX6_lay_14 19 rfl rfl)
theorem dX6_lay_348 : decode cX6_lay 348 = .ok (.invokevirtual 355, 3) := dk_182 1 99 (dk_at dksX6_lay_14 21 rfl rfl)
theorem dX6_lay_351 : decode cX6_lay 351 = .ok (.ifCond .eq 29, 3) := dk_153 0 29 (dk_at dksX6_lay_15 0 rfl rfl)
theorem dX6_lay_354 : decode cX6_lay 354 = .ok (.aload_n 0, 1) := dk_42 (dk_at dksX6_lay_15 3 rfl rfl)
theorem dX6_lay_355 : decode cX6_lay 355 = .ok (.getfield 110, 3) := dk_180 0 110 (dk_at dksX6_lay_15 4 rfl rfl)
theorem dX6_lay_358 : decode cX6_lay 358 = .ok (.iload_n 3, 1) := dk_29 (dk_at dksX6_lay_15 7 rfl rfl)
theorem dX6_lay_359 : decode cX6_lay 359 = .ok (.dup2, 1) := dk_92 (dk_at dksX6_lay_15 8 rfl rfl)
theorem dX6_lay_360 : decode cX6_lay 360 = .ok (.laload, 1) := dk_47 (dk_at dksX6_lay_15 9 rfl rfl)
theorem dX6_lay_361 : decode cX6_lay 361 = .ok (.aload_n 0, 1) := dk_42 (dk_at dksX6_lay_15 10 rfl rfl)
theorem dX6_lay_362 : decode cX6_lay 362 = .ok (.getfield 110, 3) := dk_180 0 110 (dk_at dksX6_lay_15 11 rfl rfl)
theorem dX6_lay_365 : decode cX6_lay 365 = .ok (.aload_n 0, 1) := dk_42 (dk_at dksX6_lay_15 14 rfl rfl)
theorem dX6_lay_366 : decode cX6_lay 366 = .ok (.getfield 104, 3) := dk_180 0 104 (dk_at dksX6_lay_15 15 rfl rfl)
theorem dX6_lay_369 : decode cX6_lay 369 = .ok (.bipush 6, 2) := dk_16 6 (dk_at dksX6_lay_15 18 rfl rfl)
theorem dX6_lay_371 : decode cX6_lay 371 = .ok (.iload_n 3, 1) := dk_29 (dk_at dksX6_lay_15 20 rfl rfl)
theorem dX6_lay_372 : decode cX6_lay 372 = .ok (.imul, 1) := dk_104 (dk_at dksX6_lay_15 21 rfl rfl)
theorem dX6_lay_373 : decode cX6_lay 373 = .ok (.iload 4, 2) := dk_21 4 (dk_at dksX6_lay_15 22 rfl rfl)
theorem dX6_lay_375 : decode cX6_lay 375 = .ok (.iadd, 1) := dk_96 (dk_at dksX6_lay_16 0 rfl rfl)
theorem dX6_lay_376 : decode cX6_lay 376 = .ok (.iaload, 1) := dk_46 (dk_at dksX6_lay_16 1 rfl rfl)
theorem dX6_lay_377 : decode cX6_lay 377 = .ok (.laload, 1) := dk_47 (dk_at dksX6_lay_16 2 rfl rfl)
theorem dX6_lay_378 : decode cX6_lay 378 = .ok (.ladd, 1) := dk_97 (dk_at dksX6_lay_16 3 rfl rfl)
theorem dX6_lay_379 : decode cX6_lay 379 = .ok (.lastore, 1) := dk_80 (dk_at dksX6_lay_16 4 rfl rfl)
theorem dX6_lay_380 : decode cX6_lay 380 = .ok (.iinc 4 1, 3) := dk_132 4 1 (dk_at dksX6_lay_16 5 rfl rfl)
theorem dX6_lay_383 : decode cX6_lay 383 = .ok (.goto (-48), 3) := dk_167 255 208 (dk_at dksX6_lay_16 8 rfl rfl)
theorem dX6_lay_386 : decode cX6_lay 386 = .ok (.iinc 3 1, 3) := dk_132 3 1 (dk_at dksX6_lay_16 11 rfl rfl)
theorem dX6_lay_389 : decode cX6_lay 389 = .ok (.goto (-93), 3) := dk_167 255 163 (dk_at dksX6_lay_16 14 rfl rfl)
theorem dX6_lay_392 : decode cX6_lay 392 = .ok (.iinc 2 1, 3) := dk_132 2 1 (dk_at dksX6_lay_16 17 rfl rfl)
theorem dX6_lay_395 : decode cX6_lay 395 = .ok (.goto (-112), 3) := dk_167 255 144 (dk_at dksX6_lay_16 20 rfl rfl)
theorem dX6_lay_398 : decode cX6_lay 398 = .ok (.return_, 1) := dk_177 (dk_at dksX6_lay_16 23 rfl rfl)
abbrev cX6_goOn : ByteArray := prog_14_method_51_code
def yX6_goOn : MethodName := ⟨RX6, "goOn", "(I)V"⟩
def dkwX6_goOn_4 : List UInt8 := [132, 4, 1, 132, 5, 255, 167, 255, 235, 177]
abbrev dktX6_goOn_4 : List UInt8 := dkwX6_goOn_4 ++ []
def dkwX6_goOn_3 : List UInt8 := [54, 4, 27, 4, 100, 54, 5, 21, 4, 21, 5, 162, 0, 20, 42, 21, 4, 21, 5, 182, 1, 75]
abbrev dktX6_goOn_3 : List UInt8 := dkwX6_goOn_3 ++ dktX6_goOn_4
def dkwX6_goOn_2 : List UInt8 := [42, 180, 0, 113, 28, 46, 162, 0, 9, 132, 3, 255, 167, 255, 238, 42, 28, 29, 182, 1, 75, 28, 4, 96]
abbrev dktX6_goOn_2 : List UInt8 := dkwX6_goOn_2 ++ dktX6_goOn_3
def dkwX6_goOn_1 : List UInt8 := [164, 0, 9, 132, 2, 255, 167, 255, 232, 28, 156, 0, 4, 177, 27, 4, 100, 62, 42, 180, 0, 113, 29, 46]
abbrev dktX6_goOn_1 : List UInt8 := dkwX6_goOn_1 ++ dktX6_goOn_2
def dkwX6_goOn_0 : List UInt8 := [27, 5, 100, 61, 28, 155, 0, 26, 42, 180, 0, 113, 28, 46, 42, 180, 0, 113, 28, 4, 96, 46]
abbrev dktX6_goOn_0 : List UInt8 := dkwX6_goOn_0 ++ dktX6_goOn_1
theorem dksX6_goOn_0 : cX6_goOn.data.toList.drop 0 = dktX6_goOn_0 := by decide +kernel
theorem dksX6_goOn_1 : cX6_goOn.data.toList.drop 22 = dktX6_goOn_1 := dk_seg dksX6_goOn_0 22 rfl rfl
theorem dksX6_goOn_2 : cX6_goOn.data.toList.drop 46 = dktX6_goOn_2 := dk_seg dksX6_goOn_1 24 rfl rfl
theorem dksX6_goOn_3 : cX6_goOn.data.toList.drop 70 = dktX6_goOn_3 := dk_seg dksX6_goOn_2 24 rfl rfl
theorem dksX6_goOn_4 : cX6_goOn.data.toList.drop 92 = dktX6_goOn_4 := dk_seg dksX6_goOn_3 22 rfl rfl
theorem dX6_goOn_0 : decode cX6_goOn 0 = .ok (.iload_n 1, 1) := dk_27 (dk_at dksX6_goOn_0 0 rfl rfl)
theorem dX6_goOn_1 : decode cX6_goOn 1 = .ok (.iconst 2, 1) := dk_5 (dk_at dksX6_goOn_0 1 rfl rfl)
theorem dX6_goOn_2 : decode cX6_goOn 2 = .ok (.isub, 1) := dk_100 (dk_at dksX6_goOn_0 2 rfl rfl)
theorem dX6_goOn_3 : decode cX6_goOn 3 = .ok (.istore_n 2, 1) := dk_61 (dk_at dksX6_goOn_0 3 rfl rfl)
theorem dX6_goOn_4 : decode cX6_goOn 4 = .ok (.iload_n 2, 1) := dk_28 (dk_at dksX6_goOn_0 4 rfl rfl)
theorem dX6_goOn_5 : decode cX6_goOn 5 = .ok (.ifCond .lt 26, 3) := dk_155 0 26 (dk_at dksX6_goOn_0 5 rfl rfl)
theorem dX6_goOn_8 : decode cX6_goOn 8 = .ok (.aload_n 0, 1) := dk_42 (dk_at dksX6_goOn_0 8 rfl rfl)
theorem dX6_goOn_9 : decode cX6_goOn 9 = .ok (.getfield 113, 3) := dk_180 0 113 (dk_at dksX6_goOn_0 9 rfl rfl)
theorem dX6_goOn_12 : decode cX6_goOn 12 = .ok (.iload_n 2, 1) := dk_28 (dk_at dksX6_goOn_0 12 rfl rfl)
theorem dX6_goOn_13 : decode cX6_goOn 13 = .ok (.iaload, 1) := dk_46 (dk_at dksX6_goOn_0 13 rfl rfl)
theorem dX6_goOn_14 : decode cX6_goOn 14 = .ok (.aload_n 0, 1) := dk_42 (dk_at dksX6_goOn_0 14 rfl rfl)
theorem dX6_goOn_15 : decode cX6_goOn 15 = .ok (.getfield 113, 3) := dk_180 0 113 (dk_at dksX6_goOn_0 15 rfl rfl)
theorem dX6_goOn_18 : decode cX6_goOn 18 = .ok (.iload_n 2, 1) := dk_28 (dk_at dksX6_goOn_0 18 rfl rfl)
theorem dX6_goOn_19 : decode cX6_goOn 19 = .ok (.iconst 1, 1) := dk_4 (dk_at dksX6_goOn_0 19 rfl rfl)
theorem dX6_goOn_20 : decode cX6_goOn 20 = .ok (.iadd, 1) := dk_96 (dk_at dksX6_goOn_0 20 rfl rfl)
theorem dX6_goOn_21 : decode cX6_goOn 21 = .ok (.iaload, 1) := dk_46 (dk_at dksX6_goOn_0 21 rfl rfl)
theorem dX6_goOn_22 : decode cX6_goOn 22 = .ok (.if_icmp .le 9, 3) := dk_164 0 9 (dk_at dksX6_goOn_1 0 rfl rfl)
theorem dX6_goOn_25 : decode cX6_goOn 25 = .ok (.iinc 2 (-1), 3) := dk_132 2 255 (dk_at dksX6_goOn_1 3 rfl rfl)
theorem dX6_goOn_28 : decode cX6_goOn 28 = .ok (.goto (-24), 3) := dk_167 255 232 (dk_at dksX6_goOn_1 6 rfl rfl)
theorem dX6_goOn_31 : decode cX6_goOn 31 = .ok (.iload_n 2, 1) := dk_28 (dk_at dksX6_goOn_1 9 rfl rfl)
theorem dX6_goOn_32 : decode cX6_goOn 32 = .ok (.ifCond .ge 4, 3) := dk_156 0 4 (dk_at dksX6_goOn_1 10 rfl rfl)
theorem dX6_goOn_35 : decode cX6_goOn 35 = .ok (.return_, 1) := dk_177 (dk_at dksX6_goOn_1 13 rfl rfl)
theorem dX6_goOn_36 : decode cX6_goOn 36 = .ok (.iload_n 1, 1) := dk_27 (dk_at dksX6_goOn_1 14 rfl rfl)
theorem dX6_goOn_37 : decode cX6_goOn 37 = .ok (.iconst 1, 1) := dk_4 (dk_at dksX6_goOn_1 15 rfl rfl)
theorem dX6_goOn_38 : decode cX6_goOn 38 = .ok (.isub, 1) := dk_100 (dk_at dksX6_goOn_1 16 rfl rfl)
theorem dX6_goOn_39 : decode cX6_goOn 39 = .ok (.istore_n 3, 1) := dk_62 (dk_at dksX6_goOn_1 17 rfl rfl)
theorem dX6_goOn_40 : decode cX6_goOn 40 = .ok (.aload_n 0, 1) := dk_42 (dk_at dksX6_goOn_1 18 rfl rfl)
theorem dX6_goOn_41 : decode cX6_goOn 41 = .ok (.getfield 113, 3) := dk_180 0 113 (dk_at dksX6_goOn_1 19 rfl rfl)
theorem dX6_goOn_44 : decode cX6_goOn 44 = .ok (.iload_n 3, 1) := dk_29 (dk_at dksX6_goOn_1 22 rfl rfl)
theorem dX6_goOn_45 : decode cX6_goOn 45 = .ok (.iaload, 1) := dk_46 (dk_at dksX6_goOn_1 23 rfl rfl)
theorem dX6_goOn_46 : decode cX6_goOn 46 = .ok (.aload_n 0, 1) := dk_42 (dk_at dksX6_goOn_2 0 rfl rfl)
theorem dX6_goOn_47 : decode cX6_goOn 47 = .ok (.getfield 113, 3) := dk_180 0 113 (dk_at dksX6_goOn_2 1 rfl rfl)
theorem dX6_goOn_50 : decode cX6_goOn 50 = .ok (.iload_n 2, 1) := dk_28 (dk_at dksX6_goOn_2 4 rfl rfl)
theorem dX6_goOn_51 : decode cX6_goOn 51 = .ok (.iaload, 1) := dk_46 (dk_at dksX6_goOn_2 5 rfl rfl)
theorem dX6_goOn_52 : decode cX6_goOn 52 = .ok (.if_icmp .ge 9, 3) := dk_162 0 9 (dk_at dksX6_goOn_2 6 rfl rfl)
theorem dX6_goOn_55 : decode cX6_goOn 55 = .ok (.iinc 3 (-1), 3) := dk_132 3 255 (dk_at dksX6_goOn_2 9 rfl rfl)
theorem dX6_goOn_58 : decode cX6_goOn 58 = .ok (.goto (-18), 3) := dk_167 255 238 (dk_at dksX6_goOn_2 12 rfl rfl)
theorem dX6_goOn_61 : decode cX6_goOn 61 = .ok (.aload_n 0, 1) := dk_42 (dk_at dksX6_goOn_2 15 rfl rfl)
theorem dX6_goOn_62 : decode cX6_goOn 62 = .ok (.iload_n 2, 1) := dk_28 (dk_at dksX6_goOn_2 16 rfl rfl)
theorem dX6_goOn_63 : decode cX6_goOn 63 = .ok (.iload_n 3, 1) := dk_29 (dk_at dksX6_goOn_2 17 rfl rfl)
theorem dX6_goOn_64 : decode cX6_goOn 64 = .ok (.invokevirtual 331, 3) := dk_182 1 75 (dk_at dksX6_goOn_2 18 rfl rfl)
theorem dX6_goOn_67 : decode cX6_goOn 67 = .ok (.iload_n 2, 1) := dk_28 (dk_at dksX6_goOn_2 21 rfl rfl)
theorem dX6_goOn_68 : decode cX6_goOn 68 = .ok (.iconst 1, 1) := dk_4 (dk_at dksX6_goOn_2 22 rfl rfl)
theorem dX6_goOn_69 : decode cX6_goOn 69 = .ok (.iadd, 1) := dk_96 (dk_at dksX6_goOn_2 23 rfl rfl)
theorem dX6_goOn_70 : decode cX6_goOn 70 = .ok (.istore 4, 2) := dk_54 4 (dk_at dksX6_goOn_3 0 rfl rfl)
theorem dX6_goOn_72 : decode cX6_goOn 72 = .ok (.iload_n 1, 1) := dk_27 (dk_at dksX6_goOn_3 2 rfl rfl)
theorem dX6_goOn_73 : decode cX6_goOn 73 = .ok (.iconst 1, 1) := dk_4 (dk_at dksX6_goOn_3 3 rfl rfl)
theorem dX6_goOn_74 : decode cX6_goOn 74 = .ok (.isub, 1) := dk_100 (dk_at dksX6_goOn_3 4 rfl rfl)
theorem dX6_goOn_75 : decode cX6_goOn 75 = .ok (.istore 5, 2) := dk_54 5 (dk_at dksX6_goOn_3 5 rfl rfl)
theorem dX6_goOn_77 : decode cX6_goOn 77 = .ok (.iload 4, 2) := dk_21 4 (dk_at dksX6_goOn_3 7 rfl rfl)
theorem dX6_goOn_79 : decode cX6_goOn 79 = .ok (.iload 5, 2) := dk_21 5 (dk_at dksX6_goOn_3 9 rfl rfl)
theorem dX6_goOn_81 : decode cX6_goOn 81 = .ok (.if_icmp .ge 20, 3) := dk_162 0 20 (dk_at dksX6_goOn_3 11 rfl rfl)
theorem dX6_goOn_84 : decode cX6_goOn 84 = .ok (.aload_n 0, 1) := dk_42 (dk_at dksX6_goOn_3 14 rfl rfl)
theorem dX6_goOn_85 : decode cX6_goOn 85 = .ok (.iload 4, 2) := dk_21 4 (dk_at dksX6_goOn_3 15 rfl rfl)
theorem dX6_goOn_87 : decode cX6_goOn 87 = .ok (.iload 5, 2) := dk_21 5 (dk_at dksX6_goOn_3 17 rfl rfl)
theorem dX6_goOn_89 : decode cX6_goOn 89 = .ok (.invokevirtual 331, 3) := dk_182 1 75 (dk_at dksX6_goOn_3 19 rfl rfl)
theorem dX6_goOn_92 : decode cX6_goOn 92 = .ok (.iinc 4 1, 3) := dk_132 4 1 (dk_at dksX6_goOn_4 0 rfl rfl)
theorem dX6_goOn_95 : decode cX6_goOn 95 = .ok (.iinc 5 (-1), 3) := dk_132 5 255 (dk_at dksX6_goOn_4 3 rfl rfl)
theorem dX6_goOn_98 : decode cX6_goOn 98 = .ok (.goto (-21), 3) := dk_167 255 235 (dk_at dksX6_goOn_4 6 rfl rfl)
theorem dX6_goOn_101 : decode cX6_goOn 101 = .ok (.return_, 1) := dk_177 (dk_at dksX6_goOn_4 9 rfl rfl)
abbrev cX6_swapHand : ByteArray := prog_14_method_52_code
def yX6_swapHand : MethodName := ⟨RX6, "swapHand", "(II)V"⟩
def dkwX6_swapHand_1 : List UInt8 := [29, 79, 177]
abbrev dktX6_swapHand_1 : List UInt8 := dkwX6_swapHand_1 ++ []
def dkwX6_swapHand_0 : List UInt8 := [42, 180, 0, 113, 27, 46, 62, 42, 180, 0, 113, 27, 42, 180, 0, 113, 28, 46, 79, 42, 180, 0, 113, 28]
abbrev dktX6_swapHand_0 : List UInt8 := dkwX6_swapHand_0 ++ dktX6_swapHand_1
theorem dksX6_swapHand_0 : cX6_swapHand.data.toList.drop 0 = dktX6_swapHand_0 := by decide +kernel
theorem dksX6_swapHand_1 : cX6_swapHand.data.toList.drop 24 = dktX6_swapHand_1 := dk_seg dksX6_swapHand_0 24 rfl rfl
theorem dX6_swapHand_0 : decode cX6_swapHand 0 = .ok (.aload_n 0, 1) := dk_42 (dk_at dksX6_swapHand_0 0 rfl rfl)
theorem dX6_swapHand_1 : decode cX6_swapHand 1 = .ok (.getfield 113, 3) := dk_180 0 113 (dk_at dksX6_swapHand_0 1 rfl rfl)
theorem dX6_swapHand_4 : decode cX6_swapHand 4 = .ok (.iload_n 1, 1) := dk_27 (dk_at dksX6_swapHand_0 4 rfl rfl)
theorem dX6_swapHand_5 : decode cX6_swapHand 5 = .ok (.iaload, 1) := dk_46 (dk_at dksX6_swapHand_0 5 rfl rfl)
theorem dX6_swapHand_6 : decode cX6_swapHand 6 = .ok (.istore_n 3, 1) := dk_62 (dk_at dksX6_swapHand_0 6 rfl rfl)
theorem dX6_swapHand_7 : decode cX6_swapHand 7 = .ok (.aload_n 0, 1) := dk_42 (dk_at dksX6_swapHand_0 7 rfl rfl)
theorem dX6_swapHand_8 : decode cX6_swapHand 8 = .ok (.getfield 113, 3) := dk_180 0 113 (dk_at dksX6_swapHand_0 8 rfl rfl)
theorem dX6_swapHand_11 : decode cX6_swapHand 11 = .ok (.iload_n 1, 1) := dk_27 (dk_at dksX6_swapHand_0 11 rfl rfl)
theorem dX6_swapHand_12 : decode cX6_swapHand 12 = .ok (.aload_n 0, 1) := dk_42 (dk_at dksX6_swapHand_0 12 rfl rfl)
theorem dX6_swapHand_13 : decode cX6_swapHand 13 = .ok (.getfield 113, 3) := dk_180 0 113 (dk_at dksX6_swapHand_0 13 rfl rfl)
theorem dX6_swapHand_16 : decode cX6_swapHand 16 = .ok (.iload_n 2, 1) := dk_28 (dk_at dksX6_swapHand_0 16 rfl rfl)
theorem dX6_swapHand_17 : decode cX6_swapHand 17 = .ok (.iaload, 1) := dk_46 (dk_at dksX6_swapHand_0 17 rfl rfl)
theorem dX6_swapHand_18 : decode cX6_swapHand 18 = .ok (.iastore, 1) := dk_79 (dk_at dksX6_swapHand_0 18 rfl rfl)
theorem dX6_swapHand_19 : decode cX6_swapHand 19 = .ok (.aload_n 0, 1) := dk_42 (dk_at dksX6_swapHand_0 19 rfl rfl)
theorem dX6_swapHand_20 : decode cX6_swapHand 20 = .ok (.getfield 113, 3) := dk_180 0 113 (dk_at dksX6_swapHand_0 20 rfl rfl)
theorem dX6_swapHand_23 : decode cX6_swapHand 23 = .ok (.iload_n 2, 1) := dk_28 (dk_at dksX6_swapHand_0 23 rfl rfl)
theorem dX6_swapHand_24 : decode cX6_swapHand 24 = .ok (.iload_n 3, 1) := dk_29 (dk_at dksX6_swapHand_1 0 rfl rfl)
theorem dX6_swapHand_25 : decode cX6_swapHand 25 = .ok (.iastore, 1) := dk_79 (dk_at dksX6_swapHand_1 1 rfl rfl)
theorem dX6_swapHand_26 : decode cX6_swapHand 26 = .ok (.return_, 1) := dk_177 (dk_at dksX6_swapHand_1 2 rfl rfl)
abbrev cX6_takeOrder : ByteArray := prog_14_method_53_code
def yX6_takeOrder : MethodName := ⟨RX6, "takeOrder", "(II)V"⟩
def dkwX6_takeOrder_1 : List UInt8 := [132, 3, 1, 167, 255, 231, 177]
abbrev dktX6_takeOrder_1 : List UInt8 := dkwX6_takeOrder_1 ++ []
def dkwX6_takeOrder_0 : List UInt8 := [3, 62, 29, 27, 162, 0, 26, 42, 180, 0, 113, 29, 42, 180, 0, 98, 16, 7, 28, 104, 29, 96, 46, 79]
abbrev dktX6_takeOrder_0 : List UInt8 := dkwX6_takeOrder_0 ++ dktX6_takeOrder_1
theorem dksX6_takeOrder_0 : cX6_takeOrder.data.toList.drop 0 = dktX6_takeOrder_0 := by decide +kernel
theorem dksX6_takeOrder_1 : cX6_takeOrder.data.toList.drop 24 = dktX6_takeOrder_1 := dk_seg dksX6_takeOrder_0 24 rfl rfl
theorem dX6_takeOrder_0 : decode cX6_takeOrder 0 = .ok (.iconst 0, 1) := dk_3 (dk_at dksX6_takeOrder_0 0 rfl rfl)
theorem dX6_takeOrder_1 : decode cX6_takeOrder 1 = .ok (.istore_n 3, 1) := dk_62 (dk_at dksX6_takeOrder_0 1 rfl rfl)
theorem dX6_takeOrder_2 : decode cX6_takeOrder 2 = .ok (.iload_n 3, 1) := dk_29 (dk_at dksX6_takeOrder_0 2 rfl rfl)
theorem dX6_takeOrder_3 : decode cX6_takeOrder 3 = .ok (.iload_n 1, 1) := dk_27 (dk_at dksX6_takeOrder_0 3 rfl rfl)
theorem dX6_takeOrder_4 : decode cX6_takeOrder 4 = .ok (.if_icmp .ge 26, 3) := dk_162 0 26 (dk_at dksX6_takeOrder_0 4 rfl rfl)
theorem dX6_takeOrder_7 : decode cX6_takeOrder 7 = .ok (.aload_n 0, 1) := dk_42 (dk_at dksX6_takeOrder_0 7 rfl rfl)
theorem dX6_takeOrder_8 : decode cX6_takeOrder 8 = .ok (.getfield 113, 3) := dk_180 0 113 (dk_at dksX6_takeOrder_0 8 rfl rfl)
theorem dX6_takeOrder_11 : decode cX6_takeOrder 11 = .ok (.iload_n 3, 1) := dk_29 (dk_at dksX6_takeOrder_0 11 rfl rfl)
theorem dX6_takeOrder_12 : decode cX6_takeOrder 12 = .ok (.aload_n 0, 1) := dk_42 (dk_at dksX6_takeOrder_0 12 rfl rfl)
theorem dX6_takeOrder_13 : decode cX6_takeOrder 13 = .ok (.getfield 98, 3) := dk_180 0 98 (dk_at dksX6_takeOrder_0 13 rfl rfl)
theorem dX6_takeOrder_16 : decode cX6_takeOrder 16 = .ok (.bipush 7, 2) := dk_16 7 (dk_at dksX6_takeOrder_0 16 rfl rfl)
theorem dX6_takeOrder_18 : decode cX6_takeOrder 18 = .ok (.iload_n 2, 1) := dk_28 (dk_at dksX6_takeOrder_0 18 rfl rfl)
theorem dX6_takeOrder_19 : decode cX6_takeOrder 19 = .ok (.imul, 1) := dk_104 (dk_at dksX6_takeOrder_0 19 rfl rfl)
theorem dX6_takeOrder_20 : decode cX6_takeOrder 20 = .ok (.iload_n 3, 1) := dk_29 (dk_at dksX6_takeOrder_0 20 rfl rfl)
theorem dX6_takeOrder_21 : decode cX6_takeOrder 21 = .ok (.iadd, 1) := dk_96 (dk_at dksX6_takeOrder_0 21 rfl rfl)
theorem dX6_takeOrder_22 : decode cX6_takeOrder 22 = .ok (.iaload, 1) := dk_46 (dk_at dksX6_takeOrder_0 22 rfl rfl)
theorem dX6_takeOrder_23 : decode cX6_takeOrder 23 = .ok (.iastore, 1) := dk_79 (dk_at dksX6_takeOrder_0 23 rfl rfl)
theorem dX6_takeOrder_24 : decode cX6_takeOrder 24 = .ok (.iinc 3 1, 3) := dk_132 3 1 (dk_at dksX6_takeOrder_1 0 rfl rfl)
theorem dX6_takeOrder_27 : decode cX6_takeOrder 27 = .ok (.goto (-25), 3) := dk_167 255 231 (dk_at dksX6_takeOrder_1 3 rfl rfl)
theorem dX6_takeOrder_30 : decode cX6_takeOrder 30 = .ok (.return_, 1) := dk_177 (dk_at dksX6_takeOrder_1 6 rfl rfl)
abbrev cX6_numberOf : ByteArray := prog_14_method_50_code
def yX6_numberOf : MethodName := ⟨RX6, "numberOf", "(I)I"⟩
def dkwX6_numberOf_3 : List UInt8 := [172]
abbrev dktX6_numberOf_3 : List UInt8 := dkwX6_numberOf_3 ++ []
def dkwX6_numberOf_2 : List UInt8 := [54, 4, 132, 5, 1, 167, 255, 221, 28, 27, 29, 100, 104, 21, 4, 96, 61, 132, 3, 1, 167, 255, 193, 28]
abbrev dktX6_numberOf_2 : List UInt8 := dkwX6_numberOf_2 ++ dktX6_numberOf_3
def dkwX6_numberOf_1 : List UInt8 := [21, 4, 42, 180, 0, 113, 21, 5, 46, 42, 180, 0, 113, 29, 46, 162, 0, 7, 4, 167, 0, 4, 3, 96]
abbrev dktX6_numberOf_1 : List UInt8 := dkwX6_numberOf_1 ++ dktX6_numberOf_2
def dkwX6_numberOf_0 : List UInt8 := [3, 61, 3, 62, 29, 27, 162, 0, 64, 3, 54, 4, 29, 4, 96, 54, 5, 21, 5, 27, 162, 0, 35]
abbrev dktX6_numberOf_0 : List UInt8 := dkwX6_numberOf_0 ++ dktX6_numberOf_1
theorem dksX6_numberOf_0 : cX6_numberOf.data.toList.drop 0 = dktX6_numberOf_0 := by decide +kernel
theorem dksX6_numberOf_1 : cX6_numberOf.data.toList.drop 23 = dktX6_numberOf_1 := dk_seg dksX6_numberOf_0 23 rfl rfl
theorem dksX6_numberOf_2 : cX6_numberOf.data.toList.drop 47 = dktX6_numberOf_2 := dk_seg dksX6_numberOf_1 24 rfl rfl
theorem dksX6_numberOf_3 : cX6_numberOf.data.toList.drop 71 = dktX6_numberOf_3 := dk_seg dksX6_numberOf_2 24 rfl rfl
theorem dX6_numberOf_0 : decode cX6_numberOf 0 = .ok (.iconst 0, 1) := dk_3 (dk_at dksX6_numberOf_0 0 rfl rfl)
theorem dX6_numberOf_1 : decode cX6_numberOf 1 = .ok (.istore_n 2, 1) := dk_61 (dk_at dksX6_numberOf_0 1 rfl rfl)
theorem dX6_numberOf_2 : decode cX6_numberOf 2 = .ok (.iconst 0, 1) := dk_3 (dk_at dksX6_numberOf_0 2 rfl rfl)
theorem dX6_numberOf_3 : decode cX6_numberOf 3 = .ok (.istore_n 3, 1) := dk_62 (dk_at dksX6_numberOf_0 3 rfl rfl)
theorem dX6_numberOf_4 : decode cX6_numberOf 4 = .ok (.iload_n 3, 1) := dk_29 (dk_at dksX6_numberOf_0 4 rfl rfl)
theorem dX6_numberOf_5 : decode cX6_numberOf 5 = .ok (.iload_n 1, 1) := dk_27 (dk_at dksX6_numberOf_0 5 rfl rfl)
theorem dX6_numberOf_6 : decode cX6_numberOf 6 = .ok (.if_icmp .ge 64, 3) := dk_162 0 64 (dk_at dksX6_numberOf_0 6 rfl rfl)
theorem dX6_numberOf_9 : decode cX6_numberOf 9 = .ok (.iconst 0, 1) := dk_3 (dk_at dksX6_numberOf_0 9 rfl rfl)
theorem dX6_numberOf_10 : decode cX6_numberOf 10 = .ok (.istore 4, 2) := dk_54 4 (dk_at dksX6_numberOf_0 10 rfl rfl)
theorem dX6_numberOf_12 : decode cX6_numberOf 12 = .ok (.iload_n 3, 1) := dk_29 (dk_at dksX6_numberOf_0 12 rfl rfl)
theorem dX6_numberOf_13 : decode cX6_numberOf 13 = .ok (.iconst 1, 1) := dk_4 (dk_at dksX6_numberOf_0 13 rfl rfl)
theorem dX6_numberOf_14 : decode cX6_numberOf 14 = .ok (.iadd, 1) := dk_96 (dk_at dksX6_numberOf_0 14 rfl rfl)
theorem dX6_numberOf_15 : decode cX6_numberOf 15 = .ok (.istore 5, 2) := dk_54 5 (dk_at dksX6_numberOf_0 15 rfl rfl)
theorem dX6_numberOf_17 : decode cX6_numberOf 17 = .ok (.iload 5, 2) := dk_21 5 (dk_at dksX6_numberOf_0 17 rfl rfl)
theorem dX6_numberOf_19 : decode cX6_numberOf 19 = .ok (.iload_n 1, 1) := dk_27 (dk_at dksX6_numberOf_0 19 rfl rfl)
theorem dX6_numberOf_20 : decode cX6_numberOf 20 = .ok (.if_icmp .ge 35, 3) := dk_162 0 35 (dk_at dksX6_numberOf_0 20 rfl rfl)
theorem dX6_numberOf_23 : decode cX6_numberOf 23 = .ok (.iload 4, 2) := dk_21 4 (dk_at dksX6_numberOf_1 0 rfl rfl)
theorem dX6_numberOf_25 : decode cX6_numberOf 25 = .ok (.aload_n 0, 1) := dk_42 (dk_at dksX6_numberOf_1 2 rfl rfl)
theorem dX6_numberOf_26 : decode cX6_numberOf 26 = .ok (.getfield 113, 3) := dk_180 0 113 (dk_at dksX6_numberOf_1 3 rfl rfl)
theorem dX6_numberOf_29 : decode cX6_numberOf 29 = .ok (.iload 5, 2) := dk_21 5 (dk_at dksX6_numberOf_1 6 rfl rfl)
theorem dX6_numberOf_31 : decode cX6_numberOf 31 = .ok (.iaload, 1) := dk_46 (dk_at dksX6_numberOf_1 8 rfl rfl)
theorem dX6_numberOf_32 : decode cX6_numberOf 32 = .ok (.aload_n 0, 1) := dk_42 (dk_at dksX6_numberOf_1 9 rfl rfl)
theorem dX6_numberOf_33 : decode cX6_numberOf 33 = .ok (.getfield 113, 3) := dk_180 0 113 (dk_at dksX6_numberOf_1 10 rfl rfl)
theorem dX6_numberOf_36 : decode cX6_numberOf 36 = .ok (.iload_n 3, 1) := dk_29 (dk_at dksX6_numberOf_1 13 rfl rfl)
theorem dX6_numberOf_37 : decode cX6_numberOf 37 = .ok (.iaload, 1) := dk_46 (dk_at dksX6_numberOf_1 14 rfl rfl)
theorem dX6_numberOf_38 : decode cX6_numberOf 38 = .ok (.if_icmp .ge 7, 3) := dk_162 0 7 (dk_at dksX6_numberOf_1 15 rfl rfl)
theorem dX6_numberOf_41 : decode cX6_numberOf 41 = .ok (.iconst 1, 1) := dk_4 (dk_at dksX6_numberOf_1 18 rfl rfl)
theorem dX6_numberOf_42 : decode cX6_numberOf 42 = .ok (.goto 4, 3) := dk_167 0 4 (dk_at dksX6_numberOf_1 19 rfl rfl)
theorem dX6_numberOf_45 : decode cX6_numberOf 45 = .ok (.iconst 0, 1) := dk_3 (dk_at dksX6_numberOf_1 22 rfl rfl)
theorem dX6_numberOf_46 : decode cX6_numberOf 46 = .ok (.iadd, 1) := dk_96 (dk_at dksX6_numberOf_1 23 rfl rfl)
theorem dX6_numberOf_47 : decode cX6_numberOf 47 = .ok (.istore 4, 2) := dk_54 4 (dk_at dksX6_numberOf_2 0 rfl rfl)
theorem dX6_numberOf_49 : decode cX6_numberOf 49 = .ok (.iinc 5 1, 3) := dk_132 5 1 (dk_at dksX6_numberOf_2 2 rfl rfl)
theorem dX6_numberOf_52 : decode cX6_numberOf 52 = .ok (.goto (-35), 3) := dk_167 255 221 (dk_at dksX6_numberOf_2 5 rfl rfl)
theorem dX6_numberOf_55 : decode cX6_numberOf 55 = .ok (.iload_n 2, 1) := dk_28 (dk_at dksX6_numberOf_2 8 rfl rfl)
theorem dX6_numberOf_56 : decode cX6_numberOf 56 = .ok (.iload_n 1, 1) := dk_27 (dk_at dksX6_numberOf_2 9 rfl rfl)
theorem dX6_numberOf_57 : decode cX6_numberOf 57 = .ok (.iload_n 3, 1) := dk_29 (dk_at dksX6_numberOf_2 10 rfl rfl)
theorem dX6_numberOf_58 : decode cX6_numberOf 58 = .ok (.isub, 1) := dk_100 (dk_at dksX6_numberOf_2 11 rfl rfl)
theorem dX6_numberOf_59 : decode cX6_numberOf 59 = .ok (.imul, 1) := dk_104 (dk_at dksX6_numberOf_2 12 rfl rfl)
theorem dX6_numberOf_60 : decode cX6_numberOf 60 = .ok (.iload 4, 2) := dk_21 4 (dk_at dksX6_numberOf_2 13 rfl rfl)
theorem dX6_numberOf_62 : decode cX6_numberOf 62 = .ok (.iadd, 1) := dk_96 (dk_at dksX6_numberOf_2 15 rfl rfl)
theorem dX6_numberOf_63 : decode cX6_numberOf 63 = .ok (.istore_n 2, 1) := dk_61 (dk_at dksX6_numberOf_2 16 rfl rfl)
theorem dX6_numberOf_64 : decode cX6_numberOf 64 = .ok (.iinc 3 1, 3) := dk_132 3 1 (dk_at dksX6_numberOf_2 17 rfl rfl)
theorem dX6_numberOf_67 : decode cX6_numberOf 67 = .ok (.goto (-63), 3) := dk_167 255 193 (dk_at dksX6_numberOf_2 20 rfl rfl)
theorem dX6_numberOf_70 : decode cX6_numberOf 70 = .ok (.iload_n 2, 1) := dk_28 (dk_at dksX6_numberOf_2 23 rfl rfl)
theorem dX6_numberOf_71 : decode cX6_numberOf 71 = .ok (.ireturn, 1) := dk_172 (dk_at dksX6_numberOf_3 0 rfl rfl)
abbrev cX6_placeOf : ByteArray := prog_14_method_55_code
def yX6_placeOf : MethodName := ⟨RX6, "placeOf", "(III)I"⟩
def dkwX6_placeOf_1 : List UInt8 := [160, 0, 6, 21, 4, 172, 132, 4, 1, 167, 255, 228, 2, 172]
abbrev dktX6_placeOf_1 : List UInt8 := dkwX6_placeOf_1 ++ []
def dkwX6_placeOf_0 : List UInt8 := [3, 54, 4, 21, 4, 27, 162, 0, 28, 42, 180, 0, 98, 16, 7, 28, 104, 21, 4, 96, 46, 29]
abbrev dktX6_placeOf_0 : List UInt8 := dkwX6_placeOf_0 ++ dktX6_placeOf_1
theorem dksX6_placeOf_0 : cX6_placeOf.data.toList.drop 0 = dktX6_placeOf_0 := by decide +kernel
theorem dksX6_placeOf_1 : cX6_placeOf.data.toList.drop 22 = dktX6_placeOf_1 := dk_seg dksX6_placeOf_0 22 rfl rfl
theorem dX6_placeOf_0 : decode cX6_placeOf 0 = .ok (.iconst 0, 1) := dk_3 (dk_at dksX6_placeOf_0 0 rfl rfl)
theorem dX6_placeOf_1 : decode cX6_placeOf 1 = .ok (.istore 4, 2) := dk_54 4 (dk_at dksX6_placeOf_0 1 rfl rfl)
theorem dX6_placeOf_3 : decode cX6_placeOf 3 = .ok (.iload 4, 2) := dk_21 4 (dk_at dksX6_placeOf_0 3 rfl rfl)
theorem dX6_placeOf_5 : decode cX6_placeOf 5 = .ok (.iload_n 1, 1) := dk_27 (dk_at dksX6_placeOf_0 5 rfl rfl)
theorem dX6_placeOf_6 : decode cX6_placeOf 6 = .ok (.if_icmp .ge 28, 3) := dk_162 0 28 (dk_at dksX6_placeOf_0 6 rfl rfl)
theorem dX6_placeOf_9 : decode cX6_placeOf 9 = .ok (.aload_n 0, 1) := dk_42 (dk_at dksX6_placeOf_0 9 rfl rfl)
theorem dX6_placeOf_10 : decode cX6_placeOf 10 = .ok (.getfield 98, 3) := dk_180 0 98 (dk_at dksX6_placeOf_0 10 rfl rfl)
theorem dX6_placeOf_13 : decode cX6_placeOf 13 = .ok (.bipush 7, 2) := dk_16 7 (dk_at dksX6_placeOf_0 13 rfl rfl)
theorem dX6_placeOf_15 : decode cX6_placeOf 15 = .ok (.iload_n 2, 1) := dk_28 (dk_at dksX6_placeOf_0 15 rfl rfl)
theorem dX6_placeOf_16 : decode cX6_placeOf 16 = .ok (.imul, 1) := dk_104 (dk_at dksX6_placeOf_0 16 rfl rfl)
theorem dX6_placeOf_17 : decode cX6_placeOf 17 = .ok (.iload 4, 2) := dk_21 4 (dk_at dksX6_placeOf_0 17 rfl rfl)
theorem dX6_placeOf_19 : decode cX6_placeOf 19 = .ok (.iadd, 1) := dk_96 (dk_at dksX6_placeOf_0 19 rfl rfl)
theorem dX6_placeOf_20 : decode cX6_placeOf 20 = .ok (.iaload, 1) := dk_46 (dk_at dksX6_placeOf_0 20 rfl rfl)
theorem dX6_placeOf_21 : decode cX6_placeOf 21 = .ok (.iload_n 3, 1) := dk_29 (dk_at dksX6_placeOf_0 21 rfl rfl)
theorem dX6_placeOf_22 : decode cX6_placeOf 22 = .ok (.if_icmp .ne 6, 3) := dk_160 0 6 (dk_at dksX6_placeOf_1 0 rfl rfl)
theorem dX6_placeOf_25 : decode cX6_placeOf 25 = .ok (.iload 4, 2) := dk_21 4 (dk_at dksX6_placeOf_1 3 rfl rfl)
theorem dX6_placeOf_27 : decode cX6_placeOf 27 = .ok (.ireturn, 1) := dk_172 (dk_at dksX6_placeOf_1 5 rfl rfl)
theorem dX6_placeOf_28 : decode cX6_placeOf 28 = .ok (.iinc 4 1, 3) := dk_132 4 1 (dk_at dksX6_placeOf_1 6 rfl rfl)
theorem dX6_placeOf_31 : decode cX6_placeOf 31 = .ok (.goto (-28), 3) := dk_167 255 228 (dk_at dksX6_placeOf_1 9 rfl rfl)
theorem dX6_placeOf_34 : decode cX6_placeOf 34 = .ok (.iconst (-1), 1) := dk_2 (dk_at dksX6_placeOf_1 12 rfl rfl)
theorem dX6_placeOf_35 : decode cX6_placeOf 35 = .ok (.ireturn, 1) := dk_172 (dk_at dksX6_placeOf_1 13 rfl rfl)
abbrev cX6_isNearer : ByteArray := prog_14_method_56_code
def yX6_isNearer : MethodName := ⟨RX6, "isNearer", "(III)Z"⟩
def dkwX6_isNearer_1 : List UInt8 := [172]
abbrev dktX6_isNearer_1 : List UInt8 := dkwX6_isNearer_1 ++ []
def dkwX6_isNearer_0 : List UInt8 := [42, 27, 28, 29, 4, 96, 182, 1, 96, 42, 27, 28, 29, 182, 1, 96, 162, 0, 7, 4, 167, 0, 4, 3]
abbrev dktX6_isNearer_0 : List UInt8 := dkwX6_isNearer_0 ++ dktX6_isNearer_1
theorem dksX6_isNearer_0 : cX6_isNearer.data.toList.drop 0 = dktX6_isNearer_0 := by decide +kernel
theorem dksX6_isNearer_1 : cX6_isNearer.data.toList.drop 24 = dktX6_isNearer_1 := dk_seg dksX6_isNearer_0 24 rfl rfl
theorem dX6_isNearer_0 : decode cX6_isNearer 0 = .ok (.aload_n 0, 1) := dk_42 (dk_at dksX6_isNearer_0 0 rfl rfl)
theorem dX6_isNearer_1 : decode cX6_isNearer 1 = .ok (.iload_n 1, 1) := dk_27 (dk_at dksX6_isNearer_0 1 rfl rfl)
theorem dX6_isNearer_2 : decode cX6_isNearer 2 = .ok (.iload_n 2, 1) := dk_28 (dk_at dksX6_isNearer_0 2 rfl rfl)
theorem dX6_isNearer_3 : decode cX6_isNearer 3 = .ok (.iload_n 3, 1) := dk_29 (dk_at dksX6_isNearer_0 3 rfl rfl)
theorem dX6_isNearer_4 : decode cX6_isNearer 4 = .ok (.iconst 1, 1) := dk_4 (dk_at dksX6_isNearer_0 4 rfl rfl)
theorem dX6_isNearer_5 : decode cX6_isNearer 5 = .ok (.iadd, 1) := dk_96 (dk_at dksX6_isNearer_0 5 rfl rfl)
theorem dX6_isNearer_6 : decode cX6_isNearer 6 = .ok (.invokevirtual 352, 3) := dk_182 1 96 (dk_at dksX6_isNearer_0 6 rfl rfl)
theorem dX6_isNearer_9 : decode cX6_isNearer 9 = .ok (.aload_n 0, 1) := dk_42 (dk_at dksX6_isNearer_0 9 rfl rfl)
theorem dX6_isNearer_10 : decode cX6_isNearer 10 = .ok (.iload_n 1, 1) := dk_27 (dk_at dksX6_isNearer_0 10 rfl rfl)
theorem dX6_isNearer_11 : decode cX6_isNearer 11 = .ok (.iload_n 2, 1) := dk_28 (dk_at dksX6_isNearer_0 11 rfl rfl)
theorem dX6_isNearer_12 : decode cX6_isNearer 12 = .ok (.iload_n 3, 1) := dk_29 (dk_at dksX6_isNearer_0 12 rfl rfl)
theorem dX6_isNearer_13 : decode cX6_isNearer 13 = .ok (.invokevirtual 352, 3) := dk_182 1 96 (dk_at dksX6_isNearer_0 13 rfl rfl)
theorem dX6_isNearer_16 : decode cX6_isNearer 16 = .ok (.if_icmp .ge 7, 3) := dk_162 0 7 (dk_at dksX6_isNearer_0 16 rfl rfl)
theorem dX6_isNearer_19 : decode cX6_isNearer 19 = .ok (.iconst 1, 1) := dk_4 (dk_at dksX6_isNearer_0 19 rfl rfl)
theorem dX6_isNearer_20 : decode cX6_isNearer 20 = .ok (.goto 4, 3) := dk_167 0 4 (dk_at dksX6_isNearer_0 20 rfl rfl)
theorem dX6_isNearer_23 : decode cX6_isNearer 23 = .ok (.iconst 0, 1) := dk_3 (dk_at dksX6_isNearer_0 23 rfl rfl)
theorem dX6_isNearer_24 : decode cX6_isNearer 24 = .ok (.ireturn, 1) := dk_172 (dk_at dksX6_isNearer_1 0 rfl rfl)
abbrev cX6_down : ByteArray := prog_14_method_62_code
def yX6_down : MethodName := ⟨RX6, "down", "(III)I"⟩
def dkwX6_down_1 : List UInt8 := [28, 29, 2, 182, 1, 117, 172]
abbrev dktX6_down_1 : List UInt8 := dkwX6_down_1 ++ []
def dkwX6_down_0 : List UInt8 := [42, 27, 28, 29, 182, 1, 114, 154, 0, 5, 2, 172, 42, 42, 180, 0, 7, 27, 46, 182, 1, 107, 42, 27]
abbrev dktX6_down_0 : List UInt8 := dkwX6_down_0 ++ dktX6_down_1
theorem dksX6_down_0 : cX6_down.data.toList.drop 0 = dktX6_down_0 := by decide +kernel
theorem dksX6_down_1 : cX6_down.data.toList.drop 24 = dktX6_down_1 := dk_seg dksX6_down_0 24 rfl rfl
theorem dX6_down_0 : decode cX6_down 0 = .ok (.aload_n 0, 1) := dk_42 (dk_at dksX6_down_0 0 rfl rfl)
theorem dX6_down_1 : decode cX6_down 1 = .ok (.iload_n 1, 1) := dk_27 (dk_at dksX6_down_0 1 rfl rfl)
theorem dX6_down_2 : decode cX6_down 2 = .ok (.iload_n 2, 1) := dk_28 (dk_at dksX6_down_0 2 rfl rfl)
theorem dX6_down_3 : decode cX6_down 3 = .ok (.iload_n 3, 1) := dk_29 (dk_at dksX6_down_0 3 rfl rfl)
theorem dX6_down_4 : decode cX6_down 4 = .ok (.invokevirtual 370, 3) := dk_182 1 114 (dk_at dksX6_down_0 4 rfl rfl)
theorem dX6_down_7 : decode cX6_down 7 = .ok (.ifCond .ne 5, 3) := dk_154 0 5 (dk_at dksX6_down_0 7 rfl rfl)
theorem dX6_down_10 : decode cX6_down 10 = .ok (.iconst (-1), 1) := dk_2 (dk_at dksX6_down_0 10 rfl rfl)
theorem dX6_down_11 : decode cX6_down 11 = .ok (.ireturn, 1) := dk_172 (dk_at dksX6_down_0 11 rfl rfl)
theorem dX6_down_12 : decode cX6_down 12 = .ok (.aload_n 0, 1) := dk_42 (dk_at dksX6_down_0 12 rfl rfl)
theorem dX6_down_13 : decode cX6_down 13 = .ok (.aload_n 0, 1) := dk_42 (dk_at dksX6_down_0 13 rfl rfl)
theorem dX6_down_14 : decode cX6_down 14 = .ok (.getfield 7, 3) := dk_180 0 7 (dk_at dksX6_down_0 14 rfl rfl)
theorem dX6_down_17 : decode cX6_down 17 = .ok (.iload_n 1, 1) := dk_27 (dk_at dksX6_down_0 17 rfl rfl)
theorem dX6_down_18 : decode cX6_down 18 = .ok (.iaload, 1) := dk_46 (dk_at dksX6_down_0 18 rfl rfl)
theorem dX6_down_19 : decode cX6_down 19 = .ok (.invokevirtual 363, 3) := dk_182 1 107 (dk_at dksX6_down_0 19 rfl rfl)
theorem dX6_down_22 : decode cX6_down 22 = .ok (.aload_n 0, 1) := dk_42 (dk_at dksX6_down_0 22 rfl rfl)
theorem dX6_down_23 : decode cX6_down 23 = .ok (.iload_n 1, 1) := dk_27 (dk_at dksX6_down_0 23 rfl rfl)
theorem dX6_down_24 : decode cX6_down 24 = .ok (.iload_n 2, 1) := dk_28 (dk_at dksX6_down_1 0 rfl rfl)
theorem dX6_down_25 : decode cX6_down 25 = .ok (.iload_n 3, 1) := dk_29 (dk_at dksX6_down_1 1 rfl rfl)
theorem dX6_down_26 : decode cX6_down 26 = .ok (.iconst (-1), 1) := dk_2 (dk_at dksX6_down_1 2 rfl rfl)
theorem dX6_down_27 : decode cX6_down 27 = .ok (.invokevirtual 373, 3) := dk_182 1 117 (dk_at dksX6_down_1 3 rfl rfl)
theorem dX6_down_30 : decode cX6_down 30 = .ok (.ireturn, 1) := dk_172 (dk_at dksX6_down_1 6 rfl rfl)
abbrev cX6_isDown : ByteArray := prog_14_method_61_code
def yX6_isDown : MethodName := ⟨RX6, "isDown", "(III)Z"⟩
def dkwX6_isDown_1 : List UInt8 := [155, 0, 18, 29, 4, 42, 27, 182, 1, 54, 120, 162, 0, 7, 4, 167, 0, 4, 3, 172]
abbrev dktX6_isDown_1 : List UInt8 := dkwX6_isDown_1 ++ []
def dkwX6_isDown_0 : List UInt8 := [42, 27, 182, 1, 51, 153, 0, 36, 42, 42, 180, 0, 7, 27, 46, 28, 182, 1, 103, 153, 0, 22, 29]
abbrev dktX6_isDown_0 : List UInt8 := dkwX6_isDown_0 ++ dktX6_isDown_1
theorem dksX6_isDown_0 : cX6_isDown.data.toList.drop 0 = dktX6_isDown_0 := by decide +kernel
theorem dksX6_isDown_1 : cX6_isDown.data.toList.drop 23 = dktX6_isDown_1 := dk_seg dksX6_isDown_0 23 rfl rfl
theorem dX6_isDown_0 : decode cX6_isDown 0 = .ok (.aload_n 0, 1) := dk_42 (dk_at dksX6_isDown_0 0 rfl rfl)
theorem dX6_isDown_1 : decode cX6_isDown 1 = .ok (.iload_n 1, 1) := dk_27 (dk_at dksX6_isDown_0 1 rfl rfl)
theorem dX6_isDown_2 : decode cX6_isDown 2 = .ok (.invokevirtual 307, 3) := dk_182 1 51 (dk_at dksX6_isDown_0 2 rfl rfl)
theorem dX6_isDown_5 : decode cX6_isDown 5 = .ok (.ifCond .eq 36, 3) := dk_153 0 36 (dk_at dksX6_isDown_0 5 rfl rfl)
theorem dX6_isDown_8 : decode cX6_isDown 8 = .ok (.aload_n 0, 1) := dk_42 (dk_at dksX6_isDown_0 8 rfl rfl)
theorem dX6_isDown_9 : decode cX6_isDown 9 = .ok (.aload_n 0, 1) := dk_42 (dk_at dksX6_isDown_0 9 rfl rfl)
theorem dX6_isDown_10 : decode cX6_isDown 10 = .ok (.getfield 7, 3) := dk_180 0 7 (dk_at dksX6_isDown_0 10 rfl rfl)
theorem dX6_isDown_13 : decode cX6_isDown 13 = .ok (.iload_n 1, 1) := dk_27 (dk_at dksX6_isDown_0 13 rfl rfl)
theorem dX6_isDown_14 : decode cX6_isDown 14 = .ok (.iaload, 1) := dk_46 (dk_at dksX6_isDown_0 14 rfl rfl)
theorem dX6_isDown_15 : decode cX6_isDown 15 = .ok (.iload_n 2, 1) := dk_28 (dk_at dksX6_isDown_0 15 rfl rfl)
theorem dX6_isDown_16 : decode cX6_isDown 16 = .ok (.invokevirtual 359, 3) := dk_182 1 103 (dk_at dksX6_isDown_0 16 rfl rfl)
theorem dX6_isDown_19 : decode cX6_isDown 19 = .ok (.ifCond .eq 22, 3) := dk_153 0 22 (dk_at dksX6_isDown_0 19 rfl rfl)
theorem dX6_isDown_22 : decode cX6_isDown 22 = .ok (.iload_n 3, 1) := dk_29 (dk_at dksX6_isDown_0 22 rfl rfl)
theorem dX6_isDown_23 : decode cX6_isDown 23 = .ok (.ifCond .lt 18, 3) := dk_155 0 18 (dk_at dksX6_isDown_1 0 rfl rfl)
theorem dX6_isDown_26 : decode cX6_isDown 26 = .ok (.iload_n 3, 1) := dk_29 (dk_at dksX6_isDown_1 3 rfl rfl)
theorem dX6_isDown_27 : decode cX6_isDown 27 = .ok (.iconst 1, 1) := dk_4 (dk_at dksX6_isDown_1 4 rfl rfl)
theorem dX6_isDown_28 : decode cX6_isDown 28 = .ok (.aload_n 0, 1) := dk_42 (dk_at dksX6_isDown_1 5 rfl rfl)
theorem dX6_isDown_29 : decode cX6_isDown 29 = .ok (.iload_n 1, 1) := dk_27 (dk_at dksX6_isDown_1 6 rfl rfl)
theorem dX6_isDown_30 : decode cX6_isDown 30 = .ok (.invokevirtual 310, 3) := dk_182 1 54 (dk_at dksX6_isDown_1 7 rfl rfl)
theorem dX6_isDown_33 : decode cX6_isDown 33 = .ok (.ishl, 1) := dk_120 (dk_at dksX6_isDown_1 10 rfl rfl)
theorem dX6_isDown_34 : decode cX6_isDown 34 = .ok (.if_icmp .ge 7, 3) := dk_162 0 7 (dk_at dksX6_isDown_1 11 rfl rfl)
theorem dX6_isDown_37 : decode cX6_isDown 37 = .ok (.iconst 1, 1) := dk_4 (dk_at dksX6_isDown_1 14 rfl rfl)
theorem dX6_isDown_38 : decode cX6_isDown 38 = .ok (.goto 4, 3) := dk_167 0 4 (dk_at dksX6_isDown_1 15 rfl rfl)
theorem dX6_isDown_41 : decode cX6_isDown 41 = .ok (.iconst 0, 1) := dk_3 (dk_at dksX6_isDown_1 18 rfl rfl)
theorem dX6_isDown_42 : decode cX6_isDown 42 = .ok (.ireturn, 1) := dk_172 (dk_at dksX6_isDown_1 19 rfl rfl)
abbrev cX6_endOf : ByteArray := prog_14_method_60_code
def yX6_endOf : MethodName := ⟨RX6, "endOf", "(IIII)I"⟩
def dkwX6_endOf_4 : List UInt8 := [21, 9, 182, 1, 110, 54, 5, 132, 7, 1, 167, 255, 159, 21, 5, 172]
abbrev dktX6_endOf_4 : List UInt8 := dkwX6_endOf_4 ++ []
def dkwX6_endOf_3 : List UInt8 := [21, 7, 21, 4, 159, 0, 27, 42, 21, 5, 42, 180, 0, 16, 21, 8, 46, 42, 180, 0, 19, 21, 8, 46]
abbrev dktX6_endOf_3 : List UInt8 := dkwX6_endOf_3 ++ dktX6_endOf_4
def dkwX6_endOf_2 : List UInt8 := [160, 0, 7, 4, 167, 0, 4, 3, 54, 9, 42, 180, 0, 16, 21, 8, 46, 6, 160, 0, 6, 132, 6, 1]
abbrev dktX6_endOf_2 : List UInt8 := dkwX6_endOf_2 ++ dktX6_endOf_3
def dkwX6_endOf_1 : List UInt8 := [104, 21, 7, 96, 54, 8, 42, 180, 0, 16, 21, 8, 46, 6, 160, 0, 17, 29, 21, 6, 122, 4, 126, 4]
abbrev dktX6_endOf_1 : List UInt8 := dkwX6_endOf_1 ++ dktX6_endOf_2
def dkwX6_endOf_0 : List UInt8 := [28, 54, 5, 3, 54, 6, 3, 54, 7, 21, 7, 42, 180, 0, 13, 27, 46, 162, 0, 92, 17, 0, 200, 27]
abbrev dktX6_endOf_0 : List UInt8 := dkwX6_endOf_0 ++ dktX6_endOf_1
theorem dksX6_endOf_0 : cX6_endOf.data.toList.drop 0 = dktX6_endOf_0 := by decide +kernel
theorem dksX6_endOf_1 : cX6_endOf.data.toList.drop 24 = dktX6_endOf_1 := dk_seg dksX6_endOf_0 24 rfl rfl
theorem dksX6_endOf_2 : cX6_endOf.data.toList.drop 48 = dktX6_endOf_2 := dk_seg dksX6_endOf_1 24 rfl rfl
theorem dksX6_endOf_3 : cX6_endOf.data.toList.drop 72 = dktX6_endOf_3 := dk_seg dksX6_endOf_2 24 rfl rfl
theorem dksX6_endOf_4 : cX6_endOf.data.toList.drop 96 = dktX6_endOf_4 := dk_seg dksX6_endOf_3 24 rfl rfl
theorem dX6_endOf_0 : decode cX6_endOf 0 = .ok (.iload_n 2, 1) := dk_28 (dk_at dksX6_endOf_0 0 rfl rfl)
theorem dX6_endOf_1 : decode cX6_endOf 1 = .ok (.istore 5, 2) := dk_54 5 (dk_at dksX6_endOf_0 1 rfl rfl)
theorem dX6_endOf_3 : decode cX6_endOf 3 = .ok (.iconst 0, 1) := dk_3 (dk_at dksX6_endOf_0 3 rfl rfl)
theorem dX6_endOf_4 : decode cX6_endOf 4 = .ok (.istore 6, 2) := dk_54 6 (dk_at dksX6_endOf_0 4 rfl rfl)
theorem dX6_endOf_6 : decode cX6_endOf 6 = .ok (.iconst 0, 1) := dk_3 (dk_at dksX6_endOf_0 6 rfl rfl)
theorem dX6_endOf_7 : decode cX6_endOf 7 = .ok (.istore 7, 2) := dk_54 7 (dk_at dksX6_endOf_0 7 rfl rfl)
theorem dX6_endOf_9 : decode cX6_endOf 9 = .ok (.iload 7, 2) := dk_21 7 (dk_at dksX6_endOf_0 9 rfl rfl)
theorem dX6_endOf_11 : decode cX6_endOf 11 = .ok (.aload_n 0, 1) := dk_42 (dk_at dksX6_endOf_0 11 rfl rfl)
theorem dX6_endOf_12 : decode cX6_endOf 12 = .ok (.getfield 13, 3) := dk_180 0 13 (dk_at dksX6_endOf_0 12 rfl rfl)
theorem dX6_endOf_15 : decode cX6_endOf 15 = .ok (.iload_n 1, 1) := dk_27 (dk_at dksX6_endOf_0 15 rfl rfl)
theorem dX6_endOf_16 : decode cX6_endOf 16 = .ok (.iaload, 1) := dk_46 (dk_at dksX6_endOf_0 16 rfl rfl)
theorem dX6_endOf_17 : decode cX6_endOf 17 = .ok (.if_icmp .ge 92, 3) := dk_162 0 92 (dk_at dksX6_endOf_0 17 rfl rfl)
theorem dX6_endOf_20 : decode cX6_endOf 20 = .ok (.sipush 200, 3) := dk_17 0 200 (dk_at dksX6_endOf_0 20 rfl rfl)
theorem dX6_endOf_23 : decode cX6_endOf 23 = .ok (.iload_n 1, 1) := dk_27 (dk_at dksX6_endOf_0 23 rfl rfl)
theorem dX6_endOf_24 : decode cX6_endOf 24 = .ok (.imul, 1) := dk_104 (dk_at dksX6_endOf_1 0 rfl rfl)
theorem dX6_endOf_25 : decode cX6_endOf 25 = .ok (.iload 7, 2) := dk_21 7 (dk_at dksX6_endOf_1 1 rfl rfl)
theorem dX6_endOf_27 : decode cX6_endOf 27 = .ok (.iadd, 1) := dk_96 (dk_at dksX6_endOf_1 3 rfl rfl)
theorem dX6_endOf_28 : decode cX6_endOf 28 = .ok (.istore 8, 2) := dk_54 8 (dk_at dksX6_endOf_1 4 rfl rfl)
theorem dX6_endOf_30 : decode cX6_endOf 30 = .ok (.aload_n 0, 1) := dk_42 (dk_at dksX6_endOf_1 6 rfl rfl)
theorem dX6_endOf_31 : decode cX6_endOf 31 = .ok (.getfield 16, 3) := dk_180 0 16 (dk_at dksX6_endOf_1 7 rfl rfl)
theorem dX6_endOf_34 : decode cX6_endOf 34 = .ok (.iload 8, 2) := dk_21 8 (dk_at dksX6_endOf_1 10 rfl rfl)
theorem dX6_endOf_36 : decode cX6_endOf 36 = .ok (.iaload, 1) := dk_46 (dk_at dksX6_endOf_1 12 rfl rfl)
theorem dX6_endOf_37 : decode cX6_endOf 37 = .ok (.iconst 3, 1) := dk_6 (dk_at dksX6_endOf_1 13 rfl rfl)
theorem dX6_endOf_38 : decode cX6_endOf 38 = .ok (.if_icmp .ne 17, 3) := dk_160 0 17 (dk_at dksX6_endOf_1 14 rfl rfl)
theorem dX6_endOf_41 : decode cX6_endOf 41 = .ok (.iload_n 3, 1) := dk_29 (dk_at dksX6_endOf_1 17 rfl rfl)
theorem dX6_endOf_42 : decode cX6_endOf 42 = .ok (.iload 6, 2) := dk_21 6 (dk_at dksX6_endOf_1 18 rfl rfl)
theorem dX6_endOf_44 : decode cX6_endOf 44 = .ok (.ishr, 1) := dk_122 (dk_at dksX6_endOf_1 20 rfl rfl)
theorem dX6_endOf_45 : decode cX6_endOf 45 = .ok (.iconst 1, 1) := dk_4 (dk_at dksX6_endOf_1 21 rfl rfl)
theorem dX6_endOf_46 : decode cX6_endOf 46 = .ok (.iand, 1) := dk_126 (dk_at dksX6_endOf_1 22 rfl rfl)
theorem dX6_endOf_47 : decode cX6_endOf 47 = .ok (.iconst 1, 1) := dk_4 (dk_at dksX6_endOf_1 23 rfl rfl)
theorem dX6_endOf_48 : decode cX6_endOf 48 = .ok (.if_icmp .ne 7, 3) := dk_160 0 7 (dk_at dksX6_endOf_2 0 rfl rfl)
theorem dX6_endOf_51 : decode cX6_endOf 51 = .ok (.iconst 1, 1) := dk_4 (dk_at dksX6_endOf_2 3 rfl rfl)
theorem dX6_endOf_52 : decode cX6_endOf 52 = .ok (.goto 4, 3) := dk_167 0 4 (dk_at dksX6_endOf_2 4 rfl rfl)
theorem dX6_endOf_55 : decode cX6_endOf 55 = .ok (.iconst 0, 1) := dk_3 (dk_at dksX6_endOf_2 7 rfl rfl)
theorem dX6_endOf_56 : decode cX6_endOf 56 = .ok (.istore 9, 2) := dk_54 9 (dk_at dksX6_endOf_2 8 rfl rfl)
theorem dX6_endOf_58 : decode cX6_endOf 58 = .ok (.aload_n 0, 1) := dk_42 (dk_at dksX6_endOf_2 10 rfl rfl)
theorem dX6_endOf_59 : decode cX6_endOf 59 = .ok (.getfield 16, 3) := dk_180 0 16 (dk_at dksX6_endOf_2 11 rfl rfl)
theorem dX6_endOf_62 : decode cX6_endOf 62 = .ok (.iload 8, 2) := dk_21 8 (dk_at dksX6_endOf_2 14 rfl rfl)
theorem dX6_endOf_64 : decode cX6_endOf 64 = .ok (.iaload, 1) := dk_46 (dk_at dksX6_endOf_2 16 rfl rfl)
theorem dX6_endOf_65 : decode cX6_endOf 65 = .ok (.iconst 3, 1) := dk_6 (dk_at dksX6_endOf_2 17 rfl rfl)
theorem dX6_endOf_66 : decode cX6_endOf 66 = .ok (.if_icmp .ne 6, 3) := dk_160 0 6 (dk_at dksX6_endOf_2 18 rfl rfl)
theorem dX6_endOf_69 : decode cX6_endOf 69 = .ok (.iinc 6 1, 3) := dk_132 6 1 (dk_at dksX6_endOf_2 21 rfl rfl)
theorem dX6_endOf_72 : decode cX6_endOf 72 = .ok (.iload 7, 2) := dk_21 7 (dk_at dksX6_endOf_3 0 rfl rfl)
theorem dX6_endOf_74 : decode cX6_endOf 74 = .ok (.iload 4, 2) := dk_21 4 (dk_at dksX6_endOf_3 2 rfl rfl)
theorem dX6_endOf_76 : decode cX6_endOf 76 = .ok (.if_icmp .eq 27, 3) := dk_159 0 27 (dk_at dksX6_endOf_3 4 rfl rfl)
theorem dX6_endOf_79 : decode cX6_endOf 79 = .ok (.aload_n 0, 1) := dk_42 (dk_at dksX6_endOf_3 7 rfl rfl)
theorem dX6_endOf_80 : decode cX6_endOf 80 = .ok (.iload 5, 2) := dk_21 5 (dk_at dksX6_endOf_3 8 rfl rfl)
theorem dX6_endOf_82 : decode cX6_endOf 82 = .ok (.aload_n 0, 1) := dk_42 (dk_at dksX6_endOf_3 10 rfl rfl)
theorem dX6_endOf_83 : decode cX6_endOf 83 = .ok (.getfield 16, 3) := dk_180 0 16 (dk_at dksX6_endOf_3 11 rfl rfl)
theorem dX6_endOf_86 : decode cX6_endOf 86 = .ok (.iload 8, 2) := dk_21 8 (dk_at dksX6_endOf_3 14 rfl rfl)
theorem dX6_endOf_88 : decode cX6_endOf 88 = .ok (.iaload, 1) := dk_46 (dk_at dksX6_endOf_3 16 rfl rfl)
theorem dX6_endOf_89 : decode cX6_endOf 89 = .ok (.aload_n 0, 1) := dk_42 (dk_at dksX6_endOf_3 17 rfl rfl)
theorem dX6_endOf_90 : decode cX6_endOf 90 = .ok (.getfield 19, 3) := dk_180 0 19 (dk_at dksX6_endOf_3 18 rfl rfl)
theorem dX6_endOf_93 : decode cX6_endOf 93 = .ok (.iload 8, 2) := dk_21 8 (dk_at dksX6_endOf_3 21 rfl rfl)
theorem dX6_endOf_95 : decode cX6_endOf 95 = .ok (.iaload, 1) := dk_46 (dk_at dksX6_endOf_3 23 rfl rfl)
theorem dX6_endOf_96 : decode cX6_endOf 96 = .ok (.iload 9, 2) := dk_21 9 (dk_at dksX6_endOf_4 0 rfl rfl)
theorem dX6_endOf_98 : decode cX6_endOf 98 = .ok (.invokevirtual 366, 3) := dk_182 1 110 (dk_at dksX6_endOf_4 2 rfl rfl)
theorem dX6_endOf_101 : decode cX6_endOf 101 = .ok (.istore 5, 2) := dk_54 5 (dk_at dksX6_endOf_4 5 rfl rfl)
theorem dX6_endOf_103 : decode cX6_endOf 103 = .ok (.iinc 7 1, 3) := dk_132 7 1 (dk_at dksX6_endOf_4 7 rfl rfl)
theorem dX6_endOf_106 : decode cX6_endOf 106 = .ok (.goto (-97), 3) := dk_167 255 159 (dk_at dksX6_endOf_4 10 rfl rfl)
theorem dX6_endOf_109 : decode cX6_endOf 109 = .ok (.iload 5, 2) := dk_21 5 (dk_at dksX6_endOf_4 13 rfl rfl)
theorem dX6_endOf_111 : decode cX6_endOf 111 = .ok (.ireturn, 1) := dk_172 (dk_at dksX6_endOf_4 15 rfl rfl)
abbrev cX6_passed : ByteArray := prog_14_method_59_code
def yX6_passed : MethodName := ⟨RX6, "passed", "(IIIZ)I"⟩
def dkwX6_passed_3 : List UInt8 := [3, 54, 7, 21, 7, 153, 0, 17, 42, 180, 0, 101, 16, 6, 27, 104, 29, 96, 46, 167, 0, 4, 27, 172]
abbrev dktX6_passed_3 : List UInt8 := dkwX6_passed_3 ++ []
def dkwX6_passed_2 : List UInt8 := [160, 0, 10, 21, 5, 21, 6, 161, 0, 13, 28, 6, 160, 0, 12, 21, 4, 153, 0, 7, 4, 167, 0, 4]
abbrev dktX6_passed_2 : List UInt8 := dkwX6_passed_2 ++ dktX6_passed_3
def dkwX6_passed_1 : List UInt8 := [96, 46, 54, 6, 28, 153, 0, 37, 28, 4, 160, 0, 10, 21, 5, 21, 6, 163, 0, 25, 28, 5]
abbrev dktX6_passed_1 : List UInt8 := dkwX6_passed_1 ++ dktX6_passed_2
def dkwX6_passed_0 : List UInt8 := [42, 180, 0, 98, 16, 7, 27, 104, 29, 96, 46, 54, 5, 42, 180, 0, 98, 16, 7, 27, 104, 29, 96, 4]
abbrev dktX6_passed_0 : List UInt8 := dkwX6_passed_0 ++ dktX6_passed_1
theorem dksX6_passed_0 : cX6_passed.data.toList.drop 0 = dktX6_passed_0 := by decide +kernel
theorem dksX6_passed_1 : cX6_passed.data.toList.drop 24 = dktX6_passed_1 := dk_seg dksX6_passed_0 24 rfl rfl
theorem dksX6_passed_2 : cX6_passed.data.toList.drop 46 = dktX6_passed_2 := dk_seg dksX6_passed_1 22 rfl rfl
theorem dksX6_passed_3 : cX6_passed.data.toList.drop 70 = dktX6_passed_3 := dk_seg dksX6_passed_2 24 rfl rfl
theorem dX6_passed_0 : decode cX6_passed 0 = .ok (.aload_n 0, 1) := dk_42 (dk_at dksX6_passed_0 0 rfl rfl)
theorem dX6_passed_1 : decode cX6_passed 1 = .ok (.getfield 98, 3) := dk_180 0 98 (dk_at dksX6_passed_0 1 rfl rfl)
theorem dX6_passed_4 : decode cX6_passed 4 = .ok (.bipush 7, 2) := dk_16 7 (dk_at dksX6_passed_0 4 rfl rfl)
theorem dX6_passed_6 : decode cX6_passed 6 = .ok (.iload_n 1, 1) := dk_27 (dk_at dksX6_passed_0 6 rfl rfl)
theorem dX6_passed_7 : decode cX6_passed 7 = .ok (.imul, 1) := dk_104 (dk_at dksX6_passed_0 7 rfl rfl)
theorem dX6_passed_8 : decode cX6_passed 8 = .ok (.iload_n 3, 1) := dk_29 (dk_at dksX6_passed_0 8 rfl rfl)
theorem dX6_passed_9 : decode cX6_passed 9 = .ok (.iadd, 1) := dk_96 (dk_at dksX6_passed_0 9 rfl rfl)
theorem dX6_passed_10 : decode cX6_passed 10 = .ok (.iaload, 1) := dk_46 (dk_at dksX6_passed_0 10 rfl rfl)
theorem dX6_passed_11 : decode cX6_passed 11 = .ok (.istore 5, 2) := dk_54 5 (dk_at dksX6_passed_0 11 rfl rfl)
theorem dX6_passed_13 : decode cX6_passed 13 = .ok (.aload_n 0, 1) := dk_42 (dk_at dksX6_passed_0 13 rfl rfl)
theorem dX6_passed_14 : decode cX6_passed 14 = .ok (.getfield 98, 3) := dk_180 0 98 (dk_at dksX6_passed_0 14 rfl rfl)
theorem dX6_passed_17 : decode cX6_passed 17 = .ok (.bipush 7, 2) := dk_16 7 (dk_at dksX6_passed_0 17 rfl rfl)
theorem dX6_passed_19 : decode cX6_passed 19 = .ok (.iload_n 1, 1) := dk_27 (dk_at dksX6_passed_0 19 rfl rfl)
theorem dX6_passed_20 : decode cX6_passed 20 = .ok (.imul, 1) := dk_104 (dk_at dksX6_passed_0 20 rfl rfl)
theorem dX6_passed_21 : decode cX6_passed 21 = .ok (.iload_n 3, 1) := dk_29 (dk_at dksX6_passed_0 21 rfl rfl)
theorem dX6_passed_22 : decode cX6_passed 22 = .ok (.iadd, 1) := dk_96 (dk_at dksX6_passed_0 22 rfl rfl)
theorem dX6_passed_23 : decode cX6_passed 23 = .ok (.iconst 1, 1) := dk_4 (dk_at dksX6_passed_0 23 rfl rfl)
theorem dX6_passed_24 : decode cX6_passed 24 = .ok (.iadd, 1) := dk_96 (dk_at dksX6_passed_1 0 rfl rfl)
theorem dX6_passed_25 : decode cX6_passed 25 = .ok (.iaload, 1) := dk_46 (dk_at dksX6_passed_1 1 rfl rfl)
theorem dX6_passed_26 : decode cX6_passed 26 = .ok (.istore 6, 2) := dk_54 6 (dk_at dksX6_passed_1 2 rfl rfl)
theorem dX6_passed_28 : decode cX6_passed 28 = .ok (.iload_n 2, 1) := dk_28 (dk_at dksX6_passed_1 4 rfl rfl)
theorem dX6_passed_29 : decode cX6_passed 29 = .ok (.ifCond .eq 37, 3) := dk_153 0 37 (dk_at dksX6_passed_1 5 rfl rfl)
theorem dX6_passed_32 : decode cX6_passed 32 = .ok (.iload_n 2, 1) := dk_28 (dk_at dksX6_passed_1 8 rfl rfl)
theorem dX6_passed_33 : decode cX6_passed 33 = .ok (.iconst 1, 1) := dk_4 (dk_at dksX6_passed_1 9 rfl rfl)
theorem dX6_passed_34 : decode cX6_passed 34 = .ok (.if_icmp .ne 10, 3) := dk_160 0 10 (dk_at dksX6_passed_1 10 rfl rfl)
theorem dX6_passed_37 : decode cX6_passed 37 = .ok (.iload 5, 2) := dk_21 5 (dk_at dksX6_passed_1 13 rfl rfl)
theorem dX6_passed_39 : decode cX6_passed 39 = .ok (.iload 6, 2) := dk_21 6 (dk_at dksX6_passed_1 15 rfl rfl)
theorem dX6_passed_41 : decode cX6_passed 41 = .ok (.if_icmp .gt 25, 3) := dk_163 0 25 (dk_at dksX6_passed_1 17 rfl rfl)
theorem dX6_passed_44 : decode cX6_passed 44 = .ok (.iload_n 2, 1) := dk_28 (dk_at dksX6_passed_1 20 rfl rfl)
theorem dX6_passed_45 : decode cX6_passed 45 = .ok (.iconst 2, 1) := dk_5 (dk_at dksX6_passed_1 21 rfl rfl)
theorem dX6_passed_46 : decode cX6_passed 46 = .ok (.if_icmp .ne 10, 3) := dk_160 0 10 (dk_at dksX6_passed_2 0 rfl rfl)
theorem dX6_passed_49 : decode cX6_passed 49 = .ok (.iload 5, 2) := dk_21 5 (dk_at dksX6_passed_2 3 rfl rfl)
theorem dX6_passed_51 : decode cX6_passed 51 = .ok (.iload 6, 2) := dk_21 6 (dk_at dksX6_passed_2 5 rfl rfl)
theorem dX6_passed_53 : decode cX6_passed 53 = .ok (.if_icmp .lt 13, 3) := dk_161 0 13 (dk_at dksX6_passed_2 7 rfl rfl)
theorem dX6_passed_56 : decode cX6_passed 56 = .ok (.iload_n 2, 1) := dk_28 (dk_at dksX6_passed_2 10 rfl rfl)
theorem dX6_passed_57 : decode cX6_passed 57 = .ok (.iconst 3, 1) := dk_6 (dk_at dksX6_passed_2 11 rfl rfl)
theorem dX6_passed_58 : decode cX6_passed 58 = .ok (.if_icmp .ne 12, 3) := dk_160 0 12 (dk_at dksX6_passed_2 12 rfl rfl)
theorem dX6_passed_61 : decode cX6_passed 61 = .ok (.iload 4, 2) := dk_21 4 (dk_at dksX6_passed_2 15 rfl rfl)
theorem dX6_passed_63 : decode cX6_passed 63 = .ok (.ifCond .eq 7, 3) := dk_153 0 7 (dk_at dksX6_passed_2 17 rfl rfl)
theorem dX6_passed_66 : decode cX6_passed 66 = .ok (.iconst 1, 1) := dk_4 (dk_at dksX6_passed_2 20 rfl rfl)
theorem dX6_passed_67 : decode cX6_passed 67 = .ok (.goto 4, 3) := dk_167 0 4 (dk_at dksX6_passed_2 21 rfl rfl)
theorem dX6_passed_70 : decode cX6_passed 70 = .ok (.iconst 0, 1) := dk_3 (dk_at dksX6_passed_3 0 rfl rfl)
theorem dX6_passed_71 : decode cX6_passed 71 = .ok (.istore 7, 2) := dk_54 7 (dk_at dksX6_passed_3 1 rfl rfl)
theorem dX6_passed_73 : decode cX6_passed 73 = .ok (.iload 7, 2) := dk_21 7 (dk_at dksX6_passed_3 3 rfl rfl)
theorem dX6_passed_75 : decode cX6_passed 75 = .ok (.ifCond .eq 17, 3) := dk_153 0 17 (dk_at dksX6_passed_3 5 rfl rfl)
theorem dX6_passed_78 : decode cX6_passed 78 = .ok (.aload_n 0, 1) := dk_42 (dk_at dksX6_passed_3 8 rfl rfl)
theorem dX6_passed_79 : decode cX6_passed 79 = .ok (.getfield 101, 3) := dk_180 0 101 (dk_at dksX6_passed_3 9 rfl rfl)
theorem dX6_passed_82 : decode cX6_passed 82 = .ok (.bipush 6, 2) := dk_16 6 (dk_at dksX6_passed_3 12 rfl rfl)
theorem dX6_passed_84 : decode cX6_passed 84 = .ok (.iload_n 1, 1) := dk_27 (dk_at dksX6_passed_3 14 rfl rfl)
theorem dX6_passed_85 : decode cX6_passed 85 = .ok (.imul, 1) := dk_104 (dk_at dksX6_passed_3 15 rfl rfl)
theorem dX6_passed_86 : decode cX6_passed 86 = .ok (.iload_n 3, 1) := dk_29 (dk_at dksX6_passed_3 16 rfl rfl)
theorem dX6_passed_87 : decode cX6_passed 87 = .ok (.iadd, 1) := dk_96 (dk_at dksX6_passed_3 17 rfl rfl)
theorem dX6_passed_88 : decode cX6_passed 88 = .ok (.iaload, 1) := dk_46 (dk_at dksX6_passed_3 18 rfl rfl)
theorem dX6_passed_89 : decode cX6_passed 89 = .ok (.goto 4, 3) := dk_167 0 4 (dk_at dksX6_passed_3 19 rfl rfl)
theorem dX6_passed_92 : decode cX6_passed 92 = .ok (.iload_n 1, 1) := dk_27 (dk_at dksX6_passed_3 22 rfl rfl)
theorem dX6_passed_93 : decode cX6_passed 93 = .ok (.ireturn, 1) := dk_172 (dk_at dksX6_passed_3 23 rfl rfl)
abbrev cX6_ends : ByteArray := prog_14_method_63_code
def yX6_ends : MethodName := ⟨RX6, "ends", "(IIII)I"⟩
def dkwX6_ends_2 : List UInt8 := [28, 29, 2, 182, 1, 117, 21, 4, 182, 1, 96, 172]
abbrev dktX6_ends_2 : List UInt8 := dkwX6_ends_2 ++ []
def dkwX6_ends_1 : List UInt8 := [161, 0, 5, 2, 172, 42, 42, 180, 0, 7, 27, 46, 182, 1, 107, 42, 42, 180, 0, 7, 27, 46, 42, 27]
abbrev dktX6_ends_1 : List UInt8 := dkwX6_ends_1 ++ dktX6_ends_2
def dkwX6_ends_0 : List UInt8 := [42, 27, 28, 29, 182, 1, 114, 153, 0, 19, 21, 4, 155, 0, 14, 21, 4, 42, 180, 0, 7, 27, 46]
abbrev dktX6_ends_0 : List UInt8 := dkwX6_ends_0 ++ dktX6_ends_1
theorem dksX6_ends_0 : cX6_ends.data.toList.drop 0 = dktX6_ends_0 := by decide +kernel
theorem dksX6_ends_1 : cX6_ends.data.toList.drop 23 = dktX6_ends_1 := dk_seg dksX6_ends_0 23 rfl rfl
theorem dksX6_ends_2 : cX6_ends.data.toList.drop 47 = dktX6_ends_2 := dk_seg dksX6_ends_1 24 rfl rfl
theorem dX6_ends_0 : decode cX6_ends 0 = .ok (.aload_n 0, 1) := dk_42 (dk_at dksX6_ends_0 0 rfl rfl)
theorem dX6_ends_1 : decode cX6_ends 1 = .ok (.iload_n 1, 1) := dk_27 (dk_at dksX6_ends_0 1 rfl rfl)
theorem dX6_ends_2 : decode cX6_ends 2 = .ok (.iload_n 2, 1) := dk_28 (dk_at dksX6_ends_0 2 rfl rfl)
theorem dX6_ends_3 : decode cX6_ends 3 = .ok (.iload_n 3, 1) := dk_29 (dk_at dksX6_ends_0 3 rfl rfl)
theorem dX6_ends_4 : decode cX6_ends 4 = .ok (.invokevirtual 370, 3) := dk_182 1 114 (dk_at dksX6_ends_0 4 rfl rfl)
theorem dX6_ends_7 : decode cX6_ends 7 = .ok (.ifCond .eq 19, 3) := dk_153 0 19 (dk_at dksX6_ends_0 7 rfl rfl)
theorem dX6_ends_10 : decode cX6_ends 10 = .ok (.iload 4, 2) := dk_21 4 (dk_at dksX6_ends_0 10 rfl rfl)
theorem dX6_ends_12 : decode cX6_ends 12 = .ok (.ifCond .lt 14, 3) := dk_155 0 14 (dk_at dksX6_ends_0 12 rfl rfl)
theorem dX6_ends_15 : decode cX6_ends 15 = .ok (.iload 4, 2) := dk_21 4 (dk_at dksX6_ends_0 15 rfl rfl)
theorem dX6_ends_17 : decode cX6_ends 17 = .ok (.aload_n 0, 1) := dk_42 (dk_at dksX6_ends_0 17 rfl rfl)
theorem dX6_ends_18 : decode cX6_ends 18 = .ok (.getfield 7, 3) := dk_180 0 7 (dk_at dksX6_ends_0 18 rfl rfl)
theorem dX6_ends_21 : decode cX6_ends 21 = .ok (.iload_n 1, 1) := dk_27 (dk_at dksX6_ends_0 21 rfl rfl)
theorem dX6_ends_22 : decode cX6_ends 22 = .ok (.iaload, 1) := dk_46 (dk_at dksX6_ends_0 22 rfl rfl)
theorem dX6_ends_23 : decode cX6_ends 23 = .ok (.if_icmp .lt 5, 3) := dk_161 0 5 (dk_at dksX6_ends_1 0 rfl rfl)
theorem dX6_ends_26 : decode cX6_ends 26 = .ok (.iconst (-1), 1) := dk_2 (dk_at dksX6_ends_1 3 rfl rfl)
theorem dX6_ends_27 : decode cX6_ends 27 = .ok (.ireturn, 1) := dk_172 (dk_at dksX6_ends_1 4 rfl rfl)
theorem dX6_ends_28 : decode cX6_ends 28 = .ok (.aload_n 0, 1) := dk_42 (dk_at dksX6_ends_1 5 rfl rfl)
theorem dX6_ends_29 : decode cX6_ends 29 = .ok (.aload_n 0, 1) := dk_42 (dk_at dksX6_ends_1 6 rfl rfl)
theorem dX6_ends_30 : decode cX6_ends 30 = .ok (.getfield 7, 3) := dk_180 0 7 (dk_at dksX6_ends_1 7 rfl rfl)
theorem dX6_ends_33 : decode cX6_ends 33 = .ok (.iload_n 1, 1) := dk_27 (dk_at dksX6_ends_1 10 rfl rfl)
theorem dX6_ends_34 : decode cX6_ends 34 = .ok (.iaload, 1) := dk_46 (dk_at dksX6_ends_1 11 rfl rfl)
theorem dX6_ends_35 : decode cX6_ends 35 = .ok (.invokevirtual 363, 3) := dk_182 1 107 (dk_at dksX6_ends_1 12 rfl rfl)
theorem dX6_ends_38 : decode cX6_ends 38 = .ok (.aload_n 0, 1) := dk_42 (dk_at dksX6_ends_1 15 rfl rfl)
theorem dX6_ends_39 : decode cX6_ends 39 = .ok (.aload_n 0, 1) := dk_42 (dk_at dksX6_ends_1 16 rfl rfl)
theorem dX6_ends_40 : decode cX6_ends 40 = .ok (.getfield 7, 3) := dk_180 0 7 (dk_at dksX6_ends_1 17 rfl rfl)
theorem dX6_ends_43 : decode cX6_ends 43 = .ok (.iload_n 1, 1) := dk_27 (dk_at dksX6_ends_1 20 rfl rfl)
theorem dX6_ends_44 : decode cX6_ends 44 = .ok (.iaload, 1) := dk_46 (dk_at dksX6_ends_1 21 rfl rfl)
theorem dX6_ends_45 : decode cX6_ends 45 = .ok (.aload_n 0, 1) := dk_42 (dk_at dksX6_ends_1 22 rfl rfl)
theorem dX6_ends_46 : decode cX6_ends 46 = .ok (.iload_n 1, 1) := dk_27 (dk_at dksX6_ends_1 23 rfl rfl)
theorem dX6_ends_47 : decode cX6_ends 47 = .ok (.iload_n 2, 1) := dk_28 (dk_at dksX6_ends_2 0 rfl rfl)
theorem dX6_ends_48 : decode cX6_ends 48 = .ok (.iload_n 3, 1) := dk_29 (dk_at dksX6_ends_2 1 rfl rfl)
theorem dX6_ends_49 : decode cX6_ends 49 = .ok (.iconst (-1), 1) := dk_2 (dk_at dksX6_ends_2 2 rfl rfl)
theorem dX6_ends_50 : decode cX6_ends 50 = .ok (.invokevirtual 373, 3) := dk_182 1 117 (dk_at dksX6_ends_2 3 rfl rfl)
theorem dX6_ends_53 : decode cX6_ends 53 = .ok (.iload 4, 2) := dk_21 4 (dk_at dksX6_ends_2 6 rfl rfl)
theorem dX6_ends_55 : decode cX6_ends 55 = .ok (.invokevirtual 352, 3) := dk_182 1 96 (dk_at dksX6_ends_2 8 rfl rfl)
theorem dX6_ends_58 : decode cX6_ends 58 = .ok (.ireturn, 1) := dk_172 (dk_at dksX6_ends_2 11 rfl rfl)
abbrev cX6_fewest : ByteArray := prog_14_method_64_code
def yX6_fewest : MethodName := ⟨RX6, "fewest", "(II)I"⟩
def dkwX6_fewest_0 : List UInt8 := [42, 27, 28, 182, 1, 103, 154, 0, 5, 2, 172, 42, 27, 182, 1, 107, 42, 180, 0, 107, 28, 46, 172]
abbrev dktX6_fewest_0 : List UInt8 := dkwX6_fewest_0 ++ []
theorem dksX6_fewest_0 : cX6_fewest.data.toList.drop 0 = dktX6_fewest_0 := by decide +kernel
theorem dX6_fewest_0 : decode cX6_fewest 0 = .ok (.aload_n 0, 1) := dk_42 (dk_at dksX6_fewest_0 0 rfl rfl)
theorem dX6_fewest_1 : decode cX6_fewest 1 = .ok (.iload_n 1, 1) := dk_27 (dk_at dksX6_fewest_0 1 rfl rfl)
theorem dX6_fewest_2 : decode cX6_fewest 2 = .ok (.iload_n 2, 1) := dk_28 (dk_at dksX6_fewest_0 2 rfl rfl)
theorem dX6_fewest_3 : decode cX6_fewest 3 = .ok (.invokevirtual 359, 3) := dk_182 1 103 (dk_at dksX6_fewest_0 3 rfl rfl)
theorem dX6_fewest_6 : decode cX6_fewest 6 = .ok (.ifCond .ne 5, 3) := dk_154 0 5 (dk_at dksX6_fewest_0 6 rfl rfl)
theorem dX6_fewest_9 : decode cX6_fewest 9 = .ok (.iconst (-1), 1) := dk_2 (dk_at dksX6_fewest_0 9 rfl rfl)
theorem dX6_fewest_10 : decode cX6_fewest 10 = .ok (.ireturn, 1) := dk_172 (dk_at dksX6_fewest_0 10 rfl rfl)
theorem dX6_fewest_11 : decode cX6_fewest 11 = .ok (.aload_n 0, 1) := dk_42 (dk_at dksX6_fewest_0 11 rfl rfl)
theorem dX6_fewest_12 : decode cX6_fewest 12 = .ok (.iload_n 1, 1) := dk_27 (dk_at dksX6_fewest_0 12 rfl rfl)
theorem dX6_fewest_13 : decode cX6_fewest 13 = .ok (.invokevirtual 363, 3) := dk_182 1 107 (dk_at dksX6_fewest_0 13 rfl rfl)
theorem dX6_fewest_16 : decode cX6_fewest 16 = .ok (.aload_n 0, 1) := dk_42 (dk_at dksX6_fewest_0 16 rfl rfl)
theorem dX6_fewest_17 : decode cX6_fewest 17 = .ok (.getfield 107, 3) := dk_180 0 107 (dk_at dksX6_fewest_0 17 rfl rfl)
theorem dX6_fewest_20 : decode cX6_fewest 20 = .ok (.iload_n 2, 1) := dk_28 (dk_at dksX6_fewest_0 20 rfl rfl)
theorem dX6_fewest_21 : decode cX6_fewest 21 = .ok (.iaload, 1) := dk_46 (dk_at dksX6_fewest_0 21 rfl rfl)
theorem dX6_fewest_22 : decode cX6_fewest 22 = .ok (.ireturn, 1) := dk_172 (dk_at dksX6_fewest_0 22 rfl rfl)
abbrev cX6_ladders : ByteArray := prog_14_method_65_code
def yX6_ladders : MethodName := ⟨RX6, "ladders", "(II)J"⟩
def dkwX6_ladders_1 : List UInt8 := [173]
abbrev dktX6_ladders_1 : List UInt8 := dkwX6_ladders_1 ++ []
def dkwX6_ladders_0 : List UInt8 := [42, 27, 28, 182, 1, 103, 154, 0, 7, 20, 1, 121, 173, 42, 27, 182, 1, 107, 42, 180, 0, 110, 28, 47]
abbrev dktX6_ladders_0 : List UInt8 := dkwX6_ladders_0 ++ dktX6_ladders_1
theorem dksX6_ladders_0 : cX6_ladders.data.toList.drop 0 = dktX6_ladders_0 := by decide +kernel
theorem dksX6_ladders_1 : cX6_ladders.data.toList.drop 24 = dktX6_ladders_1 := dk_seg dksX6_ladders_0 24 rfl rfl
theorem dX6_ladders_0 : decode cX6_ladders 0 = .ok (.aload_n 0, 1) := dk_42 (dk_at dksX6_ladders_0 0 rfl rfl)
theorem dX6_ladders_1 : decode cX6_ladders 1 = .ok (.iload_n 1, 1) := dk_27 (dk_at dksX6_ladders_0 1 rfl rfl)
theorem dX6_ladders_2 : decode cX6_ladders 2 = .ok (.iload_n 2, 1) := dk_28 (dk_at dksX6_ladders_0 2 rfl rfl)
theorem dX6_ladders_3 : decode cX6_ladders 3 = .ok (.invokevirtual 359, 3) := dk_182 1 103 (dk_at dksX6_ladders_0 3 rfl rfl)
theorem dX6_ladders_6 : decode cX6_ladders 6 = .ok (.ifCond .ne 7, 3) := dk_154 0 7 (dk_at dksX6_ladders_0 6 rfl rfl)
theorem dX6_ladders_9 : decode cX6_ladders 9 = .ok (.ldc2_w 377, 3) := dk_20 1 121 (dk_at dksX6_ladders_0 9 rfl rfl)
theorem dX6_ladders_12 : decode cX6_ladders 12 = .ok (.lreturn, 1) := dk_173 (dk_at dksX6_ladders_0 12 rfl rfl)
theorem dX6_ladders_13 : decode cX6_ladders 13 = .ok (.aload_n 0, 1) := dk_42 (dk_at dksX6_ladders_0 13 rfl rfl)
theorem dX6_ladders_14 : decode cX6_ladders 14 = .ok (.iload_n 1, 1) := dk_27 (dk_at dksX6_ladders_0 14 rfl rfl)
theorem dX6_ladders_15 : decode cX6_ladders 15 = .ok (.invokevirtual 363, 3) := dk_182 1 107 (dk_at dksX6_ladders_0 15 rfl rfl)
theorem dX6_ladders_18 : decode cX6_ladders 18 = .ok (.aload_n 0, 1) := dk_42 (dk_at dksX6_ladders_0 18 rfl rfl)
theorem dX6_ladders_19 : decode cX6_ladders 19 = .ok (.getfield 110, 3) := dk_180 0 110 (dk_at dksX6_ladders_0 19 rfl rfl)
theorem dX6_ladders_22 : decode cX6_ladders 22 = .ok (.iload_n 2, 1) := dk_28 (dk_at dksX6_ladders_0 22 rfl rfl)
theorem dX6_ladders_23 : decode cX6_ladders 23 = .ok (.laload, 1) := dk_47 (dk_at dksX6_ladders_0 23 rfl rfl)
theorem dX6_ladders_24 : decode cX6_ladders 24 = .ok (.lreturn, 1) := dk_173 (dk_at dksX6_ladders_1 0 rfl rfl)
abbrev cX6_rung : ByteArray := prog_14_method_68_code
def yX6_rung : MethodName := ⟨RX6, "rung", "(IIJI)I"⟩
def dkwX6_rung_2 : List UInt8 := [161, 0, 5, 2, 172, 42, 27, 28, 33, 182, 1, 123, 42, 180, 0, 116, 21, 5, 46, 172]
abbrev dktX6_rung_2 : List UInt8 := dkwX6_rung_2 ++ []
def dkwX6_rung_1 : List UInt8 := [180, 0, 110, 28, 47, 148, 156, 0, 19, 21, 5, 155, 0, 14, 21, 5, 42, 180, 0, 107, 28, 46]
abbrev dktX6_rung_1 : List UInt8 := dkwX6_rung_1 ++ dktX6_rung_2
def dkwX6_rung_0 : List UInt8 := [42, 27, 28, 182, 1, 103, 154, 0, 5, 2, 172, 42, 27, 182, 1, 107, 33, 9, 148, 155, 0, 30, 33, 42]
abbrev dktX6_rung_0 : List UInt8 := dkwX6_rung_0 ++ dktX6_rung_1
theorem dksX6_rung_0 : cX6_rung.data.toList.drop 0 = dktX6_rung_0 := by decide +kernel
theorem dksX6_rung_1 : cX6_rung.data.toList.drop 24 = dktX6_rung_1 := dk_seg dksX6_rung_0 24 rfl rfl
theorem dksX6_rung_2 : cX6_rung.data.toList.drop 46 = dktX6_rung_2 := dk_seg dksX6_rung_1 22 rfl rfl
theorem dX6_rung_0 : decode cX6_rung 0 = .ok (.aload_n 0, 1) := dk_42 (dk_at dksX6_rung_0 0 rfl rfl)
theorem dX6_rung_1 : decode cX6_rung 1 = .ok (.iload_n 1, 1) := dk_27 (dk_at dksX6_rung_0 1 rfl rfl)
theorem dX6_rung_2 : decode cX6_rung 2 = .ok (.iload_n 2, 1) := dk_28 (dk_at dksX6_rung_0 2 rfl rfl)
theorem dX6_rung_3 : decode cX6_rung 3 = .ok (.invokevirtual 359, 3) := dk_182 1 103 (dk_at dksX6_rung_0 3 rfl rfl)
theorem dX6_rung_6 : decode cX6_rung 6 = .ok (.ifCond .ne 5, 3) := dk_154 0 5 (dk_at dksX6_rung_0 6 rfl rfl)
theorem dX6_rung_9 : decode cX6_rung 9 = .ok (.iconst (-1), 1) := dk_2 (dk_at dksX6_rung_0 9 rfl rfl)
theorem dX6_rung_10 : decode cX6_rung 10 = .ok (.ireturn, 1) := dk_172 (dk_at dksX6_rung_0 10 rfl rfl)
theorem dX6_rung_11 : decode cX6_rung 11 = .ok (.aload_n 0, 1) := dk_42 (dk_at dksX6_rung_0 11 rfl rfl)
theorem dX6_rung_12 : decode cX6_rung 12 = .ok (.iload_n 1, 1) := dk_27 (dk_at dksX6_rung_0 12 rfl rfl)
theorem dX6_rung_13 : decode cX6_rung 13 = .ok (.invokevirtual 363, 3) := dk_182 1 107 (dk_at dksX6_rung_0 13 rfl rfl)
theorem dX6_rung_16 : decode cX6_rung 16 = .ok (.lload_n 3, 1) := dk_33 (dk_at dksX6_rung_0 16 rfl rfl)
theorem dX6_rung_17 : decode cX6_rung 17 = .ok (.lconst 0, 1) := dk_9 (dk_at dksX6_rung_0 17 rfl rfl)
theorem dX6_rung_18 : decode cX6_rung 18 = .ok (.lcmp, 1) := dk_148 (dk_at dksX6_rung_0 18 rfl rfl)
theorem dX6_rung_19 : decode cX6_rung 19 = .ok (.ifCond .lt 30, 3) := dk_155 0 30 (dk_at dksX6_rung_0 19 rfl rfl)
theorem dX6_rung_22 : decode cX6_rung 22 = .ok (.lload_n 3, 1) := dk_33 (dk_at dksX6_rung_0 22 rfl rfl)
theorem dX6_rung_23 : decode cX6_rung 23 = .ok (.aload_n 0, 1) := dk_42 (dk_at dksX6_rung_0 23 rfl rfl)
theorem dX6_rung_24 : decode cX6_rung 24 = .ok (.getfield 110, 3) := dk_180 0 110 (dk_at dksX6_rung_1 0 rfl rfl)
theorem dX6_rung_27 : decode cX6_rung 27 = .ok (.iload_n 2, 1) := dk_28 (dk_at dksX6_rung_1 3 rfl rfl)
theorem dX6_rung_28 : decode cX6_rung 28 = .ok (.laload, 1) := dk_47 (dk_at dksX6_rung_1 4 rfl rfl)
theorem dX6_rung_29 : decode cX6_rung 29 = .ok (.lcmp, 1) := dk_148 (dk_at dksX6_rung_1 5 rfl rfl)
theorem dX6_rung_30 : decode cX6_rung 30 = .ok (.ifCond .ge 19, 3) := dk_156 0 19 (dk_at dksX6_rung_1 6 rfl rfl)
theorem dX6_rung_33 : decode cX6_rung 33 = .ok (.iload 5, 2) := dk_21 5 (dk_at dksX6_rung_1 9 rfl rfl)
theorem dX6_rung_35 : decode cX6_rung 35 = .ok (.ifCond .lt 14, 3) := dk_155 0 14 (dk_at dksX6_rung_1 11 rfl rfl)
theorem dX6_rung_38 : decode cX6_rung 38 = .ok (.iload 5, 2) := dk_21 5 (dk_at dksX6_rung_1 14 rfl rfl)
theorem dX6_rung_40 : decode cX6_rung 40 = .ok (.aload_n 0, 1) := dk_42 (dk_at dksX6_rung_1 16 rfl rfl)
theorem dX6_rung_41 : decode cX6_rung 41 = .ok (.getfield 107, 3) := dk_180 0 107 (dk_at dksX6_rung_1 17 rfl rfl)
theorem dX6_rung_44 : decode cX6_rung 44 = .ok (.iload_n 2, 1) := dk_28 (dk_at dksX6_rung_1 20 rfl rfl)
theorem dX6_rung_45 : decode cX6_rung 45 = .ok (.iaload, 1) := dk_46 (dk_at dksX6_rung_1 21 rfl rfl)
theorem dX6_rung_46 : decode cX6_rung 46 = .ok (.if_icmp .lt 5, 3) := dk_161 0 5 (dk_at dksX6_rung_2 0 rfl rfl)
theorem dX6_rung_49 : decode cX6_rung 49 = .ok (.iconst (-1), 1) := dk_2 (dk_at dksX6_rung_2 3 rfl rfl)
theorem dX6_rung_50 : decode cX6_rung 50 = .ok (.ireturn, 1) := dk_172 (dk_at dksX6_rung_2 4 rfl rfl)
theorem dX6_rung_51 : decode cX6_rung 51 = .ok (.aload_n 0, 1) := dk_42 (dk_at dksX6_rung_2 5 rfl rfl)
theorem dX6_rung_52 : decode cX6_rung 52 = .ok (.iload_n 1, 1) := dk_27 (dk_at dksX6_rung_2 6 rfl rfl)
theorem dX6_rung_53 : decode cX6_rung 53 = .ok (.iload_n 2, 1) := dk_28 (dk_at dksX6_rung_2 7 rfl rfl)
theorem dX6_rung_54 : decode cX6_rung 54 = .ok (.lload_n 3, 1) := dk_33 (dk_at dksX6_rung_2 8 rfl rfl)
theorem dX6_rung_55 : decode cX6_rung 55 = .ok (.invokevirtual 379, 3) := dk_182 1 123 (dk_at dksX6_rung_2 9 rfl rfl)
theorem dX6_rung_58 : decode cX6_rung 58 = .ok (.aload_n 0, 1) := dk_42 (dk_at dksX6_rung_2 12 rfl rfl)
theorem dX6_rung_59 : decode cX6_rung 59 = .ok (.getfield 116, 3) := dk_180 0 116 (dk_at dksX6_rung_2 13 rfl rfl)
theorem dX6_rung_62 : decode cX6_rung 62 = .ok (.iload 5, 2) := dk_21 5 (dk_at dksX6_rung_2 16 rfl rfl)
theorem dX6_rung_64 : decode cX6_rung 64 = .ok (.iaload, 1) := dk_46 (dk_at dksX6_rung_2 18 rfl rfl)
theorem dX6_rung_65 : decode cX6_rung 65 = .ok (.ireturn, 1) := dk_172 (dk_at dksX6_rung_2 19 rfl rfl)
abbrev cX6_unrank : ByteArray := prog_14_method_66_code
def yX6_unrank : MethodName := ⟨RX6, "unrank", "(IIJ)V"⟩
def dkwX6_unrank_5 : List UInt8 := [21, 5, 104, 21, 10, 96, 46, 54, 5, 132, 9, 1, 167, 255, 141, 177]
abbrev dktX6_unrank_5 : List UInt8 := dkwX6_unrank_5 ++ []
def dkwX6_unrank_4 : List UInt8 := [154, 255, 190, 132, 10, 1, 167, 255, 184, 42, 180, 0, 116, 21, 9, 21, 10, 79, 42, 180, 0, 104, 16, 6]
abbrev dktX6_unrank_4 : List UInt8 := dkwX6_unrank_4 ++ dktX6_unrank_5
def dkwX6_unrank_3 : List UInt8 := [156, 0, 7, 4, 167, 0, 4, 3, 54, 11, 21, 11, 154, 0, 10, 22, 6, 22, 12, 101, 55, 6, 21, 11]
abbrev dktX6_unrank_3 : List UInt8 := dkwX6_unrank_3 ++ dktX6_unrank_4
def dkwX6_unrank_2 : List UInt8 := [180, 0, 110, 42, 180, 0, 104, 16, 6, 21, 5, 104, 21, 10, 96, 46, 47, 55, 12, 22, 6, 22, 12, 148]
abbrev dktX6_unrank_2 : List UInt8 := dkwX6_unrank_2 ++ dktX6_unrank_3
def dkwX6_unrank_1 : List UInt8 := [3, 54, 10, 3, 54, 11, 21, 11, 154, 0, 73, 42, 27, 21, 5, 21, 10, 182, 1, 99, 153, 0, 50, 42]
abbrev dktX6_unrank_1 : List UInt8 := dkwX6_unrank_1 ++ dktX6_unrank_2
def dkwX6_unrank_0 : List UInt8 := [28, 54, 5, 33, 55, 6, 42, 180, 0, 107, 28, 46, 54, 8, 3, 54, 9, 21, 9, 21, 8, 162, 0, 114]
abbrev dktX6_unrank_0 : List UInt8 := dkwX6_unrank_0 ++ dktX6_unrank_1
theorem dksX6_unrank_0 : cX6_unrank.data.toList.drop 0 = dktX6_unrank_0 := by decide +kernel
theorem dksX6_unrank_1 : cX6_unrank.data.toList.drop 24 = dktX6_unrank_1 := dk_seg dksX6_unrank_0 24 rfl rfl
theorem dksX6_unrank_2 : cX6_unrank.data.toList.drop 48 = dktX6_unrank_2 := dk_seg dksX6_unrank_1 24 rfl rfl
theorem dksX6_unrank_3 : cX6_unrank.data.toList.drop 72 = dktX6_unrank_3 := dk_seg dksX6_unrank_2 24 rfl rfl
theorem dksX6_unrank_4 : cX6_unrank.data.toList.drop 96 = dktX6_unrank_4 := dk_seg dksX6_unrank_3 24 rfl rfl
theorem dksX6_unrank_5 : cX6_unrank.data.toList.drop 120 = dktX6_unrank_5 := dk_seg dksX6_unrank_4 24 rfl rfl
theorem dX6_unrank_0 : decode cX6_unrank 0 = .ok (.iload_n 2, 1) := dk_28 (dk_at dksX6_unrank_0 0 rfl rfl)
theorem dX6_unrank_1 : decode cX6_unrank 1 = .ok (.istore 5, 2) := dk_54 5 (dk_at dksX6_unrank_0 1 rfl rfl)
theorem dX6_unrank_3 : decode cX6_unrank 3 = .ok (.lload_n 3, 1) := dk_33 (dk_at dksX6_unrank_0 3 rfl rfl)
theorem dX6_unrank_4 : decode cX6_unrank 4 = .ok (.lstore 6, 2) := dk_55 6 (dk_at dksX6_unrank_0 4 rfl rfl)
theorem dX6_unrank_6 : decode cX6_unrank 6 = .ok (.aload_n 0, 1) := dk_42 (dk_at dksX6_unrank_0 6 rfl rfl)
theorem dX6_unrank_7 : decode cX6_unrank 7 = .ok (.getfield 107, 3) := dk_180 0 107 (dk_at dksX6_unrank_0 7 rfl rfl)
theorem dX6_unrank_10 : decode cX6_unrank 10 = .ok (.iload_n 2, 1) := dk_28 (dk_at dksX6_unrank_0 10 rfl rfl)
theorem dX6_unrank_11 : decode cX6_unrank 11 = .ok (.iaload, 1) := dk_46 (dk_at dksX6_unrank_0 11 rfl rfl)
theorem dX6_unrank_12 : decode cX6_unrank 12 = .ok (.istore 8, 2) := dk_54 8 (dk_at dksX6_unrank_0 12 rfl rfl)
theorem dX6_unrank_14 : decode cX6_unrank 14 = .ok (.iconst 0, 1) := dk_3 (dk_at dksX6_unrank_0 14 rfl rfl)
theorem dX6_unrank_15 : decode cX6_unrank 15 = .ok (.istore 9, 2) := dk_54 9 (dk_at dksX6_unrank_0 15 rfl rfl)
theorem dX6_unrank_17 : decode cX6_unrank 17 = .ok (.iload 9, 2) := dk_21 9 (dk_at dksX6_unrank_0 17 rfl rfl)
theorem dX6_unrank_19 : decode cX6_unrank 19 = .ok (.iload 8, 2) := dk_21 8 (dk_at dksX6_unrank_0 19 rfl rfl)
theorem dX6_unrank_21 : decode cX6_unrank 21 = .ok (.if_icmp .ge 114, 3) := dk_162 0 114 (dk_at dksX6_unrank_0 21 rfl rfl)
theorem dX6_unrank_24 : decode cX6_unrank 24 = .ok (.iconst 0, 1) := dk_3 (dk_at dksX6_unrank_1 0 rfl rfl)
theorem dX6_unrank_25 : decode cX6_unrank 25 = .ok (.istore 10, 2) := dk_54 10 (dk_at dksX6_unrank_1 1 rfl rfl)
theorem dX6_unrank_27 : decode cX6_unrank 27 = .ok (.iconst 0, 1) := dk_3 (dk_at dksX6_unrank_1 3 rfl rfl)
theorem dX6_unrank_28 : decode cX6_unrank 28 = .ok (.istore 11, 2) := dk_54 11 (dk_at dksX6_unrank_1 4 rfl rfl)
theorem dX6_unrank_30 : decode cX6_unrank 30 = .ok (.iload 11, 2) := dk_21 11 (dk_at dksX6_unrank_1 6 rfl rfl)
theorem dX6_unrank_32 : decode cX6_unrank 32 = .ok (.ifCond .ne 73, 3) := dk_154 0 73 (dk_at dksX6_unrank_1 8 rfl rfl)
theorem dX6_unrank_35 : decode cX6_unrank 35 = .ok (.aload_n 0, 1) := dk_42 (dk_at dksX6_unrank_1 11 rfl rfl)
theorem dX6_unrank_36 : decode cX6_unrank 36 = .ok (.iload_n 1, 1) := dk_27 (dk_at dksX6_unrank_1 12 rfl rfl)
theorem dX6_unrank_37 : decode cX6_unrank 37 = .ok (.iload 5, 2) := dk_21 5 (dk_at dksX6_unrank_1 13 rfl rfl)
theorem dX6_unrank_39 : decode cX6_unrank 39 = .ok (.iload 10, 2) := dk_21 10 (dk_at dksX6_unrank_1 15 rfl rfl)
theorem dX6_unrank_41 : decode cX6_unrank 41 = .ok (.invokevirtual 355, 3) := dk_182 1 99 (dk_at dksX6_unrank_1 17 rfl rfl)
theorem dX6_unrank_44 : decode cX6_unrank 44 = .ok (.ifCond .eq 50, 3) := dk_153 0 50 (dk_at dksX6_unrank_1 20 rfl rfl)
theorem dX6_unrank_47 : decode cX6_unrank 47 = .ok (.aload_n 0, 1) := dk_42 (dk_at dksX6_unrank_1 23 rfl rfl)
theorem dX6_unrank_48 : decode cX6_unrank 48 = .ok (.getfield 110, 3) := dk_180 0 110 (dk_at dksX6_unrank_2 0 rfl rfl)
theorem dX6_unrank_51 : decode cX6_unrank 51 = .ok (.aload_n 0, 1) := dk_42 (dk_at dksX6_unrank_2 3 rfl rfl)
theorem dX6_unrank_52 : decode cX6_unrank 52 = .ok (.getfield 104, 3) := dk_180 0 104 (dk_at dksX6_unrank_2 4 rfl rfl)
theorem dX6_unrank_55 : decode cX6_unrank 55 = .ok (.bipush 6, 2) := dk_16 6 (dk_at dksX6_unrank_2 7 rfl rfl)
theorem dX6_unrank_57 : decode cX6_unrank 57 = .ok (.iload 5, 2) := dk_21 5 (dk_at dksX6_unrank_2 9 rfl rfl)
theorem dX6_unrank_59 : decode cX6_unrank 59 = .ok (.imul, 1) := dk_104 (dk_at dksX6_unrank_2 11 rfl rfl)
theorem dX6_unrank_60 : decode cX6_unrank 60 = .ok (.iload 10, 2) := dk_21 10 (dk_at dksX6_unrank_2 12 rfl rfl)
theorem dX6_unrank_62 : decode cX6_unrank 62 = .ok (.iadd, 1) := dk_96 (dk_at dksX6_unrank_2 14 rfl rfl)
theorem dX6_unrank_63 : decode cX6_unrank 63 = .ok (.iaload, 1) := dk_46 (dk_at dksX6_unrank_2 15 rfl rfl)
theorem dX6_unrank_64 : decode cX6_unrank 64 = .ok (.laload, 1) := dk_47 (dk_at dksX6_unrank_2 16 rfl rfl)
theorem dX6_unrank_65 : decode cX6_unrank 65 = .ok (.lstore 12, 2) := dk_55 12 (dk_at dksX6_unrank_2 17 rfl rfl)
theorem dX6_unrank_67 : decode cX6_unrank 67 = .ok (.lload 6, 2) := dk_22 6 (dk_at dksX6_unrank_2 19 rfl rfl)
theorem dX6_unrank_69 : decode cX6_unrank 69 = .ok (.lload 12, 2) := dk_22 12 (dk_at dksX6_unrank_2 21 rfl rfl)
theorem dX6_unrank_71 : decode cX6_unrank 71 = .ok (.lcmp, 1) := dk_148 (dk_at dksX6_unrank_2 23 rfl rfl)
theorem dX6_unrank_72 : decode cX6_unrank 72 = .ok (.ifCond .ge 7, 3) := dk_156 0 7 (dk_at dksX6_unrank_3 0 rfl rfl)
theorem dX6_unrank_75 : decode cX6_unrank 75 = .ok (.iconst 1, 1) := dk_4 (dk_at dksX6_unrank_3 3 rfl rfl)
theorem dX6_unrank_76 : decode cX6_unrank 76 = .ok (.goto 4, 3) := dk_167 0 4 (dk_at dksX6_unrank_3 4 rfl rfl)
theorem dX6_unrank_79 : decode cX6_unrank 79 = .ok (.iconst 0, 1) := dk_3 (dk_at dksX6_unrank_3 7 rfl rfl)
theorem dX6_unrank_80 : decode cX6_unrank 80 = .ok (.istore 11, 2) := dk_54 11 (dk_at dksX6_unrank_3 8 rfl rfl)
theorem dX6_unrank_82 : decode cX6_unrank 82 = .ok (.iload 11, 2) := dk_21 11 (dk_at dksX6_unrank_3 10 rfl rfl)
theorem dX6_unrank_84 : decode cX6_unrank 84 = .ok (.ifCond .ne 10, 3) := dk_154 0 10 (dk_at dksX6_unrank_3 12 rfl rfl)
theorem dX6_unrank_87 : decode cX6_unrank 87 = .ok (.lload 6, 2) := dk_22 6 (dk_at dksX6_unrank_3 15 rfl rfl)
theorem dX6_unrank_89 : decode cX6_unrank 89 = .ok (.lload 12, 2) := dk_22 12 (dk_at dksX6_unrank_3 17 rfl rfl)
theorem dX6_unrank_91 : decode cX6_unrank 91 = .ok (.lsub, 1) := dk_101 (dk_at dksX6_unrank_3 19 rfl rfl)
theorem dX6_unrank_92 : decode cX6_unrank 92 = .ok (.lstore 6, 2) := dk_55 6 (dk_at dksX6_unrank_3 20 rfl rfl)
theorem dX6_unrank_94 : decode cX6_unrank 94 = .ok (.iload 11, 2) := dk_21 11 (dk_at dksX6_unrank_3 22 rfl rfl)
theorem dX6_unrank_96 : decode cX6_unrank 96 = .ok (.ifCond .ne (-66), 3) := dk_154 255 190 (dk_at dksX6_unrank_4 0 rfl rfl)
theorem dX6_unrank_99 : decode cX6_unrank 99 = .ok (.iinc 10 1, 3) := dk_132 10 1 (dk_at dksX6_unrank_4 3 rfl rfl)
theorem dX6_unrank_102 : decode cX6_unrank 102 = .ok (.goto (-72), 3) := dk_167 255 184 (dk_at dksX6_unrank_4 6 rfl rfl)
theorem dX6_unrank_105 : decode cX6_unrank 105 = .ok (.aload_n 0, 1) := dk_42 (dk_at dksX6_unrank_4 9 rfl rfl)
theorem dX6_unrank_106 : decode cX6_unrank 106 = .ok (.getfield 116, 3) := dk_180 0 116 (dk_at dksX6_unrank_4 10 rfl rfl)
theorem dX6_unrank_109 : decode cX6_unrank 109 = .ok (.iload 9, 2) := dk_21 9 (dk_at dksX6_unrank_4 13 rfl rfl)
theorem dX6_unrank_111 : decode cX6_unrank 111 = .ok (.iload 10, 2) := dk_21 10 (dk_at dksX6_unrank_4 15 rfl rfl)
theorem dX6_unrank_113 : decode cX6_unrank 113 = .ok (.iastore, 1) := dk_79 (dk_at dksX6_unrank_4 17 rfl rfl)
theorem dX6_unrank_114 : decode cX6_unrank 114 = .ok (.aload_n 0, 1) := dk_42 (dk_at dksX6_unrank_4 18 rfl rfl)
theorem dX6_unrank_115 : decode cX6_unrank 115 = .ok (.getfield 104, 3) := dk_180 0 104 (dk_at dksX6_unrank_4 19 rfl rfl)
theorem dX6_unrank_118 : decode cX6_unrank 118 = .ok (.bipush 6, 2) := dk_16 6 (dk_at dksX6_unrank_4 22 rfl rfl)
theorem dX6_unrank_120 : decode cX6_unrank 120 = .ok (.iload 5, 2) := dk_21 5 (dk_at dksX6_unrank_5 0 rfl rfl)
theorem dX6_unrank_122 : decode cX6_unrank 122 = .ok (.imul, 1) := dk_104 (dk_at dksX6_unrank_5 2 rfl rfl)
theorem dX6_unrank_123 : decode cX6_unrank 123 = .ok (.iload 10, 2) := dk_21 10 (dk_at dksX6_unrank_5 3 rfl rfl)
theorem dX6_unrank_125 : decode cX6_unrank 125 = .ok (.iadd, 1) := dk_96 (dk_at dksX6_unrank_5 5 rfl rfl)
theorem dX6_unrank_126 : decode cX6_unrank 126 = .ok (.iaload, 1) := dk_46 (dk_at dksX6_unrank_5 6 rfl rfl)
theorem dX6_unrank_127 : decode cX6_unrank 127 = .ok (.istore 5, 2) := dk_54 5 (dk_at dksX6_unrank_5 7 rfl rfl)
theorem dX6_unrank_129 : decode cX6_unrank 129 = .ok (.iinc 9 1, 3) := dk_132 9 1 (dk_at dksX6_unrank_5 9 rfl rfl)
theorem dX6_unrank_132 : decode cX6_unrank 132 = .ok (.goto (-115), 3) := dk_167 255 141 (dk_at dksX6_unrank_5 12 rfl rfl)
theorem dX6_unrank_135 : decode cX6_unrank 135 = .ok (.return_, 1) := dk_177 (dk_at dksX6_unrank_5 15 rfl rfl)
abbrev cX6_rank : ByteArray := prog_14_method_69_code
def yX6_rank : MethodName := ⟨RX6, "rank", "(I)J"⟩
def dkwX6_rank_4 : List UInt8 := [167, 255, 225, 42, 42, 180, 0, 7, 27, 46, 28, 182, 1, 129, 173]
abbrev dktX6_rank_4 : List UInt8 := dkwX6_rank_4 ++ []
def dkwX6_rank_3 : List UInt8 := [162, 0, 27, 42, 180, 0, 116, 29, 42, 180, 0, 19, 17, 0, 200, 27, 104, 29, 96, 46, 79, 132, 3, 1]
abbrev dktX6_rank_3 : List UInt8 := dkwX6_rank_3 ++ dktX6_rank_4
def dkwX6_rank_2 : List UInt8 := [46, 42, 180, 0, 13, 27, 46, 159, 0, 7, 20, 1, 127, 173, 3, 62, 29, 42, 180, 0, 13, 27, 46]
abbrev dktX6_rank_2 : List UInt8 := dkwX6_rank_2 ++ dktX6_rank_3
def dkwX6_rank_1 : List UInt8 := [42, 42, 180, 0, 7, 27, 46, 182, 1, 107, 42, 27, 3, 3, 2, 182, 1, 117, 61, 42, 180, 0, 107, 28]
abbrev dktX6_rank_1 : List UInt8 := dkwX6_rank_1 ++ dktX6_rank_2
def dkwX6_rank_0 : List UInt8 := [42, 27, 182, 1, 51, 154, 0, 7, 20, 1, 121, 173, 42, 27, 182, 1, 72, 154, 0, 7, 20, 1, 127, 173]
abbrev dktX6_rank_0 : List UInt8 := dkwX6_rank_0 ++ dktX6_rank_1
theorem dksX6_rank_0 : cX6_rank.data.toList.drop 0 = dktX6_rank_0 := by decide +kernel
theorem dksX6_rank_1 : cX6_rank.data.toList.drop 24 = dktX6_rank_1 := dk_seg dksX6_rank_0 24 rfl rfl
theorem dksX6_rank_2 : cX6_rank.data.toList.drop 48 = dktX6_rank_2 := dk_seg dksX6_rank_1 24 rfl rfl
theorem dksX6_rank_3 : cX6_rank.data.toList.drop 71 = dktX6_rank_3 := dk_seg dksX6_rank_2 23 rfl rfl
theorem dksX6_rank_4 : cX6_rank.data.toList.drop 95 = dktX6_rank_4 := dk_seg dksX6_rank_3 24 rfl rfl
theorem dX6_rank_0 : decode cX6_rank 0 = .ok (.aload_n 0, 1) := dk_42 (dk_at dksX6_rank_0 0 rfl rfl)
theorem dX6_rank_1 : decode cX6_rank 1 = .ok (.iload_n 1, 1) := dk_27 (dk_at dksX6_rank_0 1 rfl rfl)
theorem dX6_rank_2 : decode cX6_rank 2 = .ok (.invokevirtual 307, 3) := dk_182 1 51 (dk_at dksX6_rank_0 2 rfl rfl)
theorem dX6_rank_5 : decode cX6_rank 5 = .ok (.ifCond .ne 7, 3) := dk_154 0 7 (dk_at dksX6_rank_0 5 rfl rfl)
theorem dX6_rank_8 : decode cX6_rank 8 = .ok (.ldc2_w 377, 3) := dk_20 1 121 (dk_at dksX6_rank_0 8 rfl rfl)
theorem dX6_rank_11 : decode cX6_rank 11 = .ok (.lreturn, 1) := dk_173 (dk_at dksX6_rank_0 11 rfl rfl)
theorem dX6_rank_12 : decode cX6_rank 12 = .ok (.aload_n 0, 1) := dk_42 (dk_at dksX6_rank_0 12 rfl rfl)
theorem dX6_rank_13 : decode cX6_rank 13 = .ok (.iload_n 1, 1) := dk_27 (dk_at dksX6_rank_0 13 rfl rfl)
theorem dX6_rank_14 : decode cX6_rank 14 = .ok (.invokevirtual 328, 3) := dk_182 1 72 (dk_at dksX6_rank_0 14 rfl rfl)
theorem dX6_rank_17 : decode cX6_rank 17 = .ok (.ifCond .ne 7, 3) := dk_154 0 7 (dk_at dksX6_rank_0 17 rfl rfl)
theorem dX6_rank_20 : decode cX6_rank 20 = .ok (.ldc2_w 383, 3) := dk_20 1 127 (dk_at dksX6_rank_0 20 rfl rfl)
theorem dX6_rank_23 : decode cX6_rank 23 = .ok (.lreturn, 1) := dk_173 (dk_at dksX6_rank_0 23 rfl rfl)
theorem dX6_rank_24 : decode cX6_rank 24 = .ok (.aload_n 0, 1) := dk_42 (dk_at dksX6_rank_1 0 rfl rfl)
theorem dX6_rank_25 : decode cX6_rank 25 = .ok (.aload_n 0, 1) := dk_42 (dk_at dksX6_rank_1 1 rfl rfl)
theorem dX6_rank_26 : decode cX6_rank 26 = .ok (.getfield 7, 3) := dk_180 0 7 (dk_at dksX6_rank_1 2 rfl rfl)
theorem dX6_rank_29 : decode cX6_rank 29 = .ok (.iload_n 1, 1) := dk_27 (dk_at dksX6_rank_1 5 rfl rfl)
theorem dX6_rank_30 : decode cX6_rank 30 = .ok (.iaload, 1) := dk_46 (dk_at dksX6_rank_1 6 rfl rfl)
theorem dX6_rank_31 : decode cX6_rank 31 = .ok (.invokevirtual 363, 3) := dk_182 1 107 (dk_at dksX6_rank_1 7 rfl rfl)
theorem dX6_rank_34 : decode cX6_rank 34 = .ok (.aload_n 0, 1) := dk_42 (dk_at dksX6_rank_1 10 rfl rfl)
theorem dX6_rank_35 : decode cX6_rank 35 = .ok (.iload_n 1, 1) := dk_27 (dk_at dksX6_rank_1 11 rfl rfl)
theorem dX6_rank_36 : decode cX6_rank 36 = .ok (.iconst 0, 1) := dk_3 (dk_at dksX6_rank_1 12 rfl rfl)
theorem dX6_rank_37 : decode cX6_rank 37 = .ok (.iconst 0, 1) := dk_3 (dk_at dksX6_rank_1 13 rfl rfl)
theorem dX6_rank_38 : decode cX6_rank 38 = .ok (.iconst (-1), 1) := dk_2 (dk_at dksX6_rank_1 14 rfl rfl)
theorem dX6_rank_39 : decode cX6_rank 39 = .ok (.invokevirtual 373, 3) := dk_182 1 117 (dk_at dksX6_rank_1 15 rfl rfl)
theorem dX6_rank_42 : decode cX6_rank 42 = .ok (.istore_n 2, 1) := dk_61 (dk_at dksX6_rank_1 18 rfl rfl)
theorem dX6_rank_43 : decode cX6_rank 43 = .ok (.aload_n 0, 1) := dk_42 (dk_at dksX6_rank_1 19 rfl rfl)
theorem dX6_rank_44 : decode cX6_rank 44 = .ok (.getfield 107, 3) := dk_180 0 107 (dk_at dksX6_rank_1 20 rfl rfl)
theorem dX6_rank_47 : decode cX6_rank 47 = .ok (.iload_n 2, 1) := dk_28 (dk_at dksX6_rank_1 23 rfl rfl)
theorem dX6_rank_48 : decode cX6_rank 48 = .ok (.iaload, 1) := dk_46 (dk_at dksX6_rank_2 0 rfl rfl)
theorem dX6_rank_49 : decode cX6_rank 49 = .ok (.aload_n 0, 1) := dk_42 (dk_at dksX6_rank_2 1 rfl rfl)
theorem dX6_rank_50 : decode cX6_rank 50 = .ok (.getfield 13, 3) := dk_180 0 13 (dk_at dksX6_rank_2 2 rfl rfl)
theorem dX6_rank_53 : decode cX6_rank 53 = .ok (.iload_n 1, 1) := dk_27 (dk_at dksX6_rank_2 5 rfl rfl)
theorem dX6_rank_54 : decode cX6_rank 54 = .ok (.iaload, 1) := dk_46 (dk_at dksX6_rank_2 6 rfl rfl)
theorem dX6_rank_55 : decode cX6_rank 55 = .ok (.if_icmp .eq 7, 3) := dk_159 0 7 (dk_at dksX6_rank_2 7 rfl rfl)
theorem dX6_rank_58 : decode cX6_rank 58 = .ok (.ldc2_w 383, 3) := dk_20 1 127 (dk_at dksX6_rank_2 10 rfl rfl)
theorem dX6_rank_61 : decode cX6_rank 61 = .ok (.lreturn, 1) := dk_173 (dk_at dksX6_rank_2 13 rfl rfl)
theorem dX6_rank_62 : decode cX6_rank 62 = .ok (.iconst 0, 1) := dk_3 (dk_at dksX6_rank_2 14 rfl rfl)
theorem dX6_rank_63 : decode cX6_rank 63 = .ok (.istore_n 3, 1) := dk_62 (dk_at dksX6_rank_2 15 rfl rfl)
theorem dX6_rank_64 : decode cX6_rank 64 = .ok (.iload_n 3, 1) := dk_29 (dk_at dksX6_rank_2 16 rfl rfl)
theorem dX6_rank_65 : decode cX6_rank 65 = .ok (.aload_n 0, 1) := dk_42 (dk_at dksX6_rank_2 17 rfl rfl)
theorem dX6_rank_66 : decode cX6_rank 66 = .ok (.getfield 13, 3) := dk_180 0 13 (dk_at dksX6_rank_2 18 rfl rfl)
theorem dX6_rank_69 : decode cX6_rank 69 = .ok (.iload_n 1, 1) := dk_27 (dk_at dksX6_rank_2 21 rfl rfl)
theorem dX6_rank_70 : decode cX6_rank 70 = .ok (.iaload, 1) := dk_46 (dk_at dksX6_rank_2 22 rfl rfl)
theorem dX6_rank_71 : decode cX6_rank 71 = .ok (.if_icmp .ge 27, 3) := dk_162 0 27 (dk_at dksX6_rank_3 0 rfl rfl)
theorem dX6_rank_74 : decode cX6_rank 74 = .ok (.aload_n 0, 1) := dk_42 (dk_at dksX6_rank_3 3 rfl rfl)
theorem dX6_rank_75 : decode cX6_rank 75 = .ok (.getfield 116, 3) := dk_180 0 116 (dk_at dksX6_rank_3 4 rfl rfl)
theorem dX6_rank_78 : decode cX6_rank 78 = .ok (.iload_n 3, 1) := dk_29 (dk_at dksX6_rank_3 7 rfl rfl)
theorem dX6_rank_79 : decode cX6_rank 79 = .ok (.aload_n 0, 1) := dk_42 (dk_at dksX6_rank_3 8 rfl rfl)
theorem dX6_rank_80 : decode cX6_rank 80 = .ok (.getfield 19, 3) := dk_180 0 19 (dk_at dksX6_rank_3 9 rfl rfl)
theorem dX6_rank_83 : decode cX6_rank 83 = .ok (.sipush 200, 3) := dk_17 0 200 (dk_at dksX6_rank_3 12 rfl rfl)
theorem dX6_rank_86 : decode cX6_rank 86 = .ok (.iload_n 1, 1) := dk_27 (dk_at dksX6_rank_3 15 rfl rfl)
theorem dX6_rank_87 : decode cX6_rank 87 = .ok (.imul, 1) := dk_104 (dk_at dksX6_rank_3 16 rfl rfl)
theorem dX6_rank_88 : decode cX6_rank 88 = .ok (.iload_n 3, 1) := dk_29 (dk_at dksX6_rank_3 17 rfl rfl)
theorem dX6_rank_89 : decode cX6_rank 89 = .ok (.iadd, 1) := dk_96 (dk_at dksX6_rank_3 18 rfl rfl)
theorem dX6_rank_90 : decode cX6_rank 90 = .ok (.iaload, 1) := dk_46 (dk_at dksX6_rank_3 19 rfl rfl)
theorem dX6_rank_91 : decode cX6_rank 91 = .ok (.iastore, 1) := dk_79 (dk_at dksX6_rank_3 20 rfl rfl)
theorem dX6_rank_92 : decode cX6_rank 92 = .ok (.iinc 3 1, 3) := dk_132 3 1 (dk_at dksX6_rank_3 21 rfl rfl)
theorem dX6_rank_95 : decode cX6_rank 95 = .ok (.goto (-31), 3) := dk_167 255 225 (dk_at dksX6_rank_4 0 rfl rfl)
theorem dX6_rank_98 : decode cX6_rank 98 = .ok (.aload_n 0, 1) := dk_42 (dk_at dksX6_rank_4 3 rfl rfl)
theorem dX6_rank_99 : decode cX6_rank 99 = .ok (.aload_n 0, 1) := dk_42 (dk_at dksX6_rank_4 4 rfl rfl)
theorem dX6_rank_100 : decode cX6_rank 100 = .ok (.getfield 7, 3) := dk_180 0 7 (dk_at dksX6_rank_4 5 rfl rfl)
theorem dX6_rank_103 : decode cX6_rank 103 = .ok (.iload_n 1, 1) := dk_27 (dk_at dksX6_rank_4 8 rfl rfl)
theorem dX6_rank_104 : decode cX6_rank 104 = .ok (.iaload, 1) := dk_46 (dk_at dksX6_rank_4 9 rfl rfl)
theorem dX6_rank_105 : decode cX6_rank 105 = .ok (.iload_n 2, 1) := dk_28 (dk_at dksX6_rank_4 10 rfl rfl)
theorem dX6_rank_106 : decode cX6_rank 106 = .ok (.invokevirtual 385, 3) := dk_182 1 129 (dk_at dksX6_rank_4 11 rfl rfl)
theorem dX6_rank_109 : decode cX6_rank 109 = .ok (.lreturn, 1) := dk_173 (dk_at dksX6_rank_4 14 rfl rfl)
abbrev cX6_rankOf : ByteArray := prog_14_method_67_code
def yX6_rankOf : MethodName := ⟨RX6, "rankOf", "(II)J"⟩
def dkwX6_rankOf_4 : List UInt8 := [46, 62, 132, 7, 1, 167, 255, 174, 22, 4, 173]
abbrev dktX6_rankOf_4 : List UInt8 := dkwX6_rankOf_4 ++ []
def dkwX6_rankOf_3 : List UInt8 := [55, 4, 132, 8, 1, 167, 255, 208, 42, 180, 0, 104, 16, 6, 29, 104, 42, 180, 0, 116, 21, 7, 46, 96]
abbrev dktX6_rankOf_3 : List UInt8 := dkwX6_rankOf_3 ++ dktX6_rankOf_4
def dkwX6_rankOf_2 : List UInt8 := [153, 0, 25, 22, 4, 42, 180, 0, 110, 42, 180, 0, 104, 16, 6, 29, 104, 21, 8, 96, 46, 47, 97]
abbrev dktX6_rankOf_2 : List UInt8 := dkwX6_rankOf_2 ++ dktX6_rankOf_3
def dkwX6_rankOf_1 : List UInt8 := [54, 8, 21, 8, 42, 180, 0, 116, 21, 7, 46, 162, 0, 42, 42, 27, 29, 21, 8, 182, 1, 99]
abbrev dktX6_rankOf_1 : List UInt8 := dkwX6_rankOf_1 ++ dktX6_rankOf_2
def dkwX6_rankOf_0 : List UInt8 := [28, 62, 9, 55, 4, 42, 180, 0, 107, 28, 46, 54, 6, 3, 54, 7, 21, 7, 21, 6, 162, 0, 81, 3]
abbrev dktX6_rankOf_0 : List UInt8 := dkwX6_rankOf_0 ++ dktX6_rankOf_1
theorem dksX6_rankOf_0 : cX6_rankOf.data.toList.drop 0 = dktX6_rankOf_0 := by decide +kernel
theorem dksX6_rankOf_1 : cX6_rankOf.data.toList.drop 24 = dktX6_rankOf_1 := dk_seg dksX6_rankOf_0 24 rfl rfl
theorem dksX6_rankOf_2 : cX6_rankOf.data.toList.drop 46 = dktX6_rankOf_2 := dk_seg dksX6_rankOf_1 22 rfl rfl
theorem dksX6_rankOf_3 : cX6_rankOf.data.toList.drop 69 = dktX6_rankOf_3 := dk_seg dksX6_rankOf_2 23 rfl rfl
theorem dksX6_rankOf_4 : cX6_rankOf.data.toList.drop 93 = dktX6_rankOf_4 := dk_seg dksX6_rankOf_3 24 rfl rfl
theorem dX6_rankOf_0 : decode cX6_rankOf 0 = .ok (.iload_n 2, 1) := dk_28 (dk_at dksX6_rankOf_0 0 rfl rfl)
theorem dX6_rankOf_1 : decode cX6_rankOf 1 = .ok (.istore_n 3, 1) := dk_62 (dk_at dksX6_rankOf_0 1 rfl rfl)
theorem dX6_rankOf_2 : decode cX6_rankOf 2 = .ok (.lconst 0, 1) := dk_9 (dk_at dksX6_rankOf_0 2 rfl rfl)
theorem dX6_rankOf_3 : decode cX6_rankOf 3 = .ok (.lstore 4, 2) := dk_55 4 (dk_at dksX6_rankOf_0 3 rfl rfl)
theorem dX6_rankOf_5 : decode cX6_rankOf 5 = .ok (.aload_n 0, 1) := dk_42 (dk_at dksX6_rankOf_0 5 rfl rfl)
theorem dX6_rankOf_6 : decode cX6_rankOf 6 = .ok (.getfield 107, 3) := dk_180 0 107 (dk_at dksX6_rankOf_0 6 rfl rfl)
theorem dX6_rankOf_9 : decode cX6_rankOf 9 = .ok (.iload_n 2, 1) := dk_28 (dk_at dksX6_rankOf_0 9 rfl rfl)
theorem dX6_rankOf_10 : decode cX6_rankOf 10 = .ok (.iaload, 1) := dk_46 (dk_at dksX6_rankOf_0 10 rfl rfl)
theorem dX6_rankOf_11 : decode cX6_rankOf 11 = .ok (.istore 6, 2) := dk_54 6 (dk_at dksX6_rankOf_0 11 rfl rfl)
theorem dX6_rankOf_13 : decode cX6_rankOf 13 = .ok (.iconst 0, 1) := dk_3 (dk_at dksX6_rankOf_0 13 rfl rfl)
theorem dX6_rankOf_14 : decode cX6_rankOf 14 = .ok (.istore 7, 2) := dk_54 7 (dk_at dksX6_rankOf_0 14 rfl rfl)
theorem dX6_rankOf_16 : decode cX6_rankOf 16 = .ok (.iload 7, 2) := dk_21 7 (dk_at dksX6_rankOf_0 16 rfl rfl)
theorem dX6_rankOf_18 : decode cX6_rankOf 18 = .ok (.iload 6, 2) := dk_21 6 (dk_at dksX6_rankOf_0 18 rfl rfl)
theorem dX6_rankOf_20 : decode cX6_rankOf 20 = .ok (.if_icmp .ge 81, 3) := dk_162 0 81 (dk_at dksX6_rankOf_0 20 rfl rfl)
theorem dX6_rankOf_23 : decode cX6_rankOf 23 = .ok (.iconst 0, 1) := dk_3 (dk_at dksX6_rankOf_0 23 rfl rfl)
theorem dX6_rankOf_24 : decode cX6_rankOf 24 = .ok (.istore 8, 2) := dk_54 8 (dk_at dksX6_rankOf_1 0 rfl rfl)
theorem dX6_rankOf_26 : decode cX6_rankOf 26 = .ok (.iload 8, 2) := dk_21 8 (dk_at dksX6_rankOf_1 2 rfl rfl)
theorem dX6_rankOf_28 : decode cX6_rankOf 28 = .ok (.aload_n 0, 1) := dk_42 (dk_at dksX6_rankOf_1 4 rfl rfl)
theorem dX6_rankOf_29 : decode cX6_rankOf 29 = .ok (.getfield 116, 3) := dk_180 0 116 (dk_at dksX6_rankOf_1 5 rfl rfl)
theorem dX6_rankOf_32 : decode cX6_rankOf 32 = .ok (.iload 7, 2) := dk_21 7 (dk_at dksX6_rankOf_1 8 rfl rfl)
theorem dX6_rankOf_34 : decode cX6_rankOf 34 = .ok (.iaload, 1) := dk_46 (dk_at dksX6_rankOf_1 10 rfl rfl)
theorem dX6_rankOf_35 : decode cX6_rankOf 35 = .ok (.if_icmp .ge 42, 3) := dk_162 0 42 (dk_at dksX6_rankOf_1 11 rfl rfl)
theorem dX6_rankOf_38 : decode cX6_rankOf 38 = .ok (.aload_n 0, 1) := dk_42 (dk_at dksX6_rankOf_1 14 rfl rfl)
theorem dX6_rankOf_39 : decode cX6_rankOf 39 = .ok (.iload_n 1, 1) := dk_27 (dk_at dksX6_rankOf_1 15 rfl rfl)
theorem dX6_rankOf_40 : decode cX6_rankOf 40 = .ok (.iload_n 3, 1) := dk_29 (dk_at dksX6_rankOf_1 16 rfl rfl)
theorem dX6_rankOf_41 : decode cX6_rankOf 41 = .ok (.iload 8, 2) := dk_21 8 (dk_at dksX6_rankOf_1 17 rfl rfl)
theorem dX6_rankOf_43 : decode cX6_rankOf 43 = .ok (.invokevirtual 355, 3) := dk_182 1 99 (dk_at dksX6_rankOf_1 19 rfl rfl)
theorem dX6_rankOf_46 : decode cX6_rankOf 46 = .ok (.ifCond .eq 25, 3) := dk_153 0 25 (dk_at dksX6_rankOf_2 0 rfl rfl)
theorem dX6_rankOf_49 : decode cX6_rankOf 49 = .ok (.lload 4, 2) := dk_22 4 (dk_at dksX6_rankOf_2 3 rfl rfl)
theorem dX6_rankOf_51 : decode cX6_rankOf 51 = .ok (.aload_n 0, 1) := dk_42 (dk_at dksX6_rankOf_2 5 rfl rfl)
theorem dX6_rankOf_52 : decode cX6_rankOf 52 = .ok (.getfield 110, 3) := dk_180 0 110 (dk_at dksX6_rankOf_2 6 rfl rfl)
theorem dX6_rankOf_55 : decode cX6_rankOf 55 = .ok (.aload_n 0, 1) := dk_42 (dk_at dksX6_rankOf_2 9 rfl rfl)
theorem dX6_rankOf_56 : decode cX6_rankOf 56 = .ok (.getfield 104, 3) := dk_180 0 104 (dk_at dksX6_rankOf_2 10 rfl rfl)
theorem dX6_rankOf_59 : decode cX6_rankOf 59 = .ok (.bipush 6, 2) := dk_16 6 (dk_at dksX6_rankOf_2 13 rfl rfl)
theorem dX6_rankOf_61 : decode cX6_rankOf 61 = .ok (.iload_n 3, 1) := dk_29 (dk_at dksX6_rankOf_2 15 rfl rfl)
theorem dX6_rankOf_62 : decode cX6_rankOf 62 = .ok (.imul, 1) := dk_104 (dk_at dksX6_rankOf_2 16 rfl rfl)
theorem dX6_rankOf_63 : decode cX6_rankOf 63 = .ok (.iload 8, 2) := dk_21 8 (dk_at dksX6_rankOf_2 17 rfl rfl)
theorem dX6_rankOf_65 : decode cX6_rankOf 65 = .ok (.iadd, 1) := dk_96 (dk_at dksX6_rankOf_2 19 rfl rfl)
theorem dX6_rankOf_66 : decode cX6_rankOf 66 = .ok (.iaload, 1) := dk_46 (dk_at dksX6_rankOf_2 20 rfl rfl)
theorem dX6_rankOf_67 : decode cX6_rankOf 67 = .ok (.laload, 1) := dk_47 (dk_at dksX6_rankOf_2 21 rfl rfl)
theorem dX6_rankOf_68 : decode cX6_rankOf 68 = .ok (.ladd, 1) := dk_97 (dk_at dksX6_rankOf_2 22 rfl rfl)
theorem dX6_rankOf_69 : decode cX6_rankOf 69 = .ok (.lstore 4, 2) := dk_55 4 (dk_at dksX6_rankOf_3 0 rfl rfl)
theorem dX6_rankOf_71 : decode cX6_rankOf 71 = .ok (.iinc 8 1, 3) := dk_132 8 1 (dk_at dksX6_rankOf_3 2 rfl rfl)
theorem dX6_rankOf_74 : decode cX6_rankOf 74 = .ok (.goto (-48), 3) := dk_167 255 208 (dk_at dksX6_rankOf_3 5 rfl rfl)
theorem dX6_rankOf_77 : decode cX6_rankOf 77 = .ok (.aload_n 0, 1) := dk_42 (dk_at dksX6_rankOf_3 8 rfl rfl)
theorem dX6_rankOf_78 : decode cX6_rankOf 78 = .ok (.getfield 104, 3) := dk_180 0 104 (dk_at dksX6_rankOf_3 9 rfl rfl)
theorem dX6_rankOf_81 : decode cX6_rankOf 81 = .ok (.bipush 6, 2) := dk_16 6 (dk_at dksX6_rankOf_3 12 rfl rfl)
theorem dX6_rankOf_83 : decode cX6_rankOf 83 = .ok (.iload_n 3, 1) := dk_29 (dk_at dksX6_rankOf_3 14 rfl rfl)
theorem dX6_rankOf_84 : decode cX6_rankOf 84 = .ok (.imul, 1) := dk_104 (dk_at dksX6_rankOf_3 15 rfl rfl)
theorem dX6_rankOf_85 : decode cX6_rankOf 85 = .ok (.aload_n 0, 1) := dk_42 (dk_at dksX6_rankOf_3 16 rfl rfl)
theorem dX6_rankOf_86 : decode cX6_rankOf 86 = .ok (.getfield 116, 3) := dk_180 0 116 (dk_at dksX6_rankOf_3 17 rfl rfl)
theorem dX6_rankOf_89 : decode cX6_rankOf 89 = .ok (.iload 7, 2) := dk_21 7 (dk_at dksX6_rankOf_3 20 rfl rfl)
theorem dX6_rankOf_91 : decode cX6_rankOf 91 = .ok (.iaload, 1) := dk_46 (dk_at dksX6_rankOf_3 22 rfl rfl)
theorem dX6_rankOf_92 : decode cX6_rankOf 92 = .ok (.iadd, 1) := dk_96 (dk_at dksX6_rankOf_3 23 rfl rfl)
theorem dX6_rankOf_93 : decode cX6_rankOf 93 = .ok (.iaload, 1) := dk_46 (dk_at dksX6_rankOf_4 0 rfl rfl)
theorem dX6_rankOf_94 : decode cX6_rankOf 94 = .ok (.istore_n 3, 1) := dk_62 (dk_at dksX6_rankOf_4 1 rfl rfl)
theorem dX6_rankOf_95 : decode cX6_rankOf 95 = .ok (.iinc 7 1, 3) := dk_132 7 1 (dk_at dksX6_rankOf_4 2 rfl rfl)
theorem dX6_rankOf_98 : decode cX6_rankOf 98 = .ok (.goto (-82), 3) := dk_167 255 174 (dk_at dksX6_rankOf_4 5 rfl rfl)
theorem dX6_rankOf_101 : decode cX6_rankOf 101 = .ok (.lload 4, 2) := dk_22 4 (dk_at dksX6_rankOf_4 8 rfl rfl)
theorem dX6_rankOf_103 : decode cX6_rankOf 103 = .ok (.lreturn, 1) := dk_173 (dk_at dksX6_rankOf_4 10 rfl rfl)
abbrev cX6_cleared : ByteArray := prog_14_method_72_code
def yX6_cleared : MethodName := ⟨RX6, "cleared", "(I)I"⟩
def dkwX6_cleared_1 : List UInt8 := [182, 1, 139, 42, 180, 1, 133, 172]
abbrev dktX6_cleared_1 : List UInt8 := dkwX6_cleared_1 ++ []
def dkwX6_cleared_0 : List UInt8 := [42, 27, 182, 1, 51, 154, 0, 5, 2, 172, 42, 27, 182, 1, 72, 154, 0, 6, 16, 254, 172, 42, 27]
abbrev dktX6_cleared_0 : List UInt8 := dkwX6_cleared_0 ++ dktX6_cleared_1
theorem dksX6_cleared_0 : cX6_cleared.data.toList.drop 0 = dktX6_cleared_0 := by decide +kernel
theorem dksX6_cleared_1 : cX6_cleared.data.toList.drop 23 = dktX6_cleared_1 := dk_seg dksX6_cleared_0 23 rfl rfl
theorem dX6_cleared_0 : decode cX6_cleared 0 = .ok (.aload_n 0, 1) := dk_42 (dk_at dksX6_cleared_0 0 rfl rfl)
theorem dX6_cleared_1 : decode cX6_cleared 1 = .ok (.iload_n 1, 1) := dk_27 (dk_at dksX6_cleared_0 1 rfl rfl)
theorem dX6_cleared_2 : decode cX6_cleared 2 = .ok (.invokevirtual 307, 3) := dk_182 1 51 (dk_at dksX6_cleared_0 2 rfl rfl)
theorem dX6_cleared_5 : decode cX6_cleared 5 = .ok (.ifCond .ne 5, 3) := dk_154 0 5 (dk_at dksX6_cleared_0 5 rfl rfl)
theorem dX6_cleared_8 : decode cX6_cleared 8 = .ok (.iconst (-1), 1) := dk_2 (dk_at dksX6_cleared_0 8 rfl rfl)
theorem dX6_cleared_9 : decode cX6_cleared 9 = .ok (.ireturn, 1) := dk_172 (dk_at dksX6_cleared_0 9 rfl rfl)
theorem dX6_cleared_10 : decode cX6_cleared 10 = .ok (.aload_n 0, 1) := dk_42 (dk_at dksX6_cleared_0 10 rfl rfl)
theorem dX6_cleared_11 : decode cX6_cleared 11 = .ok (.iload_n 1, 1) := dk_27 (dk_at dksX6_cleared_0 11 rfl rfl)
theorem dX6_cleared_12 : decode cX6_cleared 12 = .ok (.invokevirtual 328, 3) := dk_182 1 72 (dk_at dksX6_cleared_0 12 rfl rfl)
theorem dX6_cleared_15 : decode cX6_cleared 15 = .ok (.ifCond .ne 6, 3) := dk_154 0 6 (dk_at dksX6_cleared_0 15 rfl rfl)
theorem dX6_cleared_18 : decode cX6_cleared 18 = .ok (.bipush (-2), 2) := dk_16 254 (dk_at dksX6_cleared_0 18 rfl rfl)
theorem dX6_cleared_20 : decode cX6_cleared 20 = .ok (.ireturn, 1) := dk_172 (dk_at dksX6_cleared_0 20 rfl rfl)
theorem dX6_cleared_21 : decode cX6_cleared 21 = .ok (.aload_n 0, 1) := dk_42 (dk_at dksX6_cleared_0 21 rfl rfl)
theorem dX6_cleared_22 : decode cX6_cleared 22 = .ok (.iload_n 1, 1) := dk_27 (dk_at dksX6_cleared_0 22 rfl rfl)
theorem dX6_cleared_23 : decode cX6_cleared 23 = .ok (.invokevirtual 395, 3) := dk_182 1 139 (dk_at dksX6_cleared_1 0 rfl rfl)
theorem dX6_cleared_26 : decode cX6_cleared 26 = .ok (.aload_n 0, 1) := dk_42 (dk_at dksX6_cleared_1 3 rfl rfl)
theorem dX6_cleared_27 : decode cX6_cleared 27 = .ok (.getfield 389, 3) := dk_180 1 133 (dk_at dksX6_cleared_1 4 rfl rfl)
theorem dX6_cleared_30 : decode cX6_cleared 30 = .ok (.ireturn, 1) := dk_172 (dk_at dksX6_cleared_1 7 rfl rfl)
abbrev cX6_clears : ByteArray := prog_14_method_70_code
def yX6_clears : MethodName := ⟨RX6, "clears", "(I)V"⟩
def dkwX6_clears_2 : List UInt8 := [177]
abbrev dktX6_clears_2 : List UInt8 := dkwX6_clears_2 ++ []
def dkwX6_clears_1 : List UInt8 := [28, 28, 79, 132, 2, 1, 167, 255, 238, 4, 61, 28, 153, 0, 12, 42, 27, 182, 1, 136, 61, 167, 255, 246]
abbrev dktX6_clears_1 : List UInt8 := dkwX6_clears_1 ++ dktX6_clears_2
def dkwX6_clears_0 : List UInt8 := [42, 42, 180, 0, 13, 27, 46, 181, 1, 133, 3, 61, 28, 42, 180, 1, 133, 162, 0, 16, 42, 180, 0, 119]
abbrev dktX6_clears_0 : List UInt8 := dkwX6_clears_0 ++ dktX6_clears_1
theorem dksX6_clears_0 : cX6_clears.data.toList.drop 0 = dktX6_clears_0 := by decide +kernel
theorem dksX6_clears_1 : cX6_clears.data.toList.drop 24 = dktX6_clears_1 := dk_seg dksX6_clears_0 24 rfl rfl
theorem dksX6_clears_2 : cX6_clears.data.toList.drop 48 = dktX6_clears_2 := dk_seg dksX6_clears_1 24 rfl rfl
theorem dX6_clears_0 : decode cX6_clears 0 = .ok (.aload_n 0, 1) := dk_42 (dk_at dksX6_clears_0 0 rfl rfl)
theorem dX6_clears_1 : decode cX6_clears 1 = .ok (.aload_n 0, 1) := dk_42 (dk_at dksX6_clears_0 1 rfl rfl)
theorem dX6_clears_2 : decode cX6_clears 2 = .ok (.getfield 13, 3) := dk_180 0 13 (dk_at dksX6_clears_0 2 rfl rfl)
theorem dX6_clears_5 : decode cX6_clears 5 = .ok (.iload_n 1, 1) := dk_27 (dk_at dksX6_clears_0 5 rfl rfl)
theorem dX6_clears_6 : decode cX6_clears 6 = .ok (.iaload, 1) := dk_46 (dk_at dksX6_clears_0 6 rfl rfl)
theorem dX6_clears_7 : decode cX6_clears 7 = .ok (.putfield 389, 3) := dk_181 1 133 (dk_at dksX6_clears_0 7 rfl rfl)
theorem dX6_clears_10 : decode cX6_clears 10 = .ok (.iconst 0, 1) := dk_3 (dk_at dksX6_clears_0 10 rfl rfl)
theorem dX6_clears_11 : decode cX6_clears 11 = .ok (.istore_n 2, 1) := dk_61 (dk_at dksX6_clears_0 11 rfl rfl)
theorem dX6_clears_12 : decode cX6_clears 12 = .ok (.iload_n 2, 1) := dk_28 (dk_at dksX6_clears_0 12 rfl rfl)
theorem dX6_clears_13 : decode cX6_clears 13 = .ok (.aload_n 0, 1) := dk_42 (dk_at dksX6_clears_0 13 rfl rfl)
theorem dX6_clears_14 : decode cX6_clears 14 = .ok (.getfield 389, 3) := dk_180 1 133 (dk_at dksX6_clears_0 14 rfl rfl)
theorem dX6_clears_17 : decode cX6_clears 17 = .ok (.if_icmp .ge 16, 3) := dk_162 0 16 (dk_at dksX6_clears_0 17 rfl rfl)
theorem dX6_clears_20 : decode cX6_clears 20 = .ok (.aload_n 0, 1) := dk_42 (dk_at dksX6_clears_0 20 rfl rfl)
theorem dX6_clears_21 : decode cX6_clears 21 = .ok (.getfield 119, 3) := dk_180 0 119 (dk_at dksX6_clears_0 21 rfl rfl)
theorem dX6_clears_24 : decode cX6_clears 24 = .ok (.iload_n 2, 1) := dk_28 (dk_at dksX6_clears_1 0 rfl rfl)
theorem dX6_clears_25 : decode cX6_clears 25 = .ok (.iload_n 2, 1) := dk_28 (dk_at dksX6_clears_1 1 rfl rfl)
theorem dX6_clears_26 : decode cX6_clears 26 = .ok (.iastore, 1) := dk_79 (dk_at dksX6_clears_1 2 rfl rfl)
theorem dX6_clears_27 : decode cX6_clears 27 = .ok (.iinc 2 1, 3) := dk_132 2 1 (dk_at dksX6_clears_1 3 rfl rfl)
theorem dX6_clears_30 : decode cX6_clears 30 = .ok (.goto (-18), 3) := dk_167 255 238 (dk_at dksX6_clears_1 6 rfl rfl)
theorem dX6_clears_33 : decode cX6_clears 33 = .ok (.iconst 1, 1) := dk_4 (dk_at dksX6_clears_1 9 rfl rfl)
theorem dX6_clears_34 : decode cX6_clears 34 = .ok (.istore_n 2, 1) := dk_61 (dk_at dksX6_clears_1 10 rfl rfl)
theorem dX6_clears_35 : decode cX6_clears 35 = .ok (.iload_n 2, 1) := dk_28 (dk_at dksX6_clears_1 11 rfl rfl)
theorem dX6_clears_36 : decode cX6_clears 36 = .ok (.ifCond .eq 12, 3) := dk_153 0 12 (dk_at dksX6_clears_1 12 rfl rfl)
theorem dX6_clears_39 : decode cX6_clears 39 = .ok (.aload_n 0, 1) := dk_42 (dk_at dksX6_clears_1 15 rfl rfl)
theorem dX6_clears_40 : decode cX6_clears 40 = .ok (.iload_n 1, 1) := dk_27 (dk_at dksX6_clears_1 16 rfl rfl)
theorem dX6_clears_41 : decode cX6_clears 41 = .ok (.invokevirtual 392, 3) := dk_182 1 136 (dk_at dksX6_clears_1 17 rfl rfl)
theorem dX6_clears_44 : decode cX6_clears 44 = .ok (.istore_n 2, 1) := dk_61 (dk_at dksX6_clears_1 20 rfl rfl)
theorem dX6_clears_45 : decode cX6_clears 45 = .ok (.goto (-10), 3) := dk_167 255 246 (dk_at dksX6_clears_1 21 rfl rfl)
theorem dX6_clears_48 : decode cX6_clears 48 = .ok (.return_, 1) := dk_177 (dk_at dksX6_clears_2 0 rfl rfl)
abbrev cX6_clearsOne : ByteArray := prog_14_method_71_code
def yX6_clearsOne : MethodName := ⟨RX6, "clearsOne", "(I)Z"⟩
def dkwX6_clearsOne_10 : List UInt8 := [21, 5, 96, 28, 79, 42, 29, 29, 4, 96, 182, 1, 75, 132, 2, 1, 167, 255, 51, 3, 172]
abbrev dktX6_clearsOne_10 : List UInt8 := dkwX6_clearsOne_10 ++ []
def dkwX6_clearsOne_9 : List UInt8 := [132, 8, 1, 167, 255, 211, 42, 21, 7, 181, 1, 133, 4, 172, 42, 180, 0, 122, 16, 7, 21, 4, 104]
abbrev dktX6_clearsOne_9 : List UInt8 := dkwX6_clearsOne_9 ++ dktX6_clearsOne_10
def dkwX6_clearsOne_8 : List UInt8 := [160, 0, 6, 167, 0, 20, 42, 180, 0, 119, 21, 7, 42, 180, 0, 119, 21, 8, 46, 79, 132, 7, 1]
abbrev dktX6_clearsOne_8 : List UInt8 := dkwX6_clearsOne_8 ++ dktX6_clearsOne_9
def dkwX6_clearsOne_7 : List UInt8 := [54, 7, 3, 54, 8, 21, 8, 42, 180, 1, 133, 162, 0, 42, 21, 8, 28, 159, 0, 30, 21, 8, 21, 6]
abbrev dktX6_clearsOne_7 : List UInt8 := dkwX6_clearsOne_7 ++ dktX6_clearsOne_8
def dkwX6_clearsOne_6 : List UInt8 := [54, 5, 42, 180, 0, 122, 16, 7, 21, 4, 104, 21, 5, 96, 46, 54, 6, 21, 6, 155, 0, 65, 3]
abbrev dktX6_clearsOne_6 : List UInt8 := dkwX6_clearsOne_6 ++ dktX6_clearsOne_7
def dkwX6_clearsOne_5 : List UInt8 := [29, 4, 96, 46, 162, 0, 14, 42, 180, 0, 113, 29, 4, 96, 46, 167, 0, 9, 42, 180, 0, 113, 29, 46]
abbrev dktX6_clearsOne_5 : List UInt8 := dkwX6_clearsOne_5 ++ dktX6_clearsOne_6
def dkwX6_clearsOne_4 : List UInt8 := [46, 167, 0, 11, 42, 180, 0, 113, 29, 4, 96, 46, 54, 4, 42, 180, 0, 113, 29, 46, 42, 180, 0, 113]
abbrev dktX6_clearsOne_4 : List UInt8 := dkwX6_clearsOne_4 ++ dktX6_clearsOne_5
def dkwX6_clearsOne_3 : List UInt8 := [46, 62, 42, 180, 0, 113, 29, 46, 42, 180, 0, 113, 29, 4, 96, 46, 162, 0, 12, 42, 180, 0, 113, 29]
abbrev dktX6_clearsOne_3 : List UInt8 := dkwX6_clearsOne_3 ++ dktX6_clearsOne_4
def dkwX6_clearsOne_2 : List UInt8 := [28, 42, 180, 1, 133, 162, 0, 203, 42, 180, 0, 19, 17, 0, 200, 27, 104, 42, 180, 0, 119, 28, 46, 96]
abbrev dktX6_clearsOne_2 : List UInt8 := dkwX6_clearsOne_2 ++ dktX6_clearsOne_3
def dkwX6_clearsOne_1 : List UInt8 := [42, 180, 0, 7, 27, 46, 162, 0, 16, 42, 180, 0, 113, 28, 28, 79, 132, 2, 1, 167, 255, 236, 3, 61]
abbrev dktX6_clearsOne_1 : List UInt8 := dkwX6_clearsOne_1 ++ dktX6_clearsOne_2
def dkwX6_clearsOne_0 : List UInt8 := [3, 61, 28, 16, 49, 162, 0, 16, 42, 180, 0, 122, 28, 2, 79, 132, 2, 1, 167, 255, 240, 3, 61, 28]
abbrev dktX6_clearsOne_0 : List UInt8 := dkwX6_clearsOne_0 ++ dktX6_clearsOne_1
theorem dksX6_clearsOne_0 : cX6_clearsOne.data.toList.drop 0 = dktX6_clearsOne_0 := by decide +kernel
theorem dksX6_clearsOne_1 : cX6_clearsOne.data.toList.drop 24 = dktX6_clearsOne_1 := dk_seg dksX6_clearsOne_0 24 rfl rfl
theorem dksX6_clearsOne_2 : cX6_clearsOne.data.toList.drop 48 = dktX6_clearsOne_2 := dk_seg dksX6_clearsOne_1 24 rfl rfl
theorem dksX6_clearsOne_3 : cX6_clearsOne.data.toList.drop 72 = dktX6_clearsOne_3 := dk_seg dksX6_clearsOne_2 24 rfl rfl
theorem dksX6_clearsOne_4 : cX6_clearsOne.data.toList.drop 96 = dktX6_clearsOne_4 := dk_seg dksX6_clearsOne_3 24 rfl rfl
theorem dksX6_clearsOne_5 : cX6_clearsOne.data.toList.drop 120 = dktX6_clearsOne_5 := dk_seg dksX6_clearsOne_4 24 rfl rfl
theorem dksX6_clearsOne_6 : cX6_clearsOne.data.toList.drop 144 = dktX6_clearsOne_6 := dk_seg dksX6_clearsOne_5 24 rfl rfl
theorem dksX6_clearsOne_7 : cX6_clearsOne.data.toList.drop 167 = dktX6_clearsOne_7 := dk_seg dksX6_clearsOne_6 23 rfl rfl
theorem dksX6_clearsOne_8 : cX6_clearsOne.data.toList.drop 191 = dktX6_clearsOne_8 := dk_seg dksX6_clearsOne_7 24 rfl rfl
theorem dksX6_clearsOne_9 : cX6_clearsOne.data.toList.drop 214 = dktX6_clearsOne_9 := dk_seg dksX6_clearsOne_8 23 rfl rfl
theorem dksX6_clearsOne_10 : cX6_clearsOne.data.toList.drop 237 = dktX6_clearsOne_10 := dk_seg dksX6_clearsOne_9 23 rfl rfl
theorem dX6_clearsOne_0 : decode cX6_clearsOne 0 = .ok (.iconst 0, 1) := dk_3 (dk_at dksX6_clearsOne_0 0 rfl rfl)
theorem dX6_clearsOne_1 : decode cX6_clearsOne 1 = .ok (.istore_n 2, 1) := dk_61 (dk_at dksX6_clearsOne_0 1 rfl rfl)
theorem dX6_clearsOne_2 : decode cX6_clearsOne 2 = .ok (.iload_n 2, 1) := dk_28 (dk_at dksX6_clearsOne_0 2 rfl rfl)
theorem dX6_clearsOne_3 : decode cX6_clearsOne 3 = .ok (.bipush 49, 2) := dk_16 49 (dk_at dksX6_clearsOne_0 3 rfl rfl)
theorem dX6_clearsOne_5 : decode cX6_clearsOne 5 = .ok (.if_icmp .ge 16, 3) := dk_162 0 16 (dk_at dksX6_clearsOne_0 5 rfl rfl)
theorem dX6_clearsOne_8 : decode cX6_clearsOne 8 = .ok (.aload_n 0, 1) := dk_42 (dk_at dksX6_clearsOne_0 8 rfl rfl)
theorem dX6_clearsOne_9 : decode cX6_clearsOne 9 = .ok (.getfield 122, 3) := dk_180 0 122 (dk_at dksX6_clearsOne_0 9 rfl rfl)
theorem dX6_clearsOne_12 : decode cX6_clearsOne 12 = .ok (.iload_n 2, 1) := dk_28 (dk_at dksX6_clearsOne_0 12 rfl rfl)
theorem dX6_clearsOne_13 : decode cX6_clearsOne 13 = .ok (.iconst (-1), 1) := dk_2 (dk_at dksX6_clearsOne_0 13 rfl rfl)
theorem dX6_clearsOne_14 : decode cX6_clearsOne 14 = .ok (.iastore, 1) := dk_79 (dk_at dksX6_clearsOne_0 14 rfl rfl)
theorem dX6_clearsOne_15 : decode cX6_clearsOne 15 = .ok (.iinc 2 1, 3) := dk_132 2 1 (dk_at dksX6_clearsOne_0 15 rfl rfl)
theorem dX6_clearsOne_18 : decode cX6_clearsOne 18 = .ok (.goto (-16), 3) := dk_167 255 240 (dk_at dksX6_clearsOne_0 18 rfl rfl)
theorem dX6_clearsOne_21 : decode cX6_clearsOne 21 = .ok (.iconst 0, 1) := dk_3 (dk_at dksX6_clearsOne_0 21 rfl rfl)
theorem dX6_clearsOne_22 : decode cX6_clearsOne 22 = .ok (.istore_n 2, 1) := dk_61 (dk_at dksX6_clearsOne_0 22 rfl rfl)
theorem dX6_clearsOne_23 : decode cX6_clearsOne 23 = .ok (.iload_n 2, 1) := dk_28 (dk_at dksX6_clearsOne_0 23 rfl rfl)
theorem dX6_clearsOne_24 : decode cX6_clearsOne 24 = .ok (.aload_n 0, 1) := dk_42 (dk_at dksX6_clearsOne_1 0 rfl rfl)
theorem dX6_clearsOne_25 : decode cX6_clearsOne 25 = .ok (.getfield 7, 3) := dk_180 0 7 (dk_at dksX6_clearsOne_1 1 rfl rfl)
theorem dX6_clearsOne_28 : decode cX6_clearsOne 28 = .ok (.iload_n 1, 1) := dk_27 (dk_at dksX6_clearsOne_1 4 rfl rfl)
theorem dX6_clearsOne_29 : decode cX6_clearsOne 29 = .ok (.iaload, 1) := dk_46 (dk_at dksX6_clearsOne_1 5 rfl rfl)
theorem dX6_clearsOne_30 : decode cX6_clearsOne 30 = .ok (.if_icmp .ge 16, 3) := dk_162 0 16 (dk_at dksX6_clearsOne_1 6 rfl rfl)
theorem dX6_clearsOne_33 : decode cX6_clearsOne 33 = .ok (.aload_n 0, 1) := dk_42 (dk_at dksX6_clearsOne_1 9 rfl rfl)
theorem dX6_clearsOne_34 : decode cX6_clearsOne 34 = .ok (.getfield 113, 3) := dk_180 0 113 (dk_at dksX6_clearsOne_1 10 rfl rfl)
theorem dX6_clearsOne_37 : decode cX6_clearsOne 37 = .ok (.iload_n 2, 1) := dk_28 (dk_at dksX6_clearsOne_1 13 rfl rfl)
theorem dX6_clearsOne_38 : decode cX6_clearsOne 38 = .ok (.iload_n 2, 1) := dk_28 (dk_at dksX6_clearsOne_1 14 rfl rfl)
theorem dX6_clearsOne_39 : decode cX6_clearsOne 39 = .ok (.iastore, 1) := dk_79 (dk_at dksX6_clearsOne_1 15 rfl rfl)
theorem dX6_clearsOne_40 : decode cX6_clearsOne 40 = .ok (.iinc 2 1, 3) := dk_132 2 1 (dk_at dksX6_clearsOne_1 16 rfl rfl)
theorem dX6_clearsOne_43 : decode cX6_clearsOne 43 = .ok (.goto (-20), 3) := dk_167 255 236 (dk_at dksX6_clearsOne_1 19 rfl rfl)
theorem dX6_clearsOne_46 : decode cX6_clearsOne 46 = .ok (.iconst 0, 1) := dk_3 (dk_at dksX6_clearsOne_1 22 rfl rfl)
theorem dX6_clearsOne_47 : decode cX6_clearsOne 47 = .ok (.istore_n 2, 1) := dk_61 (dk_at dksX6_clearsOne_1 23 rfl rfl)
theorem dX6_clearsOne_48 : decode cX6_clearsOne 48 = .ok (.iload_n 2, 1) := dk_28 (dk_at dksX6_clearsOne_2 0 rfl rfl)
theorem dX6_clearsOne_49 : decode cX6_clearsOne 49 = .ok (.aload_n 0, 1) := dk_42 (dk_at dksX6_clearsOne_2 1 rfl rfl)
theorem dX6_clearsOne_50 : decode cX6_clearsOne 50 = .ok (.getfield 389, 3) := dk_180 1 133 (dk_at dksX6_clearsOne_2 2 rfl rfl)
theorem dX6_clearsOne_53 : decode cX6_clearsOne 53 = .ok (.if_icmp .ge 203, 3) := dk_162 0 203 (dk_at dksX6_clearsOne_2 5 rfl rfl)
theorem dX6_clearsOne_56 : decode cX6_clearsOne 56 = .ok (.aload_n 0, 1) := dk_42 (dk_at dksX6_clearsOne_2 8 rfl rfl)
theorem dX6_clearsOne_57 : decode cX6_clearsOne 57 = .ok (.getfield 19, 3) := dk_180 0 19 (dk_at dksX6_clearsOne_2 9 rfl rfl)
theorem dX6_clearsOne_60 : decode cX6_clearsOne 60 = .ok (.sipush 200, 3) := dk_17 0 200 (dk_at dksX6_clearsOne_2 12 rfl rfl)
theorem dX6_clearsOne_63 : decode cX6_clearsOne 63 = .ok (.iload_n 1, 1) := dk_27 (dk_at dksX6_clearsOne_2 15 rfl rfl)
theorem dX6_clearsOne_64 : decode cX6_clearsOne 64 = .ok (.imul, 1) := dk_104 (dk_at dksX6_clearsOne_2 16 rfl rfl)
theorem dX6_clearsOne_65 : decode cX6_clearsOne 65 = .ok (.aload_n 0, 1) := dk_42 (dk_at dksX6_clearsOne_2 17 rfl rfl)
theorem dX6_clearsOne_66 : decode cX6_clearsOne 66 = .ok (.getfield 119, 3) := dk_180 0 119 (dk_at dksX6_clearsOne_2 18 rfl rfl)
theorem dX6_clearsOne_69 : decode cX6_clearsOne 69 = .ok (.iload_n 2, 1) := dk_28 (dk_at dksX6_clearsOne_2 21 rfl rfl)
theorem dX6_clearsOne_70 : decode cX6_clearsOne 70 = .ok (.iaload, 1) := dk_46 (dk_at dksX6_clearsOne_2 22 rfl rfl)
theorem dX6_clearsOne_71 : decode cX6_clearsOne 71 = .ok (.iadd, 1) := dk_96 (dk_at dksX6_clearsOne_2 23 rfl rfl)
theorem dX6_clearsOne_72 : decode cX6_clearsOne 72 = .ok (.iaload, 1) := dk_46 (dk_at dksX6_clearsOne_3 0 rfl rfl)
theorem dX6_clearsOne_73 : decode cX6_clearsOne 73 = .ok (.istore_n 3, 1) := dk_62 (dk_at dksX6_clearsOne_3 1 rfl rfl)
theorem dX6_clearsOne_74 : decode cX6_clearsOne 74 = .ok (.aload_n 0, 1) := dk_42 (dk_at dksX6_clearsOne_3 2 rfl rfl)
theorem dX6_clearsOne_75 : decode cX6_clearsOne 75 = .ok (.getfield 113, 3) := dk_180 0 113 (dk_at dksX6_clearsOne_3 3 rfl rfl)
theorem dX6_clearsOne_78 : decode cX6_clearsOne 78 = .ok (.iload_n 3, 1) := dk_29 (dk_at dksX6_clearsOne_3 6 rfl rfl)
theorem dX6_clearsOne_79 : decode cX6_clearsOne 79 = .ok (.iaload, 1) := dk_46 (dk_at dksX6_clearsOne_3 7 rfl rfl)
theorem dX6_clearsOne_80 : decode cX6_clearsOne 80 = .ok (.aload_n 0, 1) := dk_42 (dk_at dksX6_clearsOne_3 8 rfl rfl)
theorem dX6_clearsOne_81 : decode cX6_clearsOne 81 = .ok (.getfield 113, 3) := dk_180 0 113 (dk_at dksX6_clearsOne_3 9 rfl rfl)
theorem dX6_clearsOne_84 : decode cX6_clearsOne 84 = .ok (.iload_n 3, 1) := dk_29 (dk_at dksX6_clearsOne_3 12 rfl rfl)
theorem dX6_clearsOne_85 : decode cX6_clearsOne 85 = .ok (.iconst 1, 1) := dk_4 (dk_at dksX6_clearsOne_3 13 rfl rfl)
theorem dX6_clearsOne_86 : decode cX6_clearsOne 86 = .ok (.iadd, 1) := dk_96 (dk_at dksX6_clearsOne_3 14 rfl rfl)
theorem dX6_clearsOne_87 : decode cX6_clearsOne 87 = .ok (.iaload, 1) := dk_46 (dk_at dksX6_clearsOne_3 15 rfl rfl)
theorem dX6_clearsOne_88 : decode cX6_clearsOne 88 = .ok (.if_icmp .ge 12, 3) := dk_162 0 12 (dk_at dksX6_clearsOne_3 16 rfl rfl)
theorem dX6_clearsOne_91 : decode cX6_clearsOne 91 = .ok (.aload_n 0, 1) := dk_42 (dk_at dksX6_clearsOne_3 19 rfl rfl)
theorem dX6_clearsOne_92 : decode cX6_clearsOne 92 = .ok (.getfield 113, 3) := dk_180 0 113 (dk_at dksX6_clearsOne_3 20 rfl rfl)
theorem dX6_clearsOne_95 : decode cX6_clearsOne 95 = .ok (.iload_n 3, 1) := dk_29 (dk_at dksX6_clearsOne_3 23 rfl rfl)
theorem dX6_clearsOne_96 : decode cX6_clearsOne 96 = .ok (.iaload, 1) := dk_46 (dk_at dksX6_clearsOne_4 0 rfl rfl)
theorem dX6_clearsOne_97 : decode cX6_clearsOne 97 = .ok (.goto 11, 3) := dk_167 0 11 (dk_at dksX6_clearsOne_4 1 rfl rfl)
theorem dX6_clearsOne_100 : decode cX6_clearsOne 100 = .ok (.aload_n 0, 1) := dk_42 (dk_at dksX6_clearsOne_4 4 rfl rfl)
theorem dX6_clearsOne_101 : decode cX6_clearsOne 101 = .ok (.getfield 113, 3) := dk_180 0 113 (dk_at dksX6_clearsOne_4 5 rfl rfl)
theorem dX6_clearsOne_104 : decode cX6_clearsOne 104 = .ok (.iload_n 3, 1) := dk_29 (dk_at dksX6_clearsOne_4 8 rfl rfl)
theorem dX6_clearsOne_105 : decode cX6_clearsOne 105 = .ok (.iconst 1, 1) := dk_4 (dk_at dksX6_clearsOne_4 9 rfl rfl)
theorem dX6_clearsOne_106 : decode cX6_clearsOne 106 = .ok (.iadd, 1) := dk_96 (dk_at dksX6_clearsOne_4 10 rfl rfl)
theorem dX6_clearsOne_107 : decode cX6_clearsOne 107 = .ok (.iaload, 1) := dk_46 (dk_at dksX6_clearsOne_4 11 rfl rfl)
theorem dX6_clearsOne_108 : decode cX6_clearsOne 108 = .ok (.istore 4, 2) := dk_54 4 (dk_at dksX6_clearsOne_4 12 rfl rfl)
theorem dX6_clearsOne_110 : decode cX6_clearsOne 110 = .ok (.aload_n 0, 1) := dk_42 (dk_at dksX6_clearsOne_4 14 rfl rfl)
theorem dX6_clearsOne_111 : decode cX6_clearsOne 111 = .ok (.getfield 113, 3) := dk_180 0 113 (dk_at dksX6_clearsOne_4 15 rfl rfl)
theorem dX6_clearsOne_114 : decode cX6_clearsOne 114 = .ok (.iload_n 3, 1) := dk_29 (dk_at dksX6_clearsOne_4 18 rfl rfl)
theorem dX6_clearsOne_115 : decode cX6_clearsOne 115 = .ok (.iaload, 1) := dk_46 (dk_at dksX6_clearsOne_4 19 rfl rfl)
theorem dX6_clearsOne_116 : decode cX6_clearsOne 116 = .ok (.aload_n 0, 1) := dk_42 (dk_at dksX6_clearsOne_4 20 rfl rfl)
theorem dX6_clearsOne_117 : decode cX6_clearsOne 117 = .ok (.getfield 113, 3) := dk_180 0 113 (dk_at dksX6_clearsOne_4 21 rfl rfl)
theorem dX6_clearsOne_120 : decode cX6_clearsOne 120 = .ok (.iload_n 3, 1) := dk_29 (dk_at dksX6_clearsOne_5 0 rfl rfl)
theorem dX6_clearsOne_121 : decode cX6_clearsOne 121 = .ok (.iconst 1, 1) := dk_4 (dk_at dksX6_clearsOne_5 1 rfl rfl)
theorem dX6_clearsOne_122 : decode cX6_clearsOne 122 = .ok (.iadd, 1) := dk_96 (dk_at dksX6_clearsOne_5 2 rfl rfl)
theorem dX6_clearsOne_123 : decode cX6_clearsOne 123 = .ok (.iaload, 1) := dk_46 (dk_at dksX6_clearsOne_5 3 rfl rfl)
theorem dX6_clearsOne_124 : decode cX6_clearsOne 124 = .ok (.if_icmp .ge 14, 3) := dk_162 0 14 (dk_at dksX6_clearsOne_5 4 rfl rfl)
theorem dX6_clearsOne_127 : decode cX6_clearsOne 127 = .ok (.aload_n 0, 1) := dk_42 (dk_at dksX6_clearsOne_5 7 rfl rfl)
theorem dX6_clearsOne_128 : decode cX6_clearsOne 128 = .ok (.getfield 113, 3) := dk_180 0 113 (dk_at dksX6_clearsOne_5 8 rfl rfl)
theorem dX6_clearsOne_131 : decode cX6_clearsOne 131 = .ok (.iload_n 3, 1) := dk_29 (dk_at dksX6_clearsOne_5 11 rfl rfl)
theorem dX6_clearsOne_132 : decode cX6_clearsOne 132 = .ok (.iconst 1, 1) := dk_4 (dk_at dksX6_clearsOne_5 12 rfl rfl)
theorem dX6_clearsOne_133 : decode cX6_clearsOne 133 = .ok (.iadd, 1) := dk_96 (dk_at dksX6_clearsOne_5 13 rfl rfl)
theorem dX6_clearsOne_134 : decode cX6_clearsOne 134 = .ok (.iaload, 1) := dk_46 (dk_at dksX6_clearsOne_5 14 rfl rfl)
theorem dX6_clearsOne_135 : decode cX6_clearsOne 135 = .ok (.goto 9, 3) := dk_167 0 9 (dk_at dksX6_clearsOne_5 15 rfl rfl)
theorem dX6_clearsOne_138 : decode cX6_clearsOne 138 = .ok (.aload_n 0, 1) := dk_42 (dk_at dksX6_clearsOne_5 18 rfl rfl)
theorem dX6_clearsOne_139 : decode cX6_clearsOne 139 = .ok (.getfield 113, 3) := dk_180 0 113 (dk_at dksX6_clearsOne_5 19 rfl rfl)
theorem dX6_clearsOne_142 : decode cX6_clearsOne 142 = .ok (.iload_n 3, 1) := dk_29 (dk_at dksX6_clearsOne_5 22 rfl rfl)
theorem dX6_clearsOne_143 : decode cX6_clearsOne 143 = .ok (.iaload, 1) := dk_46 (dk_at dksX6_clearsOne_5 23 rfl rfl)
theorem dX6_clearsOne_144 : decode cX6_clearsOne 144 = .ok (.istore 5, 2) := dk_54 5 (dk_at dksX6_clearsOne_6 0 rfl rfl)
theorem dX6_clearsOne_146 : decode cX6_clearsOne 146 = .ok (.aload_n 0, 1) := dk_42 (dk_at dksX6_clearsOne_6 2 rfl rfl)
theorem dX6_clearsOne_147 : decode cX6_clearsOne 147 = .ok (.getfield 122, 3) := dk_180 0 122 (dk_at dksX6_clearsOne_6 3 rfl rfl)
theorem dX6_clearsOne_150 : decode cX6_clearsOne 150 = .ok (.bipush 7, 2) := dk_16 7 (dk_at dksX6_clearsOne_6 6 rfl rfl)
theorem dX6_clearsOne_152 : decode cX6_clearsOne 152 = .ok (.iload 4, 2) := dk_21 4 (dk_at dksX6_clearsOne_6 8 rfl rfl)
theorem dX6_clearsOne_154 : decode cX6_clearsOne 154 = .ok (.imul, 1) := dk_104 (dk_at dksX6_clearsOne_6 10 rfl rfl)
theorem dX6_clearsOne_155 : decode cX6_clearsOne 155 = .ok (.iload 5, 2) := dk_21 5 (dk_at dksX6_clearsOne_6 11 rfl rfl)
theorem dX6_clearsOne_157 : decode cX6_clearsOne 157 = .ok (.iadd, 1) := dk_96 (dk_at dksX6_clearsOne_6 13 rfl rfl)
theorem dX6_clearsOne_158 : decode cX6_clearsOne 158 = .ok (.iaload, 1) := dk_46 (dk_at dksX6_clearsOne_6 14 rfl rfl)
theorem dX6_clearsOne_159 : decode cX6_clearsOne 159 = .ok (.istore 6, 2) := dk_54 6 (dk_at dksX6_clearsOne_6 15 rfl rfl)
theorem dX6_clearsOne_161 : decode cX6_clearsOne 161 = .ok (.iload 6, 2) := dk_21 6 (dk_at dksX6_clearsOne_6 17 rfl rfl)
theorem dX6_clearsOne_163 : decode cX6_clearsOne 163 = .ok (.ifCond .lt 65, 3) := dk_155 0 65 (dk_at dksX6_clearsOne_6 19 rfl rfl)
theorem dX6_clearsOne_166 : decode cX6_clearsOne 166 = .ok (.iconst 0, 1) := dk_3 (dk_at dksX6_clearsOne_6 22 rfl rfl)
theorem dX6_clearsOne_167 : decode cX6_clearsOne 167 = .ok (.istore 7, 2) := dk_54 7 (dk_at dksX6_clearsOne_7 0 rfl rfl)
theorem dX6_clearsOne_169 : decode cX6_clearsOne 169 = .ok (.iconst 0, 1) := dk_3 (dk_at dksX6_clearsOne_7 2 rfl rfl)
theorem dX6_clearsOne_170 : decode cX6_clearsOne 170 = .ok (.istore 8, 2) := dk_54 8 (dk_at dksX6_clearsOne_7 3 rfl rfl)
theorem dX6_clearsOne_172 : decode cX6_clearsOne 172 = .ok (.iload 8, 2) := dk_21 8 (dk_at dksX6_clearsOne_7 5 rfl rfl)
theorem dX6_clearsOne_174 : decode cX6_clearsOne 174 = .ok (.aload_n 0, 1) := dk_42 (dk_at dksX6_clearsOne_7 7 rfl rfl)
theorem dX6_clearsOne_175 : decode cX6_clearsOne 175 = .ok (.getfield 389, 3) := dk_180 1 133 (dk_at dksX6_clearsOne_7 8 rfl rfl)
theorem dX6_clearsOne_178 : decode cX6_clearsOne 178 = .ok (.if_icmp .ge 42, 3) := dk_162 0 42 (dk_at dksX6_clearsOne_7 11 rfl rfl)
theorem dX6_clearsOne_181 : decode cX6_clearsOne 181 = .ok (.iload 8, 2) := dk_21 8 (dk_at dksX6_clearsOne_7 14 rfl rfl)
theorem dX6_clearsOne_183 : decode cX6_clearsOne 183 = .ok (.iload_n 2, 1) := dk_28 (dk_at dksX6_clearsOne_7 16 rfl rfl)
theorem dX6_clearsOne_184 : decode cX6_clearsOne 184 = .ok (.if_icmp .eq 30, 3) := dk_159 0 30 (dk_at dksX6_clearsOne_7 17 rfl rfl)
theorem dX6_clearsOne_187 : decode cX6_clearsOne 187 = .ok (.iload 8, 2) := dk_21 8 (dk_at dksX6_clearsOne_7 20 rfl rfl)
theorem dX6_clearsOne_189 : decode cX6_clearsOne 189 = .ok (.iload 6, 2) := dk_21 6 (dk_at dksX6_clearsOne_7 22 rfl rfl)
theorem dX6_clearsOne_191 : decode cX6_clearsOne 191 = .ok (.if_icmp .ne 6, 3) := dk_160 0 6 (dk_at dksX6_clearsOne_8 0 rfl rfl)
theorem dX6_clearsOne_194 : decode cX6_clearsOne 194 = .ok (.goto 20, 3) := dk_167 0 20 (dk_at dksX6_clearsOne_8 3 rfl rfl)
theorem dX6_clearsOne_197 : decode cX6_clearsOne 197 = .ok (.aload_n 0, 1) := dk_42 (dk_at dksX6_clearsOne_8 6 rfl rfl)
theorem dX6_clearsOne_198 : decode cX6_clearsOne 198 = .ok (.getfield 119, 3) := dk_180 0 119 (dk_at dksX6_clearsOne_8 7 rfl rfl)
theorem dX6_clearsOne_201 : decode cX6_clearsOne 201 = .ok (.iload 7, 2) := dk_21 7 (dk_at dksX6_clearsOne_8 10 rfl rfl)
theorem dX6_clearsOne_203 : decode cX6_clearsOne 203 = .ok (.aload_n 0, 1) := dk_42 (dk_at dksX6_clearsOne_8 12 rfl rfl)
theorem dX6_clearsOne_204 : decode cX6_clearsOne 204 = .ok (.getfield 119, 3) := dk_180 0 119 (dk_at dksX6_clearsOne_8 13 rfl rfl)
theorem dX6_clearsOne_207 : decode cX6_clearsOne 207 = .ok (.iload 8, 2) := dk_21 8 (dk_at dksX6_clearsOne_8 16 rfl rfl)
theorem dX6_clearsOne_209 : decode cX6_clearsOne 209 = .ok (.iaload, 1) := dk_46 (dk_at dksX6_clearsOne_8 18 rfl rfl)
theorem dX6_clearsOne_210 : decode cX6_clearsOne 210 = .ok (.iastore, 1) := dk_79 (dk_at dksX6_clearsOne_8 19 rfl rfl)
theorem dX6_clearsOne_211 : decode cX6_clearsOne 211 = .ok (.iinc 7 1, 3) := dk_132 7 1 (dk_at dksX6_clearsOne_8 20 rfl rfl)
theorem dX6_clearsOne_214 : decode cX6_clearsOne 214 = .ok (.iinc 8 1, 3) := dk_132 8 1 (dk_at dksX6_clearsOne_9 0 rfl rfl)
theorem dX6_clearsOne_217 : decode cX6_clearsOne 217 = .ok (.goto (-45), 3) := dk_167 255 211 (dk_at dksX6_clearsOne_9 3 rfl rfl)
theorem dX6_clearsOne_220 : decode cX6_clearsOne 220 = .ok (.aload_n 0, 1) := dk_42 (dk_at dksX6_clearsOne_9 6 rfl rfl)
theorem dX6_clearsOne_221 : decode cX6_clearsOne 221 = .ok (.iload 7, 2) := dk_21 7 (dk_at dksX6_clearsOne_9 7 rfl rfl)
theorem dX6_clearsOne_223 : decode cX6_clearsOne 223 = .ok (.putfield 389, 3) := dk_181 1 133 (dk_at dksX6_clearsOne_9 9 rfl rfl)
theorem dX6_clearsOne_226 : decode cX6_clearsOne 226 = .ok (.iconst 1, 1) := dk_4 (dk_at dksX6_clearsOne_9 12 rfl rfl)
theorem dX6_clearsOne_227 : decode cX6_clearsOne 227 = .ok (.ireturn, 1) := dk_172 (dk_at dksX6_clearsOne_9 13 rfl rfl)
theorem dX6_clearsOne_228 : decode cX6_clearsOne 228 = .ok (.aload_n 0, 1) := dk_42 (dk_at dksX6_clearsOne_9 14 rfl rfl)
theorem dX6_clearsOne_229 : decode cX6_clearsOne 229 = .ok (.getfield 122, 3) := dk_180 0 122 (dk_at dksX6_clearsOne_9 15 rfl rfl)
theorem dX6_clearsOne_232 : decode cX6_clearsOne 232 = .ok (.bipush 7, 2) := dk_16 7 (dk_at dksX6_clearsOne_9 18 rfl rfl)
theorem dX6_clearsOne_234 : decode cX6_clearsOne 234 = .ok (.iload 4, 2) := dk_21 4 (dk_at dksX6_clearsOne_9 20 rfl rfl)
theorem dX6_clearsOne_236 : decode cX6_clearsOne 236 = .ok (.imul, 1) := dk_104 (dk_at dksX6_clearsOne_9 22 rfl rfl)
theorem dX6_clearsOne_237 : decode cX6_clearsOne 237 = .ok (.iload 5, 2) := dk_21 5 (dk_at dksX6_clearsOne_10 0 rfl rfl)
theorem dX6_clearsOne_239 : decode cX6_clearsOne 239 = .ok (.iadd, 1) := dk_96 (dk_at dksX6_clearsOne_10 2 rfl rfl)
theorem dX6_clearsOne_240 : decode cX6_clearsOne 240 = .ok (.iload_n 2, 1) := dk_28 (dk_at dksX6_clearsOne_10 3 rfl rfl)
theorem dX6_clearsOne_241 : decode cX6_clearsOne 241 = .ok (.iastore, 1) := dk_79 (dk_at dksX6_clearsOne_10 4 rfl rfl)
theorem dX6_clearsOne_242 : decode cX6_clearsOne 242 = .ok (.aload_n 0, 1) := dk_42 (dk_at dksX6_clearsOne_10 5 rfl rfl)
theorem dX6_clearsOne_243 : decode cX6_clearsOne 243 = .ok (.iload_n 3, 1) := dk_29 (dk_at dksX6_clearsOne_10 6 rfl rfl)
theorem dX6_clearsOne_244 : decode cX6_clearsOne 244 = .ok (.iload_n 3, 1) := dk_29 (dk_at dksX6_clearsOne_10 7 rfl rfl)
theorem dX6_clearsOne_245 : decode cX6_clearsOne 245 = .ok (.iconst 1, 1) := dk_4 (dk_at dksX6_clearsOne_10 8 rfl rfl)
theorem dX6_clearsOne_246 : decode cX6_clearsOne 246 = .ok (.iadd, 1) := dk_96 (dk_at dksX6_clearsOne_10 9 rfl rfl)
theorem dX6_clearsOne_247 : decode cX6_clearsOne 247 = .ok (.invokevirtual 331, 3) := dk_182 1 75 (dk_at dksX6_clearsOne_10 10 rfl rfl)
theorem dX6_clearsOne_250 : decode cX6_clearsOne 250 = .ok (.iinc 2 1, 3) := dk_132 2 1 (dk_at dksX6_clearsOne_10 13 rfl rfl)
theorem dX6_clearsOne_253 : decode cX6_clearsOne 253 = .ok (.goto (-205), 3) := dk_167 255 51 (dk_at dksX6_clearsOne_10 16 rfl rfl)
theorem dX6_clearsOne_256 : decode cX6_clearsOne 256 = .ok (.iconst 0, 1) := dk_3 (dk_at dksX6_clearsOne_10 19 rfl rfl)
theorem dX6_clearsOne_257 : decode cX6_clearsOne 257 = .ok (.ireturn, 1) := dk_172 (dk_at dksX6_clearsOne_10 20 rfl rfl)
abbrev cX6_kept : ByteArray := prog_14_method_73_code
def yX6_kept : MethodName := ⟨RX6, "kept", "(II)I"⟩
def dkwX6_kept_1 : List UInt8 := [182, 1, 139, 28, 42, 180, 1, 133, 162, 0, 12, 42, 180, 0, 119, 28, 46, 167, 0, 4, 2, 172]
abbrev dktX6_kept_1 : List UInt8 := dkwX6_kept_1 ++ []
def dkwX6_kept_0 : List UInt8 := [42, 27, 182, 1, 51, 153, 0, 15, 42, 27, 182, 1, 72, 153, 0, 7, 28, 156, 0, 5, 2, 172, 42, 27]
abbrev dktX6_kept_0 : List UInt8 := dkwX6_kept_0 ++ dktX6_kept_1
theorem dksX6_kept_0 : cX6_kept.data.toList.drop 0 = dktX6_kept_0 := by decide +kernel
theorem dksX6_kept_1 : cX6_kept.data.toList.drop 24 = dktX6_kept_1 := dk_seg dksX6_kept_0 24 rfl rfl
theorem dX6_kept_0 : decode cX6_kept 0 = .ok (.aload_n 0, 1) := dk_42 (dk_at dksX6_kept_0 0 rfl rfl)
theorem dX6_kept_1 : decode cX6_kept 1 = .ok (.iload_n 1, 1) := dk_27 (dk_at dksX6_kept_0 1 rfl rfl)
theorem dX6_kept_2 : decode cX6_kept 2 = .ok (.invokevirtual 307, 3) := dk_182 1 51 (dk_at dksX6_kept_0 2 rfl rfl)
theorem dX6_kept_5 : decode cX6_kept 5 = .ok (.ifCond .eq 15, 3) := dk_153 0 15 (dk_at dksX6_kept_0 5 rfl rfl)
theorem dX6_kept_8 : decode cX6_kept 8 = .ok (.aload_n 0, 1) := dk_42 (dk_at dksX6_kept_0 8 rfl rfl)
theorem dX6_kept_9 : decode cX6_kept 9 = .ok (.iload_n 1, 1) := dk_27 (dk_at dksX6_kept_0 9 rfl rfl)
theorem dX6_kept_10 : decode cX6_kept 10 = .ok (.invokevirtual 328, 3) := dk_182 1 72 (dk_at dksX6_kept_0 10 rfl rfl)
theorem dX6_kept_13 : decode cX6_kept 13 = .ok (.ifCond .eq 7, 3) := dk_153 0 7 (dk_at dksX6_kept_0 13 rfl rfl)
theorem dX6_kept_16 : decode cX6_kept 16 = .ok (.iload_n 2, 1) := dk_28 (dk_at dksX6_kept_0 16 rfl rfl)
theorem dX6_kept_17 : decode cX6_kept 17 = .ok (.ifCond .ge 5, 3) := dk_156 0 5 (dk_at dksX6_kept_0 17 rfl rfl)
theorem dX6_kept_20 : decode cX6_kept 20 = .ok (.iconst (-1), 1) := dk_2 (dk_at dksX6_kept_0 20 rfl rfl)
theorem dX6_kept_21 : decode cX6_kept 21 = .ok (.ireturn, 1) := dk_172 (dk_at dksX6_kept_0 21 rfl rfl)
theorem dX6_kept_22 : decode cX6_kept 22 = .ok (.aload_n 0, 1) := dk_42 (dk_at dksX6_kept_0 22 rfl rfl)
theorem dX6_kept_23 : decode cX6_kept 23 = .ok (.iload_n 1, 1) := dk_27 (dk_at dksX6_kept_0 23 rfl rfl)
theorem dX6_kept_24 : decode cX6_kept 24 = .ok (.invokevirtual 395, 3) := dk_182 1 139 (dk_at dksX6_kept_1 0 rfl rfl)
theorem dX6_kept_27 : decode cX6_kept 27 = .ok (.iload_n 2, 1) := dk_28 (dk_at dksX6_kept_1 3 rfl rfl)
theorem dX6_kept_28 : decode cX6_kept 28 = .ok (.aload_n 0, 1) := dk_42 (dk_at dksX6_kept_1 4 rfl rfl)
theorem dX6_kept_29 : decode cX6_kept 29 = .ok (.getfield 389, 3) := dk_180 1 133 (dk_at dksX6_kept_1 5 rfl rfl)
theorem dX6_kept_32 : decode cX6_kept 32 = .ok (.if_icmp .ge 12, 3) := dk_162 0 12 (dk_at dksX6_kept_1 8 rfl rfl)
theorem dX6_kept_35 : decode cX6_kept 35 = .ok (.aload_n 0, 1) := dk_42 (dk_at dksX6_kept_1 11 rfl rfl)
theorem dX6_kept_36 : decode cX6_kept 36 = .ok (.getfield 119, 3) := dk_180 0 119 (dk_at dksX6_kept_1 12 rfl rfl)
theorem dX6_kept_39 : decode cX6_kept 39 = .ok (.iload_n 2, 1) := dk_28 (dk_at dksX6_kept_1 15 rfl rfl)
theorem dX6_kept_40 : decode cX6_kept 40 = .ok (.iaload, 1) := dk_46 (dk_at dksX6_kept_1 16 rfl rfl)
theorem dX6_kept_41 : decode cX6_kept 41 = .ok (.goto 4, 3) := dk_167 0 4 (dk_at dksX6_kept_1 17 rfl rfl)
theorem dX6_kept_44 : decode cX6_kept 44 = .ok (.iconst (-1), 1) := dk_2 (dk_at dksX6_kept_1 20 rfl rfl)
theorem dX6_kept_45 : decode cX6_kept 45 = .ok (.ireturn, 1) := dk_172 (dk_at dksX6_kept_1 21 rfl rfl)
abbrev cX6_turns : ByteArray := prog_14_method_78_code
def yX6_turns : MethodName := ⟨RX6, "turns", "(IIII)I"⟩
def dkwX6_turns_0 : List UInt8 := [42, 27, 28, 29, 21, 4, 3, 182, 1, 153, 172]
abbrev dktX6_turns_0 : List UInt8 := dkwX6_turns_0 ++ []
theorem dksX6_turns_0 : cX6_turns.data.toList.drop 0 = dktX6_turns_0 := by decide +kernel
theorem dX6_turns_0 : decode cX6_turns 0 = .ok (.aload_n 0, 1) := dk_42 (dk_at dksX6_turns_0 0 rfl rfl)
theorem dX6_turns_1 : decode cX6_turns 1 = .ok (.iload_n 1, 1) := dk_27 (dk_at dksX6_turns_0 1 rfl rfl)
theorem dX6_turns_2 : decode cX6_turns 2 = .ok (.iload_n 2, 1) := dk_28 (dk_at dksX6_turns_0 2 rfl rfl)
theorem dX6_turns_3 : decode cX6_turns 3 = .ok (.iload_n 3, 1) := dk_29 (dk_at dksX6_turns_0 3 rfl rfl)
theorem dX6_turns_4 : decode cX6_turns 4 = .ok (.iload 4, 2) := dk_21 4 (dk_at dksX6_turns_0 4 rfl rfl)
theorem dX6_turns_6 : decode cX6_turns 6 = .ok (.iconst 0, 1) := dk_3 (dk_at dksX6_turns_0 6 rfl rfl)
theorem dX6_turns_7 : decode cX6_turns 7 = .ok (.invokevirtual 409, 3) := dk_182 1 153 (dk_at dksX6_turns_0 7 rfl rfl)
theorem dX6_turns_10 : decode cX6_turns 10 = .ok (.ireturn, 1) := dk_172 (dk_at dksX6_turns_0 10 rfl rfl)
abbrev cX6_steps : ByteArray := prog_14_method_77_code
def yX6_steps : MethodName := ⟨RX6, "steps", "(IIIII)I"⟩
def dkwX6_steps_4 : List UInt8 := [46, 172]
abbrev dktX6_steps_4 : List UInt8 := dkwX6_steps_4 ++ []
def dkwX6_steps_3 : List UInt8 := [28, 182, 1, 147, 42, 42, 180, 0, 110, 28, 47, 136, 29, 21, 5, 182, 1, 150, 42, 180, 0, 131, 21, 4]
abbrev dktX6_steps_3 : List UInt8 := dkwX6_steps_3 ++ dktX6_steps_4
def dkwX6_steps_2 : List UInt8 := [148, 155, 0, 5, 2, 172, 42, 180, 0, 110, 28, 47, 20, 1, 145, 148, 158, 0, 6, 16, 254, 172, 42, 27]
abbrev dktX6_steps_2 : List UInt8 := dkwX6_steps_2 ++ dktX6_steps_3
def dkwX6_steps_1 : List UInt8 := [155, 0, 28, 29, 133, 42, 180, 0, 110, 28, 47, 148, 156, 0, 16, 21, 4, 133, 42, 180, 0, 110, 28, 47]
abbrev dktX6_steps_1 : List UInt8 := dkwX6_steps_1 ++ dktX6_steps_2
def dkwX6_steps_0 : List UInt8 := [42, 27, 28, 182, 1, 103, 154, 0, 5, 2, 172, 42, 27, 182, 1, 107, 29, 155, 0, 33, 21, 4]
abbrev dktX6_steps_0 : List UInt8 := dkwX6_steps_0 ++ dktX6_steps_1
theorem dksX6_steps_0 : cX6_steps.data.toList.drop 0 = dktX6_steps_0 := by decide +kernel
theorem dksX6_steps_1 : cX6_steps.data.toList.drop 22 = dktX6_steps_1 := dk_seg dksX6_steps_0 22 rfl rfl
theorem dksX6_steps_2 : cX6_steps.data.toList.drop 46 = dktX6_steps_2 := dk_seg dksX6_steps_1 24 rfl rfl
theorem dksX6_steps_3 : cX6_steps.data.toList.drop 70 = dktX6_steps_3 := dk_seg dksX6_steps_2 24 rfl rfl
theorem dksX6_steps_4 : cX6_steps.data.toList.drop 94 = dktX6_steps_4 := dk_seg dksX6_steps_3 24 rfl rfl
theorem dX6_steps_0 : decode cX6_steps 0 = .ok (.aload_n 0, 1) := dk_42 (dk_at dksX6_steps_0 0 rfl rfl)
theorem dX6_steps_1 : decode cX6_steps 1 = .ok (.iload_n 1, 1) := dk_27 (dk_at dksX6_steps_0 1 rfl rfl)
theorem dX6_steps_2 : decode cX6_steps 2 = .ok (.iload_n 2, 1) := dk_28 (dk_at dksX6_steps_0 2 rfl rfl)
theorem dX6_steps_3 : decode cX6_steps 3 = .ok (.invokevirtual 359, 3) := dk_182 1 103 (dk_at dksX6_steps_0 3 rfl rfl)
theorem dX6_steps_6 : decode cX6_steps 6 = .ok (.ifCond .ne 5, 3) := dk_154 0 5 (dk_at dksX6_steps_0 6 rfl rfl)
theorem dX6_steps_9 : decode cX6_steps 9 = .ok (.iconst (-1), 1) := dk_2 (dk_at dksX6_steps_0 9 rfl rfl)
theorem dX6_steps_10 : decode cX6_steps 10 = .ok (.ireturn, 1) := dk_172 (dk_at dksX6_steps_0 10 rfl rfl)
theorem dX6_steps_11 : decode cX6_steps 11 = .ok (.aload_n 0, 1) := dk_42 (dk_at dksX6_steps_0 11 rfl rfl)
theorem dX6_steps_12 : decode cX6_steps 12 = .ok (.iload_n 1, 1) := dk_27 (dk_at dksX6_steps_0 12 rfl rfl)
theorem dX6_steps_13 : decode cX6_steps 13 = .ok (.invokevirtual 363, 3) := dk_182 1 107 (dk_at dksX6_steps_0 13 rfl rfl)
theorem dX6_steps_16 : decode cX6_steps 16 = .ok (.iload_n 3, 1) := dk_29 (dk_at dksX6_steps_0 16 rfl rfl)
theorem dX6_steps_17 : decode cX6_steps 17 = .ok (.ifCond .lt 33, 3) := dk_155 0 33 (dk_at dksX6_steps_0 17 rfl rfl)
theorem dX6_steps_20 : decode cX6_steps 20 = .ok (.iload 4, 2) := dk_21 4 (dk_at dksX6_steps_0 20 rfl rfl)
theorem dX6_steps_22 : decode cX6_steps 22 = .ok (.ifCond .lt 28, 3) := dk_155 0 28 (dk_at dksX6_steps_1 0 rfl rfl)
theorem dX6_steps_25 : decode cX6_steps 25 = .ok (.iload_n 3, 1) := dk_29 (dk_at dksX6_steps_1 3 rfl rfl)
theorem dX6_steps_26 : decode cX6_steps 26 = .ok (.i2l, 1) := dk_133 (dk_at dksX6_steps_1 4 rfl rfl)
theorem dX6_steps_27 : decode cX6_steps 27 = .ok (.aload_n 0, 1) := dk_42 (dk_at dksX6_steps_1 5 rfl rfl)
theorem dX6_steps_28 : decode cX6_steps 28 = .ok (.getfield 110, 3) := dk_180 0 110 (dk_at dksX6_steps_1 6 rfl rfl)
theorem dX6_steps_31 : decode cX6_steps 31 = .ok (.iload_n 2, 1) := dk_28 (dk_at dksX6_steps_1 9 rfl rfl)
theorem dX6_steps_32 : decode cX6_steps 32 = .ok (.laload, 1) := dk_47 (dk_at dksX6_steps_1 10 rfl rfl)
theorem dX6_steps_33 : decode cX6_steps 33 = .ok (.lcmp, 1) := dk_148 (dk_at dksX6_steps_1 11 rfl rfl)
theorem dX6_steps_34 : decode cX6_steps 34 = .ok (.ifCond .ge 16, 3) := dk_156 0 16 (dk_at dksX6_steps_1 12 rfl rfl)
theorem dX6_steps_37 : decode cX6_steps 37 = .ok (.iload 4, 2) := dk_21 4 (dk_at dksX6_steps_1 15 rfl rfl)
theorem dX6_steps_39 : decode cX6_steps 39 = .ok (.i2l, 1) := dk_133 (dk_at dksX6_steps_1 17 rfl rfl)
theorem dX6_steps_40 : decode cX6_steps 40 = .ok (.aload_n 0, 1) := dk_42 (dk_at dksX6_steps_1 18 rfl rfl)
theorem dX6_steps_41 : decode cX6_steps 41 = .ok (.getfield 110, 3) := dk_180 0 110 (dk_at dksX6_steps_1 19 rfl rfl)
theorem dX6_steps_44 : decode cX6_steps 44 = .ok (.iload_n 2, 1) := dk_28 (dk_at dksX6_steps_1 22 rfl rfl)
theorem dX6_steps_45 : decode cX6_steps 45 = .ok (.laload, 1) := dk_47 (dk_at dksX6_steps_1 23 rfl rfl)
theorem dX6_steps_46 : decode cX6_steps 46 = .ok (.lcmp, 1) := dk_148 (dk_at dksX6_steps_2 0 rfl rfl)
theorem dX6_steps_47 : decode cX6_steps 47 = .ok (.ifCond .lt 5, 3) := dk_155 0 5 (dk_at dksX6_steps_2 1 rfl rfl)
theorem dX6_steps_50 : decode cX6_steps 50 = .ok (.iconst (-1), 1) := dk_2 (dk_at dksX6_steps_2 4 rfl rfl)
theorem dX6_steps_51 : decode cX6_steps 51 = .ok (.ireturn, 1) := dk_172 (dk_at dksX6_steps_2 5 rfl rfl)
theorem dX6_steps_52 : decode cX6_steps 52 = .ok (.aload_n 0, 1) := dk_42 (dk_at dksX6_steps_2 6 rfl rfl)
theorem dX6_steps_53 : decode cX6_steps 53 = .ok (.getfield 110, 3) := dk_180 0 110 (dk_at dksX6_steps_2 7 rfl rfl)
theorem dX6_steps_56 : decode cX6_steps 56 = .ok (.iload_n 2, 1) := dk_28 (dk_at dksX6_steps_2 10 rfl rfl)
theorem dX6_steps_57 : decode cX6_steps 57 = .ok (.laload, 1) := dk_47 (dk_at dksX6_steps_2 11 rfl rfl)
theorem dX6_steps_58 : decode cX6_steps 58 = .ok (.ldc2_w 401, 3) := dk_20 1 145 (dk_at dksX6_steps_2 12 rfl rfl)
theorem dX6_steps_61 : decode cX6_steps 61 = .ok (.lcmp, 1) := dk_148 (dk_at dksX6_steps_2 15 rfl rfl)
theorem dX6_steps_62 : decode cX6_steps 62 = .ok (.ifCond .le 6, 3) := dk_158 0 6 (dk_at dksX6_steps_2 16 rfl rfl)
theorem dX6_steps_65 : decode cX6_steps 65 = .ok (.bipush (-2), 2) := dk_16 254 (dk_at dksX6_steps_2 19 rfl rfl)
theorem dX6_steps_67 : decode cX6_steps 67 = .ok (.ireturn, 1) := dk_172 (dk_at dksX6_steps_2 21 rfl rfl)
theorem dX6_steps_68 : decode cX6_steps 68 = .ok (.aload_n 0, 1) := dk_42 (dk_at dksX6_steps_2 22 rfl rfl)
theorem dX6_steps_69 : decode cX6_steps 69 = .ok (.iload_n 1, 1) := dk_27 (dk_at dksX6_steps_2 23 rfl rfl)
theorem dX6_steps_70 : decode cX6_steps 70 = .ok (.iload_n 2, 1) := dk_28 (dk_at dksX6_steps_3 0 rfl rfl)
theorem dX6_steps_71 : decode cX6_steps 71 = .ok (.invokevirtual 403, 3) := dk_182 1 147 (dk_at dksX6_steps_3 1 rfl rfl)
theorem dX6_steps_74 : decode cX6_steps 74 = .ok (.aload_n 0, 1) := dk_42 (dk_at dksX6_steps_3 4 rfl rfl)
theorem dX6_steps_75 : decode cX6_steps 75 = .ok (.aload_n 0, 1) := dk_42 (dk_at dksX6_steps_3 5 rfl rfl)
theorem dX6_steps_76 : decode cX6_steps 76 = .ok (.getfield 110, 3) := dk_180 0 110 (dk_at dksX6_steps_3 6 rfl rfl)
theorem dX6_steps_79 : decode cX6_steps 79 = .ok (.iload_n 2, 1) := dk_28 (dk_at dksX6_steps_3 9 rfl rfl)
theorem dX6_steps_80 : decode cX6_steps 80 = .ok (.laload, 1) := dk_47 (dk_at dksX6_steps_3 10 rfl rfl)
theorem dX6_steps_81 : decode cX6_steps 81 = .ok (.l2i, 1) := dk_136 (dk_at dksX6_steps_3 11 rfl rfl)
theorem dX6_steps_82 : decode cX6_steps 82 = .ok (.iload_n 3, 1) := dk_29 (dk_at dksX6_steps_3 12 rfl rfl)
theorem dX6_steps_83 : decode cX6_steps 83 = .ok (.iload 5, 2) := dk_21 5 (dk_at dksX6_steps_3 13 rfl rfl)
theorem dX6_steps_85 : decode cX6_steps 85 = .ok (.invokevirtual 406, 3) := dk_182 1 150 (dk_at dksX6_steps_3 15 rfl rfl)
theorem dX6_steps_88 : decode cX6_steps 88 = .ok (.aload_n 0, 1) := dk_42 (dk_at dksX6_steps_3 18 rfl rfl)
theorem dX6_steps_89 : decode cX6_steps 89 = .ok (.getfield 131, 3) := dk_180 0 131 (dk_at dksX6_steps_3 19 rfl rfl)
theorem dX6_steps_92 : decode cX6_steps 92 = .ok (.iload 4, 2) := dk_21 4 (dk_at dksX6_steps_3 22 rfl rfl)
theorem dX6_steps_94 : decode cX6_steps 94 = .ok (.iaload, 1) := dk_46 (dk_at dksX6_steps_4 0 rfl rfl)
theorem dX6_steps_95 : decode cX6_steps 95 = .ok (.ireturn, 1) := dk_172 (dk_at dksX6_steps_4 1 rfl rfl)
abbrev cX6_graph : ByteArray := prog_14_method_75_code
def yX6_graph : MethodName := ⟨RX6, "graph", "(II)V"⟩
def dkwX6_graph_13 : List UInt8 := [84, 132, 6, 1, 167, 254, 235, 132, 5, 1, 167, 254, 220, 177]
abbrev dktX6_graph_13 : List UInt8 := dkwX6_graph_13 ++ []
def dkwX6_graph_12 : List UInt8 := [21, 6, 96, 42, 27, 28, 182, 1, 129, 136, 79, 42, 180, 0, 128, 16, 21, 21, 5, 104, 21, 6, 96, 4]
abbrev dktX6_graph_12 : List UInt8 := dkwX6_graph_12 ++ dktX6_graph_13
def dkwX6_graph_11 : List UInt8 := [96, 46, 79, 42, 180, 0, 116, 21, 6, 4, 96, 21, 7, 79, 42, 180, 0, 125, 16, 21, 21, 5, 104]
abbrev dktX6_graph_11 : List UInt8 := dkwX6_graph_11 ++ dktX6_graph_12
def dkwX6_graph_10 : List UInt8 := [180, 0, 116, 21, 6, 4, 96, 46, 79, 42, 180, 0, 116, 21, 6, 5, 96, 42, 180, 0, 116, 21, 6, 4]
abbrev dktX6_graph_10 : List UInt8 := dkwX6_graph_10 ++ dktX6_graph_11
def dkwX6_graph_9 : List UInt8 := [184, 1, 142, 4, 160, 0, 91, 42, 180, 0, 116, 21, 6, 46, 54, 7, 42, 180, 0, 116, 21, 6, 42]
abbrev dktX6_graph_9 : List UInt8 := dkwX6_graph_9 ++ dktX6_graph_10
def dkwX6_graph_8 : List UInt8 := [21, 6, 5, 96, 46, 160, 0, 114, 42, 180, 0, 116, 21, 6, 46, 42, 180, 0, 116, 21, 6, 4, 96, 46]
abbrev dktX6_graph_8 : List UInt8 := dkwX6_graph_8 ++ dktX6_graph_9
def dkwX6_graph_7 : List UInt8 := [167, 0, 142, 21, 6, 5, 96, 21, 4, 162, 0, 133, 42, 180, 0, 116, 21, 6, 46, 42, 180, 0, 116]
abbrev dktX6_graph_7 : List UInt8 := dkwX6_graph_7 ++ dktX6_graph_8
def dkwX6_graph_6 : List UInt8 := [21, 7, 79, 42, 180, 0, 125, 16, 21, 21, 5, 104, 21, 6, 96, 42, 27, 28, 182, 1, 129, 136, 79]
abbrev dktX6_graph_6 : List UInt8 := dkwX6_graph_6 ++ dktX6_graph_7
def dkwX6_graph_5 : List UInt8 := [180, 0, 116, 21, 6, 42, 180, 0, 116, 21, 6, 4, 96, 46, 79, 42, 180, 0, 116, 21, 6, 4, 96]
abbrev dktX6_graph_5 : List UInt8 := dkwX6_graph_5 ++ dktX6_graph_6
def dkwX6_graph_4 : List UInt8 := [21, 6, 4, 96, 46, 184, 1, 142, 4, 164, 0, 62, 42, 180, 0, 116, 21, 6, 46, 54, 7, 42]
abbrev dktX6_graph_4 : List UInt8 := dkwX6_graph_4 ++ dktX6_graph_5
def dkwX6_graph_3 : List UInt8 := [182, 1, 123, 21, 6, 4, 96, 21, 4, 162, 0, 85, 42, 180, 0, 116, 21, 6, 46, 42, 180, 0, 116]
abbrev dktX6_graph_3 : List UInt8 := dkwX6_graph_3 ++ dktX6_graph_4
def dkwX6_graph_2 : List UInt8 := [96, 2, 79, 42, 180, 0, 128, 16, 21, 21, 5, 104, 21, 6, 96, 3, 84, 42, 27, 28, 21, 5, 133]
abbrev dktX6_graph_2 : List UInt8 := dkwX6_graph_2 ++ dktX6_graph_3
def dkwX6_graph_1 : List UInt8 := [162, 1, 36, 3, 54, 6, 21, 6, 16, 21, 162, 1, 20, 42, 180, 0, 125, 16, 21, 21, 5, 104, 21, 6]
abbrev dktX6_graph_1 : List UInt8 := dkwX6_graph_1 ++ dktX6_graph_2
def dkwX6_graph_0 : List UInt8 := [42, 180, 0, 110, 28, 47, 136, 62, 42, 180, 0, 107, 28, 46, 54, 4, 3, 54, 5, 21, 5, 29]
abbrev dktX6_graph_0 : List UInt8 := dkwX6_graph_0 ++ dktX6_graph_1
theorem dksX6_graph_0 : cX6_graph.data.toList.drop 0 = dktX6_graph_0 := by decide +kernel
theorem dksX6_graph_1 : cX6_graph.data.toList.drop 22 = dktX6_graph_1 := dk_seg dksX6_graph_0 22 rfl rfl
theorem dksX6_graph_2 : cX6_graph.data.toList.drop 46 = dktX6_graph_2 := dk_seg dksX6_graph_1 24 rfl rfl
theorem dksX6_graph_3 : cX6_graph.data.toList.drop 69 = dktX6_graph_3 := dk_seg dksX6_graph_2 23 rfl rfl
theorem dksX6_graph_4 : cX6_graph.data.toList.drop 92 = dktX6_graph_4 := dk_seg dksX6_graph_3 23 rfl rfl
theorem dksX6_graph_5 : cX6_graph.data.toList.drop 114 = dktX6_graph_5 := dk_seg dksX6_graph_4 22 rfl rfl
theorem dksX6_graph_6 : cX6_graph.data.toList.drop 137 = dktX6_graph_6 := dk_seg dksX6_graph_5 23 rfl rfl
theorem dksX6_graph_7 : cX6_graph.data.toList.drop 160 = dktX6_graph_7 := dk_seg dksX6_graph_6 23 rfl rfl
theorem dksX6_graph_8 : cX6_graph.data.toList.drop 183 = dktX6_graph_8 := dk_seg dksX6_graph_7 23 rfl rfl
theorem dksX6_graph_9 : cX6_graph.data.toList.drop 207 = dktX6_graph_9 := dk_seg dksX6_graph_8 24 rfl rfl
theorem dksX6_graph_10 : cX6_graph.data.toList.drop 230 = dktX6_graph_10 := dk_seg dksX6_graph_9 23 rfl rfl
theorem dksX6_graph_11 : cX6_graph.data.toList.drop 254 = dktX6_graph_11 := dk_seg dksX6_graph_10 24 rfl rfl
theorem dksX6_graph_12 : cX6_graph.data.toList.drop 277 = dktX6_graph_12 := dk_seg dksX6_graph_11 23 rfl rfl
theorem dksX6_graph_13 : cX6_graph.data.toList.drop 301 = dktX6_graph_13 := dk_seg dksX6_graph_12 24 rfl rfl
theorem dX6_graph_0 : decode cX6_graph 0 = .ok (.aload_n 0, 1) := dk_42 (dk_at dksX6_graph_0 0 rfl rfl)
theorem dX6_graph_1 : decode cX6_graph 1 = .ok (.getfield 110, 3) := dk_180 0 110 (dk_at dksX6_graph_0 1 rfl rfl)
theorem dX6_graph_4 : decode cX6_graph 4 = .ok (.iload_n 2, 1) := dk_28 (dk_at dksX6_graph_0 4 rfl rfl)
theorem dX6_graph_5 : decode cX6_graph 5 = .ok (.laload, 1) := dk_47 (dk_at dksX6_graph_0 5 rfl rfl)
theorem dX6_graph_6 : decode cX6_graph 6 = .ok (.l2i, 1) := dk_136 (dk_at dksX6_graph_0 6 rfl rfl)
theorem dX6_graph_7 : decode cX6_graph 7 = .ok (.istore_n 3, 1) := dk_62 (dk_at dksX6_graph_0 7 rfl rfl)
theorem dX6_graph_8 : decode cX6_graph 8 = .ok (.aload_n 0, 1) := dk_42 (dk_at dksX6_graph_0 8 rfl rfl)
theorem dX6_graph_9 : decode cX6_graph 9 = .ok (.getfield 107, 3) := dk_180 0 107 (dk_at dksX6_graph_0 9 rfl rfl)
theorem dX6_graph_12 : decode cX6_graph 12 = .ok (.iload_n 2, 1) := dk_28 (dk_at dksX6_graph_0 12 rfl rfl)
theorem dX6_graph_13 : decode cX6_graph 13 = .ok (.iaload, 1) := dk_46 (dk_at dksX6_graph_0 13 rfl rfl)
theorem dX6_graph_14 : decode cX6_graph 14 = .ok (.istore 4, 2) := dk_54 4 (dk_at dksX6_graph_0 14 rfl rfl)
theorem dX6_graph_16 : decode cX6_graph 16 = .ok (.iconst 0, 1) := dk_3 (dk_at dksX6_graph_0 16 rfl rfl)
theorem dX6_graph_17 : decode cX6_graph 17 = .ok (.istore 5, 2) := dk_54 5 (dk_at dksX6_graph_0 17 rfl rfl)
theorem dX6_graph_19 : decode cX6_graph 19 = .ok (.iload 5, 2) := dk_21 5 (dk_at dksX6_graph_0 19 rfl rfl)
theorem dX6_graph_21 : decode cX6_graph 21 = .ok (.iload_n 3, 1) := dk_29 (dk_at dksX6_graph_0 21 rfl rfl)
theorem dX6_graph_22 : decode cX6_graph 22 = .ok (.if_icmp .ge 292, 3) := dk_162 1 36 (dk_at dksX6_graph_1 0 rfl rfl)
theorem dX6_graph_25 : decode cX6_graph 25 = .ok (.iconst 0, 1) := dk_3 (dk_at dksX6_graph_1 3 rfl rfl)
theorem dX6_graph_26 : decode cX6_graph 26 = .ok (.istore 6, 2) := dk_54 6 (dk_at dksX6_graph_1 4 rfl rfl)
theorem dX6_graph_28 : decode cX6_graph 28 = .ok (.iload 6, 2) := dk_21 6 (dk_at dksX6_graph_1 6 rfl rfl)
theorem dX6_graph_30 : decode cX6_graph 30 = .ok (.bipush 21, 2) := dk_16 21 (dk_at dksX6_graph_1 8 rfl rfl)
theorem dX6_graph_32 : decode cX6_graph 32 = .ok (.if_icmp .ge 276, 3) := dk_162 1 20 (dk_at dksX6_graph_1 10 rfl rfl)
theorem dX6_graph_35 : decode cX6_graph 35 = .ok (.aload_n 0, 1) := dk_42 (dk_at dksX6_graph_1 13 rfl rfl)
theorem dX6_graph_36 : decode cX6_graph 36 = .ok (.getfield 125, 3) := dk_180 0 125 (dk_at dksX6_graph_1 14 rfl rfl)
theorem dX6_graph_39 : decode cX6_graph 39 = .ok (.bipush 21, 2) := dk_16 21 (dk_at dksX6_graph_1 17 rfl rfl)
theorem dX6_graph_41 : decode cX6_graph 41 = .ok (.iload 5, 2) := dk_21 5 (dk_at dksX6_graph_1 19 rfl rfl)
theorem dX6_graph_43 : decode cX6_graph 43 = .ok (.imul, 1) := dk_104 (dk_at dksX6_graph_1 21 rfl rfl)
theorem dX6_graph_44 : decode cX6_graph 44 = .ok (.iload 6, 2) := dk_21 6 (dk_at dksX6_graph_1 22 rfl rfl)
theorem dX6_graph_46 : decode cX6_graph 46 = .ok (.iadd, 1) := dk_96 (dk_at dksX6_graph_2 0 rfl rfl)
theorem dX6_graph_47 : decode cX6_graph 47 = .ok (.iconst (-1), 1) := dk_2 (dk_at dksX6_graph_2 1 rfl rfl)
theorem dX6_graph_48 : decode cX6_graph 48 = .ok (.iastore, 1) := dk_79 (dk_at dksX6_graph_2 2 rfl rfl)
theorem dX6_graph_49 : decode cX6_graph 49 = .ok (.aload_n 0, 1) := dk_42 (dk_at dksX6_graph_2 3 rfl rfl)
theorem dX6_graph_50 : decode cX6_graph 50 = .ok (.getfield 128, 3) := dk_180 0 128 (dk_at dksX6_graph_2 4 rfl rfl)
theorem dX6_graph_53 : decode cX6_graph 53 = .ok (.bipush 21, 2) := dk_16 21 (dk_at dksX6_graph_2 7 rfl rfl)
theorem dX6_graph_55 : decode cX6_graph 55 = .ok (.iload 5, 2) := dk_21 5 (dk_at dksX6_graph_2 9 rfl rfl)
theorem dX6_graph_57 : decode cX6_graph 57 = .ok (.imul, 1) := dk_104 (dk_at dksX6_graph_2 11 rfl rfl)
theorem dX6_graph_58 : decode cX6_graph 58 = .ok (.iload 6, 2) := dk_21 6 (dk_at dksX6_graph_2 12 rfl rfl)
theorem dX6_graph_60 : decode cX6_graph 60 = .ok (.iadd, 1) := dk_96 (dk_at dksX6_graph_2 14 rfl rfl)
theorem dX6_graph_61 : decode cX6_graph 61 = .ok (.iconst 0, 1) := dk_3 (dk_at dksX6_graph_2 15 rfl rfl)
theorem dX6_graph_62 : decode cX6_graph 62 = .ok (.bastore, 1) := dk_84 (dk_at dksX6_graph_2 16 rfl rfl)
theorem dX6_graph_63 : decode cX6_graph 63 = .ok (.aload_n 0, 1) := dk_42 (dk_at dksX6_graph_2 17 rfl rfl)
theorem dX6_graph_64 : decode cX6_graph 64 = .ok (.iload_n 1, 1) := dk_27 (dk_at dksX6_graph_2 18 rfl rfl)
theorem dX6_graph_65 : decode cX6_graph 65 = .ok (.iload_n 2, 1) := dk_28 (dk_at dksX6_graph_2 19 rfl rfl)
theorem dX6_graph_66 : decode cX6_graph 66 = .ok (.iload 5, 2) := dk_21 5 (dk_at dksX6_graph_2 20 rfl rfl)
theorem dX6_graph_68 : decode cX6_graph 68 = .ok (.i2l, 1) := dk_133 (dk_at dksX6_graph_2 22 rfl rfl)
theorem dX6_graph_69 : decode cX6_graph 69 = .ok (.invokevirtual 379, 3) := dk_182 1 123 (dk_at dksX6_graph_3 0 rfl rfl)
theorem dX6_graph_72 : decode cX6_graph 72 = .ok (.iload 6, 2) := dk_21 6 (dk_at dksX6_graph_3 3 rfl rfl)
theorem dX6_graph_74 : decode cX6_graph 74 = .ok (.iconst 1, 1) := dk_4 (dk_at dksX6_graph_3 5 rfl rfl)
theorem dX6_graph_75 : decode cX6_graph 75 = .ok (.iadd, 1) := dk_96 (dk_at dksX6_graph_3 6 rfl rfl)
theorem dX6_graph_76 : decode cX6_graph 76 = .ok (.iload 4, 2) := dk_21 4 (dk_at dksX6_graph_3 7 rfl rfl)
theorem dX6_graph_78 : decode cX6_graph 78 = .ok (.if_icmp .ge 85, 3) := dk_162 0 85 (dk_at dksX6_graph_3 9 rfl rfl)
theorem dX6_graph_81 : decode cX6_graph 81 = .ok (.aload_n 0, 1) := dk_42 (dk_at dksX6_graph_3 12 rfl rfl)
theorem dX6_graph_82 : decode cX6_graph 82 = .ok (.getfield 116, 3) := dk_180 0 116 (dk_at dksX6_graph_3 13 rfl rfl)
theorem dX6_graph_85 : decode cX6_graph 85 = .ok (.iload 6, 2) := dk_21 6 (dk_at dksX6_graph_3 16 rfl rfl)
theorem dX6_graph_87 : decode cX6_graph 87 = .ok (.iaload, 1) := dk_46 (dk_at dksX6_graph_3 18 rfl rfl)
theorem dX6_graph_88 : decode cX6_graph 88 = .ok (.aload_n 0, 1) := dk_42 (dk_at dksX6_graph_3 19 rfl rfl)
theorem dX6_graph_89 : decode cX6_graph 89 = .ok (.getfield 116, 3) := dk_180 0 116 (dk_at dksX6_graph_3 20 rfl rfl)
theorem dX6_graph_92 : decode cX6_graph 92 = .ok (.iload 6, 2) := dk_21 6 (dk_at dksX6_graph_4 0 rfl rfl)
theorem dX6_graph_94 : decode cX6_graph 94 = .ok (.iconst 1, 1) := dk_4 (dk_at dksX6_graph_4 2 rfl rfl)
theorem dX6_graph_95 : decode cX6_graph 95 = .ok (.iadd, 1) := dk_96 (dk_at dksX6_graph_4 3 rfl rfl)
theorem dX6_graph_96 : decode cX6_graph 96 = .ok (.iaload, 1) := dk_46 (dk_at dksX6_graph_4 4 rfl rfl)
theorem dX6_graph_97 : decode cX6_graph 97 = .ok (.invokestatic 398, 3) := dk_184 1 142 (dk_at dksX6_graph_4 5 rfl rfl)
theorem dX6_graph_100 : decode cX6_graph 100 = .ok (.iconst 1, 1) := dk_4 (dk_at dksX6_graph_4 8 rfl rfl)
theorem dX6_graph_101 : decode cX6_graph 101 = .ok (.if_icmp .le 62, 3) := dk_164 0 62 (dk_at dksX6_graph_4 9 rfl rfl)
theorem dX6_graph_104 : decode cX6_graph 104 = .ok (.aload_n 0, 1) := dk_42 (dk_at dksX6_graph_4 12 rfl rfl)
theorem dX6_graph_105 : decode cX6_graph 105 = .ok (.getfield 116, 3) := dk_180 0 116 (dk_at dksX6_graph_4 13 rfl rfl)
theorem dX6_graph_108 : decode cX6_graph 108 = .ok (.iload 6, 2) := dk_21 6 (dk_at dksX6_graph_4 16 rfl rfl)
theorem dX6_graph_110 : decode cX6_graph 110 = .ok (.iaload, 1) := dk_46 (dk_at dksX6_graph_4 18 rfl rfl)
theorem dX6_graph_111 : decode cX6_graph 111 = .ok (.istore 7, 2) := dk_54 7 (dk_at dksX6_graph_4 19 rfl rfl)
theorem dX6_graph_113 : decode cX6_graph 113 = .ok (.aload_n 0, 1) := dk_42 (dk_at dksX6_graph_4 21 rfl rfl)
theorem dX6_graph_114 : decode cX6_graph 114 = .ok (.getfield 116, 3) := dk_180 0 116 (dk_at dksX6_graph_5 0 rfl rfl)
theorem dX6_graph_117 : decode cX6_graph 117 = .ok (.iload 6, 2) := dk_21 6 (dk_at dksX6_graph_5 3 rfl rfl)
theorem dX6_graph_119 : decode cX6_graph 119 = .ok (.aload_n 0, 1) := dk_42 (dk_at dksX6_graph_5 5 rfl rfl)
theorem dX6_graph_120 : decode cX6_graph 120 = .ok (.getfield 116, 3) := dk_180 0 116 (dk_at dksX6_graph_5 6 rfl rfl)
theorem dX6_graph_123 : decode cX6_graph 123 = .ok (.iload 6, 2) := dk_21 6 (dk_at dksX6_graph_5 9 rfl rfl)
theorem dX6_graph_125 : decode cX6_graph 125 = .ok (.iconst 1, 1) := dk_4 (dk_at dksX6_graph_5 11 rfl rfl)
theorem dX6_graph_126 : decode cX6_graph 126 = .ok (.iadd, 1) := dk_96 (dk_at dksX6_graph_5 12 rfl rfl)
theorem dX6_graph_127 : decode cX6_graph 127 = .ok (.iaload, 1) := dk_46 (dk_at dksX6_graph_5 13 rfl rfl)
theorem dX6_graph_128 : decode cX6_graph 128 = .ok (.iastore, 1) := dk_79 (dk_at dksX6_graph_5 14 rfl rfl)
theorem dX6_graph_129 : decode cX6_graph 129 = .ok (.aload_n 0, 1) := dk_42 (dk_at dksX6_graph_5 15 rfl rfl)
theorem dX6_graph_130 : decode cX6_graph 130 = .ok (.getfield 116, 3) := dk_180 0 116 (dk_at dksX6_graph_5 16 rfl rfl)
theorem dX6_graph_133 : decode cX6_graph 133 = .ok (.iload 6, 2) := dk_21 6 (dk_at dksX6_graph_5 19 rfl rfl)
theorem dX6_graph_135 : decode cX6_graph 135 = .ok (.iconst 1, 1) := dk_4 (dk_at dksX6_graph_5 21 rfl rfl)
theorem dX6_graph_136 : decode cX6_graph 136 = .ok (.iadd, 1) := dk_96 (dk_at dksX6_graph_5 22 rfl rfl)
theorem dX6_graph_137 : decode cX6_graph 137 = .ok (.iload 7, 2) := dk_21 7 (dk_at dksX6_graph_6 0 rfl rfl)
theorem dX6_graph_139 : decode cX6_graph 139 = .ok (.iastore, 1) := dk_79 (dk_at dksX6_graph_6 2 rfl rfl)
theorem dX6_graph_140 : decode cX6_graph 140 = .ok (.aload_n 0, 1) := dk_42 (dk_at dksX6_graph_6 3 rfl rfl)
theorem dX6_graph_141 : decode cX6_graph 141 = .ok (.getfield 125, 3) := dk_180 0 125 (dk_at dksX6_graph_6 4 rfl rfl)
theorem dX6_graph_144 : decode cX6_graph 144 = .ok (.bipush 21, 2) := dk_16 21 (dk_at dksX6_graph_6 7 rfl rfl)
theorem dX6_graph_146 : decode cX6_graph 146 = .ok (.iload 5, 2) := dk_21 5 (dk_at dksX6_graph_6 9 rfl rfl)
theorem dX6_graph_148 : decode cX6_graph 148 = .ok (.imul, 1) := dk_104 (dk_at dksX6_graph_6 11 rfl rfl)
theorem dX6_graph_149 : decode cX6_graph 149 = .ok (.iload 6, 2) := dk_21 6 (dk_at dksX6_graph_6 12 rfl rfl)
theorem dX6_graph_151 : decode cX6_graph 151 = .ok (.iadd, 1) := dk_96 (dk_at dksX6_graph_6 14 rfl rfl)
theorem dX6_graph_152 : decode cX6_graph 152 = .ok (.aload_n 0, 1) := dk_42 (dk_at dksX6_graph_6 15 rfl rfl)
theorem dX6_graph_153 : decode cX6_graph 153 = .ok (.iload_n 1, 1) := dk_27 (dk_at dksX6_graph_6 16 rfl rfl)
theorem dX6_graph_154 : decode cX6_graph 154 = .ok (.iload_n 2, 1) := dk_28 (dk_at dksX6_graph_6 17 rfl rfl)
theorem dX6_graph_155 : decode cX6_graph 155 = .ok (.invokevirtual 385, 3) := dk_182 1 129 (dk_at dksX6_graph_6 18 rfl rfl)
theorem dX6_graph_158 : decode cX6_graph 158 = .ok (.l2i, 1) := dk_136 (dk_at dksX6_graph_6 21 rfl rfl)
theorem dX6_graph_159 : decode cX6_graph 159 = .ok (.iastore, 1) := dk_79 (dk_at dksX6_graph_6 22 rfl rfl)
theorem dX6_graph_160 : decode cX6_graph 160 = .ok (.goto 142, 3) := dk_167 0 142 (dk_at dksX6_graph_7 0 rfl rfl)
theorem dX6_graph_163 : decode cX6_graph 163 = .ok (.iload 6, 2) := dk_21 6 (dk_at dksX6_graph_7 3 rfl rfl)
theorem dX6_graph_165 : decode cX6_graph 165 = .ok (.iconst 2, 1) := dk_5 (dk_at dksX6_graph_7 5 rfl rfl)
theorem dX6_graph_166 : decode cX6_graph 166 = .ok (.iadd, 1) := dk_96 (dk_at dksX6_graph_7 6 rfl rfl)
theorem dX6_graph_167 : decode cX6_graph 167 = .ok (.iload 4, 2) := dk_21 4 (dk_at dksX6_graph_7 7 rfl rfl)
theorem dX6_graph_169 : decode cX6_graph 169 = .ok (.if_icmp .ge 133, 3) := dk_162 0 133 (dk_at dksX6_graph_7 9 rfl rfl)
theorem dX6_graph_172 : decode cX6_graph 172 = .ok (.aload_n 0, 1) := dk_42 (dk_at dksX6_graph_7 12 rfl rfl)
theorem dX6_graph_173 : decode cX6_graph 173 = .ok (.getfield 116, 3) := dk_180 0 116 (dk_at dksX6_graph_7 13 rfl rfl)
theorem dX6_graph_176 : decode cX6_graph 176 = .ok (.iload 6, 2) := dk_21 6 (dk_at dksX6_graph_7 16 rfl rfl)
theorem dX6_graph_178 : decode cX6_graph 178 = .ok (.iaload, 1) := dk_46 (dk_at dksX6_graph_7 18 rfl rfl)
theorem dX6_graph_179 : decode cX6_graph 179 = .ok (.aload_n 0, 1) := dk_42 (dk_at dksX6_graph_7 19 rfl rfl)
theorem dX6_graph_180 : decode cX6_graph 180 = .ok (.getfield 116, 3) := dk_180 0 116 (dk_at dksX6_graph_7 20 rfl rfl)
theorem dX6_graph_183 : decode cX6_graph 183 = .ok (.iload 6, 2) := dk_21 6 (dk_at dksX6_graph_8 0 rfl rfl)
theorem dX6_graph_185 : decode cX6_graph 185 = .ok (.iconst 2, 1) := dk_5 (dk_at dksX6_graph_8 2 rfl rfl)
theorem dX6_graph_186 : decode cX6_graph 186 = .ok (.iadd, 1) := dk_96 (dk_at dksX6_graph_8 3 rfl rfl)
theorem dX6_graph_187 : decode cX6_graph 187 = .ok (.iaload, 1) := dk_46 (dk_at dksX6_graph_8 4 rfl rfl)
theorem dX6_graph_188 : decode cX6_graph 188 = .ok (.if_icmp .ne 114, 3) := dk_160 0 114 (dk_at dksX6_graph_8 5 rfl rfl)
theorem dX6_graph_191 : decode cX6_graph 191 = .ok (.aload_n 0, 1) := dk_42 (dk_at dksX6_graph_8 8 rfl rfl)
theorem dX6_graph_192 : decode cX6_graph 192 = .ok (.getfield 116, 3) := dk_180 0 116 (dk_at dksX6_graph_8 9 rfl rfl)
theorem dX6_graph_195 : decode cX6_graph 195 = .ok (.iload 6, 2) := dk_21 6 (dk_at dksX6_graph_8 12 rfl rfl)
theorem dX6_graph_197 : decode cX6_graph 197 = .ok (.iaload, 1) := dk_46 (dk_at dksX6_graph_8 14 rfl rfl)
theorem dX6_graph_198 : decode cX6_graph 198 = .ok (.aload_n 0, 1) := dk_42 (dk_at dksX6_graph_8 15 rfl rfl)
theorem dX6_graph_199 : decode cX6_graph 199 = .ok (.getfield 116, 3) := dk_180 0 116 (dk_at dksX6_graph_8 16 rfl rfl)
theorem dX6_graph_202 : decode cX6_graph 202 = .ok (.iload 6, 2) := dk_21 6 (dk_at dksX6_graph_8 19 rfl rfl)
theorem dX6_graph_204 : decode cX6_graph 204 = .ok (.iconst 1, 1) := dk_4 (dk_at dksX6_graph_8 21 rfl rfl)
theorem dX6_graph_205 : decode cX6_graph 205 = .ok (.iadd, 1) := dk_96 (dk_at dksX6_graph_8 22 rfl rfl)
theorem dX6_graph_206 : decode cX6_graph 206 = .ok (.iaload, 1) := dk_46 (dk_at dksX6_graph_8 23 rfl rfl)
theorem dX6_graph_207 : decode cX6_graph 207 = .ok (.invokestatic 398, 3) := dk_184 1 142 (dk_at dksX6_graph_9 0 rfl rfl)
theorem dX6_graph_210 : decode cX6_graph 210 = .ok (.iconst 1, 1) := dk_4 (dk_at dksX6_graph_9 3 rfl rfl)
theorem dX6_graph_211 : decode cX6_graph 211 = .ok (.if_icmp .ne 91, 3) := dk_160 0 91 (dk_at dksX6_graph_9 4 rfl rfl)
theorem dX6_graph_214 : decode cX6_graph 214 = .ok (.aload_n 0, 1) := dk_42 (dk_at dksX6_graph_9 7 rfl rfl)
theorem dX6_graph_215 : decode cX6_graph 215 = .ok (.getfield 116, 3) := dk_180 0 116 (dk_at dksX6_graph_9 8 rfl rfl)
theorem dX6_graph_218 : decode cX6_graph 218 = .ok (.iload 6, 2) := dk_21 6 (dk_at dksX6_graph_9 11 rfl rfl)
theorem dX6_graph_220 : decode cX6_graph 220 = .ok (.iaload, 1) := dk_46 (dk_at dksX6_graph_9 13 rfl rfl)
theorem dX6_graph_221 : decode cX6_graph 221 = .ok (.istore 7, 2) := dk_54 7 (dk_at dksX6_graph_9 14 rfl rfl)
theorem dX6_graph_223 : decode cX6_graph 223 = .ok (.aload_n 0, 1) := dk_42 (dk_at dksX6_graph_9 16 rfl rfl)
theorem dX6_graph_224 : decode cX6_graph 224 = .ok (.getfield 116, 3) := dk_180 0 116 (dk_at dksX6_graph_9 17 rfl rfl)
theorem dX6_graph_227 : decode cX6_graph 227 = .ok (.iload 6, 2) := dk_21 6 (dk_at dksX6_graph_9 20 rfl rfl)
theorem dX6_graph_229 : decode cX6_graph 229 = .ok (.aload_n 0, 1) := dk_42 (dk_at dksX6_graph_9 22 rfl rfl)
theorem dX6_graph_230 : decode cX6_graph 230 = .ok (.getfield 116, 3) := dk_180 0 116 (dk_at dksX6_graph_10 0 rfl rfl)
theorem dX6_graph_233 : decode cX6_graph 233 = .ok (.iload 6, 2) := dk_21 6 (dk_at dksX6_graph_10 3 rfl rfl)
theorem dX6_graph_235 : decode cX6_graph 235 = .ok (.iconst 1, 1) := dk_4 (dk_at dksX6_graph_10 5 rfl rfl)
theorem dX6_graph_236 : decode cX6_graph 236 = .ok (.iadd, 1) := dk_96 (dk_at dksX6_graph_10 6 rfl rfl)
theorem dX6_graph_237 : decode cX6_graph 237 = .ok (.iaload, 1) := dk_46 (dk_at dksX6_graph_10 7 rfl rfl)
theorem dX6_graph_238 : decode cX6_graph 238 = .ok (.iastore, 1) := dk_79 (dk_at dksX6_graph_10 8 rfl rfl)
theorem dX6_graph_239 : decode cX6_graph 239 = .ok (.aload_n 0, 1) := dk_42 (dk_at dksX6_graph_10 9 rfl rfl)
theorem dX6_graph_240 : decode cX6_graph 240 = .ok (.getfield 116, 3) := dk_180 0 116 (dk_at dksX6_graph_10 10 rfl rfl)
theorem dX6_graph_243 : decode cX6_graph 243 = .ok (.iload 6, 2) := dk_21 6 (dk_at dksX6_graph_10 13 rfl rfl)
theorem dX6_graph_245 : decode cX6_graph 245 = .ok (.iconst 2, 1) := dk_5 (dk_at dksX6_graph_10 15 rfl rfl)
theorem dX6_graph_246 : decode cX6_graph 246 = .ok (.iadd, 1) := dk_96 (dk_at dksX6_graph_10 16 rfl rfl)
theorem dX6_graph_247 : decode cX6_graph 247 = .ok (.aload_n 0, 1) := dk_42 (dk_at dksX6_graph_10 17 rfl rfl)
theorem dX6_graph_248 : decode cX6_graph 248 = .ok (.getfield 116, 3) := dk_180 0 116 (dk_at dksX6_graph_10 18 rfl rfl)
theorem dX6_graph_251 : decode cX6_graph 251 = .ok (.iload 6, 2) := dk_21 6 (dk_at dksX6_graph_10 21 rfl rfl)
theorem dX6_graph_253 : decode cX6_graph 253 = .ok (.iconst 1, 1) := dk_4 (dk_at dksX6_graph_10 23 rfl rfl)
theorem dX6_graph_254 : decode cX6_graph 254 = .ok (.iadd, 1) := dk_96 (dk_at dksX6_graph_11 0 rfl rfl)
theorem dX6_graph_255 : decode cX6_graph 255 = .ok (.iaload, 1) := dk_46 (dk_at dksX6_graph_11 1 rfl rfl)
theorem dX6_graph_256 : decode cX6_graph 256 = .ok (.iastore, 1) := dk_79 (dk_at dksX6_graph_11 2 rfl rfl)
theorem dX6_graph_257 : decode cX6_graph 257 = .ok (.aload_n 0, 1) := dk_42 (dk_at dksX6_graph_11 3 rfl rfl)
theorem dX6_graph_258 : decode cX6_graph 258 = .ok (.getfield 116, 3) := dk_180 0 116 (dk_at dksX6_graph_11 4 rfl rfl)
theorem dX6_graph_261 : decode cX6_graph 261 = .ok (.iload 6, 2) := dk_21 6 (dk_at dksX6_graph_11 7 rfl rfl)
theorem dX6_graph_263 : decode cX6_graph 263 = .ok (.iconst 1, 1) := dk_4 (dk_at dksX6_graph_11 9 rfl rfl)
theorem dX6_graph_264 : decode cX6_graph 264 = .ok (.iadd, 1) := dk_96 (dk_at dksX6_graph_11 10 rfl rfl)
theorem dX6_graph_265 : decode cX6_graph 265 = .ok (.iload 7, 2) := dk_21 7 (dk_at dksX6_graph_11 11 rfl rfl)
theorem dX6_graph_267 : decode cX6_graph 267 = .ok (.iastore, 1) := dk_79 (dk_at dksX6_graph_11 13 rfl rfl)
theorem dX6_graph_268 : decode cX6_graph 268 = .ok (.aload_n 0, 1) := dk_42 (dk_at dksX6_graph_11 14 rfl rfl)
theorem dX6_graph_269 : decode cX6_graph 269 = .ok (.getfield 125, 3) := dk_180 0 125 (dk_at dksX6_graph_11 15 rfl rfl)
theorem dX6_graph_272 : decode cX6_graph 272 = .ok (.bipush 21, 2) := dk_16 21 (dk_at dksX6_graph_11 18 rfl rfl)
theorem dX6_graph_274 : decode cX6_graph 274 = .ok (.iload 5, 2) := dk_21 5 (dk_at dksX6_graph_11 20 rfl rfl)
theorem dX6_graph_276 : decode cX6_graph 276 = .ok (.imul, 1) := dk_104 (dk_at dksX6_graph_11 22 rfl rfl)
theorem dX6_graph_277 : decode cX6_graph 277 = .ok (.iload 6, 2) := dk_21 6 (dk_at dksX6_graph_12 0 rfl rfl)
theorem dX6_graph_279 : decode cX6_graph 279 = .ok (.iadd, 1) := dk_96 (dk_at dksX6_graph_12 2 rfl rfl)
theorem dX6_graph_280 : decode cX6_graph 280 = .ok (.aload_n 0, 1) := dk_42 (dk_at dksX6_graph_12 3 rfl rfl)
theorem dX6_graph_281 : decode cX6_graph 281 = .ok (.iload_n 1, 1) := dk_27 (dk_at dksX6_graph_12 4 rfl rfl)
theorem dX6_graph_282 : decode cX6_graph 282 = .ok (.iload_n 2, 1) := dk_28 (dk_at dksX6_graph_12 5 rfl rfl)
theorem dX6_graph_283 : decode cX6_graph 283 = .ok (.invokevirtual 385, 3) := dk_182 1 129 (dk_at dksX6_graph_12 6 rfl rfl)
theorem dX6_graph_286 : decode cX6_graph 286 = .ok (.l2i, 1) := dk_136 (dk_at dksX6_graph_12 9 rfl rfl)
theorem dX6_graph_287 : decode cX6_graph 287 = .ok (.iastore, 1) := dk_79 (dk_at dksX6_graph_12 10 rfl rfl)
theorem dX6_graph_288 : decode cX6_graph 288 = .ok (.aload_n 0, 1) := dk_42 (dk_at dksX6_graph_12 11 rfl rfl)
theorem dX6_graph_289 : decode cX6_graph 289 = .ok (.getfield 128, 3) := dk_180 0 128 (dk_at dksX6_graph_12 12 rfl rfl)
theorem dX6_graph_292 : decode cX6_graph 292 = .ok (.bipush 21, 2) := dk_16 21 (dk_at dksX6_graph_12 15 rfl rfl)
theorem dX6_graph_294 : decode cX6_graph 294 = .ok (.iload 5, 2) := dk_21 5 (dk_at dksX6_graph_12 17 rfl rfl)
theorem dX6_graph_296 : decode cX6_graph 296 = .ok (.imul, 1) := dk_104 (dk_at dksX6_graph_12 19 rfl rfl)
theorem dX6_graph_297 : decode cX6_graph 297 = .ok (.iload 6, 2) := dk_21 6 (dk_at dksX6_graph_12 20 rfl rfl)
theorem dX6_graph_299 : decode cX6_graph 299 = .ok (.iadd, 1) := dk_96 (dk_at dksX6_graph_12 22 rfl rfl)
theorem dX6_graph_300 : decode cX6_graph 300 = .ok (.iconst 1, 1) := dk_4 (dk_at dksX6_graph_12 23 rfl rfl)
theorem dX6_graph_301 : decode cX6_graph 301 = .ok (.bastore, 1) := dk_84 (dk_at dksX6_graph_13 0 rfl rfl)
theorem dX6_graph_302 : decode cX6_graph 302 = .ok (.iinc 6 1, 3) := dk_132 6 1 (dk_at dksX6_graph_13 1 rfl rfl)
theorem dX6_graph_305 : decode cX6_graph 305 = .ok (.goto (-277), 3) := dk_167 254 235 (dk_at dksX6_graph_13 4 rfl rfl)
theorem dX6_graph_308 : decode cX6_graph 308 = .ok (.iinc 5 1, 3) := dk_132 5 1 (dk_at dksX6_graph_13 7 rfl rfl)
theorem dX6_graph_311 : decode cX6_graph 311 = .ok (.goto (-292), 3) := dk_167 254 220 (dk_at dksX6_graph_13 10 rfl rfl)
theorem dX6_graph_314 : decode cX6_graph 314 = .ok (.return_, 1) := dk_177 (dk_at dksX6_graph_13 13 rfl rfl)
abbrev cX6_apart : ByteArray := prog_14_method_74_code
def yX6_apart : MethodName := ⟨RX6, "apart", "(II)I"⟩
def dkwX6_apart_0 : List UInt8 := [26, 27, 164, 0, 9, 26, 27, 100, 167, 0, 6, 27, 26, 100, 172]
abbrev dktX6_apart_0 : List UInt8 := dkwX6_apart_0 ++ []
theorem dksX6_apart_0 : cX6_apart.data.toList.drop 0 = dktX6_apart_0 := by decide +kernel
theorem dX6_apart_0 : decode cX6_apart 0 = .ok (.iload_n 0, 1) := dk_26 (dk_at dksX6_apart_0 0 rfl rfl)
theorem dX6_apart_1 : decode cX6_apart 1 = .ok (.iload_n 1, 1) := dk_27 (dk_at dksX6_apart_0 1 rfl rfl)
theorem dX6_apart_2 : decode cX6_apart 2 = .ok (.if_icmp .le 9, 3) := dk_164 0 9 (dk_at dksX6_apart_0 2 rfl rfl)
theorem dX6_apart_5 : decode cX6_apart 5 = .ok (.iload_n 0, 1) := dk_26 (dk_at dksX6_apart_0 5 rfl rfl)
theorem dX6_apart_6 : decode cX6_apart 6 = .ok (.iload_n 1, 1) := dk_27 (dk_at dksX6_apart_0 6 rfl rfl)
theorem dX6_apart_7 : decode cX6_apart 7 = .ok (.isub, 1) := dk_100 (dk_at dksX6_apart_0 7 rfl rfl)
theorem dX6_apart_8 : decode cX6_apart 8 = .ok (.goto 6, 3) := dk_167 0 6 (dk_at dksX6_apart_0 8 rfl rfl)
theorem dX6_apart_11 : decode cX6_apart 11 = .ok (.iload_n 1, 1) := dk_27 (dk_at dksX6_apart_0 11 rfl rfl)
theorem dX6_apart_12 : decode cX6_apart 12 = .ok (.iload_n 0, 1) := dk_26 (dk_at dksX6_apart_0 12 rfl rfl)
theorem dX6_apart_13 : decode cX6_apart 13 = .ok (.isub, 1) := dk_100 (dk_at dksX6_apart_0 13 rfl rfl)
theorem dX6_apart_14 : decode cX6_apart 14 = .ok (.ireturn, 1) := dk_172 (dk_at dksX6_apart_0 14 rfl rfl)
abbrev cX6_distances : ByteArray := prog_14_method_76_code
def yX6_distances : MethodName := ⟨RX6, "distances", "(III)V"⟩
def dkwX6_distances_7 : List UInt8 := [54, 4, 132, 6, 1, 167, 255, 155, 132, 5, 1, 167, 255, 127, 167, 255, 113, 177]
abbrev dktX6_distances_7 : List UInt8 := dkwX6_distances_7 ++ []
def dkwX6_distances_6 : List UInt8 := [180, 0, 131, 21, 7, 46, 21, 8, 163, 0, 6, 167, 0, 15, 42, 180, 0, 131, 21, 7, 21, 8, 79, 4]
abbrev dktX6_distances_6 : List UInt8 := dkwX6_distances_6 ++ dktX6_distances_7
def dkwX6_distances_5 : List UInt8 := [153, 0, 7, 4, 167, 0, 4, 29, 96, 54, 8, 42, 180, 0, 131, 21, 7, 46, 155, 0, 18, 42]
abbrev dktX6_distances_5 : List UInt8 := dkwX6_distances_5 ++ dktX6_distances_6
def dkwX6_distances_4 : List UInt8 := [167, 0, 71, 42, 180, 0, 131, 21, 5, 46, 42, 180, 0, 128, 16, 21, 21, 5, 104, 21, 6, 96, 51]
abbrev dktX6_distances_4 : List UInt8 := dkwX6_distances_4 ++ dktX6_distances_5
def dkwX6_distances_3 : List UInt8 := [162, 0, 100, 42, 180, 0, 125, 16, 21, 21, 5, 104, 21, 6, 96, 46, 54, 7, 21, 7, 156, 0, 6]
abbrev dktX6_distances_3 : List UInt8 := dkwX6_distances_3 ++ dktX6_distances_4
def dkwX6_distances_2 : List UInt8 := [162, 0, 129, 42, 180, 0, 131, 21, 5, 46, 156, 0, 6, 167, 0, 110, 3, 54, 6, 21, 6, 16, 21]
abbrev dktX6_distances_2 : List UInt8 := dkwX6_distances_2 ++ dktX6_distances_3
def dkwX6_distances_1 : List UInt8 := [180, 0, 131, 28, 3, 79, 4, 54, 4, 21, 4, 153, 0, 144, 3, 54, 4, 3, 54, 5, 21, 5, 27]
abbrev dktX6_distances_1 : List UInt8 := dkwX6_distances_1 ++ dktX6_distances_2
def dkwX6_distances_0 : List UInt8 := [3, 54, 4, 21, 4, 27, 162, 0, 17, 42, 180, 0, 131, 21, 4, 2, 79, 132, 4, 1, 167, 255, 239, 42]
abbrev dktX6_distances_0 : List UInt8 := dkwX6_distances_0 ++ dktX6_distances_1
theorem dksX6_distances_0 : cX6_distances.data.toList.drop 0 = dktX6_distances_0 := by decide +kernel
theorem dksX6_distances_1 : cX6_distances.data.toList.drop 24 = dktX6_distances_1 := dk_seg dksX6_distances_0 24 rfl rfl
theorem dksX6_distances_2 : cX6_distances.data.toList.drop 47 = dktX6_distances_2 := dk_seg dksX6_distances_1 23 rfl rfl
theorem dksX6_distances_3 : cX6_distances.data.toList.drop 70 = dktX6_distances_3 := dk_seg dksX6_distances_2 23 rfl rfl
theorem dksX6_distances_4 : cX6_distances.data.toList.drop 93 = dktX6_distances_4 := dk_seg dksX6_distances_3 23 rfl rfl
theorem dksX6_distances_5 : cX6_distances.data.toList.drop 116 = dktX6_distances_5 := dk_seg dksX6_distances_4 23 rfl rfl
theorem dksX6_distances_6 : cX6_distances.data.toList.drop 138 = dktX6_distances_6 := dk_seg dksX6_distances_5 22 rfl rfl
theorem dksX6_distances_7 : cX6_distances.data.toList.drop 162 = dktX6_distances_7 := dk_seg dksX6_distances_6 24 rfl rfl
theorem dX6_distances_0 : decode cX6_distances 0 = .ok (.iconst 0, 1) := dk_3 (dk_at dksX6_distances_0 0 rfl rfl)
theorem dX6_distances_1 : decode cX6_distances 1 = .ok (.istore 4, 2) := dk_54 4 (dk_at dksX6_distances_0 1 rfl rfl)
theorem dX6_distances_3 : decode cX6_distances 3 = .ok (.iload 4, 2) := dk_21 4 (dk_at dksX6_distances_0 3 rfl rfl)
theorem dX6_distances_5 : decode cX6_distances 5 = .ok (.iload_n 1, 1) := dk_27 (dk_at dksX6_distances_0 5 rfl rfl)
theorem dX6_distances_6 : decode cX6_distances 6 = .ok (.if_icmp .ge 17, 3) := dk_162 0 17 (dk_at dksX6_distances_0 6 rfl rfl)
theorem dX6_distances_9 : decode cX6_distances 9 = .ok (.aload_n 0, 1) := dk_42 (dk_at dksX6_distances_0 9 rfl rfl)
theorem dX6_distances_10 : decode cX6_distances 10 = .ok (.getfield 131, 3) := dk_180 0 131 (dk_at dksX6_distances_0 10 rfl rfl)
theorem dX6_distances_13 : decode cX6_distances 13 = .ok (.iload 4, 2) := dk_21 4 (dk_at dksX6_distances_0 13 rfl rfl)
theorem dX6_distances_15 : decode cX6_distances 15 = .ok (.iconst (-1), 1) := dk_2 (dk_at dksX6_distances_0 15 rfl rfl)
theorem dX6_distances_16 : decode cX6_distances 16 = .ok (.iastore, 1) := dk_79 (dk_at dksX6_distances_0 16 rfl rfl)
theorem dX6_distances_17 : decode cX6_distances 17 = .ok (.iinc 4 1, 3) := dk_132 4 1 (dk_at dksX6_distances_0 17 rfl rfl)
theorem dX6_distances_20 : decode cX6_distances 20 = .ok (.goto (-17), 3) := dk_167 255 239 (dk_at dksX6_distances_0 20 rfl rfl)
theorem dX6_distances_23 : decode cX6_distances 23 = .ok (.aload_n 0, 1) := dk_42 (dk_at dksX6_distances_0 23 rfl rfl)
theorem dX6_distances_24 : decode cX6_distances 24 = .ok (.getfield 131, 3) := dk_180 0 131 (dk_at dksX6_distances_1 0 rfl rfl)
theorem dX6_distances_27 : decode cX6_distances 27 = .ok (.iload_n 2, 1) := dk_28 (dk_at dksX6_distances_1 3 rfl rfl)
theorem dX6_distances_28 : decode cX6_distances 28 = .ok (.iconst 0, 1) := dk_3 (dk_at dksX6_distances_1 4 rfl rfl)
theorem dX6_distances_29 : decode cX6_distances 29 = .ok (.iastore, 1) := dk_79 (dk_at dksX6_distances_1 5 rfl rfl)
theorem dX6_distances_30 : decode cX6_distances 30 = .ok (.iconst 1, 1) := dk_4 (dk_at dksX6_distances_1 6 rfl rfl)
theorem dX6_distances_31 : decode cX6_distances 31 = .ok (.istore 4, 2) := dk_54 4 (dk_at dksX6_distances_1 7 rfl rfl)
theorem dX6_distances_33 : decode cX6_distances 33 = .ok (.iload 4, 2) := dk_21 4 (dk_at dksX6_distances_1 9 rfl rfl)
theorem dX6_distances_35 : decode cX6_distances 35 = .ok (.ifCond .eq 144, 3) := dk_153 0 144 (dk_at dksX6_distances_1 11 rfl rfl)
theorem dX6_distances_38 : decode cX6_distances 38 = .ok (.iconst 0, 1) := dk_3 (dk_at dksX6_distances_1 14 rfl rfl)
theorem dX6_distances_39 : decode cX6_distances 39 = .ok (.istore 4, 2) := dk_54 4 (dk_at dksX6_distances_1 15 rfl rfl)
theorem dX6_distances_41 : decode cX6_distances 41 = .ok (.iconst 0, 1) := dk_3 (dk_at dksX6_distances_1 17 rfl rfl)
theorem dX6_distances_42 : decode cX6_distances 42 = .ok (.istore 5, 2) := dk_54 5 (dk_at dksX6_distances_1 18 rfl rfl)
theorem dX6_distances_44 : decode cX6_distances 44 = .ok (.iload 5, 2) := dk_21 5 (dk_at dksX6_distances_1 20 rfl rfl)
theorem dX6_distances_46 : decode cX6_distances 46 = .ok (.iload_n 1, 1) := dk_27 (dk_at dksX6_distances_1 22 rfl rfl)
theorem dX6_distances_47 : decode cX6_distances 47 = .ok (.if_icmp .ge 129, 3) := dk_162 0 129 (dk_at dksX6_distances_2 0 rfl rfl)
theorem dX6_distances_50 : decode cX6_distances 50 = .ok (.aload_n 0, 1) := dk_42 (dk_at dksX6_distances_2 3 rfl rfl)
theorem dX6_distances_51 : decode cX6_distances 51 = .ok (.getfield 131, 3) := dk_180 0 131 (dk_at dksX6_distances_2 4 rfl rfl)
theorem dX6_distances_54 : decode cX6_distances 54 = .ok (.iload 5, 2) := dk_21 5 (dk_at dksX6_distances_2 7 rfl rfl)
theorem dX6_distances_56 : decode cX6_distances 56 = .ok (.iaload, 1) := dk_46 (dk_at dksX6_distances_2 9 rfl rfl)
theorem dX6_distances_57 : decode cX6_distances 57 = .ok (.ifCond .ge 6, 3) := dk_156 0 6 (dk_at dksX6_distances_2 10 rfl rfl)
theorem dX6_distances_60 : decode cX6_distances 60 = .ok (.goto 110, 3) := dk_167 0 110 (dk_at dksX6_distances_2 13 rfl rfl)
theorem dX6_distances_63 : decode cX6_distances 63 = .ok (.iconst 0, 1) := dk_3 (dk_at dksX6_distances_2 16 rfl rfl)
theorem dX6_distances_64 : decode cX6_distances 64 = .ok (.istore 6, 2) := dk_54 6 (dk_at dksX6_distances_2 17 rfl rfl)
theorem dX6_distances_66 : decode cX6_distances 66 = .ok (.iload 6, 2) := dk_21 6 (dk_at dksX6_distances_2 19 rfl rfl)
theorem dX6_distances_68 : decode cX6_distances 68 = .ok (.bipush 21, 2) := dk_16 21 (dk_at dksX6_distances_2 21 rfl rfl)
theorem dX6_distances_70 : decode cX6_distances 70 = .ok (.if_icmp .ge 100, 3) := dk_162 0 100 (dk_at dksX6_distances_3 0 rfl rfl)
theorem dX6_distances_73 : decode cX6_distances 73 = .ok (.aload_n 0, 1) := dk_42 (dk_at dksX6_distances_3 3 rfl rfl)
theorem dX6_distances_74 : decode cX6_distances 74 = .ok (.getfield 125, 3) := dk_180 0 125 (dk_at dksX6_distances_3 4 rfl rfl)
theorem dX6_distances_77 : decode cX6_distances 77 = .ok (.bipush 21, 2) := dk_16 21 (dk_at dksX6_distances_3 7 rfl rfl)
theorem dX6_distances_79 : decode cX6_distances 79 = .ok (.iload 5, 2) := dk_21 5 (dk_at dksX6_distances_3 9 rfl rfl)
theorem dX6_distances_81 : decode cX6_distances 81 = .ok (.imul, 1) := dk_104 (dk_at dksX6_distances_3 11 rfl rfl)
theorem dX6_distances_82 : decode cX6_distances 82 = .ok (.iload 6, 2) := dk_21 6 (dk_at dksX6_distances_3 12 rfl rfl)
theorem dX6_distances_84 : decode cX6_distances 84 = .ok (.iadd, 1) := dk_96 (dk_at dksX6_distances_3 14 rfl rfl)
theorem dX6_distances_85 : decode cX6_distances 85 = .ok (.iaload, 1) := dk_46 (dk_at dksX6_distances_3 15 rfl rfl)
theorem dX6_distances_86 : decode cX6_distances 86 = .ok (.istore 7, 2) := dk_54 7 (dk_at dksX6_distances_3 16 rfl rfl)
theorem dX6_distances_88 : decode cX6_distances 88 = .ok (.iload 7, 2) := dk_21 7 (dk_at dksX6_distances_3 18 rfl rfl)
theorem dX6_distances_90 : decode cX6_distances 90 = .ok (.ifCond .ge 6, 3) := dk_156 0 6 (dk_at dksX6_distances_3 20 rfl rfl)
theorem dX6_distances_93 : decode cX6_distances 93 = .ok (.goto 71, 3) := dk_167 0 71 (dk_at dksX6_distances_4 0 rfl rfl)
theorem dX6_distances_96 : decode cX6_distances 96 = .ok (.aload_n 0, 1) := dk_42 (dk_at dksX6_distances_4 3 rfl rfl)
theorem dX6_distances_97 : decode cX6_distances 97 = .ok (.getfield 131, 3) := dk_180 0 131 (dk_at dksX6_distances_4 4 rfl rfl)
theorem dX6_distances_100 : decode cX6_distances 100 = .ok (.iload 5, 2) := dk_21 5 (dk_at dksX6_distances_4 7 rfl rfl)
theorem dX6_distances_102 : decode cX6_distances 102 = .ok (.iaload, 1) := dk_46 (dk_at dksX6_distances_4 9 rfl rfl)
theorem dX6_distances_103 : decode cX6_distances 103 = .ok (.aload_n 0, 1) := dk_42 (dk_at dksX6_distances_4 10 rfl rfl)
theorem dX6_distances_104 : decode cX6_distances 104 = .ok (.getfield 128, 3) := dk_180 0 128 (dk_at dksX6_distances_4 11 rfl rfl)
theorem dX6_distances_107 : decode cX6_distances 107 = .ok (.bipush 21, 2) := dk_16 21 (dk_at dksX6_distances_4 14 rfl rfl)
theorem dX6_distances_109 : decode cX6_distances 109 = .ok (.iload 5, 2) := dk_21 5 (dk_at dksX6_distances_4 16 rfl rfl)
theorem dX6_distances_111 : decode cX6_distances 111 = .ok (.imul, 1) := dk_104 (dk_at dksX6_distances_4 18 rfl rfl)
theorem dX6_distances_112 : decode cX6_distances 112 = .ok (.iload 6, 2) := dk_21 6 (dk_at dksX6_distances_4 19 rfl rfl)
theorem dX6_distances_114 : decode cX6_distances 114 = .ok (.iadd, 1) := dk_96 (dk_at dksX6_distances_4 21 rfl rfl)
theorem dX6_distances_115 : decode cX6_distances 115 = .ok (.baload, 1) := dk_51 (dk_at dksX6_distances_4 22 rfl rfl)
theorem dX6_distances_116 : decode cX6_distances 116 = .ok (.ifCond .eq 7, 3) := dk_153 0 7 (dk_at dksX6_distances_5 0 rfl rfl)
theorem dX6_distances_119 : decode cX6_distances 119 = .ok (.iconst 1, 1) := dk_4 (dk_at dksX6_distances_5 3 rfl rfl)
theorem dX6_distances_120 : decode cX6_distances 120 = .ok (.goto 4, 3) := dk_167 0 4 (dk_at dksX6_distances_5 4 rfl rfl)
theorem dX6_distances_123 : decode cX6_distances 123 = .ok (.iload_n 3, 1) := dk_29 (dk_at dksX6_distances_5 7 rfl rfl)
theorem dX6_distances_124 : decode cX6_distances 124 = .ok (.iadd, 1) := dk_96 (dk_at dksX6_distances_5 8 rfl rfl)
theorem dX6_distances_125 : decode cX6_distances 125 = .ok (.istore 8, 2) := dk_54 8 (dk_at dksX6_distances_5 9 rfl rfl)
theorem dX6_distances_127 : decode cX6_distances 127 = .ok (.aload_n 0, 1) := dk_42 (dk_at dksX6_distances_5 11 rfl rfl)
theorem dX6_distances_128 : decode cX6_distances 128 = .ok (.getfield 131, 3) := dk_180 0 131 (dk_at dksX6_distances_5 12 rfl rfl)
theorem dX6_distances_131 : decode cX6_distances 131 = .ok (.iload 7, 2) := dk_21 7 (dk_at dksX6_distances_5 15 rfl rfl)
theorem dX6_distances_133 : decode cX6_distances 133 = .ok (.iaload, 1) := dk_46 (dk_at dksX6_distances_5 17 rfl rfl)
theorem dX6_distances_134 : decode cX6_distances 134 = .ok (.ifCond .lt 18, 3) := dk_155 0 18 (dk_at dksX6_distances_5 18 rfl rfl)
theorem dX6_distances_137 : decode cX6_distances 137 = .ok (.aload_n 0, 1) := dk_42 (dk_at dksX6_distances_5 21 rfl rfl)
theorem dX6_distances_138 : decode cX6_distances 138 = .ok (.getfield 131, 3) := dk_180 0 131 (dk_at dksX6_distances_6 0 rfl rfl)
theorem dX6_distances_141 : decode cX6_distances 141 = .ok (.iload 7, 2) := dk_21 7 (dk_at dksX6_distances_6 3 rfl rfl)
theorem dX6_distances_143 : decode cX6_distances 143 = .ok (.iaload, 1) := dk_46 (dk_at dksX6_distances_6 5 rfl rfl)
theorem dX6_distances_144 : decode cX6_distances 144 = .ok (.iload 8, 2) := dk_21 8 (dk_at dksX6_distances_6 6 rfl rfl)
theorem dX6_distances_146 : decode cX6_distances 146 = .ok (.if_icmp .gt 6, 3) := dk_163 0 6 (dk_at dksX6_distances_6 8 rfl rfl)
theorem dX6_distances_149 : decode cX6_distances 149 = .ok (.goto 15, 3) := dk_167 0 15 (dk_at dksX6_distances_6 11 rfl rfl)
theorem dX6_distances_152 : decode cX6_distances 152 = .ok (.aload_n 0, 1) := dk_42 (dk_at dksX6_distances_6 14 rfl rfl)
theorem dX6_distances_153 : decode cX6_distances 153 = .ok (.getfield 131, 3) := dk_180 0 131 (dk_at dksX6_distances_6 15 rfl rfl)
theorem dX6_distances_156 : decode cX6_distances 156 = .ok (.iload 7, 2) := dk_21 7 (dk_at dksX6_distances_6 18 rfl rfl)
theorem dX6_distances_158 : decode cX6_distances 158 = .ok (.iload 8, 2) := dk_21 8 (dk_at dksX6_distances_6 20 rfl rfl)
theorem dX6_distances_160 : decode cX6_distances 160 = .ok (.iastore, 1) := dk_79 (dk_at dksX6_distances_6 22 rfl rfl)
theorem dX6_distances_161 : decode cX6_distances 161 = .ok (.iconst 1, 1) := dk_4 (dk_at dksX6_distances_6 23 rfl rfl)
theorem dX6_distances_162 : decode cX6_distances 162 = .ok (.istore 4, 2) := dk_54 4 (dk_at dksX6_distances_7 0 rfl rfl)
theorem dX6_distances_164 : decode cX6_distances 164 = .ok (.iinc 6 1, 3) := dk_132 6 1 (dk_at dksX6_distances_7 2 rfl rfl)
theorem dX6_distances_167 : decode cX6_distances 167 = .ok (.goto (-101), 3) := dk_167 255 155 (dk_at dksX6_distances_7 5 rfl rfl)
theorem dX6_distances_170 : decode cX6_distances 170 = .ok (.iinc 5 1, 3) := dk_132 5 1 (dk_at dksX6_distances_7 8 rfl rfl)
theorem dX6_distances_173 : decode cX6_distances 173 = .ok (.goto (-129), 3) := dk_167 255 127 (dk_at dksX6_distances_7 11 rfl rfl)
theorem dX6_distances_176 : decode cX6_distances 176 = .ok (.goto (-143), 3) := dk_167 255 113 (dk_at dksX6_distances_7 14 rfl rfl)
theorem dX6_distances_179 : decode cX6_distances 179 = .ok (.return_, 1) := dk_177 (dk_at dksX6_distances_7 17 rfl rfl)
abbrev cX6_moves : ByteArray := prog_14_method_79_code
def yX6_moves : MethodName := ⟨RX6, "moves", "(IIII)I"⟩
def dkwX6_moves_0 : List UInt8 := [42, 27, 28, 29, 21, 4, 4, 182, 1, 153, 172]
abbrev dktX6_moves_0 : List UInt8 := dkwX6_moves_0 ++ []
theorem dksX6_moves_0 : cX6_moves.data.toList.drop 0 = dktX6_moves_0 := by decide +kernel
theorem dX6_moves_0 : decode cX6_moves 0 = .ok (.aload_n 0, 1) := dk_42 (dk_at dksX6_moves_0 0 rfl rfl)
theorem dX6_moves_1 : decode cX6_moves 1 = .ok (.iload_n 1, 1) := dk_27 (dk_at dksX6_moves_0 1 rfl rfl)
theorem dX6_moves_2 : decode cX6_moves 2 = .ok (.iload_n 2, 1) := dk_28 (dk_at dksX6_moves_0 2 rfl rfl)
theorem dX6_moves_3 : decode cX6_moves 3 = .ok (.iload_n 3, 1) := dk_29 (dk_at dksX6_moves_0 3 rfl rfl)
theorem dX6_moves_4 : decode cX6_moves 4 = .ok (.iload 4, 2) := dk_21 4 (dk_at dksX6_moves_0 4 rfl rfl)
theorem dX6_moves_6 : decode cX6_moves 6 = .ok (.iconst 1, 1) := dk_4 (dk_at dksX6_moves_0 6 rfl rfl)
theorem dX6_moves_7 : decode cX6_moves 7 = .ok (.invokevirtual 409, 3) := dk_182 1 153 (dk_at dksX6_moves_0 7 rfl rfl)
theorem dX6_moves_10 : decode cX6_moves 10 = .ok (.ireturn, 1) := dk_172 (dk_at dksX6_moves_0 10 rfl rfl)
abbrev cX6_classes : ByteArray := prog_14_method_80_code
def yX6_classes : MethodName := ⟨RX6, "classes", "(II)I"⟩
def dkwX6_classes_11 : List UInt8 := [3, 96, 54, 5, 132, 6, 1, 167, 255, 225, 21, 5, 172]
abbrev dktX6_classes_11 : List UInt8 := dkwX6_classes_11 ++ []
def dkwX6_classes_10 : List UInt8 := [21, 6, 29, 162, 0, 31, 21, 5, 42, 180, 0, 131, 21, 6, 46, 21, 6, 160, 0, 7, 4, 167, 0, 4]
abbrev dktX6_classes_10 : List UInt8 := dkwX6_classes_10 ++ dktX6_classes_11
def dkwX6_classes_9 : List UInt8 := [16, 21, 108, 21, 6, 79, 4, 54, 4, 132, 5, 1, 167, 255, 115, 167, 255, 101, 3, 54, 5, 3, 54, 6]
abbrev dktX6_classes_9 : List UInt8 := dkwX6_classes_9 ++ dktX6_classes_10
def dkwX6_classes_8 : List UInt8 := [46, 54, 6, 42, 180, 0, 131, 42, 180, 0, 125, 21, 5, 46, 21, 6, 79, 42, 180, 0, 131, 21, 5]
abbrev dktX6_classes_8 : List UInt8 := dkwX6_classes_8 ++ dktX6_classes_9
def dkwX6_classes_7 : List UInt8 := [42, 180, 0, 131, 42, 180, 0, 125, 21, 5, 46, 46, 167, 0, 13, 42, 180, 0, 131, 21, 5, 16, 21, 108]
abbrev dktX6_classes_7 : List UInt8 := dkwX6_classes_7 ++ dktX6_classes_8
def dkwX6_classes_6 : List UInt8 := [180, 0, 131, 42, 180, 0, 125, 21, 5, 46, 46, 42, 180, 0, 131, 21, 5, 16, 21, 108, 46, 162, 0, 18]
abbrev dktX6_classes_6 : List UInt8 := dkwX6_classes_6 ++ dktX6_classes_7
def dkwX6_classes_5 : List UInt8 := [180, 0, 125, 21, 5, 46, 46, 42, 180, 0, 131, 21, 5, 16, 21, 108, 46, 160, 0, 6, 167, 0, 84, 42]
abbrev dktX6_classes_5 : List UInt8 := dkwX6_classes_5 ++ dktX6_classes_6
def dkwX6_classes_4 : List UInt8 := [180, 0, 125, 21, 5, 46, 155, 0, 122, 42, 180, 0, 128, 21, 5, 51, 154, 0, 112, 42, 180, 0, 131, 42]
abbrev dktX6_classes_4 : List UInt8 := dkwX6_classes_4 ++ dktX6_classes_5
def dkwX6_classes_3 : List UInt8 := [4, 54, 4, 21, 4, 153, 0, 156, 3, 54, 4, 3, 54, 5, 21, 5, 16, 21, 29, 104, 162, 0, 138, 42]
abbrev dktX6_classes_3 : List UInt8 := dkwX6_classes_3 ++ dktX6_classes_4
def dkwX6_classes_2 : List UInt8 := [3, 54, 4, 21, 4, 29, 162, 0, 18, 42, 180, 0, 131, 21, 4, 21, 4, 79, 132, 4, 1, 167, 255, 238]
abbrev dktX6_classes_2 : List UInt8 := dkwX6_classes_2 ++ dktX6_classes_3
def dkwX6_classes_1 : List UInt8 := [20, 1, 145, 148, 158, 0, 6, 16, 254, 172, 42, 27, 28, 182, 1, 147, 42, 180, 0, 110, 28, 47, 136, 62]
abbrev dktX6_classes_1 : List UInt8 := dkwX6_classes_1 ++ dktX6_classes_2
def dkwX6_classes_0 : List UInt8 := [42, 27, 28, 182, 1, 103, 154, 0, 5, 2, 172, 42, 27, 182, 1, 107, 42, 180, 0, 110, 28, 47]
abbrev dktX6_classes_0 : List UInt8 := dkwX6_classes_0 ++ dktX6_classes_1
theorem dksX6_classes_0 : cX6_classes.data.toList.drop 0 = dktX6_classes_0 := by decide +kernel
theorem dksX6_classes_1 : cX6_classes.data.toList.drop 22 = dktX6_classes_1 := dk_seg dksX6_classes_0 22 rfl rfl
theorem dksX6_classes_2 : cX6_classes.data.toList.drop 46 = dktX6_classes_2 := dk_seg dksX6_classes_1 24 rfl rfl
theorem dksX6_classes_3 : cX6_classes.data.toList.drop 70 = dktX6_classes_3 := dk_seg dksX6_classes_2 24 rfl rfl
theorem dksX6_classes_4 : cX6_classes.data.toList.drop 94 = dktX6_classes_4 := dk_seg dksX6_classes_3 24 rfl rfl
theorem dksX6_classes_5 : cX6_classes.data.toList.drop 118 = dktX6_classes_5 := dk_seg dksX6_classes_4 24 rfl rfl
theorem dksX6_classes_6 : cX6_classes.data.toList.drop 142 = dktX6_classes_6 := dk_seg dksX6_classes_5 24 rfl rfl
theorem dksX6_classes_7 : cX6_classes.data.toList.drop 166 = dktX6_classes_7 := dk_seg dksX6_classes_6 24 rfl rfl
theorem dksX6_classes_8 : cX6_classes.data.toList.drop 190 = dktX6_classes_8 := dk_seg dksX6_classes_7 24 rfl rfl
theorem dksX6_classes_9 : cX6_classes.data.toList.drop 213 = dktX6_classes_9 := dk_seg dksX6_classes_8 23 rfl rfl
theorem dksX6_classes_10 : cX6_classes.data.toList.drop 237 = dktX6_classes_10 := dk_seg dksX6_classes_9 24 rfl rfl
theorem dksX6_classes_11 : cX6_classes.data.toList.drop 261 = dktX6_classes_11 := dk_seg dksX6_classes_10 24 rfl rfl
theorem dX6_classes_0 : decode cX6_classes 0 = .ok (.aload_n 0, 1) := dk_42 (dk_at dksX6_classes_0 0 rfl rfl)
theorem dX6_classes_1 : decode cX6_classes 1 = .ok (.iload_n 1, 1) := dk_27 (dk_at dksX6_classes_0 1 rfl rfl)
theorem dX6_classes_2 : decode cX6_classes 2 = .ok (.iload_n 2, 1) := dk_28 (dk_at dksX6_classes_0 2 rfl rfl)
theorem dX6_classes_3 : decode cX6_classes 3 = .ok (.invokevirtual 359, 3) := dk_182 1 103 (dk_at dksX6_classes_0 3 rfl rfl)
theorem dX6_classes_6 : decode cX6_classes 6 = .ok (.ifCond .ne 5, 3) := dk_154 0 5 (dk_at dksX6_classes_0 6 rfl rfl)
theorem dX6_classes_9 : decode cX6_classes 9 = .ok (.iconst (-1), 1) := dk_2 (dk_at dksX6_classes_0 9 rfl rfl)
theorem dX6_classes_10 : decode cX6_classes 10 = .ok (.ireturn, 1) := dk_172 (dk_at dksX6_classes_0 10 rfl rfl)
theorem dX6_classes_11 : decode cX6_classes 11 = .ok (.aload_n 0, 1) := dk_42 (dk_at dksX6_classes_0 11 rfl rfl)
theorem dX6_classes_12 : decode cX6_classes 12 = .ok (.iload_n 1, 1) := dk_27 (dk_at dksX6_classes_0 12 rfl rfl)
theorem dX6_classes_13 : decode cX6_classes 13 = .ok (.invokevirtual 363, 3) := dk_182 1 107 (dk_at dksX6_classes_0 13 rfl rfl)
theorem dX6_classes_16 : decode cX6_classes 16 = .ok (.aload_n 0, 1) := dk_42 (dk_at dksX6_classes_0 16 rfl rfl)
theorem dX6_classes_17 : decode cX6_classes 17 = .ok (.getfield 110, 3) := dk_180 0 110 (dk_at dksX6_classes_0 17 rfl rfl)
theorem dX6_classes_20 : decode cX6_classes 20 = .ok (.iload_n 2, 1) := dk_28 (dk_at dksX6_classes_0 20 rfl rfl)
theorem dX6_classes_21 : decode cX6_classes 21 = .ok (.laload, 1) := dk_47 (dk_at dksX6_classes_0 21 rfl rfl)
theorem dX6_classes_22 : decode cX6_classes 22 = .ok (.ldc2_w 401, 3) := dk_20 1 145 (dk_at dksX6_classes_1 0 rfl rfl)
theorem dX6_classes_25 : decode cX6_classes 25 = .ok (.lcmp, 1) := dk_148 (dk_at dksX6_classes_1 3 rfl rfl)
theorem dX6_classes_26 : decode cX6_classes 26 = .ok (.ifCond .le 6, 3) := dk_158 0 6 (dk_at dksX6_classes_1 4 rfl rfl)
theorem dX6_classes_29 : decode cX6_classes 29 = .ok (.bipush (-2), 2) := dk_16 254 (dk_at dksX6_classes_1 7 rfl rfl)
theorem dX6_classes_31 : decode cX6_classes 31 = .ok (.ireturn, 1) := dk_172 (dk_at dksX6_classes_1 9 rfl rfl)
theorem dX6_classes_32 : decode cX6_classes 32 = .ok (.aload_n 0, 1) := dk_42 (dk_at dksX6_classes_1 10 rfl rfl)
theorem dX6_classes_33 : decode cX6_classes 33 = .ok (.iload_n 1, 1) := dk_27 (dk_at dksX6_classes_1 11 rfl rfl)
theorem dX6_classes_34 : decode cX6_classes 34 = .ok (.iload_n 2, 1) := dk_28 (dk_at dksX6_classes_1 12 rfl rfl)
theorem dX6_classes_35 : decode cX6_classes 35 = .ok (.invokevirtual 403, 3) := dk_182 1 147 (dk_at dksX6_classes_1 13 rfl rfl)
theorem dX6_classes_38 : decode cX6_classes 38 = .ok (.aload_n 0, 1) := dk_42 (dk_at dksX6_classes_1 16 rfl rfl)
theorem dX6_classes_39 : decode cX6_classes 39 = .ok (.getfield 110, 3) := dk_180 0 110 (dk_at dksX6_classes_1 17 rfl rfl)
theorem dX6_classes_42 : decode cX6_classes 42 = .ok (.iload_n 2, 1) := dk_28 (dk_at dksX6_classes_1 20 rfl rfl)
theorem dX6_classes_43 : decode cX6_classes 43 = .ok (.laload, 1) := dk_47 (dk_at dksX6_classes_1 21 rfl rfl)
theorem dX6_classes_44 : decode cX6_classes 44 = .ok (.l2i, 1) := dk_136 (dk_at dksX6_classes_1 22 rfl rfl)
theorem dX6_classes_45 : decode cX6_classes 45 = .ok (.istore_n 3, 1) := dk_62 (dk_at dksX6_classes_1 23 rfl rfl)
theorem dX6_classes_46 : decode cX6_classes 46 = .ok (.iconst 0, 1) := dk_3 (dk_at dksX6_classes_2 0 rfl rfl)
theorem dX6_classes_47 : decode cX6_classes 47 = .ok (.istore 4, 2) := dk_54 4 (dk_at dksX6_classes_2 1 rfl rfl)
theorem dX6_classes_49 : decode cX6_classes 49 = .ok (.iload 4, 2) := dk_21 4 (dk_at dksX6_classes_2 3 rfl rfl)
theorem dX6_classes_51 : decode cX6_classes 51 = .ok (.iload_n 3, 1) := dk_29 (dk_at dksX6_classes_2 5 rfl rfl)
theorem dX6_classes_52 : decode cX6_classes 52 = .ok (.if_icmp .ge 18, 3) := dk_162 0 18 (dk_at dksX6_classes_2 6 rfl rfl)
theorem dX6_classes_55 : decode cX6_classes 55 = .ok (.aload_n 0, 1) := dk_42 (dk_at dksX6_classes_2 9 rfl rfl)
theorem dX6_classes_56 : decode cX6_classes 56 = .ok (.getfield 131, 3) := dk_180 0 131 (dk_at dksX6_classes_2 10 rfl rfl)
theorem dX6_classes_59 : decode cX6_classes 59 = .ok (.iload 4, 2) := dk_21 4 (dk_at dksX6_classes_2 13 rfl rfl)
theorem dX6_classes_61 : decode cX6_classes 61 = .ok (.iload 4, 2) := dk_21 4 (dk_at dksX6_classes_2 15 rfl rfl)
theorem dX6_classes_63 : decode cX6_classes 63 = .ok (.iastore, 1) := dk_79 (dk_at dksX6_classes_2 17 rfl rfl)
theorem dX6_classes_64 : decode cX6_classes 64 = .ok (.iinc 4 1, 3) := dk_132 4 1 (dk_at dksX6_classes_2 18 rfl rfl)
theorem dX6_classes_67 : decode cX6_classes 67 = .ok (.goto (-18), 3) := dk_167 255 238 (dk_at dksX6_classes_2 21 rfl rfl)
theorem dX6_classes_70 : decode cX6_classes 70 = .ok (.iconst 1, 1) := dk_4 (dk_at dksX6_classes_3 0 rfl rfl)
theorem dX6_classes_71 : decode cX6_classes 71 = .ok (.istore 4, 2) := dk_54 4 (dk_at dksX6_classes_3 1 rfl rfl)
theorem dX6_classes_73 : decode cX6_classes 73 = .ok (.iload 4, 2) := dk_21 4 (dk_at dksX6_classes_3 3 rfl rfl)
theorem dX6_classes_75 : decode cX6_classes 75 = .ok (.ifCond .eq 156, 3) := dk_153 0 156 (dk_at dksX6_classes_3 5 rfl rfl)
theorem dX6_classes_78 : decode cX6_classes 78 = .ok (.iconst 0, 1) := dk_3 (dk_at dksX6_classes_3 8 rfl rfl)
theorem dX6_classes_79 : decode cX6_classes 79 = .ok (.istore 4, 2) := dk_54 4 (dk_at dksX6_classes_3 9 rfl rfl)
theorem dX6_classes_81 : decode cX6_classes 81 = .ok (.iconst 0, 1) := dk_3 (dk_at dksX6_classes_3 11 rfl rfl)
theorem dX6_classes_82 : decode cX6_classes 82 = .ok (.istore 5, 2) := dk_54 5 (dk_at dksX6_classes_3 12 rfl rfl)
theorem dX6_classes_84 : decode cX6_classes 84 = .ok (.iload 5, 2) := dk_21 5 (dk_at dksX6_classes_3 14 rfl rfl)
theorem dX6_classes_86 : decode cX6_classes 86 = .ok (.bipush 21, 2) := dk_16 21 (dk_at dksX6_classes_3 16 rfl rfl)
theorem dX6_classes_88 : decode cX6_classes 88 = .ok (.iload_n 3, 1) := dk_29 (dk_at dksX6_classes_3 18 rfl rfl)
theorem dX6_classes_89 : decode cX6_classes 89 = .ok (.imul, 1) := dk_104 (dk_at dksX6_classes_3 19 rfl rfl)
theorem dX6_classes_90 : decode cX6_classes 90 = .ok (.if_icmp .ge 138, 3) := dk_162 0 138 (dk_at dksX6_classes_3 20 rfl rfl)
theorem dX6_classes_93 : decode cX6_classes 93 = .ok (.aload_n 0, 1) := dk_42 (dk_at dksX6_classes_3 23 rfl rfl)
theorem dX6_classes_94 : decode cX6_classes 94 = .ok (.getfield 125, 3) := dk_180 0 125 (dk_at dksX6_classes_4 0 rfl rfl)
theorem dX6_classes_97 : decode cX6_classes 97 = .ok (.iload 5, 2) := dk_21 5 (dk_at dksX6_classes_4 3 rfl rfl)
theorem dX6_classes_99 : decode cX6_classes 99 = .ok (.iaload, 1) := dk_46 (dk_at dksX6_classes_4 5 rfl rfl)
theorem dX6_classes_100 : decode cX6_classes 100 = .ok (.ifCond .lt 122, 3) := dk_155 0 122 (dk_at dksX6_classes_4 6 rfl rfl)
theorem dX6_classes_103 : decode cX6_classes 103 = .ok (.aload_n 0, 1) := dk_42 (dk_at dksX6_classes_4 9 rfl rfl)
theorem dX6_classes_104 : decode cX6_classes 104 = .ok (.getfield 128, 3) := dk_180 0 128 (dk_at dksX6_classes_4 10 rfl rfl)
theorem dX6_classes_107 : decode cX6_classes 107 = .ok (.iload 5, 2) := dk_21 5 (dk_at dksX6_classes_4 13 rfl rfl)
theorem dX6_classes_109 : decode cX6_classes 109 = .ok (.baload, 1) := dk_51 (dk_at dksX6_classes_4 15 rfl rfl)
theorem dX6_classes_110 : decode cX6_classes 110 = .ok (.ifCond .ne 112, 3) := dk_154 0 112 (dk_at dksX6_classes_4 16 rfl rfl)
theorem dX6_classes_113 : decode cX6_classes 113 = .ok (.aload_n 0, 1) := dk_42 (dk_at dksX6_classes_4 19 rfl rfl)
theorem dX6_classes_114 : decode cX6_classes 114 = .ok (.getfield 131, 3) := dk_180 0 131 (dk_at dksX6_classes_4 20 rfl rfl)
theorem dX6_classes_117 : decode cX6_classes 117 = .ok (.aload_n 0, 1) := dk_42 (dk_at dksX6_classes_4 23 rfl rfl)
theorem dX6_classes_118 : decode cX6_classes 118 = .ok (.getfield 125, 3) := dk_180 0 125 (dk_at dksX6_classes_5 0 rfl rfl)
theorem dX6_classes_121 : decode cX6_classes 121 = .ok (.iload 5, 2) := dk_21 5 (dk_at dksX6_classes_5 3 rfl rfl)
theorem dX6_classes_123 : decode cX6_classes 123 = .ok (.iaload, 1) := dk_46 (dk_at dksX6_classes_5 5 rfl rfl)
theorem dX6_classes_124 : decode cX6_classes 124 = .ok (.iaload, 1) := dk_46 (dk_at dksX6_classes_5 6 rfl rfl)
theorem dX6_classes_125 : decode cX6_classes 125 = .ok (.aload_n 0, 1) := dk_42 (dk_at dksX6_classes_5 7 rfl rfl)
theorem dX6_classes_126 : decode cX6_classes 126 = .ok (.getfield 131, 3) := dk_180 0 131 (dk_at dksX6_classes_5 8 rfl rfl)
theorem dX6_classes_129 : decode cX6_classes 129 = .ok (.iload 5, 2) := dk_21 5 (dk_at dksX6_classes_5 11 rfl rfl)
theorem dX6_classes_131 : decode cX6_classes 131 = .ok (.bipush 21, 2) := dk_16 21 (dk_at dksX6_classes_5 13 rfl rfl)
theorem dX6_classes_133 : decode cX6_classes 133 = .ok (.idiv, 1) := dk_108 (dk_at dksX6_classes_5 15 rfl rfl)
theorem dX6_classes_134 : decode cX6_classes 134 = .ok (.iaload, 1) := dk_46 (dk_at dksX6_classes_5 16 rfl rfl)
theorem dX6_classes_135 : decode cX6_classes 135 = .ok (.if_icmp .ne 6, 3) := dk_160 0 6 (dk_at dksX6_classes_5 17 rfl rfl)
theorem dX6_classes_138 : decode cX6_classes 138 = .ok (.goto 84, 3) := dk_167 0 84 (dk_at dksX6_classes_5 20 rfl rfl)
theorem dX6_classes_141 : decode cX6_classes 141 = .ok (.aload_n 0, 1) := dk_42 (dk_at dksX6_classes_5 23 rfl rfl)
theorem dX6_classes_142 : decode cX6_classes 142 = .ok (.getfield 131, 3) := dk_180 0 131 (dk_at dksX6_classes_6 0 rfl rfl)
theorem dX6_classes_145 : decode cX6_classes 145 = .ok (.aload_n 0, 1) := dk_42 (dk_at dksX6_classes_6 3 rfl rfl)
theorem dX6_classes_146 : decode cX6_classes 146 = .ok (.getfield 125, 3) := dk_180 0 125 (dk_at dksX6_classes_6 4 rfl rfl)
theorem dX6_classes_149 : decode cX6_classes 149 = .ok (.iload 5, 2) := dk_21 5 (dk_at dksX6_classes_6 7 rfl rfl)
theorem dX6_classes_151 : decode cX6_classes 151 = .ok (.iaload, 1) := dk_46 (dk_at dksX6_classes_6 9 rfl rfl)
theorem dX6_classes_152 : decode cX6_classes 152 = .ok (.iaload, 1) := dk_46 (dk_at dksX6_classes_6 10 rfl rfl)
theorem dX6_classes_153 : decode cX6_classes 153 = .ok (.aload_n 0, 1) := dk_42 (dk_at dksX6_classes_6 11 rfl rfl)
theorem dX6_classes_154 : decode cX6_classes 154 = .ok (.getfield 131, 3) := dk_180 0 131 (dk_at dksX6_classes_6 12 rfl rfl)
theorem dX6_classes_157 : decode cX6_classes 157 = .ok (.iload 5, 2) := dk_21 5 (dk_at dksX6_classes_6 15 rfl rfl)
theorem dX6_classes_159 : decode cX6_classes 159 = .ok (.bipush 21, 2) := dk_16 21 (dk_at dksX6_classes_6 17 rfl rfl)
theorem dX6_classes_161 : decode cX6_classes 161 = .ok (.idiv, 1) := dk_108 (dk_at dksX6_classes_6 19 rfl rfl)
theorem dX6_classes_162 : decode cX6_classes 162 = .ok (.iaload, 1) := dk_46 (dk_at dksX6_classes_6 20 rfl rfl)
theorem dX6_classes_163 : decode cX6_classes 163 = .ok (.if_icmp .ge 18, 3) := dk_162 0 18 (dk_at dksX6_classes_6 21 rfl rfl)
theorem dX6_classes_166 : decode cX6_classes 166 = .ok (.aload_n 0, 1) := dk_42 (dk_at dksX6_classes_7 0 rfl rfl)
theorem dX6_classes_167 : decode cX6_classes 167 = .ok (.getfield 131, 3) := dk_180 0 131 (dk_at dksX6_classes_7 1 rfl rfl)
theorem dX6_classes_170 : decode cX6_classes 170 = .ok (.aload_n 0, 1) := dk_42 (dk_at dksX6_classes_7 4 rfl rfl)
theorem dX6_classes_171 : decode cX6_classes 171 = .ok (.getfield 125, 3) := dk_180 0 125 (dk_at dksX6_classes_7 5 rfl rfl)
theorem dX6_classes_174 : decode cX6_classes 174 = .ok (.iload 5, 2) := dk_21 5 (dk_at dksX6_classes_7 8 rfl rfl)
theorem dX6_classes_176 : decode cX6_classes 176 = .ok (.iaload, 1) := dk_46 (dk_at dksX6_classes_7 10 rfl rfl)
theorem dX6_classes_177 : decode cX6_classes 177 = .ok (.iaload, 1) := dk_46 (dk_at dksX6_classes_7 11 rfl rfl)
theorem dX6_classes_178 : decode cX6_classes 178 = .ok (.goto 13, 3) := dk_167 0 13 (dk_at dksX6_classes_7 12 rfl rfl)
theorem dX6_classes_181 : decode cX6_classes 181 = .ok (.aload_n 0, 1) := dk_42 (dk_at dksX6_classes_7 15 rfl rfl)
theorem dX6_classes_182 : decode cX6_classes 182 = .ok (.getfield 131, 3) := dk_180 0 131 (dk_at dksX6_classes_7 16 rfl rfl)
theorem dX6_classes_185 : decode cX6_classes 185 = .ok (.iload 5, 2) := dk_21 5 (dk_at dksX6_classes_7 19 rfl rfl)
theorem dX6_classes_187 : decode cX6_classes 187 = .ok (.bipush 21, 2) := dk_16 21 (dk_at dksX6_classes_7 21 rfl rfl)
theorem dX6_classes_189 : decode cX6_classes 189 = .ok (.idiv, 1) := dk_108 (dk_at dksX6_classes_7 23 rfl rfl)
theorem dX6_classes_190 : decode cX6_classes 190 = .ok (.iaload, 1) := dk_46 (dk_at dksX6_classes_8 0 rfl rfl)
theorem dX6_classes_191 : decode cX6_classes 191 = .ok (.istore 6, 2) := dk_54 6 (dk_at dksX6_classes_8 1 rfl rfl)
theorem dX6_classes_193 : decode cX6_classes 193 = .ok (.aload_n 0, 1) := dk_42 (dk_at dksX6_classes_8 3 rfl rfl)
theorem dX6_classes_194 : decode cX6_classes 194 = .ok (.getfield 131, 3) := dk_180 0 131 (dk_at dksX6_classes_8 4 rfl rfl)
theorem dX6_classes_197 : decode cX6_classes 197 = .ok (.aload_n 0, 1) := dk_42 (dk_at dksX6_classes_8 7 rfl rfl)
theorem dX6_classes_198 : decode cX6_classes 198 = .ok (.getfield 125, 3) := dk_180 0 125 (dk_at dksX6_classes_8 8 rfl rfl)
theorem dX6_classes_201 : decode cX6_classes 201 = .ok (.iload 5, 2) := dk_21 5 (dk_at dksX6_classes_8 11 rfl rfl)
theorem dX6_classes_203 : decode cX6_classes 203 = .ok (.iaload, 1) := dk_46 (dk_at dksX6_classes_8 13 rfl rfl)
theorem dX6_classes_204 : decode cX6_classes 204 = .ok (.iload 6, 2) := dk_21 6 (dk_at dksX6_classes_8 14 rfl rfl)
theorem dX6_classes_206 : decode cX6_classes 206 = .ok (.iastore, 1) := dk_79 (dk_at dksX6_classes_8 16 rfl rfl)
theorem dX6_classes_207 : decode cX6_classes 207 = .ok (.aload_n 0, 1) := dk_42 (dk_at dksX6_classes_8 17 rfl rfl)
theorem dX6_classes_208 : decode cX6_classes 208 = .ok (.getfield 131, 3) := dk_180 0 131 (dk_at dksX6_classes_8 18 rfl rfl)
theorem dX6_classes_211 : decode cX6_classes 211 = .ok (.iload 5, 2) := dk_21 5 (dk_at dksX6_classes_8 21 rfl rfl)
theorem dX6_classes_213 : decode cX6_classes 213 = .ok (.bipush 21, 2) := dk_16 21 (dk_at dksX6_classes_9 0 rfl rfl)
theorem dX6_classes_215 : decode cX6_classes 215 = .ok (.idiv, 1) := dk_108 (dk_at dksX6_classes_9 2 rfl rfl)
theorem dX6_classes_216 : decode cX6_classes 216 = .ok (.iload 6, 2) := dk_21 6 (dk_at dksX6_classes_9 3 rfl rfl)
theorem dX6_classes_218 : decode cX6_classes 218 = .ok (.iastore, 1) := dk_79 (dk_at dksX6_classes_9 5 rfl rfl)
theorem dX6_classes_219 : decode cX6_classes 219 = .ok (.iconst 1, 1) := dk_4 (dk_at dksX6_classes_9 6 rfl rfl)
theorem dX6_classes_220 : decode cX6_classes 220 = .ok (.istore 4, 2) := dk_54 4 (dk_at dksX6_classes_9 7 rfl rfl)
theorem dX6_classes_222 : decode cX6_classes 222 = .ok (.iinc 5 1, 3) := dk_132 5 1 (dk_at dksX6_classes_9 9 rfl rfl)
theorem dX6_classes_225 : decode cX6_classes 225 = .ok (.goto (-141), 3) := dk_167 255 115 (dk_at dksX6_classes_9 12 rfl rfl)
theorem dX6_classes_228 : decode cX6_classes 228 = .ok (.goto (-155), 3) := dk_167 255 101 (dk_at dksX6_classes_9 15 rfl rfl)
theorem dX6_classes_231 : decode cX6_classes 231 = .ok (.iconst 0, 1) := dk_3 (dk_at dksX6_classes_9 18 rfl rfl)
theorem dX6_classes_232 : decode cX6_classes 232 = .ok (.istore 5, 2) := dk_54 5 (dk_at dksX6_classes_9 19 rfl rfl)
theorem dX6_classes_234 : decode cX6_classes 234 = .ok (.iconst 0, 1) := dk_3 (dk_at dksX6_classes_9 21 rfl rfl)
theorem dX6_classes_235 : decode cX6_classes 235 = .ok (.istore 6, 2) := dk_54 6 (dk_at dksX6_classes_9 22 rfl rfl)
theorem dX6_classes_237 : decode cX6_classes 237 = .ok (.iload 6, 2) := dk_21 6 (dk_at dksX6_classes_10 0 rfl rfl)
theorem dX6_classes_239 : decode cX6_classes 239 = .ok (.iload_n 3, 1) := dk_29 (dk_at dksX6_classes_10 2 rfl rfl)
theorem dX6_classes_240 : decode cX6_classes 240 = .ok (.if_icmp .ge 31, 3) := dk_162 0 31 (dk_at dksX6_classes_10 3 rfl rfl)
theorem dX6_classes_243 : decode cX6_classes 243 = .ok (.iload 5, 2) := dk_21 5 (dk_at dksX6_classes_10 6 rfl rfl)
theorem dX6_classes_245 : decode cX6_classes 245 = .ok (.aload_n 0, 1) := dk_42 (dk_at dksX6_classes_10 8 rfl rfl)
theorem dX6_classes_246 : decode cX6_classes 246 = .ok (.getfield 131, 3) := dk_180 0 131 (dk_at dksX6_classes_10 9 rfl rfl)
theorem dX6_classes_249 : decode cX6_classes 249 = .ok (.iload 6, 2) := dk_21 6 (dk_at dksX6_classes_10 12 rfl rfl)
theorem dX6_classes_251 : decode cX6_classes 251 = .ok (.iaload, 1) := dk_46 (dk_at dksX6_classes_10 14 rfl rfl)
theorem dX6_classes_252 : decode cX6_classes 252 = .ok (.iload 6, 2) := dk_21 6 (dk_at dksX6_classes_10 15 rfl rfl)
theorem dX6_classes_254 : decode cX6_classes 254 = .ok (.if_icmp .ne 7, 3) := dk_160 0 7 (dk_at dksX6_classes_10 17 rfl rfl)
theorem dX6_classes_257 : decode cX6_classes 257 = .ok (.iconst 1, 1) := dk_4 (dk_at dksX6_classes_10 20 rfl rfl)
theorem dX6_classes_258 : decode cX6_classes 258 = .ok (.goto 4, 3) := dk_167 0 4 (dk_at dksX6_classes_10 21 rfl rfl)
theorem dX6_classes_261 : decode cX6_classes 261 = .ok (.iconst 0, 1) := dk_3 (dk_at dksX6_classes_11 0 rfl rfl)
theorem dX6_classes_262 : decode cX6_classes 262 = .ok (.iadd, 1) := dk_96 (dk_at dksX6_classes_11 1 rfl rfl)
theorem dX6_classes_263 : decode cX6_classes 263 = .ok (.istore 5, 2) := dk_54 5 (dk_at dksX6_classes_11 2 rfl rfl)
theorem dX6_classes_265 : decode cX6_classes 265 = .ok (.iinc 6 1, 3) := dk_132 6 1 (dk_at dksX6_classes_11 4 rfl rfl)
theorem dX6_classes_268 : decode cX6_classes 268 = .ok (.goto (-31), 3) := dk_167 255 225 (dk_at dksX6_classes_11 7 rfl rfl)
theorem dX6_classes_271 : decode cX6_classes 271 = .ok (.iload 5, 2) := dk_21 5 (dk_at dksX6_classes_11 10 rfl rfl)
theorem dX6_classes_273 : decode cX6_classes 273 = .ok (.ireturn, 1) := dk_172 (dk_at dksX6_classes_11 12 rfl rfl)
abbrev cX6_ways : ByteArray := prog_14_method_82_code
def yX6_ways : MethodName := ⟨RX6, "ways", "(I)J"⟩
def dkwX6_ways_2 : List UInt8 := [180, 0, 25, 17, 0, 200, 27, 104, 21, 4, 96, 46, 133, 105, 65, 132, 4, 1, 167, 255, 208, 32, 173]
abbrev dktX6_ways_2 : List UInt8 := dkwX6_ways_2 ++ []
def dkwX6_ways_1 : List UInt8 := [46, 162, 0, 43, 42, 180, 0, 16, 17, 0, 200, 27, 104, 21, 4, 96, 46, 6, 160, 0, 20, 32, 42]
abbrev dktX6_ways_1 : List UInt8 := dkwX6_ways_1 ++ dktX6_ways_2
def dkwX6_ways_0 : List UInt8 := [42, 27, 182, 1, 51, 154, 0, 7, 20, 1, 121, 173, 10, 65, 3, 54, 4, 21, 4, 42, 180, 0, 13, 27]
abbrev dktX6_ways_0 : List UInt8 := dkwX6_ways_0 ++ dktX6_ways_1
theorem dksX6_ways_0 : cX6_ways.data.toList.drop 0 = dktX6_ways_0 := by decide +kernel
theorem dksX6_ways_1 : cX6_ways.data.toList.drop 24 = dktX6_ways_1 := dk_seg dksX6_ways_0 24 rfl rfl
theorem dksX6_ways_2 : cX6_ways.data.toList.drop 47 = dktX6_ways_2 := dk_seg dksX6_ways_1 23 rfl rfl
theorem dX6_ways_0 : decode cX6_ways 0 = .ok (.aload_n 0, 1) := dk_42 (dk_at dksX6_ways_0 0 rfl rfl)
theorem dX6_ways_1 : decode cX6_ways 1 = .ok (.iload_n 1, 1) := dk_27 (dk_at dksX6_ways_0 1 rfl rfl)
theorem dX6_ways_2 : decode cX6_ways 2 = .ok (.invokevirtual 307, 3) := dk_182 1 51 (dk_at dksX6_ways_0 2 rfl rfl)
theorem dX6_ways_5 : decode cX6_ways 5 = .ok (.ifCond .ne 7, 3) := dk_154 0 7 (dk_at dksX6_ways_0 5 rfl rfl)
theorem dX6_ways_8 : decode cX6_ways 8 = .ok (.ldc2_w 377, 3) := dk_20 1 121 (dk_at dksX6_ways_0 8 rfl rfl)
theorem dX6_ways_11 : decode cX6_ways 11 = .ok (.lreturn, 1) := dk_173 (dk_at dksX6_ways_0 11 rfl rfl)
theorem dX6_ways_12 : decode cX6_ways 12 = .ok (.lconst 1, 1) := dk_10 (dk_at dksX6_ways_0 12 rfl rfl)
theorem dX6_ways_13 : decode cX6_ways 13 = .ok (.lstore_n 2, 1) := dk_65 (dk_at dksX6_ways_0 13 rfl rfl)
theorem dX6_ways_14 : decode cX6_ways 14 = .ok (.iconst 0, 1) := dk_3 (dk_at dksX6_ways_0 14 rfl rfl)
theorem dX6_ways_15 : decode cX6_ways 15 = .ok (.istore 4, 2) := dk_54 4 (dk_at dksX6_ways_0 15 rfl rfl)
theorem dX6_ways_17 : decode cX6_ways 17 = .ok (.iload 4, 2) := dk_21 4 (dk_at dksX6_ways_0 17 rfl rfl)
theorem dX6_ways_19 : decode cX6_ways 19 = .ok (.aload_n 0, 1) := dk_42 (dk_at dksX6_ways_0 19 rfl rfl)
theorem dX6_ways_20 : decode cX6_ways 20 = .ok (.getfield 13, 3) := dk_180 0 13 (dk_at dksX6_ways_0 20 rfl rfl)
theorem dX6_ways_23 : decode cX6_ways 23 = .ok (.iload_n 1, 1) := dk_27 (dk_at dksX6_ways_0 23 rfl rfl)
theorem dX6_ways_24 : decode cX6_ways 24 = .ok (.iaload, 1) := dk_46 (dk_at dksX6_ways_1 0 rfl rfl)
theorem dX6_ways_25 : decode cX6_ways 25 = .ok (.if_icmp .ge 43, 3) := dk_162 0 43 (dk_at dksX6_ways_1 1 rfl rfl)
theorem dX6_ways_28 : decode cX6_ways 28 = .ok (.aload_n 0, 1) := dk_42 (dk_at dksX6_ways_1 4 rfl rfl)
theorem dX6_ways_29 : decode cX6_ways 29 = .ok (.getfield 16, 3) := dk_180 0 16 (dk_at dksX6_ways_1 5 rfl rfl)
theorem dX6_ways_32 : decode cX6_ways 32 = .ok (.sipush 200, 3) := dk_17 0 200 (dk_at dksX6_ways_1 8 rfl rfl)
theorem dX6_ways_35 : decode cX6_ways 35 = .ok (.iload_n 1, 1) := dk_27 (dk_at dksX6_ways_1 11 rfl rfl)
theorem dX6_ways_36 : decode cX6_ways 36 = .ok (.imul, 1) := dk_104 (dk_at dksX6_ways_1 12 rfl rfl)
theorem dX6_ways_37 : decode cX6_ways 37 = .ok (.iload 4, 2) := dk_21 4 (dk_at dksX6_ways_1 13 rfl rfl)
theorem dX6_ways_39 : decode cX6_ways 39 = .ok (.iadd, 1) := dk_96 (dk_at dksX6_ways_1 15 rfl rfl)
theorem dX6_ways_40 : decode cX6_ways 40 = .ok (.iaload, 1) := dk_46 (dk_at dksX6_ways_1 16 rfl rfl)
theorem dX6_ways_41 : decode cX6_ways 41 = .ok (.iconst 3, 1) := dk_6 (dk_at dksX6_ways_1 17 rfl rfl)
theorem dX6_ways_42 : decode cX6_ways 42 = .ok (.if_icmp .ne 20, 3) := dk_160 0 20 (dk_at dksX6_ways_1 18 rfl rfl)
theorem dX6_ways_45 : decode cX6_ways 45 = .ok (.lload_n 2, 1) := dk_32 (dk_at dksX6_ways_1 21 rfl rfl)
theorem dX6_ways_46 : decode cX6_ways 46 = .ok (.aload_n 0, 1) := dk_42 (dk_at dksX6_ways_1 22 rfl rfl)
theorem dX6_ways_47 : decode cX6_ways 47 = .ok (.getfield 25, 3) := dk_180 0 25 (dk_at dksX6_ways_2 0 rfl rfl)
theorem dX6_ways_50 : decode cX6_ways 50 = .ok (.sipush 200, 3) := dk_17 0 200 (dk_at dksX6_ways_2 3 rfl rfl)
theorem dX6_ways_53 : decode cX6_ways 53 = .ok (.iload_n 1, 1) := dk_27 (dk_at dksX6_ways_2 6 rfl rfl)
theorem dX6_ways_54 : decode cX6_ways 54 = .ok (.imul, 1) := dk_104 (dk_at dksX6_ways_2 7 rfl rfl)
theorem dX6_ways_55 : decode cX6_ways 55 = .ok (.iload 4, 2) := dk_21 4 (dk_at dksX6_ways_2 8 rfl rfl)
theorem dX6_ways_57 : decode cX6_ways 57 = .ok (.iadd, 1) := dk_96 (dk_at dksX6_ways_2 10 rfl rfl)
theorem dX6_ways_58 : decode cX6_ways 58 = .ok (.iaload, 1) := dk_46 (dk_at dksX6_ways_2 11 rfl rfl)
theorem dX6_ways_59 : decode cX6_ways 59 = .ok (.i2l, 1) := dk_133 (dk_at dksX6_ways_2 12 rfl rfl)
theorem dX6_ways_60 : decode cX6_ways 60 = .ok (.lmul, 1) := dk_105 (dk_at dksX6_ways_2 13 rfl rfl)
theorem dX6_ways_61 : decode cX6_ways 61 = .ok (.lstore_n 2, 1) := dk_65 (dk_at dksX6_ways_2 14 rfl rfl)
theorem dX6_ways_62 : decode cX6_ways 62 = .ok (.iinc 4 1, 3) := dk_132 4 1 (dk_at dksX6_ways_2 15 rfl rfl)
theorem dX6_ways_65 : decode cX6_ways 65 = .ok (.goto (-48), 3) := dk_167 255 208 (dk_at dksX6_ways_2 18 rfl rfl)
theorem dX6_ways_68 : decode cX6_ways 68 = .ok (.lload_n 2, 1) := dk_32 (dk_at dksX6_ways_2 21 rfl rfl)
theorem dX6_ways_69 : decode cX6_ways 69 = .ok (.lreturn, 1) := dk_173 (dk_at dksX6_ways_2 22 rfl rfl)
abbrev cX6_odds : ByteArray := prog_14_method_84_code
def yX6_odds : MethodName := ⟨RX6, "odds", "(IIII)J"⟩
def dkwX6_odds_4 : List UInt8 := [132, 7, 1, 167, 255, 215, 22, 5, 173]
abbrev dktX6_odds_4 : List UInt8 := dkwX6_odds_4 ++ []
def dkwX6_odds_3 : List UInt8 := [21, 7, 104, 21, 4, 96, 46, 29, 160, 0, 15, 22, 5, 42, 180, 0, 134, 21, 7, 47, 97, 55, 5]
abbrev dktX6_odds_3 : List UInt8 := dkwX6_odds_3 ++ dktX6_odds_4
def dkwX6_odds_2 : List UInt8 := [182, 1, 160, 9, 55, 5, 3, 54, 7, 21, 7, 42, 180, 1, 84, 162, 0, 38, 42, 180, 0, 98, 16, 7]
abbrev dktX6_odds_2 : List UInt8 := dkwX6_odds_2 ++ dktX6_odds_3
def dkwX6_odds_1 : List UInt8 := [29, 182, 1, 157, 153, 0, 13, 42, 27, 21, 4, 182, 1, 157, 154, 0, 7, 20, 1, 121, 173, 42, 27, 28]
abbrev dktX6_odds_1 : List UInt8 := dkwX6_odds_1 ++ dktX6_odds_2
def dkwX6_odds_0 : List UInt8 := [42, 27, 182, 1, 51, 153, 0, 36, 42, 42, 180, 0, 7, 27, 46, 28, 182, 1, 103, 153, 0, 22, 42, 27]
abbrev dktX6_odds_0 : List UInt8 := dkwX6_odds_0 ++ dktX6_odds_1
theorem dksX6_odds_0 : cX6_odds.data.toList.drop 0 = dktX6_odds_0 := by decide +kernel
theorem dksX6_odds_1 : cX6_odds.data.toList.drop 24 = dktX6_odds_1 := dk_seg dksX6_odds_0 24 rfl rfl
theorem dksX6_odds_2 : cX6_odds.data.toList.drop 48 = dktX6_odds_2 := dk_seg dksX6_odds_1 24 rfl rfl
theorem dksX6_odds_3 : cX6_odds.data.toList.drop 72 = dktX6_odds_3 := dk_seg dksX6_odds_2 24 rfl rfl
theorem dksX6_odds_4 : cX6_odds.data.toList.drop 95 = dktX6_odds_4 := dk_seg dksX6_odds_3 23 rfl rfl
theorem dX6_odds_0 : decode cX6_odds 0 = .ok (.aload_n 0, 1) := dk_42 (dk_at dksX6_odds_0 0 rfl rfl)
theorem dX6_odds_1 : decode cX6_odds 1 = .ok (.iload_n 1, 1) := dk_27 (dk_at dksX6_odds_0 1 rfl rfl)
theorem dX6_odds_2 : decode cX6_odds 2 = .ok (.invokevirtual 307, 3) := dk_182 1 51 (dk_at dksX6_odds_0 2 rfl rfl)
theorem dX6_odds_5 : decode cX6_odds 5 = .ok (.ifCond .eq 36, 3) := dk_153 0 36 (dk_at dksX6_odds_0 5 rfl rfl)
theorem dX6_odds_8 : decode cX6_odds 8 = .ok (.aload_n 0, 1) := dk_42 (dk_at dksX6_odds_0 8 rfl rfl)
theorem dX6_odds_9 : decode cX6_odds 9 = .ok (.aload_n 0, 1) := dk_42 (dk_at dksX6_odds_0 9 rfl rfl)
theorem dX6_odds_10 : decode cX6_odds 10 = .ok (.getfield 7, 3) := dk_180 0 7 (dk_at dksX6_odds_0 10 rfl rfl)
theorem dX6_odds_13 : decode cX6_odds 13 = .ok (.iload_n 1, 1) := dk_27 (dk_at dksX6_odds_0 13 rfl rfl)
theorem dX6_odds_14 : decode cX6_odds 14 = .ok (.iaload, 1) := dk_46 (dk_at dksX6_odds_0 14 rfl rfl)
theorem dX6_odds_15 : decode cX6_odds 15 = .ok (.iload_n 2, 1) := dk_28 (dk_at dksX6_odds_0 15 rfl rfl)
theorem dX6_odds_16 : decode cX6_odds 16 = .ok (.invokevirtual 359, 3) := dk_182 1 103 (dk_at dksX6_odds_0 16 rfl rfl)
theorem dX6_odds_19 : decode cX6_odds 19 = .ok (.ifCond .eq 22, 3) := dk_153 0 22 (dk_at dksX6_odds_0 19 rfl rfl)
theorem dX6_odds_22 : decode cX6_odds 22 = .ok (.aload_n 0, 1) := dk_42 (dk_at dksX6_odds_0 22 rfl rfl)
theorem dX6_odds_23 : decode cX6_odds 23 = .ok (.iload_n 1, 1) := dk_27 (dk_at dksX6_odds_0 23 rfl rfl)
theorem dX6_odds_24 : decode cX6_odds 24 = .ok (.iload_n 3, 1) := dk_29 (dk_at dksX6_odds_1 0 rfl rfl)
theorem dX6_odds_25 : decode cX6_odds 25 = .ok (.invokevirtual 413, 3) := dk_182 1 157 (dk_at dksX6_odds_1 1 rfl rfl)
theorem dX6_odds_28 : decode cX6_odds 28 = .ok (.ifCond .eq 13, 3) := dk_153 0 13 (dk_at dksX6_odds_1 4 rfl rfl)
theorem dX6_odds_31 : decode cX6_odds 31 = .ok (.aload_n 0, 1) := dk_42 (dk_at dksX6_odds_1 7 rfl rfl)
theorem dX6_odds_32 : decode cX6_odds 32 = .ok (.iload_n 1, 1) := dk_27 (dk_at dksX6_odds_1 8 rfl rfl)
theorem dX6_odds_33 : decode cX6_odds 33 = .ok (.iload 4, 2) := dk_21 4 (dk_at dksX6_odds_1 9 rfl rfl)
theorem dX6_odds_35 : decode cX6_odds 35 = .ok (.invokevirtual 413, 3) := dk_182 1 157 (dk_at dksX6_odds_1 11 rfl rfl)
theorem dX6_odds_38 : decode cX6_odds 38 = .ok (.ifCond .ne 7, 3) := dk_154 0 7 (dk_at dksX6_odds_1 14 rfl rfl)
theorem dX6_odds_41 : decode cX6_odds 41 = .ok (.ldc2_w 377, 3) := dk_20 1 121 (dk_at dksX6_odds_1 17 rfl rfl)
theorem dX6_odds_44 : decode cX6_odds 44 = .ok (.lreturn, 1) := dk_173 (dk_at dksX6_odds_1 20 rfl rfl)
theorem dX6_odds_45 : decode cX6_odds 45 = .ok (.aload_n 0, 1) := dk_42 (dk_at dksX6_odds_1 21 rfl rfl)
theorem dX6_odds_46 : decode cX6_odds 46 = .ok (.iload_n 1, 1) := dk_27 (dk_at dksX6_odds_1 22 rfl rfl)
theorem dX6_odds_47 : decode cX6_odds 47 = .ok (.iload_n 2, 1) := dk_28 (dk_at dksX6_odds_1 23 rfl rfl)
theorem dX6_odds_48 : decode cX6_odds 48 = .ok (.invokevirtual 416, 3) := dk_182 1 160 (dk_at dksX6_odds_2 0 rfl rfl)
theorem dX6_odds_51 : decode cX6_odds 51 = .ok (.lconst 0, 1) := dk_9 (dk_at dksX6_odds_2 3 rfl rfl)
theorem dX6_odds_52 : decode cX6_odds 52 = .ok (.lstore 5, 2) := dk_55 5 (dk_at dksX6_odds_2 4 rfl rfl)
theorem dX6_odds_54 : decode cX6_odds 54 = .ok (.iconst 0, 1) := dk_3 (dk_at dksX6_odds_2 6 rfl rfl)
theorem dX6_odds_55 : decode cX6_odds 55 = .ok (.istore 7, 2) := dk_54 7 (dk_at dksX6_odds_2 7 rfl rfl)
theorem dX6_odds_57 : decode cX6_odds 57 = .ok (.iload 7, 2) := dk_21 7 (dk_at dksX6_odds_2 9 rfl rfl)
theorem dX6_odds_59 : decode cX6_odds 59 = .ok (.aload_n 0, 1) := dk_42 (dk_at dksX6_odds_2 11 rfl rfl)
theorem dX6_odds_60 : decode cX6_odds 60 = .ok (.getfield 340, 3) := dk_180 1 84 (dk_at dksX6_odds_2 12 rfl rfl)
theorem dX6_odds_63 : decode cX6_odds 63 = .ok (.if_icmp .ge 38, 3) := dk_162 0 38 (dk_at dksX6_odds_2 15 rfl rfl)
theorem dX6_odds_66 : decode cX6_odds 66 = .ok (.aload_n 0, 1) := dk_42 (dk_at dksX6_odds_2 18 rfl rfl)
theorem dX6_odds_67 : decode cX6_odds 67 = .ok (.getfield 98, 3) := dk_180 0 98 (dk_at dksX6_odds_2 19 rfl rfl)
theorem dX6_odds_70 : decode cX6_odds 70 = .ok (.bipush 7, 2) := dk_16 7 (dk_at dksX6_odds_2 22 rfl rfl)
theorem dX6_odds_72 : decode cX6_odds 72 = .ok (.iload 7, 2) := dk_21 7 (dk_at dksX6_odds_3 0 rfl rfl)
theorem dX6_odds_74 : decode cX6_odds 74 = .ok (.imul, 1) := dk_104 (dk_at dksX6_odds_3 2 rfl rfl)
theorem dX6_odds_75 : decode cX6_odds 75 = .ok (.iload 4, 2) := dk_21 4 (dk_at dksX6_odds_3 3 rfl rfl)
theorem dX6_odds_77 : decode cX6_odds 77 = .ok (.iadd, 1) := dk_96 (dk_at dksX6_odds_3 5 rfl rfl)
theorem dX6_odds_78 : decode cX6_odds 78 = .ok (.iaload, 1) := dk_46 (dk_at dksX6_odds_3 6 rfl rfl)
theorem dX6_odds_79 : decode cX6_odds 79 = .ok (.iload_n 3, 1) := dk_29 (dk_at dksX6_odds_3 7 rfl rfl)
theorem dX6_odds_80 : decode cX6_odds 80 = .ok (.if_icmp .ne 15, 3) := dk_160 0 15 (dk_at dksX6_odds_3 8 rfl rfl)
theorem dX6_odds_83 : decode cX6_odds 83 = .ok (.lload 5, 2) := dk_22 5 (dk_at dksX6_odds_3 11 rfl rfl)
theorem dX6_odds_85 : decode cX6_odds 85 = .ok (.aload_n 0, 1) := dk_42 (dk_at dksX6_odds_3 13 rfl rfl)
theorem dX6_odds_86 : decode cX6_odds 86 = .ok (.getfield 134, 3) := dk_180 0 134 (dk_at dksX6_odds_3 14 rfl rfl)
theorem dX6_odds_89 : decode cX6_odds 89 = .ok (.iload 7, 2) := dk_21 7 (dk_at dksX6_odds_3 17 rfl rfl)
theorem dX6_odds_91 : decode cX6_odds 91 = .ok (.laload, 1) := dk_47 (dk_at dksX6_odds_3 19 rfl rfl)
theorem dX6_odds_92 : decode cX6_odds 92 = .ok (.ladd, 1) := dk_97 (dk_at dksX6_odds_3 20 rfl rfl)
theorem dX6_odds_93 : decode cX6_odds 93 = .ok (.lstore 5, 2) := dk_55 5 (dk_at dksX6_odds_3 21 rfl rfl)
theorem dX6_odds_95 : decode cX6_odds 95 = .ok (.iinc 7 1, 3) := dk_132 7 1 (dk_at dksX6_odds_4 0 rfl rfl)
theorem dX6_odds_98 : decode cX6_odds 98 = .ok (.goto (-41), 3) := dk_167 255 215 (dk_at dksX6_odds_4 3 rfl rfl)
theorem dX6_odds_101 : decode cX6_odds 101 = .ok (.lload 5, 2) := dk_22 5 (dk_at dksX6_odds_4 6 rfl rfl)
theorem dX6_odds_103 : decode cX6_odds 103 = .ok (.lreturn, 1) := dk_173 (dk_at dksX6_odds_4 8 rfl rfl)
abbrev cX6_isNumber : ByteArray := prog_14_method_83_code
def yX6_isNumber : MethodName := ⟨RX6, "isNumber", "(II)Z"⟩
def dkwX6_isNumber_0 : List UInt8 := [28, 155, 0, 17, 28, 42, 180, 0, 7, 27, 46, 162, 0, 7, 4, 167, 0, 4, 3, 172]
abbrev dktX6_isNumber_0 : List UInt8 := dkwX6_isNumber_0 ++ []
theorem dksX6_isNumber_0 : cX6_isNumber.data.toList.drop 0 = dktX6_isNumber_0 := by decide +kernel
theorem dX6_isNumber_0 : decode cX6_isNumber 0 = .ok (.iload_n 2, 1) := dk_28 (dk_at dksX6_isNumber_0 0 rfl rfl)
theorem dX6_isNumber_1 : decode cX6_isNumber 1 = .ok (.ifCond .lt 17, 3) := dk_155 0 17 (dk_at dksX6_isNumber_0 1 rfl rfl)
theorem dX6_isNumber_4 : decode cX6_isNumber 4 = .ok (.iload_n 2, 1) := dk_28 (dk_at dksX6_isNumber_0 4 rfl rfl)
theorem dX6_isNumber_5 : decode cX6_isNumber 5 = .ok (.aload_n 0, 1) := dk_42 (dk_at dksX6_isNumber_0 5 rfl rfl)
theorem dX6_isNumber_6 : decode cX6_isNumber 6 = .ok (.getfield 7, 3) := dk_180 0 7 (dk_at dksX6_isNumber_0 6 rfl rfl)
theorem dX6_isNumber_9 : decode cX6_isNumber 9 = .ok (.iload_n 1, 1) := dk_27 (dk_at dksX6_isNumber_0 9 rfl rfl)
theorem dX6_isNumber_10 : decode cX6_isNumber 10 = .ok (.iaload, 1) := dk_46 (dk_at dksX6_isNumber_0 10 rfl rfl)
theorem dX6_isNumber_11 : decode cX6_isNumber 11 = .ok (.if_icmp .ge 7, 3) := dk_162 0 7 (dk_at dksX6_isNumber_0 11 rfl rfl)
theorem dX6_isNumber_14 : decode cX6_isNumber 14 = .ok (.iconst 1, 1) := dk_4 (dk_at dksX6_isNumber_0 14 rfl rfl)
theorem dX6_isNumber_15 : decode cX6_isNumber 15 = .ok (.goto 4, 3) := dk_167 0 4 (dk_at dksX6_isNumber_0 15 rfl rfl)
theorem dX6_isNumber_18 : decode cX6_isNumber 18 = .ok (.iconst 0, 1) := dk_3 (dk_at dksX6_isNumber_0 18 rfl rfl)
theorem dX6_isNumber_19 : decode cX6_isNumber 19 = .ok (.ireturn, 1) := dk_172 (dk_at dksX6_isNumber_0 19 rfl rfl)
abbrev cX6_spread : ByteArray := prog_14_method_81_code
def yX6_spread : MethodName := ⟨RX6, "spread", "(II)V"⟩
def dkwX6_spread_11 : List UInt8 := [80, 132, 5, 1, 167, 255, 230, 132, 3, 1, 167, 255, 32, 177]
abbrev dktX6_spread_11 : List UInt8 := dkwX6_spread_11 ++ []
def dkwX6_spread_10 : List UInt8 := [54, 5, 21, 5, 42, 180, 1, 84, 162, 0, 23, 42, 180, 0, 134, 21, 5, 42, 180, 0, 137, 21, 5, 47]
abbrev dktX6_spread_10 : List UInt8 := dkwX6_spread_10 ++ dktX6_spread_11
def dkwX6_spread_9 : List UInt8 := [21, 4, 46, 133, 105, 167, 0, 10, 42, 180, 0, 134, 21, 5, 47, 97, 80, 132, 5, 1, 167, 255, 118, 3]
abbrev dktX6_spread_9 : List UInt8 := dkwX6_spread_9 ++ dktX6_spread_10
def dkwX6_spread_8 : List UInt8 := [92, 47, 42, 180, 0, 16, 21, 4, 46, 6, 160, 0, 22, 42, 180, 0, 134, 21, 5, 47, 42, 180, 0, 22]
abbrev dktX6_spread_8 : List UInt8 := dkwX6_spread_8 ++ dktX6_spread_9
def dkwX6_spread_7 : List UInt8 := [180, 0, 137, 42, 21, 5, 42, 180, 0, 16, 21, 4, 46, 42, 180, 0, 19, 21, 4, 46, 4, 182, 1, 110]
abbrev dktX6_spread_7 : List UInt8 := dkwX6_spread_7 ++ dktX6_spread_8
def dkwX6_spread_6 : List UInt8 := [21, 5, 47, 42, 180, 0, 25, 21, 4, 46, 42, 180, 0, 22, 21, 4, 46, 100, 133, 105, 97, 80, 42]
abbrev dktX6_spread_6 : List UInt8 := dkwX6_spread_6 ++ dktX6_spread_7
def dkwX6_spread_5 : List UInt8 := [42, 180, 0, 16, 21, 4, 46, 6, 160, 0, 37, 42, 180, 0, 137, 21, 5, 92, 47, 42, 180, 0, 134]
abbrev dktX6_spread_5 : List UInt8 := dkwX6_spread_5 ++ dktX6_spread_6
def dkwX6_spread_4 : List UInt8 := [21, 5, 42, 180, 1, 84, 162, 0, 135, 42, 180, 0, 134, 21, 5, 47, 9, 148, 154, 0, 6, 167, 0, 114]
abbrev dktX6_spread_4 : List UInt8 := dkwX6_spread_4 ++ dktX6_spread_5
def dkwX6_spread_3 : List UInt8 := [180, 1, 84, 162, 0, 17, 42, 180, 0, 137, 21, 5, 9, 80, 132, 5, 1, 167, 255, 236, 3, 54, 5]
abbrev dktX6_spread_3 : List UInt8 := dkwX6_spread_3 ++ dktX6_spread_4
def dkwX6_spread_2 : List UInt8 := [180, 0, 13, 27, 46, 162, 0, 220, 17, 0, 200, 27, 104, 29, 96, 54, 4, 3, 54, 5, 21, 5, 42]
abbrev dktX6_spread_2 : List UInt8 := dkwX6_spread_2 ++ dktX6_spread_3
def dkwX6_spread_1 : List UInt8 := [29, 29, 28, 160, 0, 7, 10, 167, 0, 4, 9, 80, 132, 3, 1, 167, 255, 229, 3, 62, 29, 42]
abbrev dktX6_spread_1 : List UInt8 := dkwX6_spread_1 ++ dktX6_spread_2
def dkwX6_spread_0 : List UInt8 := [42, 42, 180, 0, 7, 27, 46, 182, 1, 107, 3, 62, 29, 42, 180, 1, 84, 162, 0, 25, 42, 180, 0, 134]
abbrev dktX6_spread_0 : List UInt8 := dkwX6_spread_0 ++ dktX6_spread_1
theorem dksX6_spread_0 : cX6_spread.data.toList.drop 0 = dktX6_spread_0 := by decide +kernel
theorem dksX6_spread_1 : cX6_spread.data.toList.drop 24 = dktX6_spread_1 := dk_seg dksX6_spread_0 24 rfl rfl
theorem dksX6_spread_2 : cX6_spread.data.toList.drop 46 = dktX6_spread_2 := dk_seg dksX6_spread_1 22 rfl rfl
theorem dksX6_spread_3 : cX6_spread.data.toList.drop 69 = dktX6_spread_3 := dk_seg dksX6_spread_2 23 rfl rfl
theorem dksX6_spread_4 : cX6_spread.data.toList.drop 92 = dktX6_spread_4 := dk_seg dksX6_spread_3 23 rfl rfl
theorem dksX6_spread_5 : cX6_spread.data.toList.drop 116 = dktX6_spread_5 := dk_seg dksX6_spread_4 24 rfl rfl
theorem dksX6_spread_6 : cX6_spread.data.toList.drop 139 = dktX6_spread_6 := dk_seg dksX6_spread_5 23 rfl rfl
theorem dksX6_spread_7 : cX6_spread.data.toList.drop 162 = dktX6_spread_7 := dk_seg dksX6_spread_6 23 rfl rfl
theorem dksX6_spread_8 : cX6_spread.data.toList.drop 186 = dktX6_spread_8 := dk_seg dksX6_spread_7 24 rfl rfl
theorem dksX6_spread_9 : cX6_spread.data.toList.drop 210 = dktX6_spread_9 := dk_seg dksX6_spread_8 24 rfl rfl
theorem dksX6_spread_10 : cX6_spread.data.toList.drop 234 = dktX6_spread_10 := dk_seg dksX6_spread_9 24 rfl rfl
theorem dksX6_spread_11 : cX6_spread.data.toList.drop 258 = dktX6_spread_11 := dk_seg dksX6_spread_10 24 rfl rfl
theorem dX6_spread_0 : decode cX6_spread 0 = .ok (.aload_n 0, 1) := dk_42 (dk_at dksX6_spread_0 0 rfl rfl)
theorem dX6_spread_1 : decode cX6_spread 1 = .ok (.aload_n 0, 1) := dk_42 (dk_at dksX6_spread_0 1 rfl rfl)
theorem dX6_spread_2 : decode cX6_spread 2 = .ok (.getfield 7, 3) := dk_180 0 7 (dk_at dksX6_spread_0 2 rfl rfl)
theorem dX6_spread_5 : decode cX6_spread 5 = .ok (.iload_n 1, 1) := dk_27 (dk_at dksX6_spread_0 5 rfl rfl)
theorem dX6_spread_6 : decode cX6_spread 6 = .ok (.iaload, 1) := dk_46 (dk_at dksX6_spread_0 6 rfl rfl)
theorem dX6_spread_7 : decode cX6_spread 7 = .ok (.invokevirtual 363, 3) := dk_182 1 107 (dk_at dksX6_spread_0 7 rfl rfl)
theorem dX6_spread_10 : decode cX6_spread 10 = .ok (.iconst 0, 1) := dk_3 (dk_at dksX6_spread_0 10 rfl rfl)
theorem dX6_spread_11 : decode cX6_spread 11 = .ok (.istore_n 3, 1) := dk_62 (dk_at dksX6_spread_0 11 rfl rfl)
theorem dX6_spread_12 : decode cX6_spread 12 = .ok (.iload_n 3, 1) := dk_29 (dk_at dksX6_spread_0 12 rfl rfl)
theorem dX6_spread_13 : decode cX6_spread 13 = .ok (.aload_n 0, 1) := dk_42 (dk_at dksX6_spread_0 13 rfl rfl)
theorem dX6_spread_14 : decode cX6_spread 14 = .ok (.getfield 340, 3) := dk_180 1 84 (dk_at dksX6_spread_0 14 rfl rfl)
theorem dX6_spread_17 : decode cX6_spread 17 = .ok (.if_icmp .ge 25, 3) := dk_162 0 25 (dk_at dksX6_spread_0 17 rfl rfl)
theorem dX6_spread_20 : decode cX6_spread 20 = .ok (.aload_n 0, 1) := dk_42 (dk_at dksX6_spread_0 20 rfl rfl)
theorem dX6_spread_21 : decode cX6_spread 21 = .ok (.getfield 134, 3) := dk_180 0 134 (dk_at dksX6_spread_0 21 rfl rfl)
theorem dX6_spread_24 : decode cX6_spread 24 = .ok (.iload_n 3, 1) := dk_29 (dk_at dksX6_spread_1 0 rfl rfl)
theorem dX6_spread_25 : decode cX6_spread 25 = .ok (.iload_n 3, 1) := dk_29 (dk_at dksX6_spread_1 1 rfl rfl)
theorem dX6_spread_26 : decode cX6_spread 26 = .ok (.iload_n 2, 1) := dk_28 (dk_at dksX6_spread_1 2 rfl rfl)
theorem dX6_spread_27 : decode cX6_spread 27 = .ok (.if_icmp .ne 7, 3) := dk_160 0 7 (dk_at dksX6_spread_1 3 rfl rfl)
theorem dX6_spread_30 : decode cX6_spread 30 = .ok (.lconst 1, 1) := dk_10 (dk_at dksX6_spread_1 6 rfl rfl)
theorem dX6_spread_31 : decode cX6_spread 31 = .ok (.goto 4, 3) := dk_167 0 4 (dk_at dksX6_spread_1 7 rfl rfl)
theorem dX6_spread_34 : decode cX6_spread 34 = .ok (.lconst 0, 1) := dk_9 (dk_at dksX6_spread_1 10 rfl rfl)
theorem dX6_spread_35 : decode cX6_spread 35 = .ok (.lastore, 1) := dk_80 (dk_at dksX6_spread_1 11 rfl rfl)
theorem dX6_spread_36 : decode cX6_spread 36 = .ok (.iinc 3 1, 3) := dk_132 3 1 (dk_at dksX6_spread_1 12 rfl rfl)
theorem dX6_spread_39 : decode cX6_spread 39 = .ok (.goto (-27), 3) := dk_167 255 229 (dk_at dksX6_spread_1 15 rfl rfl)
theorem dX6_spread_42 : decode cX6_spread 42 = .ok (.iconst 0, 1) := dk_3 (dk_at dksX6_spread_1 18 rfl rfl)
theorem dX6_spread_43 : decode cX6_spread 43 = .ok (.istore_n 3, 1) := dk_62 (dk_at dksX6_spread_1 19 rfl rfl)
theorem dX6_spread_44 : decode cX6_spread 44 = .ok (.iload_n 3, 1) := dk_29 (dk_at dksX6_spread_1 20 rfl rfl)
theorem dX6_spread_45 : decode cX6_spread 45 = .ok (.aload_n 0, 1) := dk_42 (dk_at dksX6_spread_1 21 rfl rfl)
theorem dX6_spread_46 : decode cX6_spread 46 = .ok (.getfield 13, 3) := dk_180 0 13 (dk_at dksX6_spread_2 0 rfl rfl)
theorem dX6_spread_49 : decode cX6_spread 49 = .ok (.iload_n 1, 1) := dk_27 (dk_at dksX6_spread_2 3 rfl rfl)
theorem dX6_spread_50 : decode cX6_spread 50 = .ok (.iaload, 1) := dk_46 (dk_at dksX6_spread_2 4 rfl rfl)
theorem dX6_spread_51 : decode cX6_spread 51 = .ok (.if_icmp .ge 220, 3) := dk_162 0 220 (dk_at dksX6_spread_2 5 rfl rfl)
theorem dX6_spread_54 : decode cX6_spread 54 = .ok (.sipush 200, 3) := dk_17 0 200 (dk_at dksX6_spread_2 8 rfl rfl)
theorem dX6_spread_57 : decode cX6_spread 57 = .ok (.iload_n 1, 1) := dk_27 (dk_at dksX6_spread_2 11 rfl rfl)
theorem dX6_spread_58 : decode cX6_spread 58 = .ok (.imul, 1) := dk_104 (dk_at dksX6_spread_2 12 rfl rfl)
theorem dX6_spread_59 : decode cX6_spread 59 = .ok (.iload_n 3, 1) := dk_29 (dk_at dksX6_spread_2 13 rfl rfl)
theorem dX6_spread_60 : decode cX6_spread 60 = .ok (.iadd, 1) := dk_96 (dk_at dksX6_spread_2 14 rfl rfl)
theorem dX6_spread_61 : decode cX6_spread 61 = .ok (.istore 4, 2) := dk_54 4 (dk_at dksX6_spread_2 15 rfl rfl)
theorem dX6_spread_63 : decode cX6_spread 63 = .ok (.iconst 0, 1) := dk_3 (dk_at dksX6_spread_2 17 rfl rfl)
theorem dX6_spread_64 : decode cX6_spread 64 = .ok (.istore 5, 2) := dk_54 5 (dk_at dksX6_spread_2 18 rfl rfl)
theorem dX6_spread_66 : decode cX6_spread 66 = .ok (.iload 5, 2) := dk_21 5 (dk_at dksX6_spread_2 20 rfl rfl)
theorem dX6_spread_68 : decode cX6_spread 68 = .ok (.aload_n 0, 1) := dk_42 (dk_at dksX6_spread_2 22 rfl rfl)
theorem dX6_spread_69 : decode cX6_spread 69 = .ok (.getfield 340, 3) := dk_180 1 84 (dk_at dksX6_spread_3 0 rfl rfl)
theorem dX6_spread_72 : decode cX6_spread 72 = .ok (.if_icmp .ge 17, 3) := dk_162 0 17 (dk_at dksX6_spread_3 3 rfl rfl)
theorem dX6_spread_75 : decode cX6_spread 75 = .ok (.aload_n 0, 1) := dk_42 (dk_at dksX6_spread_3 6 rfl rfl)
theorem dX6_spread_76 : decode cX6_spread 76 = .ok (.getfield 137, 3) := dk_180 0 137 (dk_at dksX6_spread_3 7 rfl rfl)
theorem dX6_spread_79 : decode cX6_spread 79 = .ok (.iload 5, 2) := dk_21 5 (dk_at dksX6_spread_3 10 rfl rfl)
theorem dX6_spread_81 : decode cX6_spread 81 = .ok (.lconst 0, 1) := dk_9 (dk_at dksX6_spread_3 12 rfl rfl)
theorem dX6_spread_82 : decode cX6_spread 82 = .ok (.lastore, 1) := dk_80 (dk_at dksX6_spread_3 13 rfl rfl)
theorem dX6_spread_83 : decode cX6_spread 83 = .ok (.iinc 5 1, 3) := dk_132 5 1 (dk_at dksX6_spread_3 14 rfl rfl)
theorem dX6_spread_86 : decode cX6_spread 86 = .ok (.goto (-20), 3) := dk_167 255 236 (dk_at dksX6_spread_3 17 rfl rfl)
theorem dX6_spread_89 : decode cX6_spread 89 = .ok (.iconst 0, 1) := dk_3 (dk_at dksX6_spread_3 20 rfl rfl)
theorem dX6_spread_90 : decode cX6_spread 90 = .ok (.istore 5, 2) := dk_54 5 (dk_at dksX6_spread_3 21 rfl rfl)
theorem dX6_spread_92 : decode cX6_spread 92 = .ok (.iload 5, 2) := dk_21 5 (dk_at dksX6_spread_4 0 rfl rfl)
theorem dX6_spread_94 : decode cX6_spread 94 = .ok (.aload_n 0, 1) := dk_42 (dk_at dksX6_spread_4 2 rfl rfl)
theorem dX6_spread_95 : decode cX6_spread 95 = .ok (.getfield 340, 3) := dk_180 1 84 (dk_at dksX6_spread_4 3 rfl rfl)
theorem dX6_spread_98 : decode cX6_spread 98 = .ok (.if_icmp .ge 135, 3) := dk_162 0 135 (dk_at dksX6_spread_4 6 rfl rfl)
theorem dX6_spread_101 : decode cX6_spread 101 = .ok (.aload_n 0, 1) := dk_42 (dk_at dksX6_spread_4 9 rfl rfl)
theorem dX6_spread_102 : decode cX6_spread 102 = .ok (.getfield 134, 3) := dk_180 0 134 (dk_at dksX6_spread_4 10 rfl rfl)
theorem dX6_spread_105 : decode cX6_spread 105 = .ok (.iload 5, 2) := dk_21 5 (dk_at dksX6_spread_4 13 rfl rfl)
theorem dX6_spread_107 : decode cX6_spread 107 = .ok (.laload, 1) := dk_47 (dk_at dksX6_spread_4 15 rfl rfl)
theorem dX6_spread_108 : decode cX6_spread 108 = .ok (.lconst 0, 1) := dk_9 (dk_at dksX6_spread_4 16 rfl rfl)
theorem dX6_spread_109 : decode cX6_spread 109 = .ok (.lcmp, 1) := dk_148 (dk_at dksX6_spread_4 17 rfl rfl)
theorem dX6_spread_110 : decode cX6_spread 110 = .ok (.ifCond .ne 6, 3) := dk_154 0 6 (dk_at dksX6_spread_4 18 rfl rfl)
theorem dX6_spread_113 : decode cX6_spread 113 = .ok (.goto 114, 3) := dk_167 0 114 (dk_at dksX6_spread_4 21 rfl rfl)
theorem dX6_spread_116 : decode cX6_spread 116 = .ok (.aload_n 0, 1) := dk_42 (dk_at dksX6_spread_5 0 rfl rfl)
theorem dX6_spread_117 : decode cX6_spread 117 = .ok (.getfield 16, 3) := dk_180 0 16 (dk_at dksX6_spread_5 1 rfl rfl)
theorem dX6_spread_120 : decode cX6_spread 120 = .ok (.iload 4, 2) := dk_21 4 (dk_at dksX6_spread_5 4 rfl rfl)
theorem dX6_spread_122 : decode cX6_spread 122 = .ok (.iaload, 1) := dk_46 (dk_at dksX6_spread_5 6 rfl rfl)
theorem dX6_spread_123 : decode cX6_spread 123 = .ok (.iconst 3, 1) := dk_6 (dk_at dksX6_spread_5 7 rfl rfl)
theorem dX6_spread_124 : decode cX6_spread 124 = .ok (.if_icmp .ne 37, 3) := dk_160 0 37 (dk_at dksX6_spread_5 8 rfl rfl)
theorem dX6_spread_127 : decode cX6_spread 127 = .ok (.aload_n 0, 1) := dk_42 (dk_at dksX6_spread_5 11 rfl rfl)
theorem dX6_spread_128 : decode cX6_spread 128 = .ok (.getfield 137, 3) := dk_180 0 137 (dk_at dksX6_spread_5 12 rfl rfl)
theorem dX6_spread_131 : decode cX6_spread 131 = .ok (.iload 5, 2) := dk_21 5 (dk_at dksX6_spread_5 15 rfl rfl)
theorem dX6_spread_133 : decode cX6_spread 133 = .ok (.dup2, 1) := dk_92 (dk_at dksX6_spread_5 17 rfl rfl)
theorem dX6_spread_134 : decode cX6_spread 134 = .ok (.laload, 1) := dk_47 (dk_at dksX6_spread_5 18 rfl rfl)
theorem dX6_spread_135 : decode cX6_spread 135 = .ok (.aload_n 0, 1) := dk_42 (dk_at dksX6_spread_5 19 rfl rfl)
theorem dX6_spread_136 : decode cX6_spread 136 = .ok (.getfield 134, 3) := dk_180 0 134 (dk_at dksX6_spread_5 20 rfl rfl)
theorem dX6_spread_139 : decode cX6_spread 139 = .ok (.iload 5, 2) := dk_21 5 (dk_at dksX6_spread_6 0 rfl rfl)
theorem dX6_spread_141 : decode cX6_spread 141 = .ok (.laload, 1) := dk_47 (dk_at dksX6_spread_6 2 rfl rfl)
theorem dX6_spread_142 : decode cX6_spread 142 = .ok (.aload_n 0, 1) := dk_42 (dk_at dksX6_spread_6 3 rfl rfl)
theorem dX6_spread_143 : decode cX6_spread 143 = .ok (.getfield 25, 3) := dk_180 0 25 (dk_at dksX6_spread_6 4 rfl rfl)
theorem dX6_spread_146 : decode cX6_spread 146 = .ok (.iload 4, 2) := dk_21 4 (dk_at dksX6_spread_6 7 rfl rfl)
theorem dX6_spread_148 : decode cX6_spread 148 = .ok (.iaload, 1) := dk_46 (dk_at dksX6_spread_6 9 rfl rfl)
theorem dX6_spread_149 : decode cX6_spread 149 = .ok (.aload_n 0, 1) := dk_42 (dk_at dksX6_spread_6 10 rfl rfl)
theorem dX6_spread_150 : decode cX6_spread 150 = .ok (.getfield 22, 3) := dk_180 0 22 (dk_at dksX6_spread_6 11 rfl rfl)
theorem dX6_spread_153 : decode cX6_spread 153 = .ok (.iload 4, 2) := dk_21 4 (dk_at dksX6_spread_6 14 rfl rfl)
theorem dX6_spread_155 : decode cX6_spread 155 = .ok (.iaload, 1) := dk_46 (dk_at dksX6_spread_6 16 rfl rfl)
theorem dX6_spread_156 : decode cX6_spread 156 = .ok (.isub, 1) := dk_100 (dk_at dksX6_spread_6 17 rfl rfl)
theorem dX6_spread_157 : decode cX6_spread 157 = .ok (.i2l, 1) := dk_133 (dk_at dksX6_spread_6 18 rfl rfl)
theorem dX6_spread_158 : decode cX6_spread 158 = .ok (.lmul, 1) := dk_105 (dk_at dksX6_spread_6 19 rfl rfl)
theorem dX6_spread_159 : decode cX6_spread 159 = .ok (.ladd, 1) := dk_97 (dk_at dksX6_spread_6 20 rfl rfl)
theorem dX6_spread_160 : decode cX6_spread 160 = .ok (.lastore, 1) := dk_80 (dk_at dksX6_spread_6 21 rfl rfl)
theorem dX6_spread_161 : decode cX6_spread 161 = .ok (.aload_n 0, 1) := dk_42 (dk_at dksX6_spread_6 22 rfl rfl)
theorem dX6_spread_162 : decode cX6_spread 162 = .ok (.getfield 137, 3) := dk_180 0 137 (dk_at dksX6_spread_7 0 rfl rfl)
theorem dX6_spread_165 : decode cX6_spread 165 = .ok (.aload_n 0, 1) := dk_42 (dk_at dksX6_spread_7 3 rfl rfl)
theorem dX6_spread_166 : decode cX6_spread 166 = .ok (.iload 5, 2) := dk_21 5 (dk_at dksX6_spread_7 4 rfl rfl)
theorem dX6_spread_168 : decode cX6_spread 168 = .ok (.aload_n 0, 1) := dk_42 (dk_at dksX6_spread_7 6 rfl rfl)
theorem dX6_spread_169 : decode cX6_spread 169 = .ok (.getfield 16, 3) := dk_180 0 16 (dk_at dksX6_spread_7 7 rfl rfl)
theorem dX6_spread_172 : decode cX6_spread 172 = .ok (.iload 4, 2) := dk_21 4 (dk_at dksX6_spread_7 10 rfl rfl)
theorem dX6_spread_174 : decode cX6_spread 174 = .ok (.iaload, 1) := dk_46 (dk_at dksX6_spread_7 12 rfl rfl)
theorem dX6_spread_175 : decode cX6_spread 175 = .ok (.aload_n 0, 1) := dk_42 (dk_at dksX6_spread_7 13 rfl rfl)
theorem dX6_spread_176 : decode cX6_spread 176 = .ok (.getfield 19, 3) := dk_180 0 19 (dk_at dksX6_spread_7 14 rfl rfl)
theorem dX6_spread_179 : decode cX6_spread 179 = .ok (.iload 4, 2) := dk_21 4 (dk_at dksX6_spread_7 17 rfl rfl)
theorem dX6_spread_181 : decode cX6_spread 181 = .ok (.iaload, 1) := dk_46 (dk_at dksX6_spread_7 19 rfl rfl)
theorem dX6_spread_182 : decode cX6_spread 182 = .ok (.iconst 1, 1) := dk_4 (dk_at dksX6_spread_7 20 rfl rfl)
theorem dX6_spread_183 : decode cX6_spread 183 = .ok (.invokevirtual 366, 3) := dk_182 1 110 (dk_at dksX6_spread_7 21 rfl rfl)
theorem dX6_spread_186 : decode cX6_spread 186 = .ok (.dup2, 1) := dk_92 (dk_at dksX6_spread_8 0 rfl rfl)
theorem dX6_spread_187 : decode cX6_spread 187 = .ok (.laload, 1) := dk_47 (dk_at dksX6_spread_8 1 rfl rfl)
theorem dX6_spread_188 : decode cX6_spread 188 = .ok (.aload_n 0, 1) := dk_42 (dk_at dksX6_spread_8 2 rfl rfl)
theorem dX6_spread_189 : decode cX6_spread 189 = .ok (.getfield 16, 3) := dk_180 0 16 (dk_at dksX6_spread_8 3 rfl rfl)
theorem dX6_spread_192 : decode cX6_spread 192 = .ok (.iload 4, 2) := dk_21 4 (dk_at dksX6_spread_8 6 rfl rfl)
theorem dX6_spread_194 : decode cX6_spread 194 = .ok (.iaload, 1) := dk_46 (dk_at dksX6_spread_8 8 rfl rfl)
theorem dX6_spread_195 : decode cX6_spread 195 = .ok (.iconst 3, 1) := dk_6 (dk_at dksX6_spread_8 9 rfl rfl)
theorem dX6_spread_196 : decode cX6_spread 196 = .ok (.if_icmp .ne 22, 3) := dk_160 0 22 (dk_at dksX6_spread_8 10 rfl rfl)
theorem dX6_spread_199 : decode cX6_spread 199 = .ok (.aload_n 0, 1) := dk_42 (dk_at dksX6_spread_8 13 rfl rfl)
theorem dX6_spread_200 : decode cX6_spread 200 = .ok (.getfield 134, 3) := dk_180 0 134 (dk_at dksX6_spread_8 14 rfl rfl)
theorem dX6_spread_203 : decode cX6_spread 203 = .ok (.iload 5, 2) := dk_21 5 (dk_at dksX6_spread_8 17 rfl rfl)
theorem dX6_spread_205 : decode cX6_spread 205 = .ok (.laload, 1) := dk_47 (dk_at dksX6_spread_8 19 rfl rfl)
theorem dX6_spread_206 : decode cX6_spread 206 = .ok (.aload_n 0, 1) := dk_42 (dk_at dksX6_spread_8 20 rfl rfl)
theorem dX6_spread_207 : decode cX6_spread 207 = .ok (.getfield 22, 3) := dk_180 0 22 (dk_at dksX6_spread_8 21 rfl rfl)
theorem dX6_spread_210 : decode cX6_spread 210 = .ok (.iload 4, 2) := dk_21 4 (dk_at dksX6_spread_9 0 rfl rfl)
theorem dX6_spread_212 : decode cX6_spread 212 = .ok (.iaload, 1) := dk_46 (dk_at dksX6_spread_9 2 rfl rfl)
theorem dX6_spread_213 : decode cX6_spread 213 = .ok (.i2l, 1) := dk_133 (dk_at dksX6_spread_9 3 rfl rfl)
theorem dX6_spread_214 : decode cX6_spread 214 = .ok (.lmul, 1) := dk_105 (dk_at dksX6_spread_9 4 rfl rfl)
theorem dX6_spread_215 : decode cX6_spread 215 = .ok (.goto 10, 3) := dk_167 0 10 (dk_at dksX6_spread_9 5 rfl rfl)
theorem dX6_spread_218 : decode cX6_spread 218 = .ok (.aload_n 0, 1) := dk_42 (dk_at dksX6_spread_9 8 rfl rfl)
theorem dX6_spread_219 : decode cX6_spread 219 = .ok (.getfield 134, 3) := dk_180 0 134 (dk_at dksX6_spread_9 9 rfl rfl)
theorem dX6_spread_222 : decode cX6_spread 222 = .ok (.iload 5, 2) := dk_21 5 (dk_at dksX6_spread_9 12 rfl rfl)
theorem dX6_spread_224 : decode cX6_spread 224 = .ok (.laload, 1) := dk_47 (dk_at dksX6_spread_9 14 rfl rfl)
theorem dX6_spread_225 : decode cX6_spread 225 = .ok (.ladd, 1) := dk_97 (dk_at dksX6_spread_9 15 rfl rfl)
theorem dX6_spread_226 : decode cX6_spread 226 = .ok (.lastore, 1) := dk_80 (dk_at dksX6_spread_9 16 rfl rfl)
theorem dX6_spread_227 : decode cX6_spread 227 = .ok (.iinc 5 1, 3) := dk_132 5 1 (dk_at dksX6_spread_9 17 rfl rfl)
theorem dX6_spread_230 : decode cX6_spread 230 = .ok (.goto (-138), 3) := dk_167 255 118 (dk_at dksX6_spread_9 20 rfl rfl)
theorem dX6_spread_233 : decode cX6_spread 233 = .ok (.iconst 0, 1) := dk_3 (dk_at dksX6_spread_9 23 rfl rfl)
theorem dX6_spread_234 : decode cX6_spread 234 = .ok (.istore 5, 2) := dk_54 5 (dk_at dksX6_spread_10 0 rfl rfl)
theorem dX6_spread_236 : decode cX6_spread 236 = .ok (.iload 5, 2) := dk_21 5 (dk_at dksX6_spread_10 2 rfl rfl)
theorem dX6_spread_238 : decode cX6_spread 238 = .ok (.aload_n 0, 1) := dk_42 (dk_at dksX6_spread_10 4 rfl rfl)
theorem dX6_spread_239 : decode cX6_spread 239 = .ok (.getfield 340, 3) := dk_180 1 84 (dk_at dksX6_spread_10 5 rfl rfl)
theorem dX6_spread_242 : decode cX6_spread 242 = .ok (.if_icmp .ge 23, 3) := dk_162 0 23 (dk_at dksX6_spread_10 8 rfl rfl)
theorem dX6_spread_245 : decode cX6_spread 245 = .ok (.aload_n 0, 1) := dk_42 (dk_at dksX6_spread_10 11 rfl rfl)
theorem dX6_spread_246 : decode cX6_spread 246 = .ok (.getfield 134, 3) := dk_180 0 134 (dk_at dksX6_spread_10 12 rfl rfl)
theorem dX6_spread_249 : decode cX6_spread 249 = .ok (.iload 5, 2) := dk_21 5 (dk_at dksX6_spread_10 15 rfl rfl)
theorem dX6_spread_251 : decode cX6_spread 251 = .ok (.aload_n 0, 1) := dk_42 (dk_at dksX6_spread_10 17 rfl rfl)
theorem dX6_spread_252 : decode cX6_spread 252 = .ok (.getfield 137, 3) := dk_180 0 137 (dk_at dksX6_spread_10 18 rfl rfl)
theorem dX6_spread_255 : decode cX6_spread 255 = .ok (.iload 5, 2) := dk_21 5 (dk_at dksX6_spread_10 21 rfl rfl)
theorem dX6_spread_257 : decode cX6_spread 257 = .ok (.laload, 1) := dk_47 (dk_at dksX6_spread_10 23 rfl rfl)
theorem dX6_spread_258 : decode cX6_spread 258 = .ok (.lastore, 1) := dk_80 (dk_at dksX6_spread_11 0 rfl rfl)
theorem dX6_spread_259 : decode cX6_spread 259 = .ok (.iinc 5 1, 3) := dk_132 5 1 (dk_at dksX6_spread_11 1 rfl rfl)
theorem dX6_spread_262 : decode cX6_spread 262 = .ok (.goto (-26), 3) := dk_167 255 230 (dk_at dksX6_spread_11 4 rfl rfl)
theorem dX6_spread_265 : decode cX6_spread 265 = .ok (.iinc 3 1, 3) := dk_132 3 1 (dk_at dksX6_spread_11 7 rfl rfl)
theorem dX6_spread_268 : decode cX6_spread 268 = .ok (.goto (-224), 3) := dk_167 255 32 (dk_at dksX6_spread_11 10 rfl rfl)
theorem dX6_spread_271 : decode cX6_spread 271 = .ok (.return_, 1) := dk_177 (dk_at dksX6_spread_11 13 rfl rfl)
abbrev cX6_oddsOf : ByteArray := prog_14_method_85_code
def yX6_oddsOf : MethodName := ⟨RX6, "oddsOf", "(III)J"⟩
def dkwX6_oddsOf_2 : List UInt8 := [180, 0, 134, 29, 47, 173]
abbrev dktX6_oddsOf_2 : List UInt8 := dkwX6_oddsOf_2 ++ []
def dkwX6_oddsOf_1 : List UInt8 := [180, 0, 7, 27, 46, 29, 182, 1, 103, 154, 0, 7, 20, 1, 121, 173, 42, 27, 28, 182, 1, 160, 42]
abbrev dktX6_oddsOf_1 : List UInt8 := dkwX6_oddsOf_1 ++ dktX6_oddsOf_2
def dkwX6_oddsOf_0 : List UInt8 := [42, 27, 182, 1, 51, 153, 0, 31, 42, 42, 180, 0, 7, 27, 46, 28, 182, 1, 103, 153, 0, 17, 42, 42]
abbrev dktX6_oddsOf_0 : List UInt8 := dkwX6_oddsOf_0 ++ dktX6_oddsOf_1
theorem dksX6_oddsOf_0 : cX6_oddsOf.data.toList.drop 0 = dktX6_oddsOf_0 := by decide +kernel
theorem dksX6_oddsOf_1 : cX6_oddsOf.data.toList.drop 24 = dktX6_oddsOf_1 := dk_seg dksX6_oddsOf_0 24 rfl rfl
theorem dksX6_oddsOf_2 : cX6_oddsOf.data.toList.drop 47 = dktX6_oddsOf_2 := dk_seg dksX6_oddsOf_1 23 rfl rfl
theorem dX6_oddsOf_0 : decode cX6_oddsOf 0 = .ok (.aload_n 0, 1) := dk_42 (dk_at dksX6_oddsOf_0 0 rfl rfl)
theorem dX6_oddsOf_1 : decode cX6_oddsOf 1 = .ok (.iload_n 1, 1) := dk_27 (dk_at dksX6_oddsOf_0 1 rfl rfl)
theorem dX6_oddsOf_2 : decode cX6_oddsOf 2 = .ok (.invokevirtual 307, 3) := dk_182 1 51 (dk_at dksX6_oddsOf_0 2 rfl rfl)
theorem dX6_oddsOf_5 : decode cX6_oddsOf 5 = .ok (.ifCond .eq 31, 3) := dk_153 0 31 (dk_at dksX6_oddsOf_0 5 rfl rfl)
theorem dX6_oddsOf_8 : decode cX6_oddsOf 8 = .ok (.aload_n 0, 1) := dk_42 (dk_at dksX6_oddsOf_0 8 rfl rfl)
theorem dX6_oddsOf_9 : decode cX6_oddsOf 9 = .ok (.aload_n 0, 1) := dk_42 (dk_at dksX6_oddsOf_0 9 rfl rfl)
theorem dX6_oddsOf_10 : decode cX6_oddsOf 10 = .ok (.getfield 7, 3) := dk_180 0 7 (dk_at dksX6_oddsOf_0 10 rfl rfl)
theorem dX6_oddsOf_13 : decode cX6_oddsOf 13 = .ok (.iload_n 1, 1) := dk_27 (dk_at dksX6_oddsOf_0 13 rfl rfl)
theorem dX6_oddsOf_14 : decode cX6_oddsOf 14 = .ok (.iaload, 1) := dk_46 (dk_at dksX6_oddsOf_0 14 rfl rfl)
theorem dX6_oddsOf_15 : decode cX6_oddsOf 15 = .ok (.iload_n 2, 1) := dk_28 (dk_at dksX6_oddsOf_0 15 rfl rfl)
theorem dX6_oddsOf_16 : decode cX6_oddsOf 16 = .ok (.invokevirtual 359, 3) := dk_182 1 103 (dk_at dksX6_oddsOf_0 16 rfl rfl)
theorem dX6_oddsOf_19 : decode cX6_oddsOf 19 = .ok (.ifCond .eq 17, 3) := dk_153 0 17 (dk_at dksX6_oddsOf_0 19 rfl rfl)
theorem dX6_oddsOf_22 : decode cX6_oddsOf 22 = .ok (.aload_n 0, 1) := dk_42 (dk_at dksX6_oddsOf_0 22 rfl rfl)
theorem dX6_oddsOf_23 : decode cX6_oddsOf 23 = .ok (.aload_n 0, 1) := dk_42 (dk_at dksX6_oddsOf_0 23 rfl rfl)
theorem dX6_oddsOf_24 : decode cX6_oddsOf 24 = .ok (.getfield 7, 3) := dk_180 0 7 (dk_at dksX6_oddsOf_1 0 rfl rfl)
theorem dX6_oddsOf_27 : decode cX6_oddsOf 27 = .ok (.iload_n 1, 1) := dk_27 (dk_at dksX6_oddsOf_1 3 rfl rfl)
theorem dX6_oddsOf_28 : decode cX6_oddsOf 28 = .ok (.iaload, 1) := dk_46 (dk_at dksX6_oddsOf_1 4 rfl rfl)
theorem dX6_oddsOf_29 : decode cX6_oddsOf 29 = .ok (.iload_n 3, 1) := dk_29 (dk_at dksX6_oddsOf_1 5 rfl rfl)
theorem dX6_oddsOf_30 : decode cX6_oddsOf 30 = .ok (.invokevirtual 359, 3) := dk_182 1 103 (dk_at dksX6_oddsOf_1 6 rfl rfl)
theorem dX6_oddsOf_33 : decode cX6_oddsOf 33 = .ok (.ifCond .ne 7, 3) := dk_154 0 7 (dk_at dksX6_oddsOf_1 9 rfl rfl)
theorem dX6_oddsOf_36 : decode cX6_oddsOf 36 = .ok (.ldc2_w 377, 3) := dk_20 1 121 (dk_at dksX6_oddsOf_1 12 rfl rfl)
theorem dX6_oddsOf_39 : decode cX6_oddsOf 39 = .ok (.lreturn, 1) := dk_173 (dk_at dksX6_oddsOf_1 15 rfl rfl)
theorem dX6_oddsOf_40 : decode cX6_oddsOf 40 = .ok (.aload_n 0, 1) := dk_42 (dk_at dksX6_oddsOf_1 16 rfl rfl)
theorem dX6_oddsOf_41 : decode cX6_oddsOf 41 = .ok (.iload_n 1, 1) := dk_27 (dk_at dksX6_oddsOf_1 17 rfl rfl)
theorem dX6_oddsOf_42 : decode cX6_oddsOf 42 = .ok (.iload_n 2, 1) := dk_28 (dk_at dksX6_oddsOf_1 18 rfl rfl)
theorem dX6_oddsOf_43 : decode cX6_oddsOf 43 = .ok (.invokevirtual 416, 3) := dk_182 1 160 (dk_at dksX6_oddsOf_1 19 rfl rfl)
theorem dX6_oddsOf_46 : decode cX6_oddsOf 46 = .ok (.aload_n 0, 1) := dk_42 (dk_at dksX6_oddsOf_1 22 rfl rfl)
theorem dX6_oddsOf_47 : decode cX6_oddsOf 47 = .ok (.getfield 134, 3) := dk_180 0 134 (dk_at dksX6_oddsOf_2 0 rfl rfl)
theorem dX6_oddsOf_50 : decode cX6_oddsOf 50 = .ok (.iload_n 3, 1) := dk_29 (dk_at dksX6_oddsOf_2 3 rfl rfl)
theorem dX6_oddsOf_51 : decode cX6_oddsOf 51 = .ok (.laload, 1) := dk_47 (dk_at dksX6_oddsOf_2 4 rfl rfl)
theorem dX6_oddsOf_52 : decode cX6_oddsOf 52 = .ok (.lreturn, 1) := dk_173 (dk_at dksX6_oddsOf_2 5 rfl rfl)
abbrev cX6_possible : ByteArray := prog_14_method_86_code
def yX6_possible : MethodName := ⟨RX6, "possible", "(II)I"⟩
def dkwX6_possible_3 : List UInt8 := [29, 172]
abbrev dktX6_possible_3 : List UInt8 := dkwX6_possible_3 ++ []
def dkwX6_possible_2 : List UInt8 := [180, 0, 134, 21, 4, 47, 9, 148, 158, 0, 7, 4, 167, 0, 4, 3, 96, 62, 132, 4, 1, 167, 255, 224]
abbrev dktX6_possible_2 : List UInt8 := dkwX6_possible_2 ++ dktX6_possible_3
def dkwX6_possible_1 : List UInt8 := [42, 27, 28, 182, 1, 160, 3, 62, 3, 54, 4, 21, 4, 42, 180, 1, 84, 162, 0, 29, 29, 42]
abbrev dktX6_possible_1 : List UInt8 := dkwX6_possible_1 ++ dktX6_possible_2
def dkwX6_possible_0 : List UInt8 := [42, 27, 182, 1, 51, 153, 0, 17, 42, 42, 180, 0, 7, 27, 46, 28, 182, 1, 103, 154, 0, 5, 2, 172]
abbrev dktX6_possible_0 : List UInt8 := dkwX6_possible_0 ++ dktX6_possible_1
theorem dksX6_possible_0 : cX6_possible.data.toList.drop 0 = dktX6_possible_0 := by decide +kernel
theorem dksX6_possible_1 : cX6_possible.data.toList.drop 24 = dktX6_possible_1 := dk_seg dksX6_possible_0 24 rfl rfl
theorem dksX6_possible_2 : cX6_possible.data.toList.drop 46 = dktX6_possible_2 := dk_seg dksX6_possible_1 22 rfl rfl
theorem dksX6_possible_3 : cX6_possible.data.toList.drop 70 = dktX6_possible_3 := dk_seg dksX6_possible_2 24 rfl rfl
theorem dX6_possible_0 : decode cX6_possible 0 = .ok (.aload_n 0, 1) := dk_42 (dk_at dksX6_possible_0 0 rfl rfl)
theorem dX6_possible_1 : decode cX6_possible 1 = .ok (.iload_n 1, 1) := dk_27 (dk_at dksX6_possible_0 1 rfl rfl)
theorem dX6_possible_2 : decode cX6_possible 2 = .ok (.invokevirtual 307, 3) := dk_182 1 51 (dk_at dksX6_possible_0 2 rfl rfl)
theorem dX6_possible_5 : decode cX6_possible 5 = .ok (.ifCond .eq 17, 3) := dk_153 0 17 (dk_at dksX6_possible_0 5 rfl rfl)
theorem dX6_possible_8 : decode cX6_possible 8 = .ok (.aload_n 0, 1) := dk_42 (dk_at dksX6_possible_0 8 rfl rfl)
theorem dX6_possible_9 : decode cX6_possible 9 = .ok (.aload_n 0, 1) := dk_42 (dk_at dksX6_possible_0 9 rfl rfl)
theorem dX6_possible_10 : decode cX6_possible 10 = .ok (.getfield 7, 3) := dk_180 0 7 (dk_at dksX6_possible_0 10 rfl rfl)
theorem dX6_possible_13 : decode cX6_possible 13 = .ok (.iload_n 1, 1) := dk_27 (dk_at dksX6_possible_0 13 rfl rfl)
theorem dX6_possible_14 : decode cX6_possible 14 = .ok (.iaload, 1) := dk_46 (dk_at dksX6_possible_0 14 rfl rfl)
theorem dX6_possible_15 : decode cX6_possible 15 = .ok (.iload_n 2, 1) := dk_28 (dk_at dksX6_possible_0 15 rfl rfl)
theorem dX6_possible_16 : decode cX6_possible 16 = .ok (.invokevirtual 359, 3) := dk_182 1 103 (dk_at dksX6_possible_0 16 rfl rfl)
theorem dX6_possible_19 : decode cX6_possible 19 = .ok (.ifCond .ne 5, 3) := dk_154 0 5 (dk_at dksX6_possible_0 19 rfl rfl)
theorem dX6_possible_22 : decode cX6_possible 22 = .ok (.iconst (-1), 1) := dk_2 (dk_at dksX6_possible_0 22 rfl rfl)
theorem dX6_possible_23 : decode cX6_possible 23 = .ok (.ireturn, 1) := dk_172 (dk_at dksX6_possible_0 23 rfl rfl)
theorem dX6_possible_24 : decode cX6_possible 24 = .ok (.aload_n 0, 1) := dk_42 (dk_at dksX6_possible_1 0 rfl rfl)
theorem dX6_possible_25 : decode cX6_possible 25 = .ok (.iload_n 1, 1) := dk_27 (dk_at dksX6_possible_1 1 rfl rfl)
theorem dX6_possible_26 : decode cX6_possible 26 = .ok (.iload_n 2, 1) := dk_28 (dk_at dksX6_possible_1 2 rfl rfl)
theorem dX6_possible_27 : decode cX6_possible 27 = .ok (.invokevirtual 416, 3) := dk_182 1 160 (dk_at dksX6_possible_1 3 rfl rfl)
theorem dX6_possible_30 : decode cX6_possible 30 = .ok (.iconst 0, 1) := dk_3 (dk_at dksX6_possible_1 6 rfl rfl)
theorem dX6_possible_31 : decode cX6_possible 31 = .ok (.istore_n 3, 1) := dk_62 (dk_at dksX6_possible_1 7 rfl rfl)
theorem dX6_possible_32 : decode cX6_possible 32 = .ok (.iconst 0, 1) := dk_3 (dk_at dksX6_possible_1 8 rfl rfl)
theorem dX6_possible_33 : decode cX6_possible 33 = .ok (.istore 4, 2) := dk_54 4 (dk_at dksX6_possible_1 9 rfl rfl)
theorem dX6_possible_35 : decode cX6_possible 35 = .ok (.iload 4, 2) := dk_21 4 (dk_at dksX6_possible_1 11 rfl rfl)
theorem dX6_possible_37 : decode cX6_possible 37 = .ok (.aload_n 0, 1) := dk_42 (dk_at dksX6_possible_1 13 rfl rfl)
theorem dX6_possible_38 : decode cX6_possible 38 = .ok (.getfield 340, 3) := dk_180 1 84 (dk_at dksX6_possible_1 14 rfl rfl)
theorem dX6_possible_41 : decode cX6_possible 41 = .ok (.if_icmp .ge 29, 3) := dk_162 0 29 (dk_at dksX6_possible_1 17 rfl rfl)
theorem dX6_possible_44 : decode cX6_possible 44 = .ok (.iload_n 3, 1) := dk_29 (dk_at dksX6_possible_1 20 rfl rfl)
theorem dX6_possible_45 : decode cX6_possible 45 = .ok (.aload_n 0, 1) := dk_42 (dk_at dksX6_possible_1 21 rfl rfl)
theorem dX6_possible_46 : decode cX6_possible 46 = .ok (.getfield 134, 3) := dk_180 0 134 (dk_at dksX6_possible_2 0 rfl rfl)
theorem dX6_possible_49 : decode cX6_possible 49 = .ok (.iload 4, 2) := dk_21 4 (dk_at dksX6_possible_2 3 rfl rfl)
theorem dX6_possible_51 : decode cX6_possible 51 = .ok (.laload, 1) := dk_47 (dk_at dksX6_possible_2 5 rfl rfl)
theorem dX6_possible_52 : decode cX6_possible 52 = .ok (.lconst 0, 1) := dk_9 (dk_at dksX6_possible_2 6 rfl rfl)
theorem dX6_possible_53 : decode cX6_possible 53 = .ok (.lcmp, 1) := dk_148 (dk_at dksX6_possible_2 7 rfl rfl)
theorem dX6_possible_54 : decode cX6_possible 54 = .ok (.ifCond .le 7, 3) := dk_158 0 7 (dk_at dksX6_possible_2 8 rfl rfl)
theorem dX6_possible_57 : decode cX6_possible 57 = .ok (.iconst 1, 1) := dk_4 (dk_at dksX6_possible_2 11 rfl rfl)
theorem dX6_possible_58 : decode cX6_possible 58 = .ok (.goto 4, 3) := dk_167 0 4 (dk_at dksX6_possible_2 12 rfl rfl)
theorem dX6_possible_61 : decode cX6_possible 61 = .ok (.iconst 0, 1) := dk_3 (dk_at dksX6_possible_2 15 rfl rfl)
theorem dX6_possible_62 : decode cX6_possible 62 = .ok (.iadd, 1) := dk_96 (dk_at dksX6_possible_2 16 rfl rfl)
theorem dX6_possible_63 : decode cX6_possible 63 = .ok (.istore_n 3, 1) := dk_62 (dk_at dksX6_possible_2 17 rfl rfl)
theorem dX6_possible_64 : decode cX6_possible 64 = .ok (.iinc 4 1, 3) := dk_132 4 1 (dk_at dksX6_possible_2 18 rfl rfl)
theorem dX6_possible_67 : decode cX6_possible 67 = .ok (.goto (-32), 3) := dk_167 255 224 (dk_at dksX6_possible_2 21 rfl rfl)
theorem dX6_possible_70 : decode cX6_possible 70 = .ok (.iload_n 3, 1) := dk_29 (dk_at dksX6_possible_3 0 rfl rfl)
theorem dX6_possible_71 : decode cX6_possible 71 = .ok (.ireturn, 1) := dk_172 (dk_at dksX6_possible_3 1 rfl rfl)
abbrev cX6_log : ByteArray := prog_14_method_87_code
def yX6_log : MethodName := ⟨RX6, "log", "(III)I"⟩
def dkwX6_log_3 : List UInt8 := [42, 180, 1, 48, 2, 79, 42, 89, 180, 1, 48, 4, 96, 181, 1, 48, 42, 180, 1, 48, 4, 100, 172]
abbrev dktX6_log_3 : List UInt8 := dkwX6_log_3 ++ []
def dkwX6_log_2 : List UInt8 := [42, 180, 0, 31, 42, 180, 1, 48, 28, 79, 42, 180, 0, 34, 42, 180, 1, 48, 29, 79, 42, 180, 0, 37]
abbrev dktX6_log_2 : List UInt8 := dkwX6_log_2 ++ dktX6_log_3
def dkwX6_log_1 : List UInt8 := [153, 0, 12, 42, 27, 29, 182, 1, 157, 154, 0, 5, 2, 172, 42, 180, 0, 28, 42, 180, 1, 48, 27, 79]
abbrev dktX6_log_1 : List UInt8 := dkwX6_log_1 ++ dktX6_log_2
def dkwX6_log_0 : List UInt8 := [42, 180, 1, 48, 16, 40, 159, 0, 29, 42, 27, 182, 1, 51, 153, 0, 21, 42, 27, 28, 182, 1, 157]
abbrev dktX6_log_0 : List UInt8 := dkwX6_log_0 ++ dktX6_log_1
theorem dksX6_log_0 : cX6_log.data.toList.drop 0 = dktX6_log_0 := by decide +kernel
theorem dksX6_log_1 : cX6_log.data.toList.drop 23 = dktX6_log_1 := dk_seg dksX6_log_0 23 rfl rfl
theorem dksX6_log_2 : cX6_log.data.toList.drop 47 = dktX6_log_2 := dk_seg dksX6_log_1 24 rfl rfl
theorem dksX6_log_3 : cX6_log.data.toList.drop 71 = dktX6_log_3 := dk_seg dksX6_log_2 24 rfl rfl
theorem dX6_log_0 : decode cX6_log 0 = .ok (.aload_n 0, 1) := dk_42 (dk_at dksX6_log_0 0 rfl rfl)
theorem dX6_log_1 : decode cX6_log 1 = .ok (.getfield 304, 3) := dk_180 1 48 (dk_at dksX6_log_0 1 rfl rfl)
theorem dX6_log_4 : decode cX6_log 4 = .ok (.bipush 40, 2) := dk_16 40 (dk_at dksX6_log_0 4 rfl rfl)
theorem dX6_log_6 : decode cX6_log 6 = .ok (.if_icmp .eq 29, 3) := dk_159 0 29 (dk_at dksX6_log_0 6 rfl rfl)
theorem dX6_log_9 : decode cX6_log 9 = .ok (.aload_n 0, 1) := dk_42 (dk_at dksX6_log_0 9 rfl rfl)
theorem dX6_log_10 : decode cX6_log 10 = .ok (.iload_n 1, 1) := dk_27 (dk_at dksX6_log_0 10 rfl rfl)
theorem dX6_log_11 : decode cX6_log 11 = .ok (.invokevirtual 307, 3) := dk_182 1 51 (dk_at dksX6_log_0 11 rfl rfl)
theorem dX6_log_14 : decode cX6_log 14 = .ok (.ifCond .eq 21, 3) := dk_153 0 21 (dk_at dksX6_log_0 14 rfl rfl)
theorem dX6_log_17 : decode cX6_log 17 = .ok (.aload_n 0, 1) := dk_42 (dk_at dksX6_log_0 17 rfl rfl)
theorem dX6_log_18 : decode cX6_log 18 = .ok (.iload_n 1, 1) := dk_27 (dk_at dksX6_log_0 18 rfl rfl)
theorem dX6_log_19 : decode cX6_log 19 = .ok (.iload_n 2, 1) := dk_28 (dk_at dksX6_log_0 19 rfl rfl)
theorem dX6_log_20 : decode cX6_log 20 = .ok (.invokevirtual 413, 3) := dk_182 1 157 (dk_at dksX6_log_0 20 rfl rfl)
theorem dX6_log_23 : decode cX6_log 23 = .ok (.ifCond .eq 12, 3) := dk_153 0 12 (dk_at dksX6_log_1 0 rfl rfl)
theorem dX6_log_26 : decode cX6_log 26 = .ok (.aload_n 0, 1) := dk_42 (dk_at dksX6_log_1 3 rfl rfl)
theorem dX6_log_27 : decode cX6_log 27 = .ok (.iload_n 1, 1) := dk_27 (dk_at dksX6_log_1 4 rfl rfl)
theorem dX6_log_28 : decode cX6_log 28 = .ok (.iload_n 3, 1) := dk_29 (dk_at dksX6_log_1 5 rfl rfl)
theorem dX6_log_29 : decode cX6_log 29 = .ok (.invokevirtual 413, 3) := dk_182 1 157 (dk_at dksX6_log_1 6 rfl rfl)
theorem dX6_log_32 : decode cX6_log 32 = .ok (.ifCond .ne 5, 3) := dk_154 0 5 (dk_at dksX6_log_1 9 rfl rfl)
theorem dX6_log_35 : decode cX6_log 35 = .ok (.iconst (-1), 1) := dk_2 (dk_at dksX6_log_1 12 rfl rfl)
theorem dX6_log_36 : decode cX6_log 36 = .ok (.ireturn, 1) := dk_172 (dk_at dksX6_log_1 13 rfl rfl)
theorem dX6_log_37 : decode cX6_log 37 = .ok (.aload_n 0, 1) := dk_42 (dk_at dksX6_log_1 14 rfl rfl)
theorem dX6_log_38 : decode cX6_log 38 = .ok (.getfield 28, 3) := dk_180 0 28 (dk_at dksX6_log_1 15 rfl rfl)
theorem dX6_log_41 : decode cX6_log 41 = .ok (.aload_n 0, 1) := dk_42 (dk_at dksX6_log_1 18 rfl rfl)
theorem dX6_log_42 : decode cX6_log 42 = .ok (.getfield 304, 3) := dk_180 1 48 (dk_at dksX6_log_1 19 rfl rfl)
theorem dX6_log_45 : decode cX6_log 45 = .ok (.iload_n 1, 1) := dk_27 (dk_at dksX6_log_1 22 rfl rfl)
theorem dX6_log_46 : decode cX6_log 46 = .ok (.iastore, 1) := dk_79 (dk_at dksX6_log_1 23 rfl rfl)
theorem dX6_log_47 : decode cX6_log 47 = .ok (.aload_n 0, 1) := dk_42 (dk_at dksX6_log_2 0 rfl rfl)
theorem dX6_log_48 : decode cX6_log 48 = .ok (.getfield 31, 3) := dk_180 0 31 (dk_at dksX6_log_2 1 rfl rfl)
theorem dX6_log_51 : decode cX6_log 51 = .ok (.aload_n 0, 1) := dk_42 (dk_at dksX6_log_2 4 rfl rfl)
theorem dX6_log_52 : decode cX6_log 52 = .ok (.getfield 304, 3) := dk_180 1 48 (dk_at dksX6_log_2 5 rfl rfl)
theorem dX6_log_55 : decode cX6_log 55 = .ok (.iload_n 2, 1) := dk_28 (dk_at dksX6_log_2 8 rfl rfl)
theorem dX6_log_56 : decode cX6_log 56 = .ok (.iastore, 1) := dk_79 (dk_at dksX6_log_2 9 rfl rfl)
theorem dX6_log_57 : decode cX6_log 57 = .ok (.aload_n 0, 1) := dk_42 (dk_at dksX6_log_2 10 rfl rfl)
theorem dX6_log_58 : decode cX6_log 58 = .ok (.getfield 34, 3) := dk_180 0 34 (dk_at dksX6_log_2 11 rfl rfl)
theorem dX6_log_61 : decode cX6_log 61 = .ok (.aload_n 0, 1) := dk_42 (dk_at dksX6_log_2 14 rfl rfl)
theorem dX6_log_62 : decode cX6_log 62 = .ok (.getfield 304, 3) := dk_180 1 48 (dk_at dksX6_log_2 15 rfl rfl)
theorem dX6_log_65 : decode cX6_log 65 = .ok (.iload_n 3, 1) := dk_29 (dk_at dksX6_log_2 18 rfl rfl)
theorem dX6_log_66 : decode cX6_log 66 = .ok (.iastore, 1) := dk_79 (dk_at dksX6_log_2 19 rfl rfl)
theorem dX6_log_67 : decode cX6_log 67 = .ok (.aload_n 0, 1) := dk_42 (dk_at dksX6_log_2 20 rfl rfl)
theorem dX6_log_68 : decode cX6_log 68 = .ok (.getfield 37, 3) := dk_180 0 37 (dk_at dksX6_log_2 21 rfl rfl)
theorem dX6_log_71 : decode cX6_log 71 = .ok (.aload_n 0, 1) := dk_42 (dk_at dksX6_log_3 0 rfl rfl)
theorem dX6_log_72 : decode cX6_log 72 = .ok (.getfield 304, 3) := dk_180 1 48 (dk_at dksX6_log_3 1 rfl rfl)
theorem dX6_log_75 : decode cX6_log 75 = .ok (.iconst (-1), 1) := dk_2 (dk_at dksX6_log_3 4 rfl rfl)
theorem dX6_log_76 : decode cX6_log 76 = .ok (.iastore, 1) := dk_79 (dk_at dksX6_log_3 5 rfl rfl)
theorem dX6_log_77 : decode cX6_log 77 = .ok (.aload_n 0, 1) := dk_42 (dk_at dksX6_log_3 6 rfl rfl)
theorem dX6_log_78 : decode cX6_log 78 = .ok (.dup, 1) := dk_89 (dk_at dksX6_log_3 7 rfl rfl)
theorem dX6_log_79 : decode cX6_log 79 = .ok (.getfield 304, 3) := dk_180 1 48 (dk_at dksX6_log_3 8 rfl rfl)
theorem dX6_log_82 : decode cX6_log 82 = .ok (.iconst 1, 1) := dk_4 (dk_at dksX6_log_3 11 rfl rfl)
theorem dX6_log_83 : decode cX6_log 83 = .ok (.iadd, 1) := dk_96 (dk_at dksX6_log_3 12 rfl rfl)
theorem dX6_log_84 : decode cX6_log 84 = .ok (.putfield 304, 3) := dk_181 1 48 (dk_at dksX6_log_3 13 rfl rfl)
theorem dX6_log_87 : decode cX6_log 87 = .ok (.aload_n 0, 1) := dk_42 (dk_at dksX6_log_3 16 rfl rfl)
theorem dX6_log_88 : decode cX6_log 88 = .ok (.getfield 304, 3) := dk_180 1 48 (dk_at dksX6_log_3 17 rfl rfl)
theorem dX6_log_91 : decode cX6_log 91 = .ok (.iconst 1, 1) := dk_4 (dk_at dksX6_log_3 20 rfl rfl)
theorem dX6_log_92 : decode cX6_log 92 = .ok (.isub, 1) := dk_100 (dk_at dksX6_log_3 21 rfl rfl)
theorem dX6_log_93 : decode cX6_log 93 = .ok (.ireturn, 1) := dk_172 (dk_at dksX6_log_3 22 rfl rfl)
abbrev cX6_annul : ByteArray := prog_14_method_88_code
def yX6_annul : MethodName := ⟨RX6, "annul", "(I)I"⟩
def dkwX6_annul_2 : List UInt8 := [42, 180, 1, 48, 27, 79, 42, 89, 180, 1, 48, 4, 96, 181, 1, 48, 42, 180, 1, 48, 4, 100, 172]
abbrev dktX6_annul_2 : List UInt8 := dkwX6_annul_2 ++ []
def dkwX6_annul_1 : List UInt8 := [180, 0, 37, 27, 46, 155, 0, 5, 2, 172, 42, 180, 0, 28, 42, 180, 1, 48, 2, 79, 42, 180, 0, 37]
abbrev dktX6_annul_1 : List UInt8 := dkwX6_annul_1 ++ dktX6_annul_2
def dkwX6_annul_0 : List UInt8 := [42, 180, 1, 48, 16, 40, 159, 0, 24, 27, 155, 0, 20, 27, 42, 180, 1, 48, 162, 0, 12, 42]
abbrev dktX6_annul_0 : List UInt8 := dkwX6_annul_0 ++ dktX6_annul_1
theorem dksX6_annul_0 : cX6_annul.data.toList.drop 0 = dktX6_annul_0 := by decide +kernel
theorem dksX6_annul_1 : cX6_annul.data.toList.drop 22 = dktX6_annul_1 := dk_seg dksX6_annul_0 22 rfl rfl
theorem dksX6_annul_2 : cX6_annul.data.toList.drop 46 = dktX6_annul_2 := dk_seg dksX6_annul_1 24 rfl rfl
theorem dX6_annul_0 : decode cX6_annul 0 = .ok (.aload_n 0, 1) := dk_42 (dk_at dksX6_annul_0 0 rfl rfl)
theorem dX6_annul_1 : decode cX6_annul 1 = .ok (.getfield 304, 3) := dk_180 1 48 (dk_at dksX6_annul_0 1 rfl rfl)
theorem dX6_annul_4 : decode cX6_annul 4 = .ok (.bipush 40, 2) := dk_16 40 (dk_at dksX6_annul_0 4 rfl rfl)
theorem dX6_annul_6 : decode cX6_annul 6 = .ok (.if_icmp .eq 24, 3) := dk_159 0 24 (dk_at dksX6_annul_0 6 rfl rfl)
theorem dX6_annul_9 : decode cX6_annul 9 = .ok (.iload_n 1, 1) := dk_27 (dk_at dksX6_annul_0 9 rfl rfl)
theorem dX6_annul_10 : decode cX6_annul 10 = .ok (.ifCond .lt 20, 3) := dk_155 0 20 (dk_at dksX6_annul_0 10 rfl rfl)
theorem dX6_annul_13 : decode cX6_annul 13 = .ok (.iload_n 1, 1) := dk_27 (dk_at dksX6_annul_0 13 rfl rfl)
theorem dX6_annul_14 : decode cX6_annul 14 = .ok (.aload_n 0, 1) := dk_42 (dk_at dksX6_annul_0 14 rfl rfl)
theorem dX6_annul_15 : decode cX6_annul 15 = .ok (.getfield 304, 3) := dk_180 1 48 (dk_at dksX6_annul_0 15 rfl rfl)
theorem dX6_annul_18 : decode cX6_annul 18 = .ok (.if_icmp .ge 12, 3) := dk_162 0 12 (dk_at dksX6_annul_0 18 rfl rfl)
theorem dX6_annul_21 : decode cX6_annul 21 = .ok (.aload_n 0, 1) := dk_42 (dk_at dksX6_annul_0 21 rfl rfl)
theorem dX6_annul_22 : decode cX6_annul 22 = .ok (.getfield 37, 3) := dk_180 0 37 (dk_at dksX6_annul_1 0 rfl rfl)
theorem dX6_annul_25 : decode cX6_annul 25 = .ok (.iload_n 1, 1) := dk_27 (dk_at dksX6_annul_1 3 rfl rfl)
theorem dX6_annul_26 : decode cX6_annul 26 = .ok (.iaload, 1) := dk_46 (dk_at dksX6_annul_1 4 rfl rfl)
theorem dX6_annul_27 : decode cX6_annul 27 = .ok (.ifCond .lt 5, 3) := dk_155 0 5 (dk_at dksX6_annul_1 5 rfl rfl)
theorem dX6_annul_30 : decode cX6_annul 30 = .ok (.iconst (-1), 1) := dk_2 (dk_at dksX6_annul_1 8 rfl rfl)
theorem dX6_annul_31 : decode cX6_annul 31 = .ok (.ireturn, 1) := dk_172 (dk_at dksX6_annul_1 9 rfl rfl)
theorem dX6_annul_32 : decode cX6_annul 32 = .ok (.aload_n 0, 1) := dk_42 (dk_at dksX6_annul_1 10 rfl rfl)
theorem dX6_annul_33 : decode cX6_annul 33 = .ok (.getfield 28, 3) := dk_180 0 28 (dk_at dksX6_annul_1 11 rfl rfl)
theorem dX6_annul_36 : decode cX6_annul 36 = .ok (.aload_n 0, 1) := dk_42 (dk_at dksX6_annul_1 14 rfl rfl)
theorem dX6_annul_37 : decode cX6_annul 37 = .ok (.getfield 304, 3) := dk_180 1 48 (dk_at dksX6_annul_1 15 rfl rfl)
theorem dX6_annul_40 : decode cX6_annul 40 = .ok (.iconst (-1), 1) := dk_2 (dk_at dksX6_annul_1 18 rfl rfl)
theorem dX6_annul_41 : decode cX6_annul 41 = .ok (.iastore, 1) := dk_79 (dk_at dksX6_annul_1 19 rfl rfl)
theorem dX6_annul_42 : decode cX6_annul 42 = .ok (.aload_n 0, 1) := dk_42 (dk_at dksX6_annul_1 20 rfl rfl)
theorem dX6_annul_43 : decode cX6_annul 43 = .ok (.getfield 37, 3) := dk_180 0 37 (dk_at dksX6_annul_1 21 rfl rfl)
theorem dX6_annul_46 : decode cX6_annul 46 = .ok (.aload_n 0, 1) := dk_42 (dk_at dksX6_annul_2 0 rfl rfl)
theorem dX6_annul_47 : decode cX6_annul 47 = .ok (.getfield 304, 3) := dk_180 1 48 (dk_at dksX6_annul_2 1 rfl rfl)
theorem dX6_annul_50 : decode cX6_annul 50 = .ok (.iload_n 1, 1) := dk_27 (dk_at dksX6_annul_2 4 rfl rfl)
theorem dX6_annul_51 : decode cX6_annul 51 = .ok (.iastore, 1) := dk_79 (dk_at dksX6_annul_2 5 rfl rfl)
theorem dX6_annul_52 : decode cX6_annul 52 = .ok (.aload_n 0, 1) := dk_42 (dk_at dksX6_annul_2 6 rfl rfl)
theorem dX6_annul_53 : decode cX6_annul 53 = .ok (.dup, 1) := dk_89 (dk_at dksX6_annul_2 7 rfl rfl)
theorem dX6_annul_54 : decode cX6_annul 54 = .ok (.getfield 304, 3) := dk_180 1 48 (dk_at dksX6_annul_2 8 rfl rfl)
theorem dX6_annul_57 : decode cX6_annul 57 = .ok (.iconst 1, 1) := dk_4 (dk_at dksX6_annul_2 11 rfl rfl)
theorem dX6_annul_58 : decode cX6_annul 58 = .ok (.iadd, 1) := dk_96 (dk_at dksX6_annul_2 12 rfl rfl)
theorem dX6_annul_59 : decode cX6_annul 59 = .ok (.putfield 304, 3) := dk_181 1 48 (dk_at dksX6_annul_2 13 rfl rfl)
theorem dX6_annul_62 : decode cX6_annul 62 = .ok (.aload_n 0, 1) := dk_42 (dk_at dksX6_annul_2 16 rfl rfl)
theorem dX6_annul_63 : decode cX6_annul 63 = .ok (.getfield 304, 3) := dk_180 1 48 (dk_at dksX6_annul_2 17 rfl rfl)
theorem dX6_annul_66 : decode cX6_annul 66 = .ok (.iconst 1, 1) := dk_4 (dk_at dksX6_annul_2 20 rfl rfl)
theorem dX6_annul_67 : decode cX6_annul 67 = .ok (.isub, 1) := dk_100 (dk_at dksX6_annul_2 21 rfl rfl)
theorem dX6_annul_68 : decode cX6_annul 68 = .ok (.ireturn, 1) := dk_172 (dk_at dksX6_annul_2 22 rfl rfl)
abbrev cX6_fitting : ByteArray := prog_14_method_93_code
def yX6_fitting : MethodName := ⟨RX6, "fitting", "(II)J"⟩
def dkwX6_fitting_0 : List UInt8 := [42, 27, 28, 182, 1, 169, 153, 0, 12, 42, 27, 28, 182, 1, 172, 167, 0, 6, 20, 1, 121, 173]
abbrev dktX6_fitting_0 : List UInt8 := dkwX6_fitting_0 ++ []
theorem dksX6_fitting_0 : cX6_fitting.data.toList.drop 0 = dktX6_fitting_0 := by decide +kernel
theorem dX6_fitting_0 : decode cX6_fitting 0 = .ok (.aload_n 0, 1) := dk_42 (dk_at dksX6_fitting_0 0 rfl rfl)
theorem dX6_fitting_1 : decode cX6_fitting 1 = .ok (.iload_n 1, 1) := dk_27 (dk_at dksX6_fitting_0 1 rfl rfl)
theorem dX6_fitting_2 : decode cX6_fitting 2 = .ok (.iload_n 2, 1) := dk_28 (dk_at dksX6_fitting_0 2 rfl rfl)
theorem dX6_fitting_3 : decode cX6_fitting 3 = .ok (.invokevirtual 425, 3) := dk_182 1 169 (dk_at dksX6_fitting_0 3 rfl rfl)
theorem dX6_fitting_6 : decode cX6_fitting 6 = .ok (.ifCond .eq 12, 3) := dk_153 0 12 (dk_at dksX6_fitting_0 6 rfl rfl)
theorem dX6_fitting_9 : decode cX6_fitting 9 = .ok (.aload_n 0, 1) := dk_42 (dk_at dksX6_fitting_0 9 rfl rfl)
theorem dX6_fitting_10 : decode cX6_fitting 10 = .ok (.iload_n 1, 1) := dk_27 (dk_at dksX6_fitting_0 10 rfl rfl)
theorem dX6_fitting_11 : decode cX6_fitting 11 = .ok (.iload_n 2, 1) := dk_28 (dk_at dksX6_fitting_0 11 rfl rfl)
theorem dX6_fitting_12 : decode cX6_fitting 12 = .ok (.invokevirtual 428, 3) := dk_182 1 172 (dk_at dksX6_fitting_0 12 rfl rfl)
theorem dX6_fitting_15 : decode cX6_fitting 15 = .ok (.goto 6, 3) := dk_167 0 6 (dk_at dksX6_fitting_0 15 rfl rfl)
theorem dX6_fitting_18 : decode cX6_fitting 18 = .ok (.ldc2_w 377, 3) := dk_20 1 121 (dk_at dksX6_fitting_0 18 rfl rfl)
theorem dX6_fitting_21 : decode cX6_fitting 21 = .ok (.lreturn, 1) := dk_173 (dk_at dksX6_fitting_0 21 rfl rfl)
abbrev cX6_isKnown : ByteArray := prog_14_method_92_code
def yX6_isKnown : MethodName := ⟨RX6, "isKnown", "(II)Z"⟩
def dkwX6_isKnown_1 : List UInt8 := [3, 172]
abbrev dktX6_isKnown_1 : List UInt8 := dkwX6_isKnown_1 ++ []
def dkwX6_isKnown_0 : List UInt8 := [42, 27, 182, 1, 51, 153, 0, 19, 28, 155, 0, 15, 28, 42, 180, 1, 48, 163, 0, 7, 4, 167, 0, 4]
abbrev dktX6_isKnown_0 : List UInt8 := dkwX6_isKnown_0 ++ dktX6_isKnown_1
theorem dksX6_isKnown_0 : cX6_isKnown.data.toList.drop 0 = dktX6_isKnown_0 := by decide +kernel
theorem dksX6_isKnown_1 : cX6_isKnown.data.toList.drop 24 = dktX6_isKnown_1 := dk_seg dksX6_isKnown_0 24 rfl rfl
theorem dX6_isKnown_0 : decode cX6_isKnown 0 = .ok (.aload_n 0, 1) := dk_42 (dk_at dksX6_isKnown_0 0 rfl rfl)
theorem dX6_isKnown_1 : decode cX6_isKnown 1 = .ok (.iload_n 1, 1) := dk_27 (dk_at dksX6_isKnown_0 1 rfl rfl)
theorem dX6_isKnown_2 : decode cX6_isKnown 2 = .ok (.invokevirtual 307, 3) := dk_182 1 51 (dk_at dksX6_isKnown_0 2 rfl rfl)
theorem dX6_isKnown_5 : decode cX6_isKnown 5 = .ok (.ifCond .eq 19, 3) := dk_153 0 19 (dk_at dksX6_isKnown_0 5 rfl rfl)
theorem dX6_isKnown_8 : decode cX6_isKnown 8 = .ok (.iload_n 2, 1) := dk_28 (dk_at dksX6_isKnown_0 8 rfl rfl)
theorem dX6_isKnown_9 : decode cX6_isKnown 9 = .ok (.ifCond .lt 15, 3) := dk_155 0 15 (dk_at dksX6_isKnown_0 9 rfl rfl)
theorem dX6_isKnown_12 : decode cX6_isKnown 12 = .ok (.iload_n 2, 1) := dk_28 (dk_at dksX6_isKnown_0 12 rfl rfl)
theorem dX6_isKnown_13 : decode cX6_isKnown 13 = .ok (.aload_n 0, 1) := dk_42 (dk_at dksX6_isKnown_0 13 rfl rfl)
theorem dX6_isKnown_14 : decode cX6_isKnown 14 = .ok (.getfield 304, 3) := dk_180 1 48 (dk_at dksX6_isKnown_0 14 rfl rfl)
theorem dX6_isKnown_17 : decode cX6_isKnown 17 = .ok (.if_icmp .gt 7, 3) := dk_163 0 7 (dk_at dksX6_isKnown_0 17 rfl rfl)
theorem dX6_isKnown_20 : decode cX6_isKnown 20 = .ok (.iconst 1, 1) := dk_4 (dk_at dksX6_isKnown_0 20 rfl rfl)
theorem dX6_isKnown_21 : decode cX6_isKnown 21 = .ok (.goto 4, 3) := dk_167 0 4 (dk_at dksX6_isKnown_0 21 rfl rfl)
theorem dX6_isKnown_24 : decode cX6_isKnown 24 = .ok (.iconst 0, 1) := dk_3 (dk_at dksX6_isKnown_1 0 rfl rfl)
theorem dX6_isKnown_25 : decode cX6_isKnown 25 = .ok (.ireturn, 1) := dk_172 (dk_at dksX6_isKnown_1 1 rfl rfl)
abbrev cX6_fit : ByteArray := prog_14_method_91_code
def yX6_fit : MethodName := ⟨RX6, "fit", "(II)J"⟩
def dkwX6_fit_2 : List UInt8 := [21, 5, 9, 80, 33, 42, 180, 0, 134, 21, 5, 47, 97, 66, 132, 5, 1, 167, 255, 203, 33, 173]
abbrev dktX6_fit_2 : List UInt8 := dkwX6_fit_2 ++ []
def dkwX6_fit_1 : List UInt8 := [21, 5, 47, 9, 148, 158, 0, 22, 42, 27, 21, 5, 28, 182, 1, 166, 154, 0, 11, 42, 180, 0, 134]
abbrev dktX6_fit_1 : List UInt8 := dkwX6_fit_1 ++ dktX6_fit_2
def dkwX6_fit_0 : List UInt8 := [42, 27, 3, 182, 1, 160, 9, 66, 3, 54, 5, 21, 5, 42, 180, 1, 84, 162, 0, 50, 42, 180, 0, 134]
abbrev dktX6_fit_0 : List UInt8 := dkwX6_fit_0 ++ dktX6_fit_1
theorem dksX6_fit_0 : cX6_fit.data.toList.drop 0 = dktX6_fit_0 := by decide +kernel
theorem dksX6_fit_1 : cX6_fit.data.toList.drop 24 = dktX6_fit_1 := dk_seg dksX6_fit_0 24 rfl rfl
theorem dksX6_fit_2 : cX6_fit.data.toList.drop 47 = dktX6_fit_2 := dk_seg dksX6_fit_1 23 rfl rfl
theorem dX6_fit_0 : decode cX6_fit 0 = .ok (.aload_n 0, 1) := dk_42 (dk_at dksX6_fit_0 0 rfl rfl)
theorem dX6_fit_1 : decode cX6_fit 1 = .ok (.iload_n 1, 1) := dk_27 (dk_at dksX6_fit_0 1 rfl rfl)
theorem dX6_fit_2 : decode cX6_fit 2 = .ok (.iconst 0, 1) := dk_3 (dk_at dksX6_fit_0 2 rfl rfl)
theorem dX6_fit_3 : decode cX6_fit 3 = .ok (.invokevirtual 416, 3) := dk_182 1 160 (dk_at dksX6_fit_0 3 rfl rfl)
theorem dX6_fit_6 : decode cX6_fit 6 = .ok (.lconst 0, 1) := dk_9 (dk_at dksX6_fit_0 6 rfl rfl)
theorem dX6_fit_7 : decode cX6_fit 7 = .ok (.lstore_n 3, 1) := dk_66 (dk_at dksX6_fit_0 7 rfl rfl)
theorem dX6_fit_8 : decode cX6_fit 8 = .ok (.iconst 0, 1) := dk_3 (dk_at dksX6_fit_0 8 rfl rfl)
theorem dX6_fit_9 : decode cX6_fit 9 = .ok (.istore 5, 2) := dk_54 5 (dk_at dksX6_fit_0 9 rfl rfl)
theorem dX6_fit_11 : decode cX6_fit 11 = .ok (.iload 5, 2) := dk_21 5 (dk_at dksX6_fit_0 11 rfl rfl)
theorem dX6_fit_13 : decode cX6_fit 13 = .ok (.aload_n 0, 1) := dk_42 (dk_at dksX6_fit_0 13 rfl rfl)
theorem dX6_fit_14 : decode cX6_fit 14 = .ok (.getfield 340, 3) := dk_180 1 84 (dk_at dksX6_fit_0 14 rfl rfl)
theorem dX6_fit_17 : decode cX6_fit 17 = .ok (.if_icmp .ge 50, 3) := dk_162 0 50 (dk_at dksX6_fit_0 17 rfl rfl)
theorem dX6_fit_20 : decode cX6_fit 20 = .ok (.aload_n 0, 1) := dk_42 (dk_at dksX6_fit_0 20 rfl rfl)
theorem dX6_fit_21 : decode cX6_fit 21 = .ok (.getfield 134, 3) := dk_180 0 134 (dk_at dksX6_fit_0 21 rfl rfl)
theorem dX6_fit_24 : decode cX6_fit 24 = .ok (.iload 5, 2) := dk_21 5 (dk_at dksX6_fit_1 0 rfl rfl)
theorem dX6_fit_26 : decode cX6_fit 26 = .ok (.laload, 1) := dk_47 (dk_at dksX6_fit_1 2 rfl rfl)
theorem dX6_fit_27 : decode cX6_fit 27 = .ok (.lconst 0, 1) := dk_9 (dk_at dksX6_fit_1 3 rfl rfl)
theorem dX6_fit_28 : decode cX6_fit 28 = .ok (.lcmp, 1) := dk_148 (dk_at dksX6_fit_1 4 rfl rfl)
theorem dX6_fit_29 : decode cX6_fit 29 = .ok (.ifCond .le 22, 3) := dk_158 0 22 (dk_at dksX6_fit_1 5 rfl rfl)
theorem dX6_fit_32 : decode cX6_fit 32 = .ok (.aload_n 0, 1) := dk_42 (dk_at dksX6_fit_1 8 rfl rfl)
theorem dX6_fit_33 : decode cX6_fit 33 = .ok (.iload_n 1, 1) := dk_27 (dk_at dksX6_fit_1 9 rfl rfl)
theorem dX6_fit_34 : decode cX6_fit 34 = .ok (.iload 5, 2) := dk_21 5 (dk_at dksX6_fit_1 10 rfl rfl)
theorem dX6_fit_36 : decode cX6_fit 36 = .ok (.iload_n 2, 1) := dk_28 (dk_at dksX6_fit_1 12 rfl rfl)
theorem dX6_fit_37 : decode cX6_fit 37 = .ok (.invokevirtual 422, 3) := dk_182 1 166 (dk_at dksX6_fit_1 13 rfl rfl)
theorem dX6_fit_40 : decode cX6_fit 40 = .ok (.ifCond .ne 11, 3) := dk_154 0 11 (dk_at dksX6_fit_1 16 rfl rfl)
theorem dX6_fit_43 : decode cX6_fit 43 = .ok (.aload_n 0, 1) := dk_42 (dk_at dksX6_fit_1 19 rfl rfl)
theorem dX6_fit_44 : decode cX6_fit 44 = .ok (.getfield 134, 3) := dk_180 0 134 (dk_at dksX6_fit_1 20 rfl rfl)
theorem dX6_fit_47 : decode cX6_fit 47 = .ok (.iload 5, 2) := dk_21 5 (dk_at dksX6_fit_2 0 rfl rfl)
theorem dX6_fit_49 : decode cX6_fit 49 = .ok (.lconst 0, 1) := dk_9 (dk_at dksX6_fit_2 2 rfl rfl)
theorem dX6_fit_50 : decode cX6_fit 50 = .ok (.lastore, 1) := dk_80 (dk_at dksX6_fit_2 3 rfl rfl)
theorem dX6_fit_51 : decode cX6_fit 51 = .ok (.lload_n 3, 1) := dk_33 (dk_at dksX6_fit_2 4 rfl rfl)
theorem dX6_fit_52 : decode cX6_fit 52 = .ok (.aload_n 0, 1) := dk_42 (dk_at dksX6_fit_2 5 rfl rfl)
theorem dX6_fit_53 : decode cX6_fit 53 = .ok (.getfield 134, 3) := dk_180 0 134 (dk_at dksX6_fit_2 6 rfl rfl)
theorem dX6_fit_56 : decode cX6_fit 56 = .ok (.iload 5, 2) := dk_21 5 (dk_at dksX6_fit_2 9 rfl rfl)
theorem dX6_fit_58 : decode cX6_fit 58 = .ok (.laload, 1) := dk_47 (dk_at dksX6_fit_2 11 rfl rfl)
theorem dX6_fit_59 : decode cX6_fit 59 = .ok (.ladd, 1) := dk_97 (dk_at dksX6_fit_2 12 rfl rfl)
theorem dX6_fit_60 : decode cX6_fit 60 = .ok (.lstore_n 3, 1) := dk_66 (dk_at dksX6_fit_2 13 rfl rfl)
theorem dX6_fit_61 : decode cX6_fit 61 = .ok (.iinc 5 1, 3) := dk_132 5 1 (dk_at dksX6_fit_2 14 rfl rfl)
theorem dX6_fit_64 : decode cX6_fit 64 = .ok (.goto (-53), 3) := dk_167 255 203 (dk_at dksX6_fit_2 17 rfl rfl)
theorem dX6_fit_67 : decode cX6_fit 67 = .ok (.lload_n 3, 1) := dk_33 (dk_at dksX6_fit_2 20 rfl rfl)
theorem dX6_fit_68 : decode cX6_fit 68 = .ok (.lreturn, 1) := dk_173 (dk_at dksX6_fit_2 21 rfl rfl)
abbrev cX6_isFit : ByteArray := prog_14_method_90_code
def yX6_isFit : MethodName := ⟨RX6, "isFit", "(III)Z"⟩
def dkwX6_isFit_2 : List UInt8 := [96, 46, 42, 180, 0, 31, 21, 4, 46, 159, 0, 5, 3, 172, 132, 4, 1, 167, 255, 194, 4, 172]
abbrev dktX6_isFit_2 : List UInt8 := dkwX6_isFit_2 ++ []
def dkwX6_isFit_1 : List UInt8 := [182, 1, 163, 153, 0, 6, 167, 0, 32, 42, 180, 0, 98, 16, 7, 28, 104, 42, 180, 0, 34, 21, 4, 46]
abbrev dktX6_isFit_1 : List UInt8 := dkwX6_isFit_1 ++ dktX6_isFit_2
def dkwX6_isFit_0 : List UInt8 := [3, 54, 4, 21, 4, 29, 162, 0, 62, 42, 180, 0, 28, 21, 4, 46, 27, 160, 0, 45, 42, 21, 4, 29]
abbrev dktX6_isFit_0 : List UInt8 := dkwX6_isFit_0 ++ dktX6_isFit_1
theorem dksX6_isFit_0 : cX6_isFit.data.toList.drop 0 = dktX6_isFit_0 := by decide +kernel
theorem dksX6_isFit_1 : cX6_isFit.data.toList.drop 24 = dktX6_isFit_1 := dk_seg dksX6_isFit_0 24 rfl rfl
theorem dksX6_isFit_2 : cX6_isFit.data.toList.drop 48 = dktX6_isFit_2 := dk_seg dksX6_isFit_1 24 rfl rfl
theorem dX6_isFit_0 : decode cX6_isFit 0 = .ok (.iconst 0, 1) := dk_3 (dk_at dksX6_isFit_0 0 rfl rfl)
theorem dX6_isFit_1 : decode cX6_isFit 1 = .ok (.istore 4, 2) := dk_54 4 (dk_at dksX6_isFit_0 1 rfl rfl)
theorem dX6_isFit_3 : decode cX6_isFit 3 = .ok (.iload 4, 2) := dk_21 4 (dk_at dksX6_isFit_0 3 rfl rfl)
theorem dX6_isFit_5 : decode cX6_isFit 5 = .ok (.iload_n 3, 1) := dk_29 (dk_at dksX6_isFit_0 5 rfl rfl)
theorem dX6_isFit_6 : decode cX6_isFit 6 = .ok (.if_icmp .ge 62, 3) := dk_162 0 62 (dk_at dksX6_isFit_0 6 rfl rfl)
theorem dX6_isFit_9 : decode cX6_isFit 9 = .ok (.aload_n 0, 1) := dk_42 (dk_at dksX6_isFit_0 9 rfl rfl)
theorem dX6_isFit_10 : decode cX6_isFit 10 = .ok (.getfield 28, 3) := dk_180 0 28 (dk_at dksX6_isFit_0 10 rfl rfl)
theorem dX6_isFit_13 : decode cX6_isFit 13 = .ok (.iload 4, 2) := dk_21 4 (dk_at dksX6_isFit_0 13 rfl rfl)
theorem dX6_isFit_15 : decode cX6_isFit 15 = .ok (.iaload, 1) := dk_46 (dk_at dksX6_isFit_0 15 rfl rfl)
theorem dX6_isFit_16 : decode cX6_isFit 16 = .ok (.iload_n 1, 1) := dk_27 (dk_at dksX6_isFit_0 16 rfl rfl)
theorem dX6_isFit_17 : decode cX6_isFit 17 = .ok (.if_icmp .ne 45, 3) := dk_160 0 45 (dk_at dksX6_isFit_0 17 rfl rfl)
theorem dX6_isFit_20 : decode cX6_isFit 20 = .ok (.aload_n 0, 1) := dk_42 (dk_at dksX6_isFit_0 20 rfl rfl)
theorem dX6_isFit_21 : decode cX6_isFit 21 = .ok (.iload 4, 2) := dk_21 4 (dk_at dksX6_isFit_0 21 rfl rfl)
theorem dX6_isFit_23 : decode cX6_isFit 23 = .ok (.iload_n 3, 1) := dk_29 (dk_at dksX6_isFit_0 23 rfl rfl)
theorem dX6_isFit_24 : decode cX6_isFit 24 = .ok (.invokevirtual 419, 3) := dk_182 1 163 (dk_at dksX6_isFit_1 0 rfl rfl)
theorem dX6_isFit_27 : decode cX6_isFit 27 = .ok (.ifCond .eq 6, 3) := dk_153 0 6 (dk_at dksX6_isFit_1 3 rfl rfl)
theorem dX6_isFit_30 : decode cX6_isFit 30 = .ok (.goto 32, 3) := dk_167 0 32 (dk_at dksX6_isFit_1 6 rfl rfl)
theorem dX6_isFit_33 : decode cX6_isFit 33 = .ok (.aload_n 0, 1) := dk_42 (dk_at dksX6_isFit_1 9 rfl rfl)
theorem dX6_isFit_34 : decode cX6_isFit 34 = .ok (.getfield 98, 3) := dk_180 0 98 (dk_at dksX6_isFit_1 10 rfl rfl)
theorem dX6_isFit_37 : decode cX6_isFit 37 = .ok (.bipush 7, 2) := dk_16 7 (dk_at dksX6_isFit_1 13 rfl rfl)
theorem dX6_isFit_39 : decode cX6_isFit 39 = .ok (.iload_n 2, 1) := dk_28 (dk_at dksX6_isFit_1 15 rfl rfl)
theorem dX6_isFit_40 : decode cX6_isFit 40 = .ok (.imul, 1) := dk_104 (dk_at dksX6_isFit_1 16 rfl rfl)
theorem dX6_isFit_41 : decode cX6_isFit 41 = .ok (.aload_n 0, 1) := dk_42 (dk_at dksX6_isFit_1 17 rfl rfl)
theorem dX6_isFit_42 : decode cX6_isFit 42 = .ok (.getfield 34, 3) := dk_180 0 34 (dk_at dksX6_isFit_1 18 rfl rfl)
theorem dX6_isFit_45 : decode cX6_isFit 45 = .ok (.iload 4, 2) := dk_21 4 (dk_at dksX6_isFit_1 21 rfl rfl)
theorem dX6_isFit_47 : decode cX6_isFit 47 = .ok (.iaload, 1) := dk_46 (dk_at dksX6_isFit_1 23 rfl rfl)
theorem dX6_isFit_48 : decode cX6_isFit 48 = .ok (.iadd, 1) := dk_96 (dk_at dksX6_isFit_2 0 rfl rfl)
theorem dX6_isFit_49 : decode cX6_isFit 49 = .ok (.iaload, 1) := dk_46 (dk_at dksX6_isFit_2 1 rfl rfl)
theorem dX6_isFit_50 : decode cX6_isFit 50 = .ok (.aload_n 0, 1) := dk_42 (dk_at dksX6_isFit_2 2 rfl rfl)
theorem dX6_isFit_51 : decode cX6_isFit 51 = .ok (.getfield 31, 3) := dk_180 0 31 (dk_at dksX6_isFit_2 3 rfl rfl)
theorem dX6_isFit_54 : decode cX6_isFit 54 = .ok (.iload 4, 2) := dk_21 4 (dk_at dksX6_isFit_2 6 rfl rfl)
theorem dX6_isFit_56 : decode cX6_isFit 56 = .ok (.iaload, 1) := dk_46 (dk_at dksX6_isFit_2 8 rfl rfl)
theorem dX6_isFit_57 : decode cX6_isFit 57 = .ok (.if_icmp .eq 5, 3) := dk_159 0 5 (dk_at dksX6_isFit_2 9 rfl rfl)
theorem dX6_isFit_60 : decode cX6_isFit 60 = .ok (.iconst 0, 1) := dk_3 (dk_at dksX6_isFit_2 12 rfl rfl)
theorem dX6_isFit_61 : decode cX6_isFit 61 = .ok (.ireturn, 1) := dk_172 (dk_at dksX6_isFit_2 13 rfl rfl)
theorem dX6_isFit_62 : decode cX6_isFit 62 = .ok (.iinc 4 1, 3) := dk_132 4 1 (dk_at dksX6_isFit_2 14 rfl rfl)
theorem dX6_isFit_65 : decode cX6_isFit 65 = .ok (.goto (-62), 3) := dk_167 255 194 (dk_at dksX6_isFit_2 17 rfl rfl)
theorem dX6_isFit_68 : decode cX6_isFit 68 = .ok (.iconst 1, 1) := dk_4 (dk_at dksX6_isFit_2 20 rfl rfl)
theorem dX6_isFit_69 : decode cX6_isFit 69 = .ok (.ireturn, 1) := dk_172 (dk_at dksX6_isFit_2 21 rfl rfl)
abbrev cX6_isVoid : ByteArray := prog_14_method_89_code
def yX6_isVoid : MethodName := ⟨RX6, "isVoid", "(II)Z"⟩
def dkwX6_isVoid_1 : List UInt8 := [167, 255, 236, 3, 172]
abbrev dktX6_isVoid_1 : List UInt8 := dkwX6_isVoid_1 ++ []
def dkwX6_isVoid_0 : List UInt8 := [27, 4, 96, 62, 29, 28, 162, 0, 21, 42, 180, 0, 37, 29, 46, 27, 160, 0, 5, 4, 172, 132, 3, 1]
abbrev dktX6_isVoid_0 : List UInt8 := dkwX6_isVoid_0 ++ dktX6_isVoid_1
theorem dksX6_isVoid_0 : cX6_isVoid.data.toList.drop 0 = dktX6_isVoid_0 := by decide +kernel
theorem dksX6_isVoid_1 : cX6_isVoid.data.toList.drop 24 = dktX6_isVoid_1 := dk_seg dksX6_isVoid_0 24 rfl rfl
theorem dX6_isVoid_0 : decode cX6_isVoid 0 = .ok (.iload_n 1, 1) := dk_27 (dk_at dksX6_isVoid_0 0 rfl rfl)
theorem dX6_isVoid_1 : decode cX6_isVoid 1 = .ok (.iconst 1, 1) := dk_4 (dk_at dksX6_isVoid_0 1 rfl rfl)
theorem dX6_isVoid_2 : decode cX6_isVoid 2 = .ok (.iadd, 1) := dk_96 (dk_at dksX6_isVoid_0 2 rfl rfl)
theorem dX6_isVoid_3 : decode cX6_isVoid 3 = .ok (.istore_n 3, 1) := dk_62 (dk_at dksX6_isVoid_0 3 rfl rfl)
theorem dX6_isVoid_4 : decode cX6_isVoid 4 = .ok (.iload_n 3, 1) := dk_29 (dk_at dksX6_isVoid_0 4 rfl rfl)
theorem dX6_isVoid_5 : decode cX6_isVoid 5 = .ok (.iload_n 2, 1) := dk_28 (dk_at dksX6_isVoid_0 5 rfl rfl)
theorem dX6_isVoid_6 : decode cX6_isVoid 6 = .ok (.if_icmp .ge 21, 3) := dk_162 0 21 (dk_at dksX6_isVoid_0 6 rfl rfl)
theorem dX6_isVoid_9 : decode cX6_isVoid 9 = .ok (.aload_n 0, 1) := dk_42 (dk_at dksX6_isVoid_0 9 rfl rfl)
theorem dX6_isVoid_10 : decode cX6_isVoid 10 = .ok (.getfield 37, 3) := dk_180 0 37 (dk_at dksX6_isVoid_0 10 rfl rfl)
theorem dX6_isVoid_13 : decode cX6_isVoid 13 = .ok (.iload_n 3, 1) := dk_29 (dk_at dksX6_isVoid_0 13 rfl rfl)
theorem dX6_isVoid_14 : decode cX6_isVoid 14 = .ok (.iaload, 1) := dk_46 (dk_at dksX6_isVoid_0 14 rfl rfl)
theorem dX6_isVoid_15 : decode cX6_isVoid 15 = .ok (.iload_n 1, 1) := dk_27 (dk_at dksX6_isVoid_0 15 rfl rfl)
theorem dX6_isVoid_16 : decode cX6_isVoid 16 = .ok (.if_icmp .ne 5, 3) := dk_160 0 5 (dk_at dksX6_isVoid_0 16 rfl rfl)
theorem dX6_isVoid_19 : decode cX6_isVoid 19 = .ok (.iconst 1, 1) := dk_4 (dk_at dksX6_isVoid_0 19 rfl rfl)
theorem dX6_isVoid_20 : decode cX6_isVoid 20 = .ok (.ireturn, 1) := dk_172 (dk_at dksX6_isVoid_0 20 rfl rfl)
theorem dX6_isVoid_21 : decode cX6_isVoid 21 = .ok (.iinc 3 1, 3) := dk_132 3 1 (dk_at dksX6_isVoid_0 21 rfl rfl)
theorem dX6_isVoid_24 : decode cX6_isVoid 24 = .ok (.goto (-20), 3) := dk_167 255 236 (dk_at dksX6_isVoid_1 0 rfl rfl)
theorem dX6_isVoid_27 : decode cX6_isVoid 27 = .ok (.iconst 0, 1) := dk_3 (dk_at dksX6_isVoid_1 3 rfl rfl)
theorem dX6_isVoid_28 : decode cX6_isVoid 28 = .ok (.ireturn, 1) := dk_172 (dk_at dksX6_isVoid_1 4 rfl rfl)
abbrev cX6_likely : ByteArray := prog_14_method_95_code
def yX6_likely : MethodName := ⟨RX6, "likely", "(IIII)J"⟩
def dkwX6_likely_2 : List UInt8 := [182, 1, 175, 173]
abbrev dktX6_likely_2 : List UInt8 := dkwX6_likely_2 ++ []
def dkwX6_likely_1 : List UInt8 := [182, 1, 157, 154, 0, 7, 20, 1, 121, 173, 42, 27, 28, 182, 1, 172, 55, 5, 42, 29, 21, 4]
abbrev dktX6_likely_1 : List UInt8 := dkwX6_likely_1 ++ dktX6_likely_2
def dkwX6_likely_0 : List UInt8 := [42, 27, 28, 182, 1, 169, 153, 0, 22, 42, 27, 29, 182, 1, 157, 153, 0, 13, 42, 27, 21, 4]
abbrev dktX6_likely_0 : List UInt8 := dkwX6_likely_0 ++ dktX6_likely_1
theorem dksX6_likely_0 : cX6_likely.data.toList.drop 0 = dktX6_likely_0 := by decide +kernel
theorem dksX6_likely_1 : cX6_likely.data.toList.drop 22 = dktX6_likely_1 := dk_seg dksX6_likely_0 22 rfl rfl
theorem dksX6_likely_2 : cX6_likely.data.toList.drop 44 = dktX6_likely_2 := dk_seg dksX6_likely_1 22 rfl rfl
theorem dX6_likely_0 : decode cX6_likely 0 = .ok (.aload_n 0, 1) := dk_42 (dk_at dksX6_likely_0 0 rfl rfl)
theorem dX6_likely_1 : decode cX6_likely 1 = .ok (.iload_n 1, 1) := dk_27 (dk_at dksX6_likely_0 1 rfl rfl)
theorem dX6_likely_2 : decode cX6_likely 2 = .ok (.iload_n 2, 1) := dk_28 (dk_at dksX6_likely_0 2 rfl rfl)
theorem dX6_likely_3 : decode cX6_likely 3 = .ok (.invokevirtual 425, 3) := dk_182 1 169 (dk_at dksX6_likely_0 3 rfl rfl)
theorem dX6_likely_6 : decode cX6_likely 6 = .ok (.ifCond .eq 22, 3) := dk_153 0 22 (dk_at dksX6_likely_0 6 rfl rfl)
theorem dX6_likely_9 : decode cX6_likely 9 = .ok (.aload_n 0, 1) := dk_42 (dk_at dksX6_likely_0 9 rfl rfl)
theorem dX6_likely_10 : decode cX6_likely 10 = .ok (.iload_n 1, 1) := dk_27 (dk_at dksX6_likely_0 10 rfl rfl)
theorem dX6_likely_11 : decode cX6_likely 11 = .ok (.iload_n 3, 1) := dk_29 (dk_at dksX6_likely_0 11 rfl rfl)
theorem dX6_likely_12 : decode cX6_likely 12 = .ok (.invokevirtual 413, 3) := dk_182 1 157 (dk_at dksX6_likely_0 12 rfl rfl)
theorem dX6_likely_15 : decode cX6_likely 15 = .ok (.ifCond .eq 13, 3) := dk_153 0 13 (dk_at dksX6_likely_0 15 rfl rfl)
theorem dX6_likely_18 : decode cX6_likely 18 = .ok (.aload_n 0, 1) := dk_42 (dk_at dksX6_likely_0 18 rfl rfl)
theorem dX6_likely_19 : decode cX6_likely 19 = .ok (.iload_n 1, 1) := dk_27 (dk_at dksX6_likely_0 19 rfl rfl)
theorem dX6_likely_20 : decode cX6_likely 20 = .ok (.iload 4, 2) := dk_21 4 (dk_at dksX6_likely_0 20 rfl rfl)
theorem dX6_likely_22 : decode cX6_likely 22 = .ok (.invokevirtual 413, 3) := dk_182 1 157 (dk_at dksX6_likely_1 0 rfl rfl)
theorem dX6_likely_25 : decode cX6_likely 25 = .ok (.ifCond .ne 7, 3) := dk_154 0 7 (dk_at dksX6_likely_1 3 rfl rfl)
theorem dX6_likely_28 : decode cX6_likely 28 = .ok (.ldc2_w 377, 3) := dk_20 1 121 (dk_at dksX6_likely_1 6 rfl rfl)
theorem dX6_likely_31 : decode cX6_likely 31 = .ok (.lreturn, 1) := dk_173 (dk_at dksX6_likely_1 9 rfl rfl)
theorem dX6_likely_32 : decode cX6_likely 32 = .ok (.aload_n 0, 1) := dk_42 (dk_at dksX6_likely_1 10 rfl rfl)
theorem dX6_likely_33 : decode cX6_likely 33 = .ok (.iload_n 1, 1) := dk_27 (dk_at dksX6_likely_1 11 rfl rfl)
theorem dX6_likely_34 : decode cX6_likely 34 = .ok (.iload_n 2, 1) := dk_28 (dk_at dksX6_likely_1 12 rfl rfl)
theorem dX6_likely_35 : decode cX6_likely 35 = .ok (.invokevirtual 428, 3) := dk_182 1 172 (dk_at dksX6_likely_1 13 rfl rfl)
theorem dX6_likely_38 : decode cX6_likely 38 = .ok (.lstore 5, 2) := dk_55 5 (dk_at dksX6_likely_1 16 rfl rfl)
theorem dX6_likely_40 : decode cX6_likely 40 = .ok (.aload_n 0, 1) := dk_42 (dk_at dksX6_likely_1 18 rfl rfl)
theorem dX6_likely_41 : decode cX6_likely 41 = .ok (.iload_n 3, 1) := dk_29 (dk_at dksX6_likely_1 19 rfl rfl)
theorem dX6_likely_42 : decode cX6_likely 42 = .ok (.iload 4, 2) := dk_21 4 (dk_at dksX6_likely_1 20 rfl rfl)
theorem dX6_likely_44 : decode cX6_likely 44 = .ok (.invokevirtual 431, 3) := dk_182 1 175 (dk_at dksX6_likely_2 0 rfl rfl)
theorem dX6_likely_47 : decode cX6_likely 47 = .ok (.lreturn, 1) := dk_173 (dk_at dksX6_likely_2 3 rfl rfl)
abbrev cX6_likelyOf : ByteArray := prog_14_method_94_code
def yX6_likelyOf : MethodName := ⟨RX6, "likelyOf", "(II)J"⟩
def dkwX6_likelyOf_1 : List UInt8 := [96, 46, 27, 160, 0, 13, 33, 42, 180, 0, 134, 21, 5, 47, 97, 66, 132, 5, 1, 167, 255, 218, 33, 173]
abbrev dktX6_likelyOf_1 : List UInt8 := dkwX6_likelyOf_1 ++ []
def dkwX6_likelyOf_0 : List UInt8 := [9, 66, 3, 54, 5, 21, 5, 42, 180, 1, 84, 162, 0, 35, 42, 180, 0, 98, 16, 7, 21, 5, 104, 28]
abbrev dktX6_likelyOf_0 : List UInt8 := dkwX6_likelyOf_0 ++ dktX6_likelyOf_1
theorem dksX6_likelyOf_0 : cX6_likelyOf.data.toList.drop 0 = dktX6_likelyOf_0 := by decide +kernel
theorem dksX6_likelyOf_1 : cX6_likelyOf.data.toList.drop 24 = dktX6_likelyOf_1 := dk_seg dksX6_likelyOf_0 24 rfl rfl
theorem dX6_likelyOf_0 : decode cX6_likelyOf 0 = .ok (.lconst 0, 1) := dk_9 (dk_at dksX6_likelyOf_0 0 rfl rfl)
theorem dX6_likelyOf_1 : decode cX6_likelyOf 1 = .ok (.lstore_n 3, 1) := dk_66 (dk_at dksX6_likelyOf_0 1 rfl rfl)
theorem dX6_likelyOf_2 : decode cX6_likelyOf 2 = .ok (.iconst 0, 1) := dk_3 (dk_at dksX6_likelyOf_0 2 rfl rfl)
theorem dX6_likelyOf_3 : decode cX6_likelyOf 3 = .ok (.istore 5, 2) := dk_54 5 (dk_at dksX6_likelyOf_0 3 rfl rfl)
theorem dX6_likelyOf_5 : decode cX6_likelyOf 5 = .ok (.iload 5, 2) := dk_21 5 (dk_at dksX6_likelyOf_0 5 rfl rfl)
theorem dX6_likelyOf_7 : decode cX6_likelyOf 7 = .ok (.aload_n 0, 1) := dk_42 (dk_at dksX6_likelyOf_0 7 rfl rfl)
theorem dX6_likelyOf_8 : decode cX6_likelyOf 8 = .ok (.getfield 340, 3) := dk_180 1 84 (dk_at dksX6_likelyOf_0 8 rfl rfl)
theorem dX6_likelyOf_11 : decode cX6_likelyOf 11 = .ok (.if_icmp .ge 35, 3) := dk_162 0 35 (dk_at dksX6_likelyOf_0 11 rfl rfl)
theorem dX6_likelyOf_14 : decode cX6_likelyOf 14 = .ok (.aload_n 0, 1) := dk_42 (dk_at dksX6_likelyOf_0 14 rfl rfl)
theorem dX6_likelyOf_15 : decode cX6_likelyOf 15 = .ok (.getfield 98, 3) := dk_180 0 98 (dk_at dksX6_likelyOf_0 15 rfl rfl)
theorem dX6_likelyOf_18 : decode cX6_likelyOf 18 = .ok (.bipush 7, 2) := dk_16 7 (dk_at dksX6_likelyOf_0 18 rfl rfl)
theorem dX6_likelyOf_20 : decode cX6_likelyOf 20 = .ok (.iload 5, 2) := dk_21 5 (dk_at dksX6_likelyOf_0 20 rfl rfl)
theorem dX6_likelyOf_22 : decode cX6_likelyOf 22 = .ok (.imul, 1) := dk_104 (dk_at dksX6_likelyOf_0 22 rfl rfl)
theorem dX6_likelyOf_23 : decode cX6_likelyOf 23 = .ok (.iload_n 2, 1) := dk_28 (dk_at dksX6_likelyOf_0 23 rfl rfl)
theorem dX6_likelyOf_24 : decode cX6_likelyOf 24 = .ok (.iadd, 1) := dk_96 (dk_at dksX6_likelyOf_1 0 rfl rfl)
theorem dX6_likelyOf_25 : decode cX6_likelyOf 25 = .ok (.iaload, 1) := dk_46 (dk_at dksX6_likelyOf_1 1 rfl rfl)
theorem dX6_likelyOf_26 : decode cX6_likelyOf 26 = .ok (.iload_n 1, 1) := dk_27 (dk_at dksX6_likelyOf_1 2 rfl rfl)
theorem dX6_likelyOf_27 : decode cX6_likelyOf 27 = .ok (.if_icmp .ne 13, 3) := dk_160 0 13 (dk_at dksX6_likelyOf_1 3 rfl rfl)
theorem dX6_likelyOf_30 : decode cX6_likelyOf 30 = .ok (.lload_n 3, 1) := dk_33 (dk_at dksX6_likelyOf_1 6 rfl rfl)
theorem dX6_likelyOf_31 : decode cX6_likelyOf 31 = .ok (.aload_n 0, 1) := dk_42 (dk_at dksX6_likelyOf_1 7 rfl rfl)
theorem dX6_likelyOf_32 : decode cX6_likelyOf 32 = .ok (.getfield 134, 3) := dk_180 0 134 (dk_at dksX6_likelyOf_1 8 rfl rfl)
theorem dX6_likelyOf_35 : decode cX6_likelyOf 35 = .ok (.iload 5, 2) := dk_21 5 (dk_at dksX6_likelyOf_1 11 rfl rfl)
theorem dX6_likelyOf_37 : decode cX6_likelyOf 37 = .ok (.laload, 1) := dk_47 (dk_at dksX6_likelyOf_1 13 rfl rfl)
theorem dX6_likelyOf_38 : decode cX6_likelyOf 38 = .ok (.ladd, 1) := dk_97 (dk_at dksX6_likelyOf_1 14 rfl rfl)
theorem dX6_likelyOf_39 : decode cX6_likelyOf 39 = .ok (.lstore_n 3, 1) := dk_66 (dk_at dksX6_likelyOf_1 15 rfl rfl)
theorem dX6_likelyOf_40 : decode cX6_likelyOf 40 = .ok (.iinc 5 1, 3) := dk_132 5 1 (dk_at dksX6_likelyOf_1 16 rfl rfl)
theorem dX6_likelyOf_43 : decode cX6_likelyOf 43 = .ok (.goto (-38), 3) := dk_167 255 218 (dk_at dksX6_likelyOf_1 19 rfl rfl)
theorem dX6_likelyOf_46 : decode cX6_likelyOf 46 = .ok (.lload_n 3, 1) := dk_33 (dk_at dksX6_likelyOf_1 22 rfl rfl)
theorem dX6_likelyOf_47 : decode cX6_likelyOf 47 = .ok (.lreturn, 1) := dk_173 (dk_at dksX6_likelyOf_1 23 rfl rfl)
abbrev cX6_next : ByteArray := prog_14_method_96_code
def yX6_next : MethodName := ⟨RX6, "next", "(II)I"⟩
def dkwX6_next_5 : List UInt8 := [132, 8, 1, 167, 255, 166, 21, 5, 172]
abbrev dktX6_next_5 : List UInt8 := dkwX6_next_5 ++ []
def dkwX6_next_4 : List UInt8 := [155, 0, 14, 22, 9, 22, 6, 148, 155, 0, 6, 167, 0, 11, 21, 8, 54, 5, 22, 9, 55, 6]
abbrev dktX6_next_4 : List UInt8 := dkwX6_next_4 ++ dktX6_next_5
def dkwX6_next_3 : List UInt8 := [21, 8, 21, 11, 182, 1, 175, 167, 0, 5, 22, 9, 55, 9, 132, 11, 1, 167, 255, 213, 21, 5]
abbrev dktX6_next_3 : List UInt8 := dkwX6_next_3 ++ dktX6_next_4
def dkwX6_next_2 : List UInt8 := [180, 0, 7, 27, 46, 162, 0, 38, 42, 21, 8, 21, 11, 182, 1, 175, 22, 9, 148, 158, 0, 14, 42]
abbrev dktX6_next_2 : List UInt8 := dkwX6_next_2 ++ dktX6_next_3
def dkwX6_next_1 : List UInt8 := [3, 54, 8, 21, 8, 42, 180, 0, 7, 27, 46, 162, 0, 85, 9, 55, 9, 3, 54, 11, 21, 11, 42]
abbrev dktX6_next_1 : List UInt8 := dkwX6_next_1 ++ dktX6_next_2
def dkwX6_next_0 : List UInt8 := [42, 27, 28, 182, 1, 169, 154, 0, 5, 2, 172, 42, 27, 28, 182, 1, 172, 66, 2, 54, 5, 9, 55, 6]
abbrev dktX6_next_0 : List UInt8 := dkwX6_next_0 ++ dktX6_next_1
theorem dksX6_next_0 : cX6_next.data.toList.drop 0 = dktX6_next_0 := by decide +kernel
theorem dksX6_next_1 : cX6_next.data.toList.drop 24 = dktX6_next_1 := dk_seg dksX6_next_0 24 rfl rfl
theorem dksX6_next_2 : cX6_next.data.toList.drop 47 = dktX6_next_2 := dk_seg dksX6_next_1 23 rfl rfl
theorem dksX6_next_3 : cX6_next.data.toList.drop 70 = dktX6_next_3 := dk_seg dksX6_next_2 23 rfl rfl
theorem dksX6_next_4 : cX6_next.data.toList.drop 92 = dktX6_next_4 := dk_seg dksX6_next_3 22 rfl rfl
theorem dksX6_next_5 : cX6_next.data.toList.drop 114 = dktX6_next_5 := dk_seg dksX6_next_4 22 rfl rfl
theorem dX6_next_0 : decode cX6_next 0 = .ok (.aload_n 0, 1) := dk_42 (dk_at dksX6_next_0 0 rfl rfl)
theorem dX6_next_1 : decode cX6_next 1 = .ok (.iload_n 1, 1) := dk_27 (dk_at dksX6_next_0 1 rfl rfl)
theorem dX6_next_2 : decode cX6_next 2 = .ok (.iload_n 2, 1) := dk_28 (dk_at dksX6_next_0 2 rfl rfl)
theorem dX6_next_3 : decode cX6_next 3 = .ok (.invokevirtual 425, 3) := dk_182 1 169 (dk_at dksX6_next_0 3 rfl rfl)
theorem dX6_next_6 : decode cX6_next 6 = .ok (.ifCond .ne 5, 3) := dk_154 0 5 (dk_at dksX6_next_0 6 rfl rfl)
theorem dX6_next_9 : decode cX6_next 9 = .ok (.iconst (-1), 1) := dk_2 (dk_at dksX6_next_0 9 rfl rfl)
theorem dX6_next_10 : decode cX6_next 10 = .ok (.ireturn, 1) := dk_172 (dk_at dksX6_next_0 10 rfl rfl)
theorem dX6_next_11 : decode cX6_next 11 = .ok (.aload_n 0, 1) := dk_42 (dk_at dksX6_next_0 11 rfl rfl)
theorem dX6_next_12 : decode cX6_next 12 = .ok (.iload_n 1, 1) := dk_27 (dk_at dksX6_next_0 12 rfl rfl)
theorem dX6_next_13 : decode cX6_next 13 = .ok (.iload_n 2, 1) := dk_28 (dk_at dksX6_next_0 13 rfl rfl)
theorem dX6_next_14 : decode cX6_next 14 = .ok (.invokevirtual 428, 3) := dk_182 1 172 (dk_at dksX6_next_0 14 rfl rfl)
theorem dX6_next_17 : decode cX6_next 17 = .ok (.lstore_n 3, 1) := dk_66 (dk_at dksX6_next_0 17 rfl rfl)
theorem dX6_next_18 : decode cX6_next 18 = .ok (.iconst (-1), 1) := dk_2 (dk_at dksX6_next_0 18 rfl rfl)
theorem dX6_next_19 : decode cX6_next 19 = .ok (.istore 5, 2) := dk_54 5 (dk_at dksX6_next_0 19 rfl rfl)
theorem dX6_next_21 : decode cX6_next 21 = .ok (.lconst 0, 1) := dk_9 (dk_at dksX6_next_0 21 rfl rfl)
theorem dX6_next_22 : decode cX6_next 22 = .ok (.lstore 6, 2) := dk_55 6 (dk_at dksX6_next_0 22 rfl rfl)
theorem dX6_next_24 : decode cX6_next 24 = .ok (.iconst 0, 1) := dk_3 (dk_at dksX6_next_1 0 rfl rfl)
theorem dX6_next_25 : decode cX6_next 25 = .ok (.istore 8, 2) := dk_54 8 (dk_at dksX6_next_1 1 rfl rfl)
theorem dX6_next_27 : decode cX6_next 27 = .ok (.iload 8, 2) := dk_21 8 (dk_at dksX6_next_1 3 rfl rfl)
theorem dX6_next_29 : decode cX6_next 29 = .ok (.aload_n 0, 1) := dk_42 (dk_at dksX6_next_1 5 rfl rfl)
theorem dX6_next_30 : decode cX6_next 30 = .ok (.getfield 7, 3) := dk_180 0 7 (dk_at dksX6_next_1 6 rfl rfl)
theorem dX6_next_33 : decode cX6_next 33 = .ok (.iload_n 1, 1) := dk_27 (dk_at dksX6_next_1 9 rfl rfl)
theorem dX6_next_34 : decode cX6_next 34 = .ok (.iaload, 1) := dk_46 (dk_at dksX6_next_1 10 rfl rfl)
theorem dX6_next_35 : decode cX6_next 35 = .ok (.if_icmp .ge 85, 3) := dk_162 0 85 (dk_at dksX6_next_1 11 rfl rfl)
theorem dX6_next_38 : decode cX6_next 38 = .ok (.lconst 0, 1) := dk_9 (dk_at dksX6_next_1 14 rfl rfl)
theorem dX6_next_39 : decode cX6_next 39 = .ok (.lstore 9, 2) := dk_55 9 (dk_at dksX6_next_1 15 rfl rfl)
theorem dX6_next_41 : decode cX6_next 41 = .ok (.iconst 0, 1) := dk_3 (dk_at dksX6_next_1 17 rfl rfl)
theorem dX6_next_42 : decode cX6_next 42 = .ok (.istore 11, 2) := dk_54 11 (dk_at dksX6_next_1 18 rfl rfl)
theorem dX6_next_44 : decode cX6_next 44 = .ok (.iload 11, 2) := dk_21 11 (dk_at dksX6_next_1 20 rfl rfl)
theorem dX6_next_46 : decode cX6_next 46 = .ok (.aload_n 0, 1) := dk_42 (dk_at dksX6_next_1 22 rfl rfl)
theorem dX6_next_47 : decode cX6_next 47 = .ok (.getfield 7, 3) := dk_180 0 7 (dk_at dksX6_next_2 0 rfl rfl)
theorem dX6_next_50 : decode cX6_next 50 = .ok (.iload_n 1, 1) := dk_27 (dk_at dksX6_next_2 3 rfl rfl)
theorem dX6_next_51 : decode cX6_next 51 = .ok (.iaload, 1) := dk_46 (dk_at dksX6_next_2 4 rfl rfl)
theorem dX6_next_52 : decode cX6_next 52 = .ok (.if_icmp .ge 38, 3) := dk_162 0 38 (dk_at dksX6_next_2 5 rfl rfl)
theorem dX6_next_55 : decode cX6_next 55 = .ok (.aload_n 0, 1) := dk_42 (dk_at dksX6_next_2 8 rfl rfl)
theorem dX6_next_56 : decode cX6_next 56 = .ok (.iload 8, 2) := dk_21 8 (dk_at dksX6_next_2 9 rfl rfl)
theorem dX6_next_58 : decode cX6_next 58 = .ok (.iload 11, 2) := dk_21 11 (dk_at dksX6_next_2 11 rfl rfl)
theorem dX6_next_60 : decode cX6_next 60 = .ok (.invokevirtual 431, 3) := dk_182 1 175 (dk_at dksX6_next_2 13 rfl rfl)
theorem dX6_next_63 : decode cX6_next 63 = .ok (.lload 9, 2) := dk_22 9 (dk_at dksX6_next_2 16 rfl rfl)
theorem dX6_next_65 : decode cX6_next 65 = .ok (.lcmp, 1) := dk_148 (dk_at dksX6_next_2 18 rfl rfl)
theorem dX6_next_66 : decode cX6_next 66 = .ok (.ifCond .le 14, 3) := dk_158 0 14 (dk_at dksX6_next_2 19 rfl rfl)
theorem dX6_next_69 : decode cX6_next 69 = .ok (.aload_n 0, 1) := dk_42 (dk_at dksX6_next_2 22 rfl rfl)
theorem dX6_next_70 : decode cX6_next 70 = .ok (.iload 8, 2) := dk_21 8 (dk_at dksX6_next_3 0 rfl rfl)
theorem dX6_next_72 : decode cX6_next 72 = .ok (.iload 11, 2) := dk_21 11 (dk_at dksX6_next_3 2 rfl rfl)
theorem dX6_next_74 : decode cX6_next 74 = .ok (.invokevirtual 431, 3) := dk_182 1 175 (dk_at dksX6_next_3 4 rfl rfl)
theorem dX6_next_77 : decode cX6_next 77 = .ok (.goto 5, 3) := dk_167 0 5 (dk_at dksX6_next_3 7 rfl rfl)
theorem dX6_next_80 : decode cX6_next 80 = .ok (.lload 9, 2) := dk_22 9 (dk_at dksX6_next_3 10 rfl rfl)
theorem dX6_next_82 : decode cX6_next 82 = .ok (.lstore 9, 2) := dk_55 9 (dk_at dksX6_next_3 12 rfl rfl)
theorem dX6_next_84 : decode cX6_next 84 = .ok (.iinc 11 1, 3) := dk_132 11 1 (dk_at dksX6_next_3 14 rfl rfl)
theorem dX6_next_87 : decode cX6_next 87 = .ok (.goto (-43), 3) := dk_167 255 213 (dk_at dksX6_next_3 17 rfl rfl)
theorem dX6_next_90 : decode cX6_next 90 = .ok (.iload 5, 2) := dk_21 5 (dk_at dksX6_next_3 20 rfl rfl)
theorem dX6_next_92 : decode cX6_next 92 = .ok (.ifCond .lt 14, 3) := dk_155 0 14 (dk_at dksX6_next_4 0 rfl rfl)
theorem dX6_next_95 : decode cX6_next 95 = .ok (.lload 9, 2) := dk_22 9 (dk_at dksX6_next_4 3 rfl rfl)
theorem dX6_next_97 : decode cX6_next 97 = .ok (.lload 6, 2) := dk_22 6 (dk_at dksX6_next_4 5 rfl rfl)
theorem dX6_next_99 : decode cX6_next 99 = .ok (.lcmp, 1) := dk_148 (dk_at dksX6_next_4 7 rfl rfl)
theorem dX6_next_100 : decode cX6_next 100 = .ok (.ifCond .lt 6, 3) := dk_155 0 6 (dk_at dksX6_next_4 8 rfl rfl)
theorem dX6_next_103 : decode cX6_next 103 = .ok (.goto 11, 3) := dk_167 0 11 (dk_at dksX6_next_4 11 rfl rfl)
theorem dX6_next_106 : decode cX6_next 106 = .ok (.iload 8, 2) := dk_21 8 (dk_at dksX6_next_4 14 rfl rfl)
theorem dX6_next_108 : decode cX6_next 108 = .ok (.istore 5, 2) := dk_54 5 (dk_at dksX6_next_4 16 rfl rfl)
theorem dX6_next_110 : decode cX6_next 110 = .ok (.lload 9, 2) := dk_22 9 (dk_at dksX6_next_4 18 rfl rfl)
theorem dX6_next_112 : decode cX6_next 112 = .ok (.lstore 6, 2) := dk_55 6 (dk_at dksX6_next_4 20 rfl rfl)
theorem dX6_next_114 : decode cX6_next 114 = .ok (.iinc 8 1, 3) := dk_132 8 1 (dk_at dksX6_next_5 0 rfl rfl)
theorem dX6_next_117 : decode cX6_next 117 = .ok (.goto (-90), 3) := dk_167 255 166 (dk_at dksX6_next_5 3 rfl rfl)
theorem dX6_next_120 : decode cX6_next 120 = .ok (.iload 5, 2) := dk_21 5 (dk_at dksX6_next_5 6 rfl rfl)
theorem dX6_next_122 : decode cX6_next 122 = .ok (.ireturn, 1) := dk_172 (dk_at dksX6_next_5 8 rfl rfl)
abbrev cX6_drawn : ByteArray := prog_14_method_99_code
def yX6_drawn : MethodName := ⟨RX6, "drawn", "(III)I"⟩
def dkwX6_drawn_2 : List UInt8 := [180, 0, 140, 28, 46, 172]
abbrev dktX6_drawn_2 : List UInt8 := dkwX6_drawn_2 ++ []
def dkwX6_drawn_1 : List UInt8 := [154, 0, 5, 2, 172, 42, 27, 182, 1, 72, 154, 0, 6, 16, 254, 172, 42, 27, 29, 182, 1, 181, 42]
abbrev dktX6_drawn_1 : List UInt8 := dkwX6_drawn_1 ++ dktX6_drawn_2
def dkwX6_drawn_0 : List UInt8 := [42, 27, 182, 1, 51, 153, 0, 21, 42, 27, 28, 182, 1, 157, 153, 0, 12, 42, 27, 29, 182, 1, 157]
abbrev dktX6_drawn_0 : List UInt8 := dkwX6_drawn_0 ++ dktX6_drawn_1
theorem dksX6_drawn_0 : cX6_drawn.data.toList.drop 0 = dktX6_drawn_0 := by decide +kernel
theorem dksX6_drawn_1 : cX6_drawn.data.toList.drop 23 = dktX6_drawn_1 := dk_seg dksX6_drawn_0 23 rfl rfl
theorem dksX6_drawn_2 : cX6_drawn.data.toList.drop 46 = dktX6_drawn_2 := dk_seg dksX6_drawn_1 23 rfl rfl
theorem dX6_drawn_0 : decode cX6_drawn 0 = .ok (.aload_n 0, 1) := dk_42 (dk_at dksX6_drawn_0 0 rfl rfl)
theorem dX6_drawn_1 : decode cX6_drawn 1 = .ok (.iload_n 1, 1) := dk_27 (dk_at dksX6_drawn_0 1 rfl rfl)
theorem dX6_drawn_2 : decode cX6_drawn 2 = .ok (.invokevirtual 307, 3) := dk_182 1 51 (dk_at dksX6_drawn_0 2 rfl rfl)
theorem dX6_drawn_5 : decode cX6_drawn 5 = .ok (.ifCond .eq 21, 3) := dk_153 0 21 (dk_at dksX6_drawn_0 5 rfl rfl)
theorem dX6_drawn_8 : decode cX6_drawn 8 = .ok (.aload_n 0, 1) := dk_42 (dk_at dksX6_drawn_0 8 rfl rfl)
theorem dX6_drawn_9 : decode cX6_drawn 9 = .ok (.iload_n 1, 1) := dk_27 (dk_at dksX6_drawn_0 9 rfl rfl)
theorem dX6_drawn_10 : decode cX6_drawn 10 = .ok (.iload_n 2, 1) := dk_28 (dk_at dksX6_drawn_0 10 rfl rfl)
theorem dX6_drawn_11 : decode cX6_drawn 11 = .ok (.invokevirtual 413, 3) := dk_182 1 157 (dk_at dksX6_drawn_0 11 rfl rfl)
theorem dX6_drawn_14 : decode cX6_drawn 14 = .ok (.ifCond .eq 12, 3) := dk_153 0 12 (dk_at dksX6_drawn_0 14 rfl rfl)
theorem dX6_drawn_17 : decode cX6_drawn 17 = .ok (.aload_n 0, 1) := dk_42 (dk_at dksX6_drawn_0 17 rfl rfl)
theorem dX6_drawn_18 : decode cX6_drawn 18 = .ok (.iload_n 1, 1) := dk_27 (dk_at dksX6_drawn_0 18 rfl rfl)
theorem dX6_drawn_19 : decode cX6_drawn 19 = .ok (.iload_n 3, 1) := dk_29 (dk_at dksX6_drawn_0 19 rfl rfl)
theorem dX6_drawn_20 : decode cX6_drawn 20 = .ok (.invokevirtual 413, 3) := dk_182 1 157 (dk_at dksX6_drawn_0 20 rfl rfl)
theorem dX6_drawn_23 : decode cX6_drawn 23 = .ok (.ifCond .ne 5, 3) := dk_154 0 5 (dk_at dksX6_drawn_1 0 rfl rfl)
theorem dX6_drawn_26 : decode cX6_drawn 26 = .ok (.iconst (-1), 1) := dk_2 (dk_at dksX6_drawn_1 3 rfl rfl)
theorem dX6_drawn_27 : decode cX6_drawn 27 = .ok (.ireturn, 1) := dk_172 (dk_at dksX6_drawn_1 4 rfl rfl)
theorem dX6_drawn_28 : decode cX6_drawn 28 = .ok (.aload_n 0, 1) := dk_42 (dk_at dksX6_drawn_1 5 rfl rfl)
theorem dX6_drawn_29 : decode cX6_drawn 29 = .ok (.iload_n 1, 1) := dk_27 (dk_at dksX6_drawn_1 6 rfl rfl)
theorem dX6_drawn_30 : decode cX6_drawn 30 = .ok (.invokevirtual 328, 3) := dk_182 1 72 (dk_at dksX6_drawn_1 7 rfl rfl)
theorem dX6_drawn_33 : decode cX6_drawn 33 = .ok (.ifCond .ne 6, 3) := dk_154 0 6 (dk_at dksX6_drawn_1 10 rfl rfl)
theorem dX6_drawn_36 : decode cX6_drawn 36 = .ok (.bipush (-2), 2) := dk_16 254 (dk_at dksX6_drawn_1 13 rfl rfl)
theorem dX6_drawn_38 : decode cX6_drawn 38 = .ok (.ireturn, 1) := dk_172 (dk_at dksX6_drawn_1 15 rfl rfl)
theorem dX6_drawn_39 : decode cX6_drawn 39 = .ok (.aload_n 0, 1) := dk_42 (dk_at dksX6_drawn_1 16 rfl rfl)
theorem dX6_drawn_40 : decode cX6_drawn 40 = .ok (.iload_n 1, 1) := dk_27 (dk_at dksX6_drawn_1 17 rfl rfl)
theorem dX6_drawn_41 : decode cX6_drawn 41 = .ok (.iload_n 3, 1) := dk_29 (dk_at dksX6_drawn_1 18 rfl rfl)
theorem dX6_drawn_42 : decode cX6_drawn 42 = .ok (.invokevirtual 437, 3) := dk_182 1 181 (dk_at dksX6_drawn_1 19 rfl rfl)
theorem dX6_drawn_45 : decode cX6_drawn 45 = .ok (.aload_n 0, 1) := dk_42 (dk_at dksX6_drawn_1 22 rfl rfl)
theorem dX6_drawn_46 : decode cX6_drawn 46 = .ok (.getfield 140, 3) := dk_180 0 140 (dk_at dksX6_drawn_2 0 rfl rfl)
theorem dX6_drawn_49 : decode cX6_drawn 49 = .ok (.iload_n 2, 1) := dk_28 (dk_at dksX6_drawn_2 3 rfl rfl)
theorem dX6_drawn_50 : decode cX6_drawn 50 = .ok (.iaload, 1) := dk_46 (dk_at dksX6_drawn_2 4 rfl rfl)
theorem dX6_drawn_51 : decode cX6_drawn 51 = .ok (.ireturn, 1) := dk_172 (dk_at dksX6_drawn_2 5 rfl rfl)
abbrev cX6_needs : ByteArray := prog_14_method_98_code
def yX6_needs : MethodName := ⟨RX6, "needs", "(II)V"⟩
def dkwX6_needs_7 : List UInt8 := [132, 4, 255, 167, 255, 105, 177]
abbrev dktX6_needs_7 : List UInt8 := dkwX6_needs_7 ++ []
def dkwX6_needs_6 : List UInt8 := [167, 255, 152, 42, 180, 0, 140, 16, 7, 21, 4, 104, 21, 5, 96, 21, 6, 79, 132, 5, 1, 167, 255, 119]
abbrev dktX6_needs_6 : List UInt8 := dkwX6_needs_6 ++ dktX6_needs_7
def dkwX6_needs_5 : List UInt8 := [96, 54, 9, 21, 6, 155, 0, 10, 21, 9, 21, 6, 162, 0, 7, 21, 9, 54, 6, 132, 7, 1]
abbrev dktX6_needs_5 : List UInt8 := dkwX6_needs_5 ++ dktX6_needs_6
def dkwX6_needs_4 : List UInt8 := [184, 1, 178, 96, 46, 54, 8, 21, 8, 156, 0, 6, 167, 0, 31, 21, 8, 21, 5, 21, 7, 184, 1, 142]
abbrev dktX6_needs_4 : List UInt8 := dkwX6_needs_4 ++ dktX6_needs_5
def dkwX6_needs_3 : List UInt8 := [16, 7, 21, 4, 104, 16, 7, 96, 21, 7, 42, 180, 0, 19, 17, 0, 200, 27, 104, 21, 4, 96, 46]
abbrev dktX6_needs_3 : List UInt8 := dkwX6_needs_3 ++ dktX6_needs_4
def dkwX6_needs_2 : List UInt8 := [27, 46, 160, 0, 17, 21, 7, 28, 160, 0, 7, 3, 167, 0, 39, 2, 167, 0, 35, 42, 180, 0, 140]
abbrev dktX6_needs_2 : List UInt8 := dkwX6_needs_2 ++ dktX6_needs_3
def dkwX6_needs_1 : List UInt8 := [21, 5, 29, 162, 0, 137, 2, 54, 6, 3, 54, 7, 21, 7, 29, 162, 0, 104, 21, 4, 42, 180, 0, 13]
abbrev dktX6_needs_1 : List UInt8 := dkwX6_needs_1 ++ dktX6_needs_2
def dkwX6_needs_0 : List UInt8 := [42, 180, 0, 7, 27, 46, 62, 42, 180, 0, 13, 27, 46, 54, 4, 21, 4, 155, 0, 152, 3, 54, 5]
abbrev dktX6_needs_0 : List UInt8 := dkwX6_needs_0 ++ dktX6_needs_1
theorem dksX6_needs_0 : cX6_needs.data.toList.drop 0 = dktX6_needs_0 := by decide +kernel
theorem dksX6_needs_1 : cX6_needs.data.toList.drop 23 = dktX6_needs_1 := dk_seg dksX6_needs_0 23 rfl rfl
theorem dksX6_needs_2 : cX6_needs.data.toList.drop 47 = dktX6_needs_2 := dk_seg dksX6_needs_1 24 rfl rfl
theorem dksX6_needs_3 : cX6_needs.data.toList.drop 70 = dktX6_needs_3 := dk_seg dksX6_needs_2 23 rfl rfl
theorem dksX6_needs_4 : cX6_needs.data.toList.drop 93 = dktX6_needs_4 := dk_seg dksX6_needs_3 23 rfl rfl
theorem dksX6_needs_5 : cX6_needs.data.toList.drop 117 = dktX6_needs_5 := dk_seg dksX6_needs_4 24 rfl rfl
theorem dksX6_needs_6 : cX6_needs.data.toList.drop 139 = dktX6_needs_6 := dk_seg dksX6_needs_5 22 rfl rfl
theorem dksX6_needs_7 : cX6_needs.data.toList.drop 163 = dktX6_needs_7 := dk_seg dksX6_needs_6 24 rfl rfl
theorem dX6_needs_0 : decode cX6_needs 0 = .ok (.aload_n 0, 1) := dk_42 (dk_at dksX6_needs_0 0 rfl rfl)
theorem dX6_needs_1 : decode cX6_needs 1 = .ok (.getfield 7, 3) := dk_180 0 7 (dk_at dksX6_needs_0 1 rfl rfl)
theorem dX6_needs_4 : decode cX6_needs 4 = .ok (.iload_n 1, 1) := dk_27 (dk_at dksX6_needs_0 4 rfl rfl)
theorem dX6_needs_5 : decode cX6_needs 5 = .ok (.iaload, 1) := dk_46 (dk_at dksX6_needs_0 5 rfl rfl)
theorem dX6_needs_6 : decode cX6_needs 6 = .ok (.istore_n 3, 1) := dk_62 (dk_at dksX6_needs_0 6 rfl rfl)
theorem dX6_needs_7 : decode cX6_needs 7 = .ok (.aload_n 0, 1) := dk_42 (dk_at dksX6_needs_0 7 rfl rfl)
theorem dX6_needs_8 : decode cX6_needs 8 = .ok (.getfield 13, 3) := dk_180 0 13 (dk_at dksX6_needs_0 8 rfl rfl)
theorem dX6_needs_11 : decode cX6_needs 11 = .ok (.iload_n 1, 1) := dk_27 (dk_at dksX6_needs_0 11 rfl rfl)
theorem dX6_needs_12 : decode cX6_needs 12 = .ok (.iaload, 1) := dk_46 (dk_at dksX6_needs_0 12 rfl rfl)
theorem dX6_needs_13 : decode cX6_needs 13 = .ok (.istore 4, 2) := dk_54 4 (dk_at dksX6_needs_0 13 rfl rfl)
theorem dX6_needs_15 : decode cX6_needs 15 = .ok (.iload 4, 2) := dk_21 4 (dk_at dksX6_needs_0 15 rfl rfl)
theorem dX6_needs_17 : decode cX6_needs 17 = .ok (.ifCond .lt 152, 3) := dk_155 0 152 (dk_at dksX6_needs_0 17 rfl rfl)
theorem dX6_needs_20 : decode cX6_needs 20 = .ok (.iconst 0, 1) := dk_3 (dk_at dksX6_needs_0 20 rfl rfl)
theorem dX6_needs_21 : decode cX6_needs 21 = .ok (.istore 5, 2) := dk_54 5 (dk_at dksX6_needs_0 21 rfl rfl)
theorem dX6_needs_23 : decode cX6_needs 23 = .ok (.iload 5, 2) := dk_21 5 (dk_at dksX6_needs_1 0 rfl rfl)
theorem dX6_needs_25 : decode cX6_needs 25 = .ok (.iload_n 3, 1) := dk_29 (dk_at dksX6_needs_1 2 rfl rfl)
theorem dX6_needs_26 : decode cX6_needs 26 = .ok (.if_icmp .ge 137, 3) := dk_162 0 137 (dk_at dksX6_needs_1 3 rfl rfl)
theorem dX6_needs_29 : decode cX6_needs 29 = .ok (.iconst (-1), 1) := dk_2 (dk_at dksX6_needs_1 6 rfl rfl)
theorem dX6_needs_30 : decode cX6_needs 30 = .ok (.istore 6, 2) := dk_54 6 (dk_at dksX6_needs_1 7 rfl rfl)
theorem dX6_needs_32 : decode cX6_needs 32 = .ok (.iconst 0, 1) := dk_3 (dk_at dksX6_needs_1 9 rfl rfl)
theorem dX6_needs_33 : decode cX6_needs 33 = .ok (.istore 7, 2) := dk_54 7 (dk_at dksX6_needs_1 10 rfl rfl)
theorem dX6_needs_35 : decode cX6_needs 35 = .ok (.iload 7, 2) := dk_21 7 (dk_at dksX6_needs_1 12 rfl rfl)
theorem dX6_needs_37 : decode cX6_needs 37 = .ok (.iload_n 3, 1) := dk_29 (dk_at dksX6_needs_1 14 rfl rfl)
theorem dX6_needs_38 : decode cX6_needs 38 = .ok (.if_icmp .ge 104, 3) := dk_162 0 104 (dk_at dksX6_needs_1 15 rfl rfl)
theorem dX6_needs_41 : decode cX6_needs 41 = .ok (.iload 4, 2) := dk_21 4 (dk_at dksX6_needs_1 18 rfl rfl)
theorem dX6_needs_43 : decode cX6_needs 43 = .ok (.aload_n 0, 1) := dk_42 (dk_at dksX6_needs_1 20 rfl rfl)
theorem dX6_needs_44 : decode cX6_needs 44 = .ok (.getfield 13, 3) := dk_180 0 13 (dk_at dksX6_needs_1 21 rfl rfl)
theorem dX6_needs_47 : decode cX6_needs 47 = .ok (.iload_n 1, 1) := dk_27 (dk_at dksX6_needs_2 0 rfl rfl)
theorem dX6_needs_48 : decode cX6_needs 48 = .ok (.iaload, 1) := dk_46 (dk_at dksX6_needs_2 1 rfl rfl)
theorem dX6_needs_49 : decode cX6_needs 49 = .ok (.if_icmp .ne 17, 3) := dk_160 0 17 (dk_at dksX6_needs_2 2 rfl rfl)
theorem dX6_needs_52 : decode cX6_needs 52 = .ok (.iload 7, 2) := dk_21 7 (dk_at dksX6_needs_2 5 rfl rfl)
theorem dX6_needs_54 : decode cX6_needs 54 = .ok (.iload_n 2, 1) := dk_28 (dk_at dksX6_needs_2 7 rfl rfl)
theorem dX6_needs_55 : decode cX6_needs 55 = .ok (.if_icmp .ne 7, 3) := dk_160 0 7 (dk_at dksX6_needs_2 8 rfl rfl)
theorem dX6_needs_58 : decode cX6_needs 58 = .ok (.iconst 0, 1) := dk_3 (dk_at dksX6_needs_2 11 rfl rfl)
theorem dX6_needs_59 : decode cX6_needs 59 = .ok (.goto 39, 3) := dk_167 0 39 (dk_at dksX6_needs_2 12 rfl rfl)
theorem dX6_needs_62 : decode cX6_needs 62 = .ok (.iconst (-1), 1) := dk_2 (dk_at dksX6_needs_2 15 rfl rfl)
theorem dX6_needs_63 : decode cX6_needs 63 = .ok (.goto 35, 3) := dk_167 0 35 (dk_at dksX6_needs_2 16 rfl rfl)
theorem dX6_needs_66 : decode cX6_needs 66 = .ok (.aload_n 0, 1) := dk_42 (dk_at dksX6_needs_2 19 rfl rfl)
theorem dX6_needs_67 : decode cX6_needs 67 = .ok (.getfield 140, 3) := dk_180 0 140 (dk_at dksX6_needs_2 20 rfl rfl)
theorem dX6_needs_70 : decode cX6_needs 70 = .ok (.bipush 7, 2) := dk_16 7 (dk_at dksX6_needs_3 0 rfl rfl)
theorem dX6_needs_72 : decode cX6_needs 72 = .ok (.iload 4, 2) := dk_21 4 (dk_at dksX6_needs_3 2 rfl rfl)
theorem dX6_needs_74 : decode cX6_needs 74 = .ok (.imul, 1) := dk_104 (dk_at dksX6_needs_3 4 rfl rfl)
theorem dX6_needs_75 : decode cX6_needs 75 = .ok (.bipush 7, 2) := dk_16 7 (dk_at dksX6_needs_3 5 rfl rfl)
theorem dX6_needs_77 : decode cX6_needs 77 = .ok (.iadd, 1) := dk_96 (dk_at dksX6_needs_3 7 rfl rfl)
theorem dX6_needs_78 : decode cX6_needs 78 = .ok (.iload 7, 2) := dk_21 7 (dk_at dksX6_needs_3 8 rfl rfl)
theorem dX6_needs_80 : decode cX6_needs 80 = .ok (.aload_n 0, 1) := dk_42 (dk_at dksX6_needs_3 10 rfl rfl)
theorem dX6_needs_81 : decode cX6_needs 81 = .ok (.getfield 19, 3) := dk_180 0 19 (dk_at dksX6_needs_3 11 rfl rfl)
theorem dX6_needs_84 : decode cX6_needs 84 = .ok (.sipush 200, 3) := dk_17 0 200 (dk_at dksX6_needs_3 14 rfl rfl)
theorem dX6_needs_87 : decode cX6_needs 87 = .ok (.iload_n 1, 1) := dk_27 (dk_at dksX6_needs_3 17 rfl rfl)
theorem dX6_needs_88 : decode cX6_needs 88 = .ok (.imul, 1) := dk_104 (dk_at dksX6_needs_3 18 rfl rfl)
theorem dX6_needs_89 : decode cX6_needs 89 = .ok (.iload 4, 2) := dk_21 4 (dk_at dksX6_needs_3 19 rfl rfl)
theorem dX6_needs_91 : decode cX6_needs 91 = .ok (.iadd, 1) := dk_96 (dk_at dksX6_needs_3 21 rfl rfl)
theorem dX6_needs_92 : decode cX6_needs 92 = .ok (.iaload, 1) := dk_46 (dk_at dksX6_needs_3 22 rfl rfl)
theorem dX6_needs_93 : decode cX6_needs 93 = .ok (.invokestatic 434, 3) := dk_184 1 178 (dk_at dksX6_needs_4 0 rfl rfl)
theorem dX6_needs_96 : decode cX6_needs 96 = .ok (.iadd, 1) := dk_96 (dk_at dksX6_needs_4 3 rfl rfl)
theorem dX6_needs_97 : decode cX6_needs 97 = .ok (.iaload, 1) := dk_46 (dk_at dksX6_needs_4 4 rfl rfl)
theorem dX6_needs_98 : decode cX6_needs 98 = .ok (.istore 8, 2) := dk_54 8 (dk_at dksX6_needs_4 5 rfl rfl)
theorem dX6_needs_100 : decode cX6_needs 100 = .ok (.iload 8, 2) := dk_21 8 (dk_at dksX6_needs_4 7 rfl rfl)
theorem dX6_needs_102 : decode cX6_needs 102 = .ok (.ifCond .ge 6, 3) := dk_156 0 6 (dk_at dksX6_needs_4 9 rfl rfl)
theorem dX6_needs_105 : decode cX6_needs 105 = .ok (.goto 31, 3) := dk_167 0 31 (dk_at dksX6_needs_4 12 rfl rfl)
theorem dX6_needs_108 : decode cX6_needs 108 = .ok (.iload 8, 2) := dk_21 8 (dk_at dksX6_needs_4 15 rfl rfl)
theorem dX6_needs_110 : decode cX6_needs 110 = .ok (.iload 5, 2) := dk_21 5 (dk_at dksX6_needs_4 17 rfl rfl)
theorem dX6_needs_112 : decode cX6_needs 112 = .ok (.iload 7, 2) := dk_21 7 (dk_at dksX6_needs_4 19 rfl rfl)
theorem dX6_needs_114 : decode cX6_needs 114 = .ok (.invokestatic 398, 3) := dk_184 1 142 (dk_at dksX6_needs_4 21 rfl rfl)
theorem dX6_needs_117 : decode cX6_needs 117 = .ok (.iadd, 1) := dk_96 (dk_at dksX6_needs_5 0 rfl rfl)
theorem dX6_needs_118 : decode cX6_needs 118 = .ok (.istore 9, 2) := dk_54 9 (dk_at dksX6_needs_5 1 rfl rfl)
theorem dX6_needs_120 : decode cX6_needs 120 = .ok (.iload 6, 2) := dk_21 6 (dk_at dksX6_needs_5 3 rfl rfl)
theorem dX6_needs_122 : decode cX6_needs 122 = .ok (.ifCond .lt 10, 3) := dk_155 0 10 (dk_at dksX6_needs_5 5 rfl rfl)
theorem dX6_needs_125 : decode cX6_needs 125 = .ok (.iload 9, 2) := dk_21 9 (dk_at dksX6_needs_5 8 rfl rfl)
theorem dX6_needs_127 : decode cX6_needs 127 = .ok (.iload 6, 2) := dk_21 6 (dk_at dksX6_needs_5 10 rfl rfl)
theorem dX6_needs_129 : decode cX6_needs 129 = .ok (.if_icmp .ge 7, 3) := dk_162 0 7 (dk_at dksX6_needs_5 12 rfl rfl)
theorem dX6_needs_132 : decode cX6_needs 132 = .ok (.iload 9, 2) := dk_21 9 (dk_at dksX6_needs_5 15 rfl rfl)
theorem dX6_needs_134 : decode cX6_needs 134 = .ok (.istore 6, 2) := dk_54 6 (dk_at dksX6_needs_5 17 rfl rfl)
theorem dX6_needs_136 : decode cX6_needs 136 = .ok (.iinc 7 1, 3) := dk_132 7 1 (dk_at dksX6_needs_5 19 rfl rfl)
theorem dX6_needs_139 : decode cX6_needs 139 = .ok (.goto (-104), 3) := dk_167 255 152 (dk_at dksX6_needs_6 0 rfl rfl)
theorem dX6_needs_142 : decode cX6_needs 142 = .ok (.aload_n 0, 1) := dk_42 (dk_at dksX6_needs_6 3 rfl rfl)
theorem dX6_needs_143 : decode cX6_needs 143 = .ok (.getfield 140, 3) := dk_180 0 140 (dk_at dksX6_needs_6 4 rfl rfl)
theorem dX6_needs_146 : decode cX6_needs 146 = .ok (.bipush 7, 2) := dk_16 7 (dk_at dksX6_needs_6 7 rfl rfl)
theorem dX6_needs_148 : decode cX6_needs 148 = .ok (.iload 4, 2) := dk_21 4 (dk_at dksX6_needs_6 9 rfl rfl)
theorem dX6_needs_150 : decode cX6_needs 150 = .ok (.imul, 1) := dk_104 (dk_at dksX6_needs_6 11 rfl rfl)
theorem dX6_needs_151 : decode cX6_needs 151 = .ok (.iload 5, 2) := dk_21 5 (dk_at dksX6_needs_6 12 rfl rfl)
theorem dX6_needs_153 : decode cX6_needs 153 = .ok (.iadd, 1) := dk_96 (dk_at dksX6_needs_6 14 rfl rfl)
theorem dX6_needs_154 : decode cX6_needs 154 = .ok (.iload 6, 2) := dk_21 6 (dk_at dksX6_needs_6 15 rfl rfl)
theorem dX6_needs_156 : decode cX6_needs 156 = .ok (.iastore, 1) := dk_79 (dk_at dksX6_needs_6 17 rfl rfl)
theorem dX6_needs_157 : decode cX6_needs 157 = .ok (.iinc 5 1, 3) := dk_132 5 1 (dk_at dksX6_needs_6 18 rfl rfl)
theorem dX6_needs_160 : decode cX6_needs 160 = .ok (.goto (-137), 3) := dk_167 255 119 (dk_at dksX6_needs_6 21 rfl rfl)
theorem dX6_needs_163 : decode cX6_needs 163 = .ok (.iinc 4 (-1), 3) := dk_132 4 255 (dk_at dksX6_needs_7 0 rfl rfl)
theorem dX6_needs_166 : decode cX6_needs 166 = .ok (.goto (-151), 3) := dk_167 255 105 (dk_at dksX6_needs_7 3 rfl rfl)
theorem dX6_needs_169 : decode cX6_needs 169 = .ok (.return_, 1) := dk_177 (dk_at dksX6_needs_7 6 rfl rfl)
abbrev cX6_beside : ByteArray := prog_14_method_97_code
def yX6_beside : MethodName := ⟨RX6, "beside", "(II)I"⟩
def dkwX6_beside_0 : List UInt8 := [26, 27, 160, 0, 9, 27, 4, 96, 167, 0, 15, 26, 27, 4, 96, 160, 0, 7, 27, 167, 0, 4, 26, 172]
abbrev dktX6_beside_0 : List UInt8 := dkwX6_beside_0 ++ []
theorem dksX6_beside_0 : cX6_beside.data.toList.drop 0 = dktX6_beside_0 := by decide +kernel
theorem dX6_beside_0 : decode cX6_beside 0 = .ok (.iload_n 0, 1) := dk_26 (dk_at dksX6_beside_0 0 rfl rfl)
theorem dX6_beside_1 : decode cX6_beside 1 = .ok (.iload_n 1, 1) := dk_27 (dk_at dksX6_beside_0 1 rfl rfl)
theorem dX6_beside_2 : decode cX6_beside 2 = .ok (.if_icmp .ne 9, 3) := dk_160 0 9 (dk_at dksX6_beside_0 2 rfl rfl)
theorem dX6_beside_5 : decode cX6_beside 5 = .ok (.iload_n 1, 1) := dk_27 (dk_at dksX6_beside_0 5 rfl rfl)
theorem dX6_beside_6 : decode cX6_beside 6 = .ok (.iconst 1, 1) := dk_4 (dk_at dksX6_beside_0 6 rfl rfl)
theorem dX6_beside_7 : decode cX6_beside 7 = .ok (.iadd, 1) := dk_96 (dk_at dksX6_beside_0 7 rfl rfl)
theorem dX6_beside_8 : decode cX6_beside 8 = .ok (.goto 15, 3) := dk_167 0 15 (dk_at dksX6_beside_0 8 rfl rfl)
theorem dX6_beside_11 : decode cX6_beside 11 = .ok (.iload_n 0, 1) := dk_26 (dk_at dksX6_beside_0 11 rfl rfl)
theorem dX6_beside_12 : decode cX6_beside 12 = .ok (.iload_n 1, 1) := dk_27 (dk_at dksX6_beside_0 12 rfl rfl)
theorem dX6_beside_13 : decode cX6_beside 13 = .ok (.iconst 1, 1) := dk_4 (dk_at dksX6_beside_0 13 rfl rfl)
theorem dX6_beside_14 : decode cX6_beside 14 = .ok (.iadd, 1) := dk_96 (dk_at dksX6_beside_0 14 rfl rfl)
theorem dX6_beside_15 : decode cX6_beside 15 = .ok (.if_icmp .ne 7, 3) := dk_160 0 7 (dk_at dksX6_beside_0 15 rfl rfl)
theorem dX6_beside_18 : decode cX6_beside 18 = .ok (.iload_n 1, 1) := dk_27 (dk_at dksX6_beside_0 18 rfl rfl)
theorem dX6_beside_19 : decode cX6_beside 19 = .ok (.goto 4, 3) := dk_167 0 4 (dk_at dksX6_beside_0 19 rfl rfl)
theorem dX6_beside_22 : decode cX6_beside 22 = .ok (.iload_n 0, 1) := dk_26 (dk_at dksX6_beside_0 22 rfl rfl)
theorem dX6_beside_23 : decode cX6_beside 23 = .ok (.ireturn, 1) := dk_172 (dk_at dksX6_beside_0 23 rfl rfl)
abbrev cX6_drawnAt : ByteArray := prog_14_method_100_code
def yX6_drawnAt : MethodName := ⟨RX6, "drawnAt", "(IIII)I"⟩
def dkwX6_drawnAt_8 : List UInt8 := [54, 7, 132, 6, 1, 167, 255, 124, 132, 9, 1, 167, 255, 99, 21, 8, 172]
abbrev dktX6_drawnAt_8 : List UInt8 := dkwX6_drawnAt_8 ++ []
def dkwX6_drawnAt_7 : List UInt8 := [54, 11, 167, 255, 150, 21, 7, 42, 180, 0, 19, 17, 0, 200, 27, 104, 21, 6, 96, 46, 184, 1, 178]
abbrev dktX6_drawnAt_7 : List UInt8 := dkwX6_drawnAt_7 ++ dktX6_drawnAt_8
def dkwX6_drawnAt_6 : List UInt8 := [46, 21, 10, 160, 0, 25, 16, 10, 21, 6, 104, 21, 7, 96, 54, 8, 21, 7, 4, 96, 54, 7, 4]
abbrev dktX6_drawnAt_6 : List UInt8 := dkwX6_drawnAt_6 ++ dktX6_drawnAt_7
def dkwX6_drawnAt_5 : List UInt8 := [180, 0, 7, 27, 46, 4, 100, 162, 0, 45, 42, 180, 0, 140, 16, 7, 21, 6, 104, 21, 7, 96, 4, 96]
abbrev dktX6_drawnAt_5 : List UInt8 := dkwX6_drawnAt_5 ++ dktX6_drawnAt_6
def dkwX6_drawnAt_4 : List UInt8 := [21, 7, 96, 4, 100, 54, 8, 21, 7, 4, 100, 54, 7, 4, 54, 11, 167, 255, 205, 21, 7, 42]
abbrev dktX6_drawnAt_4 : List UInt8 := dkwX6_drawnAt_4 ++ dktX6_drawnAt_5
def dkwX6_drawnAt_3 : List UInt8 := [180, 0, 140, 16, 7, 21, 6, 104, 21, 7, 96, 4, 100, 46, 21, 10, 160, 0, 27, 16, 10, 21, 6, 104]
abbrev dktX6_drawnAt_3 : List UInt8 := dkwX6_drawnAt_3 ++ dktX6_drawnAt_4
def dkwX6_drawnAt_2 : List UInt8 := [21, 5, 21, 9, 100, 4, 100, 54, 10, 3, 54, 11, 21, 11, 154, 0, 133, 21, 7, 158, 0, 47, 42]
abbrev dktX6_drawnAt_2 : List UInt8 := dkwX6_drawnAt_2 ++ dktX6_drawnAt_3
def dkwX6_drawnAt_1 : List UInt8 := [161, 0, 5, 2, 172, 3, 54, 6, 28, 54, 7, 2, 54, 8, 3, 54, 9, 21, 9, 21, 4, 163, 0, 156]
abbrev dktX6_drawnAt_1 : List UInt8 := dkwX6_drawnAt_1 ++ dktX6_drawnAt_2
def dkwX6_drawnAt_0 : List UInt8 := [42, 27, 28, 29, 182, 1, 184, 54, 5, 21, 5, 155, 0, 15, 21, 4, 155, 0, 10, 21, 4, 21, 5]
abbrev dktX6_drawnAt_0 : List UInt8 := dkwX6_drawnAt_0 ++ dktX6_drawnAt_1
theorem dksX6_drawnAt_0 : cX6_drawnAt.data.toList.drop 0 = dktX6_drawnAt_0 := by decide +kernel
theorem dksX6_drawnAt_1 : cX6_drawnAt.data.toList.drop 23 = dktX6_drawnAt_1 := dk_seg dksX6_drawnAt_0 23 rfl rfl
theorem dksX6_drawnAt_2 : cX6_drawnAt.data.toList.drop 47 = dktX6_drawnAt_2 := dk_seg dksX6_drawnAt_1 24 rfl rfl
theorem dksX6_drawnAt_3 : cX6_drawnAt.data.toList.drop 70 = dktX6_drawnAt_3 := dk_seg dksX6_drawnAt_2 23 rfl rfl
theorem dksX6_drawnAt_4 : cX6_drawnAt.data.toList.drop 94 = dktX6_drawnAt_4 := dk_seg dksX6_drawnAt_3 24 rfl rfl
theorem dksX6_drawnAt_5 : cX6_drawnAt.data.toList.drop 116 = dktX6_drawnAt_5 := dk_seg dksX6_drawnAt_4 22 rfl rfl
theorem dksX6_drawnAt_6 : cX6_drawnAt.data.toList.drop 140 = dktX6_drawnAt_6 := dk_seg dksX6_drawnAt_5 24 rfl rfl
theorem dksX6_drawnAt_7 : cX6_drawnAt.data.toList.drop 163 = dktX6_drawnAt_7 := dk_seg dksX6_drawnAt_6 23 rfl rfl
theorem dksX6_drawnAt_8 : cX6_drawnAt.data.toList.drop 186 = dktX6_drawnAt_8 := dk_seg dksX6_drawnAt_7 23 rfl rfl
theorem dX6_drawnAt_0 : decode cX6_drawnAt 0 = .ok (.aload_n 0, 1) := dk_42 (dk_at dksX6_drawnAt_0 0 rfl rfl)
theorem dX6_drawnAt_1 : decode cX6_drawnAt 1 = .ok (.iload_n 1, 1) := dk_27 (dk_at dksX6_drawnAt_0 1 rfl rfl)
theorem dX6_drawnAt_2 : decode cX6_drawnAt 2 = .ok (.iload_n 2, 1) := dk_28 (dk_at dksX6_drawnAt_0 2 rfl rfl)
theorem dX6_drawnAt_3 : decode cX6_drawnAt 3 = .ok (.iload_n 3, 1) := dk_29 (dk_at dksX6_drawnAt_0 3 rfl rfl)
theorem dX6_drawnAt_4 : decode cX6_drawnAt 4 = .ok (.invokevirtual 440, 3) := dk_182 1 184 (dk_at dksX6_drawnAt_0 4 rfl rfl)
theorem dX6_drawnAt_7 : decode cX6_drawnAt 7 = .ok (.istore 5, 2) := dk_54 5 (dk_at dksX6_drawnAt_0 7 rfl rfl)
theorem dX6_drawnAt_9 : decode cX6_drawnAt 9 = .ok (.iload 5, 2) := dk_21 5 (dk_at dksX6_drawnAt_0 9 rfl rfl)
theorem dX6_drawnAt_11 : decode cX6_drawnAt 11 = .ok (.ifCond .lt 15, 3) := dk_155 0 15 (dk_at dksX6_drawnAt_0 11 rfl rfl)
theorem dX6_drawnAt_14 : decode cX6_drawnAt 14 = .ok (.iload 4, 2) := dk_21 4 (dk_at dksX6_drawnAt_0 14 rfl rfl)
theorem dX6_drawnAt_16 : decode cX6_drawnAt 16 = .ok (.ifCond .lt 10, 3) := dk_155 0 10 (dk_at dksX6_drawnAt_0 16 rfl rfl)
theorem dX6_drawnAt_19 : decode cX6_drawnAt 19 = .ok (.iload 4, 2) := dk_21 4 (dk_at dksX6_drawnAt_0 19 rfl rfl)
theorem dX6_drawnAt_21 : decode cX6_drawnAt 21 = .ok (.iload 5, 2) := dk_21 5 (dk_at dksX6_drawnAt_0 21 rfl rfl)
theorem dX6_drawnAt_23 : decode cX6_drawnAt 23 = .ok (.if_icmp .lt 5, 3) := dk_161 0 5 (dk_at dksX6_drawnAt_1 0 rfl rfl)
theorem dX6_drawnAt_26 : decode cX6_drawnAt 26 = .ok (.iconst (-1), 1) := dk_2 (dk_at dksX6_drawnAt_1 3 rfl rfl)
theorem dX6_drawnAt_27 : decode cX6_drawnAt 27 = .ok (.ireturn, 1) := dk_172 (dk_at dksX6_drawnAt_1 4 rfl rfl)
theorem dX6_drawnAt_28 : decode cX6_drawnAt 28 = .ok (.iconst 0, 1) := dk_3 (dk_at dksX6_drawnAt_1 5 rfl rfl)
theorem dX6_drawnAt_29 : decode cX6_drawnAt 29 = .ok (.istore 6, 2) := dk_54 6 (dk_at dksX6_drawnAt_1 6 rfl rfl)
theorem dX6_drawnAt_31 : decode cX6_drawnAt 31 = .ok (.iload_n 2, 1) := dk_28 (dk_at dksX6_drawnAt_1 8 rfl rfl)
theorem dX6_drawnAt_32 : decode cX6_drawnAt 32 = .ok (.istore 7, 2) := dk_54 7 (dk_at dksX6_drawnAt_1 9 rfl rfl)
theorem dX6_drawnAt_34 : decode cX6_drawnAt 34 = .ok (.iconst (-1), 1) := dk_2 (dk_at dksX6_drawnAt_1 11 rfl rfl)
theorem dX6_drawnAt_35 : decode cX6_drawnAt 35 = .ok (.istore 8, 2) := dk_54 8 (dk_at dksX6_drawnAt_1 12 rfl rfl)
theorem dX6_drawnAt_37 : decode cX6_drawnAt 37 = .ok (.iconst 0, 1) := dk_3 (dk_at dksX6_drawnAt_1 14 rfl rfl)
theorem dX6_drawnAt_38 : decode cX6_drawnAt 38 = .ok (.istore 9, 2) := dk_54 9 (dk_at dksX6_drawnAt_1 15 rfl rfl)
theorem dX6_drawnAt_40 : decode cX6_drawnAt 40 = .ok (.iload 9, 2) := dk_21 9 (dk_at dksX6_drawnAt_1 17 rfl rfl)
theorem dX6_drawnAt_42 : decode cX6_drawnAt 42 = .ok (.iload 4, 2) := dk_21 4 (dk_at dksX6_drawnAt_1 19 rfl rfl)
theorem dX6_drawnAt_44 : decode cX6_drawnAt 44 = .ok (.if_icmp .gt 156, 3) := dk_163 0 156 (dk_at dksX6_drawnAt_1 21 rfl rfl)
theorem dX6_drawnAt_47 : decode cX6_drawnAt 47 = .ok (.iload 5, 2) := dk_21 5 (dk_at dksX6_drawnAt_2 0 rfl rfl)
theorem dX6_drawnAt_49 : decode cX6_drawnAt 49 = .ok (.iload 9, 2) := dk_21 9 (dk_at dksX6_drawnAt_2 2 rfl rfl)
theorem dX6_drawnAt_51 : decode cX6_drawnAt 51 = .ok (.isub, 1) := dk_100 (dk_at dksX6_drawnAt_2 4 rfl rfl)
theorem dX6_drawnAt_52 : decode cX6_drawnAt 52 = .ok (.iconst 1, 1) := dk_4 (dk_at dksX6_drawnAt_2 5 rfl rfl)
theorem dX6_drawnAt_53 : decode cX6_drawnAt 53 = .ok (.isub, 1) := dk_100 (dk_at dksX6_drawnAt_2 6 rfl rfl)
theorem dX6_drawnAt_54 : decode cX6_drawnAt 54 = .ok (.istore 10, 2) := dk_54 10 (dk_at dksX6_drawnAt_2 7 rfl rfl)
theorem dX6_drawnAt_56 : decode cX6_drawnAt 56 = .ok (.iconst 0, 1) := dk_3 (dk_at dksX6_drawnAt_2 9 rfl rfl)
theorem dX6_drawnAt_57 : decode cX6_drawnAt 57 = .ok (.istore 11, 2) := dk_54 11 (dk_at dksX6_drawnAt_2 10 rfl rfl)
theorem dX6_drawnAt_59 : decode cX6_drawnAt 59 = .ok (.iload 11, 2) := dk_21 11 (dk_at dksX6_drawnAt_2 12 rfl rfl)
theorem dX6_drawnAt_61 : decode cX6_drawnAt 61 = .ok (.ifCond .ne 133, 3) := dk_154 0 133 (dk_at dksX6_drawnAt_2 14 rfl rfl)
theorem dX6_drawnAt_64 : decode cX6_drawnAt 64 = .ok (.iload 7, 2) := dk_21 7 (dk_at dksX6_drawnAt_2 17 rfl rfl)
theorem dX6_drawnAt_66 : decode cX6_drawnAt 66 = .ok (.ifCond .le 47, 3) := dk_158 0 47 (dk_at dksX6_drawnAt_2 19 rfl rfl)
theorem dX6_drawnAt_69 : decode cX6_drawnAt 69 = .ok (.aload_n 0, 1) := dk_42 (dk_at dksX6_drawnAt_2 22 rfl rfl)
theorem dX6_drawnAt_70 : decode cX6_drawnAt 70 = .ok (.getfield 140, 3) := dk_180 0 140 (dk_at dksX6_drawnAt_3 0 rfl rfl)
theorem dX6_drawnAt_73 : decode cX6_drawnAt 73 = .ok (.bipush 7, 2) := dk_16 7 (dk_at dksX6_drawnAt_3 3 rfl rfl)
theorem dX6_drawnAt_75 : decode cX6_drawnAt 75 = .ok (.iload 6, 2) := dk_21 6 (dk_at dksX6_drawnAt_3 5 rfl rfl)
theorem dX6_drawnAt_77 : decode cX6_drawnAt 77 = .ok (.imul, 1) := dk_104 (dk_at dksX6_drawnAt_3 7 rfl rfl)
theorem dX6_drawnAt_78 : decode cX6_drawnAt 78 = .ok (.iload 7, 2) := dk_21 7 (dk_at dksX6_drawnAt_3 8 rfl rfl)
theorem dX6_drawnAt_80 : decode cX6_drawnAt 80 = .ok (.iadd, 1) := dk_96 (dk_at dksX6_drawnAt_3 10 rfl rfl)
theorem dX6_drawnAt_81 : decode cX6_drawnAt 81 = .ok (.iconst 1, 1) := dk_4 (dk_at dksX6_drawnAt_3 11 rfl rfl)
theorem dX6_drawnAt_82 : decode cX6_drawnAt 82 = .ok (.isub, 1) := dk_100 (dk_at dksX6_drawnAt_3 12 rfl rfl)
theorem dX6_drawnAt_83 : decode cX6_drawnAt 83 = .ok (.iaload, 1) := dk_46 (dk_at dksX6_drawnAt_3 13 rfl rfl)
theorem dX6_drawnAt_84 : decode cX6_drawnAt 84 = .ok (.iload 10, 2) := dk_21 10 (dk_at dksX6_drawnAt_3 14 rfl rfl)
theorem dX6_drawnAt_86 : decode cX6_drawnAt 86 = .ok (.if_icmp .ne 27, 3) := dk_160 0 27 (dk_at dksX6_drawnAt_3 16 rfl rfl)
theorem dX6_drawnAt_89 : decode cX6_drawnAt 89 = .ok (.bipush 10, 2) := dk_16 10 (dk_at dksX6_drawnAt_3 19 rfl rfl)
theorem dX6_drawnAt_91 : decode cX6_drawnAt 91 = .ok (.iload 6, 2) := dk_21 6 (dk_at dksX6_drawnAt_3 21 rfl rfl)
theorem dX6_drawnAt_93 : decode cX6_drawnAt 93 = .ok (.imul, 1) := dk_104 (dk_at dksX6_drawnAt_3 23 rfl rfl)
theorem dX6_drawnAt_94 : decode cX6_drawnAt 94 = .ok (.iload 7, 2) := dk_21 7 (dk_at dksX6_drawnAt_4 0 rfl rfl)
theorem dX6_drawnAt_96 : decode cX6_drawnAt 96 = .ok (.iadd, 1) := dk_96 (dk_at dksX6_drawnAt_4 2 rfl rfl)
theorem dX6_drawnAt_97 : decode cX6_drawnAt 97 = .ok (.iconst 1, 1) := dk_4 (dk_at dksX6_drawnAt_4 3 rfl rfl)
theorem dX6_drawnAt_98 : decode cX6_drawnAt 98 = .ok (.isub, 1) := dk_100 (dk_at dksX6_drawnAt_4 4 rfl rfl)
theorem dX6_drawnAt_99 : decode cX6_drawnAt 99 = .ok (.istore 8, 2) := dk_54 8 (dk_at dksX6_drawnAt_4 5 rfl rfl)
theorem dX6_drawnAt_101 : decode cX6_drawnAt 101 = .ok (.iload 7, 2) := dk_21 7 (dk_at dksX6_drawnAt_4 7 rfl rfl)
theorem dX6_drawnAt_103 : decode cX6_drawnAt 103 = .ok (.iconst 1, 1) := dk_4 (dk_at dksX6_drawnAt_4 9 rfl rfl)
theorem dX6_drawnAt_104 : decode cX6_drawnAt 104 = .ok (.isub, 1) := dk_100 (dk_at dksX6_drawnAt_4 10 rfl rfl)
theorem dX6_drawnAt_105 : decode cX6_drawnAt 105 = .ok (.istore 7, 2) := dk_54 7 (dk_at dksX6_drawnAt_4 11 rfl rfl)
theorem dX6_drawnAt_107 : decode cX6_drawnAt 107 = .ok (.iconst 1, 1) := dk_4 (dk_at dksX6_drawnAt_4 13 rfl rfl)
theorem dX6_drawnAt_108 : decode cX6_drawnAt 108 = .ok (.istore 11, 2) := dk_54 11 (dk_at dksX6_drawnAt_4 14 rfl rfl)
theorem dX6_drawnAt_110 : decode cX6_drawnAt 110 = .ok (.goto (-51), 3) := dk_167 255 205 (dk_at dksX6_drawnAt_4 16 rfl rfl)
theorem dX6_drawnAt_113 : decode cX6_drawnAt 113 = .ok (.iload 7, 2) := dk_21 7 (dk_at dksX6_drawnAt_4 19 rfl rfl)
theorem dX6_drawnAt_115 : decode cX6_drawnAt 115 = .ok (.aload_n 0, 1) := dk_42 (dk_at dksX6_drawnAt_4 21 rfl rfl)
theorem dX6_drawnAt_116 : decode cX6_drawnAt 116 = .ok (.getfield 7, 3) := dk_180 0 7 (dk_at dksX6_drawnAt_5 0 rfl rfl)
theorem dX6_drawnAt_119 : decode cX6_drawnAt 119 = .ok (.iload_n 1, 1) := dk_27 (dk_at dksX6_drawnAt_5 3 rfl rfl)
theorem dX6_drawnAt_120 : decode cX6_drawnAt 120 = .ok (.iaload, 1) := dk_46 (dk_at dksX6_drawnAt_5 4 rfl rfl)
theorem dX6_drawnAt_121 : decode cX6_drawnAt 121 = .ok (.iconst 1, 1) := dk_4 (dk_at dksX6_drawnAt_5 5 rfl rfl)
theorem dX6_drawnAt_122 : decode cX6_drawnAt 122 = .ok (.isub, 1) := dk_100 (dk_at dksX6_drawnAt_5 6 rfl rfl)
theorem dX6_drawnAt_123 : decode cX6_drawnAt 123 = .ok (.if_icmp .ge 45, 3) := dk_162 0 45 (dk_at dksX6_drawnAt_5 7 rfl rfl)
theorem dX6_drawnAt_126 : decode cX6_drawnAt 126 = .ok (.aload_n 0, 1) := dk_42 (dk_at dksX6_drawnAt_5 10 rfl rfl)
theorem dX6_drawnAt_127 : decode cX6_drawnAt 127 = .ok (.getfield 140, 3) := dk_180 0 140 (dk_at dksX6_drawnAt_5 11 rfl rfl)
theorem dX6_drawnAt_130 : decode cX6_drawnAt 130 = .ok (.bipush 7, 2) := dk_16 7 (dk_at dksX6_drawnAt_5 14 rfl rfl)
theorem dX6_drawnAt_132 : decode cX6_drawnAt 132 = .ok (.iload 6, 2) := dk_21 6 (dk_at dksX6_drawnAt_5 16 rfl rfl)
theorem dX6_drawnAt_134 : decode cX6_drawnAt 134 = .ok (.imul, 1) := dk_104 (dk_at dksX6_drawnAt_5 18 rfl rfl)
theorem dX6_drawnAt_135 : decode cX6_drawnAt 135 = .ok (.iload 7, 2) := dk_21 7 (dk_at dksX6_drawnAt_5 19 rfl rfl)
theorem dX6_drawnAt_137 : decode cX6_drawnAt 137 = .ok (.iadd, 1) := dk_96 (dk_at dksX6_drawnAt_5 21 rfl rfl)
theorem dX6_drawnAt_138 : decode cX6_drawnAt 138 = .ok (.iconst 1, 1) := dk_4 (dk_at dksX6_drawnAt_5 22 rfl rfl)
theorem dX6_drawnAt_139 : decode cX6_drawnAt 139 = .ok (.iadd, 1) := dk_96 (dk_at dksX6_drawnAt_5 23 rfl rfl)
theorem dX6_drawnAt_140 : decode cX6_drawnAt 140 = .ok (.iaload, 1) := dk_46 (dk_at dksX6_drawnAt_6 0 rfl rfl)
theorem dX6_drawnAt_141 : decode cX6_drawnAt 141 = .ok (.iload 10, 2) := dk_21 10 (dk_at dksX6_drawnAt_6 1 rfl rfl)
theorem dX6_drawnAt_143 : decode cX6_drawnAt 143 = .ok (.if_icmp .ne 25, 3) := dk_160 0 25 (dk_at dksX6_drawnAt_6 3 rfl rfl)
theorem dX6_drawnAt_146 : decode cX6_drawnAt 146 = .ok (.bipush 10, 2) := dk_16 10 (dk_at dksX6_drawnAt_6 6 rfl rfl)
theorem dX6_drawnAt_148 : decode cX6_drawnAt 148 = .ok (.iload 6, 2) := dk_21 6 (dk_at dksX6_drawnAt_6 8 rfl rfl)
theorem dX6_drawnAt_150 : decode cX6_drawnAt 150 = .ok (.imul, 1) := dk_104 (dk_at dksX6_drawnAt_6 10 rfl rfl)
theorem dX6_drawnAt_151 : decode cX6_drawnAt 151 = .ok (.iload 7, 2) := dk_21 7 (dk_at dksX6_drawnAt_6 11 rfl rfl)
theorem dX6_drawnAt_153 : decode cX6_drawnAt 153 = .ok (.iadd, 1) := dk_96 (dk_at dksX6_drawnAt_6 13 rfl rfl)
theorem dX6_drawnAt_154 : decode cX6_drawnAt 154 = .ok (.istore 8, 2) := dk_54 8 (dk_at dksX6_drawnAt_6 14 rfl rfl)
theorem dX6_drawnAt_156 : decode cX6_drawnAt 156 = .ok (.iload 7, 2) := dk_21 7 (dk_at dksX6_drawnAt_6 16 rfl rfl)
theorem dX6_drawnAt_158 : decode cX6_drawnAt 158 = .ok (.iconst 1, 1) := dk_4 (dk_at dksX6_drawnAt_6 18 rfl rfl)
theorem dX6_drawnAt_159 : decode cX6_drawnAt 159 = .ok (.iadd, 1) := dk_96 (dk_at dksX6_drawnAt_6 19 rfl rfl)
theorem dX6_drawnAt_160 : decode cX6_drawnAt 160 = .ok (.istore 7, 2) := dk_54 7 (dk_at dksX6_drawnAt_6 20 rfl rfl)
theorem dX6_drawnAt_162 : decode cX6_drawnAt 162 = .ok (.iconst 1, 1) := dk_4 (dk_at dksX6_drawnAt_6 22 rfl rfl)
theorem dX6_drawnAt_163 : decode cX6_drawnAt 163 = .ok (.istore 11, 2) := dk_54 11 (dk_at dksX6_drawnAt_7 0 rfl rfl)
theorem dX6_drawnAt_165 : decode cX6_drawnAt 165 = .ok (.goto (-106), 3) := dk_167 255 150 (dk_at dksX6_drawnAt_7 2 rfl rfl)
theorem dX6_drawnAt_168 : decode cX6_drawnAt 168 = .ok (.iload 7, 2) := dk_21 7 (dk_at dksX6_drawnAt_7 5 rfl rfl)
theorem dX6_drawnAt_170 : decode cX6_drawnAt 170 = .ok (.aload_n 0, 1) := dk_42 (dk_at dksX6_drawnAt_7 7 rfl rfl)
theorem dX6_drawnAt_171 : decode cX6_drawnAt 171 = .ok (.getfield 19, 3) := dk_180 0 19 (dk_at dksX6_drawnAt_7 8 rfl rfl)
theorem dX6_drawnAt_174 : decode cX6_drawnAt 174 = .ok (.sipush 200, 3) := dk_17 0 200 (dk_at dksX6_drawnAt_7 11 rfl rfl)
theorem dX6_drawnAt_177 : decode cX6_drawnAt 177 = .ok (.iload_n 1, 1) := dk_27 (dk_at dksX6_drawnAt_7 14 rfl rfl)
theorem dX6_drawnAt_178 : decode cX6_drawnAt 178 = .ok (.imul, 1) := dk_104 (dk_at dksX6_drawnAt_7 15 rfl rfl)
theorem dX6_drawnAt_179 : decode cX6_drawnAt 179 = .ok (.iload 6, 2) := dk_21 6 (dk_at dksX6_drawnAt_7 16 rfl rfl)
theorem dX6_drawnAt_181 : decode cX6_drawnAt 181 = .ok (.iadd, 1) := dk_96 (dk_at dksX6_drawnAt_7 18 rfl rfl)
theorem dX6_drawnAt_182 : decode cX6_drawnAt 182 = .ok (.iaload, 1) := dk_46 (dk_at dksX6_drawnAt_7 19 rfl rfl)
theorem dX6_drawnAt_183 : decode cX6_drawnAt 183 = .ok (.invokestatic 434, 3) := dk_184 1 178 (dk_at dksX6_drawnAt_7 20 rfl rfl)
theorem dX6_drawnAt_186 : decode cX6_drawnAt 186 = .ok (.istore 7, 2) := dk_54 7 (dk_at dksX6_drawnAt_8 0 rfl rfl)
theorem dX6_drawnAt_188 : decode cX6_drawnAt 188 = .ok (.iinc 6 1, 3) := dk_132 6 1 (dk_at dksX6_drawnAt_8 2 rfl rfl)
theorem dX6_drawnAt_191 : decode cX6_drawnAt 191 = .ok (.goto (-132), 3) := dk_167 255 124 (dk_at dksX6_drawnAt_8 5 rfl rfl)
theorem dX6_drawnAt_194 : decode cX6_drawnAt 194 = .ok (.iinc 9 1, 3) := dk_132 9 1 (dk_at dksX6_drawnAt_8 8 rfl rfl)
theorem dX6_drawnAt_197 : decode cX6_drawnAt 197 = .ok (.goto (-157), 3) := dk_167 255 99 (dk_at dksX6_drawnAt_8 11 rfl rfl)
theorem dX6_drawnAt_200 : decode cX6_drawnAt 200 = .ok (.iload 8, 2) := dk_21 8 (dk_at dksX6_drawnAt_8 14 rfl rfl)
theorem dX6_drawnAt_202 : decode cX6_drawnAt 202 = .ok (.ireturn, 1) := dk_172 (dk_at dksX6_drawnAt_8 16 rfl rfl)
abbrev cX6_drawnAll : ByteArray := prog_14_method_102_code
def yX6_drawnAll : MethodName := ⟨RX6, "drawnAll", "(II)I"⟩
def dkwX6_drawnAll_9 : List UInt8 := [180, 0, 143, 28, 46, 172]
abbrev dktX6_drawnAll_9 : List UInt8 := dkwX6_drawnAll_9 ++ []
def dkwX6_drawnAll_8 : List UInt8 := [132, 4, 1, 167, 255, 230, 42, 42, 180, 0, 7, 27, 46, 182, 1, 187, 132, 3, 1, 167, 255, 148, 42]
abbrev dktX6_drawnAll_8 : List UInt8 := dkwX6_drawnAll_8 ++ dktX6_drawnAll_9
def dkwX6_drawnAll_7 : List UInt8 := [21, 4, 42, 180, 1, 84, 162, 0, 23, 42, 180, 0, 143, 21, 4, 42, 180, 0, 146, 21, 4, 46, 79]
abbrev dktX6_drawnAll_7 : List UInt8 := dkwX6_drawnAll_7 ++ dktX6_drawnAll_8
def dkwX6_drawnAll_6 : List UInt8 := [104, 29, 96, 46, 96, 46, 42, 180, 0, 143, 21, 4, 46, 79, 132, 4, 1, 167, 255, 209, 3, 54, 4]
abbrev dktX6_drawnAll_6 : List UInt8 := dkwX6_drawnAll_6 ++ dktX6_drawnAll_7
def dkwX6_drawnAll_5 : List UInt8 := [162, 0, 44, 42, 180, 0, 146, 42, 180, 0, 101, 16, 6, 21, 4, 104, 42, 180, 0, 19, 17, 0, 200, 27]
abbrev dktX6_drawnAll_5 : List UInt8 := dkwX6_drawnAll_5 ++ dktX6_drawnAll_6
def dkwX6_drawnAll_4 : List UInt8 := [182, 1, 187, 3, 62, 29, 42, 180, 0, 13, 27, 46, 162, 0, 104, 3, 54, 4, 21, 4, 42, 180, 1, 84]
abbrev dktX6_drawnAll_4 : List UInt8 := dkwX6_drawnAll_4 ++ dktX6_drawnAll_5
def dkwX6_drawnAll_3 : List UInt8 := [29, 29, 154, 0, 7, 3, 167, 0, 4, 2, 79, 132, 3, 1, 167, 255, 230, 42, 42, 180, 0, 7, 27, 46]
abbrev dktX6_drawnAll_3 : List UInt8 := dkwX6_drawnAll_3 ++ dktX6_drawnAll_4
def dkwX6_drawnAll_2 : List UInt8 := [42, 42, 180, 0, 7, 27, 46, 182, 1, 107, 3, 62, 29, 42, 180, 1, 84, 162, 0, 24, 42, 180, 0, 143]
abbrev dktX6_drawnAll_2 : List UInt8 := dkwX6_drawnAll_2 ++ dktX6_drawnAll_3
def dkwX6_drawnAll_1 : List UInt8 := [42, 27, 182, 1, 72, 154, 0, 6, 16, 254, 172, 42, 180, 0, 7, 27, 46, 8, 164, 0, 6, 16, 253, 172]
abbrev dktX6_drawnAll_1 : List UInt8 := dkwX6_drawnAll_1 ++ dktX6_drawnAll_2
def dkwX6_drawnAll_0 : List UInt8 := [42, 27, 182, 1, 51, 153, 0, 17, 42, 42, 180, 0, 7, 27, 46, 28, 182, 1, 103, 154, 0, 5, 2, 172]
abbrev dktX6_drawnAll_0 : List UInt8 := dkwX6_drawnAll_0 ++ dktX6_drawnAll_1
theorem dksX6_drawnAll_0 : cX6_drawnAll.data.toList.drop 0 = dktX6_drawnAll_0 := by decide +kernel
theorem dksX6_drawnAll_1 : cX6_drawnAll.data.toList.drop 24 = dktX6_drawnAll_1 := dk_seg dksX6_drawnAll_0 24 rfl rfl
theorem dksX6_drawnAll_2 : cX6_drawnAll.data.toList.drop 48 = dktX6_drawnAll_2 := dk_seg dksX6_drawnAll_1 24 rfl rfl
theorem dksX6_drawnAll_3 : cX6_drawnAll.data.toList.drop 72 = dktX6_drawnAll_3 := dk_seg dksX6_drawnAll_2 24 rfl rfl
theorem dksX6_drawnAll_4 : cX6_drawnAll.data.toList.drop 96 = dktX6_drawnAll_4 := dk_seg dksX6_drawnAll_3 24 rfl rfl
theorem dksX6_drawnAll_5 : cX6_drawnAll.data.toList.drop 120 = dktX6_drawnAll_5 := dk_seg dksX6_drawnAll_4 24 rfl rfl
theorem dksX6_drawnAll_6 : cX6_drawnAll.data.toList.drop 144 = dktX6_drawnAll_6 := dk_seg dksX6_drawnAll_5 24 rfl rfl
theorem dksX6_drawnAll_7 : cX6_drawnAll.data.toList.drop 167 = dktX6_drawnAll_7 := dk_seg dksX6_drawnAll_6 23 rfl rfl
theorem dksX6_drawnAll_8 : cX6_drawnAll.data.toList.drop 190 = dktX6_drawnAll_8 := dk_seg dksX6_drawnAll_7 23 rfl rfl
theorem dksX6_drawnAll_9 : cX6_drawnAll.data.toList.drop 213 = dktX6_drawnAll_9 := dk_seg dksX6_drawnAll_8 23 rfl rfl
theorem dX6_drawnAll_0 : decode cX6_drawnAll 0 = .ok (.aload_n 0, 1) := dk_42 (dk_at dksX6_drawnAll_0 0 rfl rfl)
theorem dX6_drawnAll_1 : decode cX6_drawnAll 1 = .ok (.iload_n 1, 1) := dk_27 (dk_at dksX6_drawnAll_0 1 rfl rfl)
theorem dX6_drawnAll_2 : decode cX6_drawnAll 2 = .ok (.invokevirtual 307, 3) := dk_182 1 51 (dk_at dksX6_drawnAll_0 2 rfl rfl)
theorem dX6_drawnAll_5 : decode cX6_drawnAll 5 = .ok (.ifCond .eq 17, 3) := dk_153 0 17 (dk_at dksX6_drawnAll_0 5 rfl rfl)
theorem dX6_drawnAll_8 : decode cX6_drawnAll 8 = .ok (.aload_n 0, 1) := dk_42 (dk_at dksX6_drawnAll_0 8 rfl rfl)
theorem dX6_drawnAll_9 : decode cX6_drawnAll 9 = .ok (.aload_n 0, 1) := dk_42 (dk_at dksX6_drawnAll_0 9 rfl rfl)
theorem dX6_drawnAll_10 : decode cX6_drawnAll 10 = .ok (.getfield 7, 3) := dk_180 0 7 (dk_at dksX6_drawnAll_0 10 rfl rfl)
theorem dX6_drawnAll_13 : decode cX6_drawnAll 13 = .ok (.iload_n 1, 1) := dk_27 (dk_at dksX6_drawnAll_0 13 rfl rfl)
theorem dX6_drawnAll_14 : decode cX6_drawnAll 14 = .ok (.iaload, 1) := dk_46 (dk_at dksX6_drawnAll_0 14 rfl rfl)
theorem dX6_drawnAll_15 : decode cX6_drawnAll 15 = .ok (.iload_n 2, 1) := dk_28 (dk_at dksX6_drawnAll_0 15 rfl rfl)
theorem dX6_drawnAll_16 : decode cX6_drawnAll 16 = .ok (.invokevirtual 359, 3) := dk_182 1 103 (dk_at dksX6_drawnAll_0 16 rfl rfl)
theorem dX6_drawnAll_19 : decode cX6_drawnAll 19 = .ok (.ifCond .ne 5, 3) := dk_154 0 5 (dk_at dksX6_drawnAll_0 19 rfl rfl)
theorem dX6_drawnAll_22 : decode cX6_drawnAll 22 = .ok (.iconst (-1), 1) := dk_2 (dk_at dksX6_drawnAll_0 22 rfl rfl)
theorem dX6_drawnAll_23 : decode cX6_drawnAll 23 = .ok (.ireturn, 1) := dk_172 (dk_at dksX6_drawnAll_0 23 rfl rfl)
theorem dX6_drawnAll_24 : decode cX6_drawnAll 24 = .ok (.aload_n 0, 1) := dk_42 (dk_at dksX6_drawnAll_1 0 rfl rfl)
theorem dX6_drawnAll_25 : decode cX6_drawnAll 25 = .ok (.iload_n 1, 1) := dk_27 (dk_at dksX6_drawnAll_1 1 rfl rfl)
theorem dX6_drawnAll_26 : decode cX6_drawnAll 26 = .ok (.invokevirtual 328, 3) := dk_182 1 72 (dk_at dksX6_drawnAll_1 2 rfl rfl)
theorem dX6_drawnAll_29 : decode cX6_drawnAll 29 = .ok (.ifCond .ne 6, 3) := dk_154 0 6 (dk_at dksX6_drawnAll_1 5 rfl rfl)
theorem dX6_drawnAll_32 : decode cX6_drawnAll 32 = .ok (.bipush (-2), 2) := dk_16 254 (dk_at dksX6_drawnAll_1 8 rfl rfl)
theorem dX6_drawnAll_34 : decode cX6_drawnAll 34 = .ok (.ireturn, 1) := dk_172 (dk_at dksX6_drawnAll_1 10 rfl rfl)
theorem dX6_drawnAll_35 : decode cX6_drawnAll 35 = .ok (.aload_n 0, 1) := dk_42 (dk_at dksX6_drawnAll_1 11 rfl rfl)
theorem dX6_drawnAll_36 : decode cX6_drawnAll 36 = .ok (.getfield 7, 3) := dk_180 0 7 (dk_at dksX6_drawnAll_1 12 rfl rfl)
theorem dX6_drawnAll_39 : decode cX6_drawnAll 39 = .ok (.iload_n 1, 1) := dk_27 (dk_at dksX6_drawnAll_1 15 rfl rfl)
theorem dX6_drawnAll_40 : decode cX6_drawnAll 40 = .ok (.iaload, 1) := dk_46 (dk_at dksX6_drawnAll_1 16 rfl rfl)
theorem dX6_drawnAll_41 : decode cX6_drawnAll 41 = .ok (.iconst 5, 1) := dk_8 (dk_at dksX6_drawnAll_1 17 rfl rfl)
theorem dX6_drawnAll_42 : decode cX6_drawnAll 42 = .ok (.if_icmp .le 6, 3) := dk_164 0 6 (dk_at dksX6_drawnAll_1 18 rfl rfl)
theorem dX6_drawnAll_45 : decode cX6_drawnAll 45 = .ok (.bipush (-3), 2) := dk_16 253 (dk_at dksX6_drawnAll_1 21 rfl rfl)
theorem dX6_drawnAll_47 : decode cX6_drawnAll 47 = .ok (.ireturn, 1) := dk_172 (dk_at dksX6_drawnAll_1 23 rfl rfl)
theorem dX6_drawnAll_48 : decode cX6_drawnAll 48 = .ok (.aload_n 0, 1) := dk_42 (dk_at dksX6_drawnAll_2 0 rfl rfl)
theorem dX6_drawnAll_49 : decode cX6_drawnAll 49 = .ok (.aload_n 0, 1) := dk_42 (dk_at dksX6_drawnAll_2 1 rfl rfl)
theorem dX6_drawnAll_50 : decode cX6_drawnAll 50 = .ok (.getfield 7, 3) := dk_180 0 7 (dk_at dksX6_drawnAll_2 2 rfl rfl)
theorem dX6_drawnAll_53 : decode cX6_drawnAll 53 = .ok (.iload_n 1, 1) := dk_27 (dk_at dksX6_drawnAll_2 5 rfl rfl)
theorem dX6_drawnAll_54 : decode cX6_drawnAll 54 = .ok (.iaload, 1) := dk_46 (dk_at dksX6_drawnAll_2 6 rfl rfl)
theorem dX6_drawnAll_55 : decode cX6_drawnAll 55 = .ok (.invokevirtual 363, 3) := dk_182 1 107 (dk_at dksX6_drawnAll_2 7 rfl rfl)
theorem dX6_drawnAll_58 : decode cX6_drawnAll 58 = .ok (.iconst 0, 1) := dk_3 (dk_at dksX6_drawnAll_2 10 rfl rfl)
theorem dX6_drawnAll_59 : decode cX6_drawnAll 59 = .ok (.istore_n 3, 1) := dk_62 (dk_at dksX6_drawnAll_2 11 rfl rfl)
theorem dX6_drawnAll_60 : decode cX6_drawnAll 60 = .ok (.iload_n 3, 1) := dk_29 (dk_at dksX6_drawnAll_2 12 rfl rfl)
theorem dX6_drawnAll_61 : decode cX6_drawnAll 61 = .ok (.aload_n 0, 1) := dk_42 (dk_at dksX6_drawnAll_2 13 rfl rfl)
theorem dX6_drawnAll_62 : decode cX6_drawnAll 62 = .ok (.getfield 340, 3) := dk_180 1 84 (dk_at dksX6_drawnAll_2 14 rfl rfl)
theorem dX6_drawnAll_65 : decode cX6_drawnAll 65 = .ok (.if_icmp .ge 24, 3) := dk_162 0 24 (dk_at dksX6_drawnAll_2 17 rfl rfl)
theorem dX6_drawnAll_68 : decode cX6_drawnAll 68 = .ok (.aload_n 0, 1) := dk_42 (dk_at dksX6_drawnAll_2 20 rfl rfl)
theorem dX6_drawnAll_69 : decode cX6_drawnAll 69 = .ok (.getfield 143, 3) := dk_180 0 143 (dk_at dksX6_drawnAll_2 21 rfl rfl)
theorem dX6_drawnAll_72 : decode cX6_drawnAll 72 = .ok (.iload_n 3, 1) := dk_29 (dk_at dksX6_drawnAll_3 0 rfl rfl)
theorem dX6_drawnAll_73 : decode cX6_drawnAll 73 = .ok (.iload_n 3, 1) := dk_29 (dk_at dksX6_drawnAll_3 1 rfl rfl)
theorem dX6_drawnAll_74 : decode cX6_drawnAll 74 = .ok (.ifCond .ne 7, 3) := dk_154 0 7 (dk_at dksX6_drawnAll_3 2 rfl rfl)
theorem dX6_drawnAll_77 : decode cX6_drawnAll 77 = .ok (.iconst 0, 1) := dk_3 (dk_at dksX6_drawnAll_3 5 rfl rfl)
theorem dX6_drawnAll_78 : decode cX6_drawnAll 78 = .ok (.goto 4, 3) := dk_167 0 4 (dk_at dksX6_drawnAll_3 6 rfl rfl)
theorem dX6_drawnAll_81 : decode cX6_drawnAll 81 = .ok (.iconst (-1), 1) := dk_2 (dk_at dksX6_drawnAll_3 9 rfl rfl)
theorem dX6_drawnAll_82 : decode cX6_drawnAll 82 = .ok (.iastore, 1) := dk_79 (dk_at dksX6_drawnAll_3 10 rfl rfl)
theorem dX6_drawnAll_83 : decode cX6_drawnAll 83 = .ok (.iinc 3 1, 3) := dk_132 3 1 (dk_at dksX6_drawnAll_3 11 rfl rfl)
theorem dX6_drawnAll_86 : decode cX6_drawnAll 86 = .ok (.goto (-26), 3) := dk_167 255 230 (dk_at dksX6_drawnAll_3 14 rfl rfl)
theorem dX6_drawnAll_89 : decode cX6_drawnAll 89 = .ok (.aload_n 0, 1) := dk_42 (dk_at dksX6_drawnAll_3 17 rfl rfl)
theorem dX6_drawnAll_90 : decode cX6_drawnAll 90 = .ok (.aload_n 0, 1) := dk_42 (dk_at dksX6_drawnAll_3 18 rfl rfl)
theorem dX6_drawnAll_91 : decode cX6_drawnAll 91 = .ok (.getfield 7, 3) := dk_180 0 7 (dk_at dksX6_drawnAll_3 19 rfl rfl)
theorem dX6_drawnAll_94 : decode cX6_drawnAll 94 = .ok (.iload_n 1, 1) := dk_27 (dk_at dksX6_drawnAll_3 22 rfl rfl)
theorem dX6_drawnAll_95 : decode cX6_drawnAll 95 = .ok (.iaload, 1) := dk_46 (dk_at dksX6_drawnAll_3 23 rfl rfl)
theorem dX6_drawnAll_96 : decode cX6_drawnAll 96 = .ok (.invokevirtual 443, 3) := dk_182 1 187 (dk_at dksX6_drawnAll_4 0 rfl rfl)
theorem dX6_drawnAll_99 : decode cX6_drawnAll 99 = .ok (.iconst 0, 1) := dk_3 (dk_at dksX6_drawnAll_4 3 rfl rfl)
theorem dX6_drawnAll_100 : decode cX6_drawnAll 100 = .ok (.istore_n 3, 1) := dk_62 (dk_at dksX6_drawnAll_4 4 rfl rfl)
theorem dX6_drawnAll_101 : decode cX6_drawnAll 101 = .ok (.iload_n 3, 1) := dk_29 (dk_at dksX6_drawnAll_4 5 rfl rfl)
theorem dX6_drawnAll_102 : decode cX6_drawnAll 102 = .ok (.aload_n 0, 1) := dk_42 (dk_at dksX6_drawnAll_4 6 rfl rfl)
theorem dX6_drawnAll_103 : decode cX6_drawnAll 103 = .ok (.getfield 13, 3) := dk_180 0 13 (dk_at dksX6_drawnAll_4 7 rfl rfl)
theorem dX6_drawnAll_106 : decode cX6_drawnAll 106 = .ok (.iload_n 1, 1) := dk_27 (dk_at dksX6_drawnAll_4 10 rfl rfl)
theorem dX6_drawnAll_107 : decode cX6_drawnAll 107 = .ok (.iaload, 1) := dk_46 (dk_at dksX6_drawnAll_4 11 rfl rfl)
theorem dX6_drawnAll_108 : decode cX6_drawnAll 108 = .ok (.if_icmp .ge 104, 3) := dk_162 0 104 (dk_at dksX6_drawnAll_4 12 rfl rfl)
theorem dX6_drawnAll_111 : decode cX6_drawnAll 111 = .ok (.iconst 0, 1) := dk_3 (dk_at dksX6_drawnAll_4 15 rfl rfl)
theorem dX6_drawnAll_112 : decode cX6_drawnAll 112 = .ok (.istore 4, 2) := dk_54 4 (dk_at dksX6_drawnAll_4 16 rfl rfl)
theorem dX6_drawnAll_114 : decode cX6_drawnAll 114 = .ok (.iload 4, 2) := dk_21 4 (dk_at dksX6_drawnAll_4 18 rfl rfl)
theorem dX6_drawnAll_116 : decode cX6_drawnAll 116 = .ok (.aload_n 0, 1) := dk_42 (dk_at dksX6_drawnAll_4 20 rfl rfl)
theorem dX6_drawnAll_117 : decode cX6_drawnAll 117 = .ok (.getfield 340, 3) := dk_180 1 84 (dk_at dksX6_drawnAll_4 21 rfl rfl)
theorem dX6_drawnAll_120 : decode cX6_drawnAll 120 = .ok (.if_icmp .ge 44, 3) := dk_162 0 44 (dk_at dksX6_drawnAll_5 0 rfl rfl)
theorem dX6_drawnAll_123 : decode cX6_drawnAll 123 = .ok (.aload_n 0, 1) := dk_42 (dk_at dksX6_drawnAll_5 3 rfl rfl)
theorem dX6_drawnAll_124 : decode cX6_drawnAll 124 = .ok (.getfield 146, 3) := dk_180 0 146 (dk_at dksX6_drawnAll_5 4 rfl rfl)
theorem dX6_drawnAll_127 : decode cX6_drawnAll 127 = .ok (.aload_n 0, 1) := dk_42 (dk_at dksX6_drawnAll_5 7 rfl rfl)
theorem dX6_drawnAll_128 : decode cX6_drawnAll 128 = .ok (.getfield 101, 3) := dk_180 0 101 (dk_at dksX6_drawnAll_5 8 rfl rfl)
theorem dX6_drawnAll_131 : decode cX6_drawnAll 131 = .ok (.bipush 6, 2) := dk_16 6 (dk_at dksX6_drawnAll_5 11 rfl rfl)
theorem dX6_drawnAll_133 : decode cX6_drawnAll 133 = .ok (.iload 4, 2) := dk_21 4 (dk_at dksX6_drawnAll_5 13 rfl rfl)
theorem dX6_drawnAll_135 : decode cX6_drawnAll 135 = .ok (.imul, 1) := dk_104 (dk_at dksX6_drawnAll_5 15 rfl rfl)
theorem dX6_drawnAll_136 : decode cX6_drawnAll 136 = .ok (.aload_n 0, 1) := dk_42 (dk_at dksX6_drawnAll_5 16 rfl rfl)
theorem dX6_drawnAll_137 : decode cX6_drawnAll 137 = .ok (.getfield 19, 3) := dk_180 0 19 (dk_at dksX6_drawnAll_5 17 rfl rfl)
theorem dX6_drawnAll_140 : decode cX6_drawnAll 140 = .ok (.sipush 200, 3) := dk_17 0 200 (dk_at dksX6_drawnAll_5 20 rfl rfl)
theorem dX6_drawnAll_143 : decode cX6_drawnAll 143 = .ok (.iload_n 1, 1) := dk_27 (dk_at dksX6_drawnAll_5 23 rfl rfl)
theorem dX6_drawnAll_144 : decode cX6_drawnAll 144 = .ok (.imul, 1) := dk_104 (dk_at dksX6_drawnAll_6 0 rfl rfl)
theorem dX6_drawnAll_145 : decode cX6_drawnAll 145 = .ok (.iload_n 3, 1) := dk_29 (dk_at dksX6_drawnAll_6 1 rfl rfl)
theorem dX6_drawnAll_146 : decode cX6_drawnAll 146 = .ok (.iadd, 1) := dk_96 (dk_at dksX6_drawnAll_6 2 rfl rfl)
theorem dX6_drawnAll_147 : decode cX6_drawnAll 147 = .ok (.iaload, 1) := dk_46 (dk_at dksX6_drawnAll_6 3 rfl rfl)
theorem dX6_drawnAll_148 : decode cX6_drawnAll 148 = .ok (.iadd, 1) := dk_96 (dk_at dksX6_drawnAll_6 4 rfl rfl)
theorem dX6_drawnAll_149 : decode cX6_drawnAll 149 = .ok (.iaload, 1) := dk_46 (dk_at dksX6_drawnAll_6 5 rfl rfl)
theorem dX6_drawnAll_150 : decode cX6_drawnAll 150 = .ok (.aload_n 0, 1) := dk_42 (dk_at dksX6_drawnAll_6 6 rfl rfl)
theorem dX6_drawnAll_151 : decode cX6_drawnAll 151 = .ok (.getfield 143, 3) := dk_180 0 143 (dk_at dksX6_drawnAll_6 7 rfl rfl)
theorem dX6_drawnAll_154 : decode cX6_drawnAll 154 = .ok (.iload 4, 2) := dk_21 4 (dk_at dksX6_drawnAll_6 10 rfl rfl)
theorem dX6_drawnAll_156 : decode cX6_drawnAll 156 = .ok (.iaload, 1) := dk_46 (dk_at dksX6_drawnAll_6 12 rfl rfl)
theorem dX6_drawnAll_157 : decode cX6_drawnAll 157 = .ok (.iastore, 1) := dk_79 (dk_at dksX6_drawnAll_6 13 rfl rfl)
theorem dX6_drawnAll_158 : decode cX6_drawnAll 158 = .ok (.iinc 4 1, 3) := dk_132 4 1 (dk_at dksX6_drawnAll_6 14 rfl rfl)
theorem dX6_drawnAll_161 : decode cX6_drawnAll 161 = .ok (.goto (-47), 3) := dk_167 255 209 (dk_at dksX6_drawnAll_6 17 rfl rfl)
theorem dX6_drawnAll_164 : decode cX6_drawnAll 164 = .ok (.iconst 0, 1) := dk_3 (dk_at dksX6_drawnAll_6 20 rfl rfl)
theorem dX6_drawnAll_165 : decode cX6_drawnAll 165 = .ok (.istore 4, 2) := dk_54 4 (dk_at dksX6_drawnAll_6 21 rfl rfl)
theorem dX6_drawnAll_167 : decode cX6_drawnAll 167 = .ok (.iload 4, 2) := dk_21 4 (dk_at dksX6_drawnAll_7 0 rfl rfl)
theorem dX6_drawnAll_169 : decode cX6_drawnAll 169 = .ok (.aload_n 0, 1) := dk_42 (dk_at dksX6_drawnAll_7 2 rfl rfl)
theorem dX6_drawnAll_170 : decode cX6_drawnAll 170 = .ok (.getfield 340, 3) := dk_180 1 84 (dk_at dksX6_drawnAll_7 3 rfl rfl)
theorem dX6_drawnAll_173 : decode cX6_drawnAll 173 = .ok (.if_icmp .ge 23, 3) := dk_162 0 23 (dk_at dksX6_drawnAll_7 6 rfl rfl)
theorem dX6_drawnAll_176 : decode cX6_drawnAll 176 = .ok (.aload_n 0, 1) := dk_42 (dk_at dksX6_drawnAll_7 9 rfl rfl)
theorem dX6_drawnAll_177 : decode cX6_drawnAll 177 = .ok (.getfield 143, 3) := dk_180 0 143 (dk_at dksX6_drawnAll_7 10 rfl rfl)
theorem dX6_drawnAll_180 : decode cX6_drawnAll 180 = .ok (.iload 4, 2) := dk_21 4 (dk_at dksX6_drawnAll_7 13 rfl rfl)
theorem dX6_drawnAll_182 : decode cX6_drawnAll 182 = .ok (.aload_n 0, 1) := dk_42 (dk_at dksX6_drawnAll_7 15 rfl rfl)
theorem dX6_drawnAll_183 : decode cX6_drawnAll 183 = .ok (.getfield 146, 3) := dk_180 0 146 (dk_at dksX6_drawnAll_7 16 rfl rfl)
theorem dX6_drawnAll_186 : decode cX6_drawnAll 186 = .ok (.iload 4, 2) := dk_21 4 (dk_at dksX6_drawnAll_7 19 rfl rfl)
theorem dX6_drawnAll_188 : decode cX6_drawnAll 188 = .ok (.iaload, 1) := dk_46 (dk_at dksX6_drawnAll_7 21 rfl rfl)
theorem dX6_drawnAll_189 : decode cX6_drawnAll 189 = .ok (.iastore, 1) := dk_79 (dk_at dksX6_drawnAll_7 22 rfl rfl)
theorem dX6_drawnAll_190 : decode cX6_drawnAll 190 = .ok (.iinc 4 1, 3) := dk_132 4 1 (dk_at dksX6_drawnAll_8 0 rfl rfl)
theorem dX6_drawnAll_193 : decode cX6_drawnAll 193 = .ok (.goto (-26), 3) := dk_167 255 230 (dk_at dksX6_drawnAll_8 3 rfl rfl)
theorem dX6_drawnAll_196 : decode cX6_drawnAll 196 = .ok (.aload_n 0, 1) := dk_42 (dk_at dksX6_drawnAll_8 6 rfl rfl)
theorem dX6_drawnAll_197 : decode cX6_drawnAll 197 = .ok (.aload_n 0, 1) := dk_42 (dk_at dksX6_drawnAll_8 7 rfl rfl)
theorem dX6_drawnAll_198 : decode cX6_drawnAll 198 = .ok (.getfield 7, 3) := dk_180 0 7 (dk_at dksX6_drawnAll_8 8 rfl rfl)
theorem dX6_drawnAll_201 : decode cX6_drawnAll 201 = .ok (.iload_n 1, 1) := dk_27 (dk_at dksX6_drawnAll_8 11 rfl rfl)
theorem dX6_drawnAll_202 : decode cX6_drawnAll 202 = .ok (.iaload, 1) := dk_46 (dk_at dksX6_drawnAll_8 12 rfl rfl)
theorem dX6_drawnAll_203 : decode cX6_drawnAll 203 = .ok (.invokevirtual 443, 3) := dk_182 1 187 (dk_at dksX6_drawnAll_8 13 rfl rfl)
theorem dX6_drawnAll_206 : decode cX6_drawnAll 206 = .ok (.iinc 3 1, 3) := dk_132 3 1 (dk_at dksX6_drawnAll_8 16 rfl rfl)
theorem dX6_drawnAll_209 : decode cX6_drawnAll 209 = .ok (.goto (-108), 3) := dk_167 255 148 (dk_at dksX6_drawnAll_8 19 rfl rfl)
theorem dX6_drawnAll_212 : decode cX6_drawnAll 212 = .ok (.aload_n 0, 1) := dk_42 (dk_at dksX6_drawnAll_8 22 rfl rfl)
theorem dX6_drawnAll_213 : decode cX6_drawnAll 213 = .ok (.getfield 143, 3) := dk_180 0 143 (dk_at dksX6_drawnAll_9 0 rfl rfl)
theorem dX6_drawnAll_216 : decode cX6_drawnAll 216 = .ok (.iload_n 2, 1) := dk_28 (dk_at dksX6_drawnAll_9 3 rfl rfl)
theorem dX6_drawnAll_217 : decode cX6_drawnAll 217 = .ok (.iaload, 1) := dk_46 (dk_at dksX6_drawnAll_9 4 rfl rfl)
theorem dX6_drawnAll_218 : decode cX6_drawnAll 218 = .ok (.ireturn, 1) := dk_172 (dk_at dksX6_drawnAll_9 5 rfl rfl)
abbrev cX6_relax : ByteArray := prog_14_method_101_code
def yX6_relax : MethodName := ⟨RX6, "relax", "(I)V"⟩
def dkwX6_relax_4 : List UInt8 := [29, 46, 4, 96, 79, 4, 61, 132, 4, 1, 167, 255, 183, 132, 3, 1, 167, 255, 154, 167, 255, 143, 177]
abbrev dktX6_relax_4 : List UInt8 := dkwX6_relax_4 ++ []
def dkwX6_relax_3 : List UInt8 := [42, 180, 0, 143, 29, 46, 4, 96, 163, 0, 6, 167, 0, 20, 42, 180, 0, 143, 21, 5, 42, 180, 0, 143]
abbrev dktX6_relax_3 : List UInt8 := dkwX6_relax_3 ++ dktX6_relax_4
def dkwX6_relax_2 : List UInt8 := [104, 21, 4, 96, 46, 54, 5, 42, 180, 0, 143, 21, 5, 46, 155, 0, 24, 42, 180, 0, 143, 21, 5, 46]
abbrev dktX6_relax_2 : List UInt8 := dkwX6_relax_2 ++ dktX6_relax_3
def dkwX6_relax_1 : List UInt8 := [156, 0, 6, 167, 0, 82, 3, 54, 4, 21, 4, 27, 4, 100, 162, 0, 71, 42, 180, 0, 101, 16, 6, 29]
abbrev dktX6_relax_1 : List UInt8 := dkwX6_relax_1 ++ dktX6_relax_2
def dkwX6_relax_0 : List UInt8 := [4, 61, 28, 153, 0, 115, 3, 61, 3, 62, 29, 42, 180, 1, 84, 162, 0, 100, 42, 180, 0, 143, 29, 46]
abbrev dktX6_relax_0 : List UInt8 := dkwX6_relax_0 ++ dktX6_relax_1
theorem dksX6_relax_0 : cX6_relax.data.toList.drop 0 = dktX6_relax_0 := by decide +kernel
theorem dksX6_relax_1 : cX6_relax.data.toList.drop 24 = dktX6_relax_1 := dk_seg dksX6_relax_0 24 rfl rfl
theorem dksX6_relax_2 : cX6_relax.data.toList.drop 48 = dktX6_relax_2 := dk_seg dksX6_relax_1 24 rfl rfl
theorem dksX6_relax_3 : cX6_relax.data.toList.drop 72 = dktX6_relax_3 := dk_seg dksX6_relax_2 24 rfl rfl
theorem dksX6_relax_4 : cX6_relax.data.toList.drop 96 = dktX6_relax_4 := dk_seg dksX6_relax_3 24 rfl rfl
theorem dX6_relax_0 : decode cX6_relax 0 = .ok (.iconst 1, 1) := dk_4 (dk_at dksX6_relax_0 0 rfl rfl)
theorem dX6_relax_1 : decode cX6_relax 1 = .ok (.istore_n 2, 1) := dk_61 (dk_at dksX6_relax_0 1 rfl rfl)
theorem dX6_relax_2 : decode cX6_relax 2 = .ok (.iload_n 2, 1) := dk_28 (dk_at dksX6_relax_0 2 rfl rfl)
theorem dX6_relax_3 : decode cX6_relax 3 = .ok (.ifCond .eq 115, 3) := dk_153 0 115 (dk_at dksX6_relax_0 3 rfl rfl)
theorem dX6_relax_6 : decode cX6_relax 6 = .ok (.iconst 0, 1) := dk_3 (dk_at dksX6_relax_0 6 rfl rfl)
theorem dX6_relax_7 : decode cX6_relax 7 = .ok (.istore_n 2, 1) := dk_61 (dk_at dksX6_relax_0 7 rfl rfl)
theorem dX6_relax_8 : decode cX6_relax 8 = .ok (.iconst 0, 1) := dk_3 (dk_at dksX6_relax_0 8 rfl rfl)
theorem dX6_relax_9 : decode cX6_relax 9 = .ok (.istore_n 3, 1) := dk_62 (dk_at dksX6_relax_0 9 rfl rfl)
theorem dX6_relax_10 : decode cX6_relax 10 = .ok (.iload_n 3, 1) := dk_29 (dk_at dksX6_relax_0 10 rfl rfl)
theorem dX6_relax_11 : decode cX6_relax 11 = .ok (.aload_n 0, 1) := dk_42 (dk_at dksX6_relax_0 11 rfl rfl)
theorem dX6_relax_12 : decode cX6_relax 12 = .ok (.getfield 340, 3) := dk_180 1 84 (dk_at dksX6_relax_0 12 rfl rfl)
theorem dX6_relax_15 : decode cX6_relax 15 = .ok (.if_icmp .ge 100, 3) := dk_162 0 100 (dk_at dksX6_relax_0 15 rfl rfl)
theorem dX6_relax_18 : decode cX6_relax 18 = .ok (.aload_n 0, 1) := dk_42 (dk_at dksX6_relax_0 18 rfl rfl)
theorem dX6_relax_19 : decode cX6_relax 19 = .ok (.getfield 143, 3) := dk_180 0 143 (dk_at dksX6_relax_0 19 rfl rfl)
theorem dX6_relax_22 : decode cX6_relax 22 = .ok (.iload_n 3, 1) := dk_29 (dk_at dksX6_relax_0 22 rfl rfl)
theorem dX6_relax_23 : decode cX6_relax 23 = .ok (.iaload, 1) := dk_46 (dk_at dksX6_relax_0 23 rfl rfl)
theorem dX6_relax_24 : decode cX6_relax 24 = .ok (.ifCond .ge 6, 3) := dk_156 0 6 (dk_at dksX6_relax_1 0 rfl rfl)
theorem dX6_relax_27 : decode cX6_relax 27 = .ok (.goto 82, 3) := dk_167 0 82 (dk_at dksX6_relax_1 3 rfl rfl)
theorem dX6_relax_30 : decode cX6_relax 30 = .ok (.iconst 0, 1) := dk_3 (dk_at dksX6_relax_1 6 rfl rfl)
theorem dX6_relax_31 : decode cX6_relax 31 = .ok (.istore 4, 2) := dk_54 4 (dk_at dksX6_relax_1 7 rfl rfl)
theorem dX6_relax_33 : decode cX6_relax 33 = .ok (.iload 4, 2) := dk_21 4 (dk_at dksX6_relax_1 9 rfl rfl)
theorem dX6_relax_35 : decode cX6_relax 35 = .ok (.iload_n 1, 1) := dk_27 (dk_at dksX6_relax_1 11 rfl rfl)
theorem dX6_relax_36 : decode cX6_relax 36 = .ok (.iconst 1, 1) := dk_4 (dk_at dksX6_relax_1 12 rfl rfl)
theorem dX6_relax_37 : decode cX6_relax 37 = .ok (.isub, 1) := dk_100 (dk_at dksX6_relax_1 13 rfl rfl)
theorem dX6_relax_38 : decode cX6_relax 38 = .ok (.if_icmp .ge 71, 3) := dk_162 0 71 (dk_at dksX6_relax_1 14 rfl rfl)
theorem dX6_relax_41 : decode cX6_relax 41 = .ok (.aload_n 0, 1) := dk_42 (dk_at dksX6_relax_1 17 rfl rfl)
theorem dX6_relax_42 : decode cX6_relax 42 = .ok (.getfield 101, 3) := dk_180 0 101 (dk_at dksX6_relax_1 18 rfl rfl)
theorem dX6_relax_45 : decode cX6_relax 45 = .ok (.bipush 6, 2) := dk_16 6 (dk_at dksX6_relax_1 21 rfl rfl)
theorem dX6_relax_47 : decode cX6_relax 47 = .ok (.iload_n 3, 1) := dk_29 (dk_at dksX6_relax_1 23 rfl rfl)
theorem dX6_relax_48 : decode cX6_relax 48 = .ok (.imul, 1) := dk_104 (dk_at dksX6_relax_2 0 rfl rfl)
theorem dX6_relax_49 : decode cX6_relax 49 = .ok (.iload 4, 2) := dk_21 4 (dk_at dksX6_relax_2 1 rfl rfl)
theorem dX6_relax_51 : decode cX6_relax 51 = .ok (.iadd, 1) := dk_96 (dk_at dksX6_relax_2 3 rfl rfl)
theorem dX6_relax_52 : decode cX6_relax 52 = .ok (.iaload, 1) := dk_46 (dk_at dksX6_relax_2 4 rfl rfl)
theorem dX6_relax_53 : decode cX6_relax 53 = .ok (.istore 5, 2) := dk_54 5 (dk_at dksX6_relax_2 5 rfl rfl)
theorem dX6_relax_55 : decode cX6_relax 55 = .ok (.aload_n 0, 1) := dk_42 (dk_at dksX6_relax_2 7 rfl rfl)
theorem dX6_relax_56 : decode cX6_relax 56 = .ok (.getfield 143, 3) := dk_180 0 143 (dk_at dksX6_relax_2 8 rfl rfl)
theorem dX6_relax_59 : decode cX6_relax 59 = .ok (.iload 5, 2) := dk_21 5 (dk_at dksX6_relax_2 11 rfl rfl)
theorem dX6_relax_61 : decode cX6_relax 61 = .ok (.iaload, 1) := dk_46 (dk_at dksX6_relax_2 13 rfl rfl)
theorem dX6_relax_62 : decode cX6_relax 62 = .ok (.ifCond .lt 24, 3) := dk_155 0 24 (dk_at dksX6_relax_2 14 rfl rfl)
theorem dX6_relax_65 : decode cX6_relax 65 = .ok (.aload_n 0, 1) := dk_42 (dk_at dksX6_relax_2 17 rfl rfl)
theorem dX6_relax_66 : decode cX6_relax 66 = .ok (.getfield 143, 3) := dk_180 0 143 (dk_at dksX6_relax_2 18 rfl rfl)
theorem dX6_relax_69 : decode cX6_relax 69 = .ok (.iload 5, 2) := dk_21 5 (dk_at dksX6_relax_2 21 rfl rfl)
theorem dX6_relax_71 : decode cX6_relax 71 = .ok (.iaload, 1) := dk_46 (dk_at dksX6_relax_2 23 rfl rfl)
theorem dX6_relax_72 : decode cX6_relax 72 = .ok (.aload_n 0, 1) := dk_42 (dk_at dksX6_relax_3 0 rfl rfl)
theorem dX6_relax_73 : decode cX6_relax 73 = .ok (.getfield 143, 3) := dk_180 0 143 (dk_at dksX6_relax_3 1 rfl rfl)
theorem dX6_relax_76 : decode cX6_relax 76 = .ok (.iload_n 3, 1) := dk_29 (dk_at dksX6_relax_3 4 rfl rfl)
theorem dX6_relax_77 : decode cX6_relax 77 = .ok (.iaload, 1) := dk_46 (dk_at dksX6_relax_3 5 rfl rfl)
theorem dX6_relax_78 : decode cX6_relax 78 = .ok (.iconst 1, 1) := dk_4 (dk_at dksX6_relax_3 6 rfl rfl)
theorem dX6_relax_79 : decode cX6_relax 79 = .ok (.iadd, 1) := dk_96 (dk_at dksX6_relax_3 7 rfl rfl)
theorem dX6_relax_80 : decode cX6_relax 80 = .ok (.if_icmp .gt 6, 3) := dk_163 0 6 (dk_at dksX6_relax_3 8 rfl rfl)
theorem dX6_relax_83 : decode cX6_relax 83 = .ok (.goto 20, 3) := dk_167 0 20 (dk_at dksX6_relax_3 11 rfl rfl)
theorem dX6_relax_86 : decode cX6_relax 86 = .ok (.aload_n 0, 1) := dk_42 (dk_at dksX6_relax_3 14 rfl rfl)
theorem dX6_relax_87 : decode cX6_relax 87 = .ok (.getfield 143, 3) := dk_180 0 143 (dk_at dksX6_relax_3 15 rfl rfl)
theorem dX6_relax_90 : decode cX6_relax 90 = .ok (.iload 5, 2) := dk_21 5 (dk_at dksX6_relax_3 18 rfl rfl)
theorem dX6_relax_92 : decode cX6_relax 92 = .ok (.aload_n 0, 1) := dk_42 (dk_at dksX6_relax_3 20 rfl rfl)
theorem dX6_relax_93 : decode cX6_relax 93 = .ok (.getfield 143, 3) := dk_180 0 143 (dk_at dksX6_relax_3 21 rfl rfl)
theorem dX6_relax_96 : decode cX6_relax 96 = .ok (.iload_n 3, 1) := dk_29 (dk_at dksX6_relax_4 0 rfl rfl)
theorem dX6_relax_97 : decode cX6_relax 97 = .ok (.iaload, 1) := dk_46 (dk_at dksX6_relax_4 1 rfl rfl)
theorem dX6_relax_98 : decode cX6_relax 98 = .ok (.iconst 1, 1) := dk_4 (dk_at dksX6_relax_4 2 rfl rfl)
theorem dX6_relax_99 : decode cX6_relax 99 = .ok (.iadd, 1) := dk_96 (dk_at dksX6_relax_4 3 rfl rfl)
theorem dX6_relax_100 : decode cX6_relax 100 = .ok (.iastore, 1) := dk_79 (dk_at dksX6_relax_4 4 rfl rfl)
theorem dX6_relax_101 : decode cX6_relax 101 = .ok (.iconst 1, 1) := dk_4 (dk_at dksX6_relax_4 5 rfl rfl)
theorem dX6_relax_102 : decode cX6_relax 102 = .ok (.istore_n 2, 1) := dk_61 (dk_at dksX6_relax_4 6 rfl rfl)
theorem dX6_relax_103 : decode cX6_relax 103 = .ok (.iinc 4 1, 3) := dk_132 4 1 (dk_at dksX6_relax_4 7 rfl rfl)
theorem dX6_relax_106 : decode cX6_relax 106 = .ok (.goto (-73), 3) := dk_167 255 183 (dk_at dksX6_relax_4 10 rfl rfl)
theorem dX6_relax_109 : decode cX6_relax 109 = .ok (.iinc 3 1, 3) := dk_132 3 1 (dk_at dksX6_relax_4 13 rfl rfl)
theorem dX6_relax_112 : decode cX6_relax 112 = .ok (.goto (-102), 3) := dk_167 255 154 (dk_at dksX6_relax_4 16 rfl rfl)
theorem dX6_relax_115 : decode cX6_relax 115 = .ok (.goto (-113), 3) := dk_167 255 143 (dk_at dksX6_relax_4 19 rfl rfl)
theorem dX6_relax_118 : decode cX6_relax 118 = .ok (.return_, 1) := dk_177 (dk_at dksX6_relax_4 22 rfl rfl)
abbrev cX6_sorts : ByteArray := prog_14_method_104_code
def yX6_sorts : MethodName := ⟨RX6, "sorts", "(I)I"⟩
def dkwX6_sorts_1 : List UInt8 := [182, 1, 190, 154, 0, 7, 4, 167, 0, 4, 3, 172]
abbrev dktX6_sorts_1 : List UInt8 := dkwX6_sorts_1 ++ []
def dkwX6_sorts_0 : List UInt8 := [42, 27, 182, 1, 51, 154, 0, 5, 2, 172, 42, 27, 182, 1, 54, 158, 0, 6, 16, 254, 172, 42, 27, 2]
abbrev dktX6_sorts_0 : List UInt8 := dkwX6_sorts_0 ++ dktX6_sorts_1
theorem dksX6_sorts_0 : cX6_sorts.data.toList.drop 0 = dktX6_sorts_0 := by decide +kernel
theorem dksX6_sorts_1 : cX6_sorts.data.toList.drop 24 = dktX6_sorts_1 := dk_seg dksX6_sorts_0 24 rfl rfl
theorem dX6_sorts_0 : decode cX6_sorts 0 = .ok (.aload_n 0, 1) := dk_42 (dk_at dksX6_sorts_0 0 rfl rfl)
theorem dX6_sorts_1 : decode cX6_sorts 1 = .ok (.iload_n 1, 1) := dk_27 (dk_at dksX6_sorts_0 1 rfl rfl)
theorem dX6_sorts_2 : decode cX6_sorts 2 = .ok (.invokevirtual 307, 3) := dk_182 1 51 (dk_at dksX6_sorts_0 2 rfl rfl)
theorem dX6_sorts_5 : decode cX6_sorts 5 = .ok (.ifCond .ne 5, 3) := dk_154 0 5 (dk_at dksX6_sorts_0 5 rfl rfl)
theorem dX6_sorts_8 : decode cX6_sorts 8 = .ok (.iconst (-1), 1) := dk_2 (dk_at dksX6_sorts_0 8 rfl rfl)
theorem dX6_sorts_9 : decode cX6_sorts 9 = .ok (.ireturn, 1) := dk_172 (dk_at dksX6_sorts_0 9 rfl rfl)
theorem dX6_sorts_10 : decode cX6_sorts 10 = .ok (.aload_n 0, 1) := dk_42 (dk_at dksX6_sorts_0 10 rfl rfl)
theorem dX6_sorts_11 : decode cX6_sorts 11 = .ok (.iload_n 1, 1) := dk_27 (dk_at dksX6_sorts_0 11 rfl rfl)
theorem dX6_sorts_12 : decode cX6_sorts 12 = .ok (.invokevirtual 310, 3) := dk_182 1 54 (dk_at dksX6_sorts_0 12 rfl rfl)
theorem dX6_sorts_15 : decode cX6_sorts 15 = .ok (.ifCond .le 6, 3) := dk_158 0 6 (dk_at dksX6_sorts_0 15 rfl rfl)
theorem dX6_sorts_18 : decode cX6_sorts 18 = .ok (.bipush (-2), 2) := dk_16 254 (dk_at dksX6_sorts_0 18 rfl rfl)
theorem dX6_sorts_20 : decode cX6_sorts 20 = .ok (.ireturn, 1) := dk_172 (dk_at dksX6_sorts_0 20 rfl rfl)
theorem dX6_sorts_21 : decode cX6_sorts 21 = .ok (.aload_n 0, 1) := dk_42 (dk_at dksX6_sorts_0 21 rfl rfl)
theorem dX6_sorts_22 : decode cX6_sorts 22 = .ok (.iload_n 1, 1) := dk_27 (dk_at dksX6_sorts_0 22 rfl rfl)
theorem dX6_sorts_23 : decode cX6_sorts 23 = .ok (.iconst (-1), 1) := dk_2 (dk_at dksX6_sorts_0 23 rfl rfl)
theorem dX6_sorts_24 : decode cX6_sorts 24 = .ok (.invokevirtual 446, 3) := dk_182 1 190 (dk_at dksX6_sorts_1 0 rfl rfl)
theorem dX6_sorts_27 : decode cX6_sorts 27 = .ok (.ifCond .ne 7, 3) := dk_154 0 7 (dk_at dksX6_sorts_1 3 rfl rfl)
theorem dX6_sorts_30 : decode cX6_sorts 30 = .ok (.iconst 1, 1) := dk_4 (dk_at dksX6_sorts_1 6 rfl rfl)
theorem dX6_sorts_31 : decode cX6_sorts 31 = .ok (.goto 4, 3) := dk_167 0 4 (dk_at dksX6_sorts_1 7 rfl rfl)
theorem dX6_sorts_34 : decode cX6_sorts 34 = .ok (.iconst 0, 1) := dk_3 (dk_at dksX6_sorts_1 10 rfl rfl)
theorem dX6_sorts_35 : decode cX6_sorts 35 = .ok (.ireturn, 1) := dk_172 (dk_at dksX6_sorts_1 11 rfl rfl)
abbrev cX6_unsortedBut : ByteArray := prog_14_method_103_code
def yX6_unsortedBut : MethodName := ⟨RX6, "unsortedBut", "(II)I"⟩
def dkwX6_unsortedBut_2 : List UInt8 := [167, 255, 224, 29, 172]
abbrev dktX6_unsortedBut_2 : List UInt8 := dkwX6_unsortedBut_2 ++ []
def dkwX6_unsortedBut_1 : List UInt8 := [29, 42, 27, 21, 4, 3, 28, 182, 1, 117, 154, 0, 7, 3, 167, 0, 4, 4, 96, 62, 132, 4, 1]
abbrev dktX6_unsortedBut_1 : List UInt8 := dkwX6_unsortedBut_1 ++ dktX6_unsortedBut_2
def dkwX6_unsortedBut_0 : List UInt8 := [42, 42, 180, 0, 7, 27, 46, 182, 1, 107, 3, 62, 3, 54, 4, 21, 4, 42, 180, 1, 84, 162, 0, 29]
abbrev dktX6_unsortedBut_0 : List UInt8 := dkwX6_unsortedBut_0 ++ dktX6_unsortedBut_1
theorem dksX6_unsortedBut_0 : cX6_unsortedBut.data.toList.drop 0 = dktX6_unsortedBut_0 := by decide +kernel
theorem dksX6_unsortedBut_1 : cX6_unsortedBut.data.toList.drop 24 = dktX6_unsortedBut_1 := dk_seg dksX6_unsortedBut_0 24 rfl rfl
theorem dksX6_unsortedBut_2 : cX6_unsortedBut.data.toList.drop 47 = dktX6_unsortedBut_2 := dk_seg dksX6_unsortedBut_1 23 rfl rfl
theorem dX6_unsortedBut_0 : decode cX6_unsortedBut 0 = .ok (.aload_n 0, 1) := dk_42 (dk_at dksX6_unsortedBut_0 0 rfl rfl)
theorem dX6_unsortedBut_1 : decode cX6_unsortedBut 1 = .ok (.aload_n 0, 1) := dk_42 (dk_at dksX6_unsortedBut_0 1 rfl rfl)
theorem dX6_unsortedBut_2 : decode cX6_unsortedBut 2 = .ok (.getfield 7, 3) := dk_180 0 7 (dk_at dksX6_unsortedBut_0 2 rfl rfl)
theorem dX6_unsortedBut_5 : decode cX6_unsortedBut 5 = .ok (.iload_n 1, 1) := dk_27 (dk_at dksX6_unsortedBut_0 5 rfl rfl)
theorem dX6_unsortedBut_6 : decode cX6_unsortedBut 6 = .ok (.iaload, 1) := dk_46 (dk_at dksX6_unsortedBut_0 6 rfl rfl)
theorem dX6_unsortedBut_7 : decode cX6_unsortedBut 7 = .ok (.invokevirtual 363, 3) := dk_182 1 107 (dk_at dksX6_unsortedBut_0 7 rfl rfl)
theorem dX6_unsortedBut_10 : decode cX6_unsortedBut 10 = .ok (.iconst 0, 1) := dk_3 (dk_at dksX6_unsortedBut_0 10 rfl rfl)
theorem dX6_unsortedBut_11 : decode cX6_unsortedBut 11 = .ok (.istore_n 3, 1) := dk_62 (dk_at dksX6_unsortedBut_0 11 rfl rfl)
theorem dX6_unsortedBut_12 : decode cX6_unsortedBut 12 = .ok (.iconst 0, 1) := dk_3 (dk_at dksX6_unsortedBut_0 12 rfl rfl)
theorem dX6_unsortedBut_13 : decode cX6_unsortedBut 13 = .ok (.istore 4, 2) := dk_54 4 (dk_at dksX6_unsortedBut_0 13 rfl rfl)
theorem dX6_unsortedBut_15 : decode cX6_unsortedBut 15 = .ok (.iload 4, 2) := dk_21 4 (dk_at dksX6_unsortedBut_0 15 rfl rfl)
theorem dX6_unsortedBut_17 : decode cX6_unsortedBut 17 = .ok (.aload_n 0, 1) := dk_42 (dk_at dksX6_unsortedBut_0 17 rfl rfl)
theorem dX6_unsortedBut_18 : decode cX6_unsortedBut 18 = .ok (.getfield 340, 3) := dk_180 1 84 (dk_at dksX6_unsortedBut_0 18 rfl rfl)
theorem dX6_unsortedBut_21 : decode cX6_unsortedBut 21 = .ok (.if_icmp .ge 29, 3) := dk_162 0 29 (dk_at dksX6_unsortedBut_0 21 rfl rfl)
theorem dX6_unsortedBut_24 : decode cX6_unsortedBut 24 = .ok (.iload_n 3, 1) := dk_29 (dk_at dksX6_unsortedBut_1 0 rfl rfl)
theorem dX6_unsortedBut_25 : decode cX6_unsortedBut 25 = .ok (.aload_n 0, 1) := dk_42 (dk_at dksX6_unsortedBut_1 1 rfl rfl)
theorem dX6_unsortedBut_26 : decode cX6_unsortedBut 26 = .ok (.iload_n 1, 1) := dk_27 (dk_at dksX6_unsortedBut_1 2 rfl rfl)
theorem dX6_unsortedBut_27 : decode cX6_unsortedBut 27 = .ok (.iload 4, 2) := dk_21 4 (dk_at dksX6_unsortedBut_1 3 rfl rfl)
theorem dX6_unsortedBut_29 : decode cX6_unsortedBut 29 = .ok (.iconst 0, 1) := dk_3 (dk_at dksX6_unsortedBut_1 5 rfl rfl)
theorem dX6_unsortedBut_30 : decode cX6_unsortedBut 30 = .ok (.iload_n 2, 1) := dk_28 (dk_at dksX6_unsortedBut_1 6 rfl rfl)
theorem dX6_unsortedBut_31 : decode cX6_unsortedBut 31 = .ok (.invokevirtual 373, 3) := dk_182 1 117 (dk_at dksX6_unsortedBut_1 7 rfl rfl)
theorem dX6_unsortedBut_34 : decode cX6_unsortedBut 34 = .ok (.ifCond .ne 7, 3) := dk_154 0 7 (dk_at dksX6_unsortedBut_1 10 rfl rfl)
theorem dX6_unsortedBut_37 : decode cX6_unsortedBut 37 = .ok (.iconst 0, 1) := dk_3 (dk_at dksX6_unsortedBut_1 13 rfl rfl)
theorem dX6_unsortedBut_38 : decode cX6_unsortedBut 38 = .ok (.goto 4, 3) := dk_167 0 4 (dk_at dksX6_unsortedBut_1 14 rfl rfl)
theorem dX6_unsortedBut_41 : decode cX6_unsortedBut 41 = .ok (.iconst 1, 1) := dk_4 (dk_at dksX6_unsortedBut_1 17 rfl rfl)
theorem dX6_unsortedBut_42 : decode cX6_unsortedBut 42 = .ok (.iadd, 1) := dk_96 (dk_at dksX6_unsortedBut_1 18 rfl rfl)
theorem dX6_unsortedBut_43 : decode cX6_unsortedBut 43 = .ok (.istore_n 3, 1) := dk_62 (dk_at dksX6_unsortedBut_1 19 rfl rfl)
theorem dX6_unsortedBut_44 : decode cX6_unsortedBut 44 = .ok (.iinc 4 1, 3) := dk_132 4 1 (dk_at dksX6_unsortedBut_1 20 rfl rfl)
theorem dX6_unsortedBut_47 : decode cX6_unsortedBut 47 = .ok (.goto (-32), 3) := dk_167 255 224 (dk_at dksX6_unsortedBut_2 0 rfl rfl)
theorem dX6_unsortedBut_50 : decode cX6_unsortedBut 50 = .ok (.iload_n 3, 1) := dk_29 (dk_at dksX6_unsortedBut_2 3 rfl rfl)
theorem dX6_unsortedBut_51 : decode cX6_unsortedBut 51 = .ok (.ireturn, 1) := dk_172 (dk_at dksX6_unsortedBut_2 4 rfl rfl)
abbrev cX6_unsorted : ByteArray := prog_14_method_105_code
def yX6_unsorted : MethodName := ⟨RX6, "unsorted", "(I)I"⟩
def dkwX6_unsorted_1 : List UInt8 := [27, 2, 182, 1, 190, 172]
abbrev dktX6_unsorted_1 : List UInt8 := dkwX6_unsorted_1 ++ []
def dkwX6_unsorted_0 : List UInt8 := [42, 27, 182, 1, 51, 154, 0, 5, 2, 172, 42, 27, 182, 1, 54, 158, 0, 8, 16, 254, 167, 0, 9, 42]
abbrev dktX6_unsorted_0 : List UInt8 := dkwX6_unsorted_0 ++ dktX6_unsorted_1
theorem dksX6_unsorted_0 : cX6_unsorted.data.toList.drop 0 = dktX6_unsorted_0 := by decide +kernel
theorem dksX6_unsorted_1 : cX6_unsorted.data.toList.drop 24 = dktX6_unsorted_1 := dk_seg dksX6_unsorted_0 24 rfl rfl
theorem dX6_unsorted_0 : decode cX6_unsorted 0 = .ok (.aload_n 0, 1) := dk_42 (dk_at dksX6_unsorted_0 0 rfl rfl)
theorem dX6_unsorted_1 : decode cX6_unsorted 1 = .ok (.iload_n 1, 1) := dk_27 (dk_at dksX6_unsorted_0 1 rfl rfl)
theorem dX6_unsorted_2 : decode cX6_unsorted 2 = .ok (.invokevirtual 307, 3) := dk_182 1 51 (dk_at dksX6_unsorted_0 2 rfl rfl)
theorem dX6_unsorted_5 : decode cX6_unsorted 5 = .ok (.ifCond .ne 5, 3) := dk_154 0 5 (dk_at dksX6_unsorted_0 5 rfl rfl)
theorem dX6_unsorted_8 : decode cX6_unsorted 8 = .ok (.iconst (-1), 1) := dk_2 (dk_at dksX6_unsorted_0 8 rfl rfl)
theorem dX6_unsorted_9 : decode cX6_unsorted 9 = .ok (.ireturn, 1) := dk_172 (dk_at dksX6_unsorted_0 9 rfl rfl)
theorem dX6_unsorted_10 : decode cX6_unsorted 10 = .ok (.aload_n 0, 1) := dk_42 (dk_at dksX6_unsorted_0 10 rfl rfl)
theorem dX6_unsorted_11 : decode cX6_unsorted 11 = .ok (.iload_n 1, 1) := dk_27 (dk_at dksX6_unsorted_0 11 rfl rfl)
theorem dX6_unsorted_12 : decode cX6_unsorted 12 = .ok (.invokevirtual 310, 3) := dk_182 1 54 (dk_at dksX6_unsorted_0 12 rfl rfl)
theorem dX6_unsorted_15 : decode cX6_unsorted 15 = .ok (.ifCond .le 8, 3) := dk_158 0 8 (dk_at dksX6_unsorted_0 15 rfl rfl)
theorem dX6_unsorted_18 : decode cX6_unsorted 18 = .ok (.bipush (-2), 2) := dk_16 254 (dk_at dksX6_unsorted_0 18 rfl rfl)
theorem dX6_unsorted_20 : decode cX6_unsorted 20 = .ok (.goto 9, 3) := dk_167 0 9 (dk_at dksX6_unsorted_0 20 rfl rfl)
theorem dX6_unsorted_23 : decode cX6_unsorted 23 = .ok (.aload_n 0, 1) := dk_42 (dk_at dksX6_unsorted_0 23 rfl rfl)
theorem dX6_unsorted_24 : decode cX6_unsorted 24 = .ok (.iload_n 1, 1) := dk_27 (dk_at dksX6_unsorted_1 0 rfl rfl)
theorem dX6_unsorted_25 : decode cX6_unsorted 25 = .ok (.iconst (-1), 1) := dk_2 (dk_at dksX6_unsorted_1 1 rfl rfl)
theorem dX6_unsorted_26 : decode cX6_unsorted 26 = .ok (.invokevirtual 446, 3) := dk_182 1 190 (dk_at dksX6_unsorted_1 2 rfl rfl)
theorem dX6_unsorted_29 : decode cX6_unsorted 29 = .ok (.ireturn, 1) := dk_172 (dk_at dksX6_unsorted_1 5 rfl rfl)
abbrev cX6_fails : ByteArray := prog_14_method_109_code
def yX6_fails : MethodName := ⟨RX6, "fails", "(I)I"⟩
def dkwX6_fails_2 : List UInt8 := [182, 1, 196, 184, 1, 199, 153, 0, 7, 3, 167, 0, 4, 4, 96, 61, 132, 3, 1, 167, 255, 215, 28, 172]
abbrev dktX6_fails_2 : List UInt8 := dkwX6_fails_2 ++ []
def dkwX6_fails_1 : List UInt8 := [62, 29, 4, 42, 180, 0, 7, 27, 46, 120, 162, 0, 35, 28, 42, 180, 0, 7, 27, 46, 42, 27, 29]
abbrev dktX6_fails_1 : List UInt8 := dkwX6_fails_1 ++ dktX6_fails_2
def dkwX6_fails_0 : List UInt8 := [42, 27, 182, 1, 51, 154, 0, 5, 2, 172, 42, 27, 182, 1, 54, 158, 0, 6, 16, 254, 172, 3, 61, 3]
abbrev dktX6_fails_0 : List UInt8 := dkwX6_fails_0 ++ dktX6_fails_1
theorem dksX6_fails_0 : cX6_fails.data.toList.drop 0 = dktX6_fails_0 := by decide +kernel
theorem dksX6_fails_1 : cX6_fails.data.toList.drop 24 = dktX6_fails_1 := dk_seg dksX6_fails_0 24 rfl rfl
theorem dksX6_fails_2 : cX6_fails.data.toList.drop 47 = dktX6_fails_2 := dk_seg dksX6_fails_1 23 rfl rfl
theorem dX6_fails_0 : decode cX6_fails 0 = .ok (.aload_n 0, 1) := dk_42 (dk_at dksX6_fails_0 0 rfl rfl)
theorem dX6_fails_1 : decode cX6_fails 1 = .ok (.iload_n 1, 1) := dk_27 (dk_at dksX6_fails_0 1 rfl rfl)
theorem dX6_fails_2 : decode cX6_fails 2 = .ok (.invokevirtual 307, 3) := dk_182 1 51 (dk_at dksX6_fails_0 2 rfl rfl)
theorem dX6_fails_5 : decode cX6_fails 5 = .ok (.ifCond .ne 5, 3) := dk_154 0 5 (dk_at dksX6_fails_0 5 rfl rfl)
theorem dX6_fails_8 : decode cX6_fails 8 = .ok (.iconst (-1), 1) := dk_2 (dk_at dksX6_fails_0 8 rfl rfl)
theorem dX6_fails_9 : decode cX6_fails 9 = .ok (.ireturn, 1) := dk_172 (dk_at dksX6_fails_0 9 rfl rfl)
theorem dX6_fails_10 : decode cX6_fails 10 = .ok (.aload_n 0, 1) := dk_42 (dk_at dksX6_fails_0 10 rfl rfl)
theorem dX6_fails_11 : decode cX6_fails 11 = .ok (.iload_n 1, 1) := dk_27 (dk_at dksX6_fails_0 11 rfl rfl)
theorem dX6_fails_12 : decode cX6_fails 12 = .ok (.invokevirtual 310, 3) := dk_182 1 54 (dk_at dksX6_fails_0 12 rfl rfl)
theorem dX6_fails_15 : decode cX6_fails 15 = .ok (.ifCond .le 6, 3) := dk_158 0 6 (dk_at dksX6_fails_0 15 rfl rfl)
theorem dX6_fails_18 : decode cX6_fails 18 = .ok (.bipush (-2), 2) := dk_16 254 (dk_at dksX6_fails_0 18 rfl rfl)
theorem dX6_fails_20 : decode cX6_fails 20 = .ok (.ireturn, 1) := dk_172 (dk_at dksX6_fails_0 20 rfl rfl)
theorem dX6_fails_21 : decode cX6_fails 21 = .ok (.iconst 0, 1) := dk_3 (dk_at dksX6_fails_0 21 rfl rfl)
theorem dX6_fails_22 : decode cX6_fails 22 = .ok (.istore_n 2, 1) := dk_61 (dk_at dksX6_fails_0 22 rfl rfl)
theorem dX6_fails_23 : decode cX6_fails 23 = .ok (.iconst 0, 1) := dk_3 (dk_at dksX6_fails_0 23 rfl rfl)
theorem dX6_fails_24 : decode cX6_fails 24 = .ok (.istore_n 3, 1) := dk_62 (dk_at dksX6_fails_1 0 rfl rfl)
theorem dX6_fails_25 : decode cX6_fails 25 = .ok (.iload_n 3, 1) := dk_29 (dk_at dksX6_fails_1 1 rfl rfl)
theorem dX6_fails_26 : decode cX6_fails 26 = .ok (.iconst 1, 1) := dk_4 (dk_at dksX6_fails_1 2 rfl rfl)
theorem dX6_fails_27 : decode cX6_fails 27 = .ok (.aload_n 0, 1) := dk_42 (dk_at dksX6_fails_1 3 rfl rfl)
theorem dX6_fails_28 : decode cX6_fails 28 = .ok (.getfield 7, 3) := dk_180 0 7 (dk_at dksX6_fails_1 4 rfl rfl)
theorem dX6_fails_31 : decode cX6_fails 31 = .ok (.iload_n 1, 1) := dk_27 (dk_at dksX6_fails_1 7 rfl rfl)
theorem dX6_fails_32 : decode cX6_fails 32 = .ok (.iaload, 1) := dk_46 (dk_at dksX6_fails_1 8 rfl rfl)
theorem dX6_fails_33 : decode cX6_fails 33 = .ok (.ishl, 1) := dk_120 (dk_at dksX6_fails_1 9 rfl rfl)
theorem dX6_fails_34 : decode cX6_fails 34 = .ok (.if_icmp .ge 35, 3) := dk_162 0 35 (dk_at dksX6_fails_1 10 rfl rfl)
theorem dX6_fails_37 : decode cX6_fails 37 = .ok (.iload_n 2, 1) := dk_28 (dk_at dksX6_fails_1 13 rfl rfl)
theorem dX6_fails_38 : decode cX6_fails 38 = .ok (.aload_n 0, 1) := dk_42 (dk_at dksX6_fails_1 14 rfl rfl)
theorem dX6_fails_39 : decode cX6_fails 39 = .ok (.getfield 7, 3) := dk_180 0 7 (dk_at dksX6_fails_1 15 rfl rfl)
theorem dX6_fails_42 : decode cX6_fails 42 = .ok (.iload_n 1, 1) := dk_27 (dk_at dksX6_fails_1 18 rfl rfl)
theorem dX6_fails_43 : decode cX6_fails 43 = .ok (.iaload, 1) := dk_46 (dk_at dksX6_fails_1 19 rfl rfl)
theorem dX6_fails_44 : decode cX6_fails 44 = .ok (.aload_n 0, 1) := dk_42 (dk_at dksX6_fails_1 20 rfl rfl)
theorem dX6_fails_45 : decode cX6_fails 45 = .ok (.iload_n 1, 1) := dk_27 (dk_at dksX6_fails_1 21 rfl rfl)
theorem dX6_fails_46 : decode cX6_fails 46 = .ok (.iload_n 3, 1) := dk_29 (dk_at dksX6_fails_1 22 rfl rfl)
theorem dX6_fails_47 : decode cX6_fails 47 = .ok (.invokevirtual 452, 3) := dk_182 1 196 (dk_at dksX6_fails_2 0 rfl rfl)
theorem dX6_fails_50 : decode cX6_fails 50 = .ok (.invokestatic 455, 3) := dk_184 1 199 (dk_at dksX6_fails_2 3 rfl rfl)
theorem dX6_fails_53 : decode cX6_fails 53 = .ok (.ifCond .eq 7, 3) := dk_153 0 7 (dk_at dksX6_fails_2 6 rfl rfl)
theorem dX6_fails_56 : decode cX6_fails 56 = .ok (.iconst 0, 1) := dk_3 (dk_at dksX6_fails_2 9 rfl rfl)
theorem dX6_fails_57 : decode cX6_fails 57 = .ok (.goto 4, 3) := dk_167 0 4 (dk_at dksX6_fails_2 10 rfl rfl)
theorem dX6_fails_60 : decode cX6_fails 60 = .ok (.iconst 1, 1) := dk_4 (dk_at dksX6_fails_2 13 rfl rfl)
theorem dX6_fails_61 : decode cX6_fails 61 = .ok (.iadd, 1) := dk_96 (dk_at dksX6_fails_2 14 rfl rfl)
theorem dX6_fails_62 : decode cX6_fails 62 = .ok (.istore_n 2, 1) := dk_61 (dk_at dksX6_fails_2 15 rfl rfl)
theorem dX6_fails_63 : decode cX6_fails 63 = .ok (.iinc 3 1, 3) := dk_132 3 1 (dk_at dksX6_fails_2 16 rfl rfl)
theorem dX6_fails_66 : decode cX6_fails 66 = .ok (.goto (-41), 3) := dk_167 255 215 (dk_at dksX6_fails_2 19 rfl rfl)
theorem dX6_fails_69 : decode cX6_fails 69 = .ok (.iload_n 2, 1) := dk_28 (dk_at dksX6_fails_2 22 rfl rfl)
theorem dX6_fails_70 : decode cX6_fails 70 = .ok (.ireturn, 1) := dk_172 (dk_at dksX6_fails_2 23 rfl rfl)
abbrev cX6_bitsEnd : ByteArray := prog_14_method_107_code
def yX6_bitsEnd : MethodName := ⟨RX6, "bitsEnd", "(II)I"⟩
def dkwX6_bitsEnd_2 : List UInt8 := [132, 4, 1, 167, 255, 211, 29, 172]
abbrev dktX6_bitsEnd_2 : List UInt8 := dkwX6_bitsEnd_2 ++ []
def dkwX6_bitsEnd_1 : List UInt8 := [27, 104, 21, 4, 96, 46, 42, 180, 0, 19, 17, 0, 200, 27, 104, 21, 4, 96, 46, 184, 1, 193, 62]
abbrev dktX6_bitsEnd_1 : List UInt8 := dkwX6_bitsEnd_1 ++ dktX6_bitsEnd_2
def dkwX6_bitsEnd_0 : List UInt8 := [28, 62, 3, 54, 4, 21, 4, 42, 180, 0, 13, 27, 46, 162, 0, 40, 29, 42, 180, 0, 16, 17, 0, 200]
abbrev dktX6_bitsEnd_0 : List UInt8 := dkwX6_bitsEnd_0 ++ dktX6_bitsEnd_1
theorem dksX6_bitsEnd_0 : cX6_bitsEnd.data.toList.drop 0 = dktX6_bitsEnd_0 := by decide +kernel
theorem dksX6_bitsEnd_1 : cX6_bitsEnd.data.toList.drop 24 = dktX6_bitsEnd_1 := dk_seg dksX6_bitsEnd_0 24 rfl rfl
theorem dksX6_bitsEnd_2 : cX6_bitsEnd.data.toList.drop 47 = dktX6_bitsEnd_2 := dk_seg dksX6_bitsEnd_1 23 rfl rfl
theorem dX6_bitsEnd_0 : decode cX6_bitsEnd 0 = .ok (.iload_n 2, 1) := dk_28 (dk_at dksX6_bitsEnd_0 0 rfl rfl)
theorem dX6_bitsEnd_1 : decode cX6_bitsEnd 1 = .ok (.istore_n 3, 1) := dk_62 (dk_at dksX6_bitsEnd_0 1 rfl rfl)
theorem dX6_bitsEnd_2 : decode cX6_bitsEnd 2 = .ok (.iconst 0, 1) := dk_3 (dk_at dksX6_bitsEnd_0 2 rfl rfl)
theorem dX6_bitsEnd_3 : decode cX6_bitsEnd 3 = .ok (.istore 4, 2) := dk_54 4 (dk_at dksX6_bitsEnd_0 3 rfl rfl)
theorem dX6_bitsEnd_5 : decode cX6_bitsEnd 5 = .ok (.iload 4, 2) := dk_21 4 (dk_at dksX6_bitsEnd_0 5 rfl rfl)
theorem dX6_bitsEnd_7 : decode cX6_bitsEnd 7 = .ok (.aload_n 0, 1) := dk_42 (dk_at dksX6_bitsEnd_0 7 rfl rfl)
theorem dX6_bitsEnd_8 : decode cX6_bitsEnd 8 = .ok (.getfield 13, 3) := dk_180 0 13 (dk_at dksX6_bitsEnd_0 8 rfl rfl)
theorem dX6_bitsEnd_11 : decode cX6_bitsEnd 11 = .ok (.iload_n 1, 1) := dk_27 (dk_at dksX6_bitsEnd_0 11 rfl rfl)
theorem dX6_bitsEnd_12 : decode cX6_bitsEnd 12 = .ok (.iaload, 1) := dk_46 (dk_at dksX6_bitsEnd_0 12 rfl rfl)
theorem dX6_bitsEnd_13 : decode cX6_bitsEnd 13 = .ok (.if_icmp .ge 40, 3) := dk_162 0 40 (dk_at dksX6_bitsEnd_0 13 rfl rfl)
theorem dX6_bitsEnd_16 : decode cX6_bitsEnd 16 = .ok (.iload_n 3, 1) := dk_29 (dk_at dksX6_bitsEnd_0 16 rfl rfl)
theorem dX6_bitsEnd_17 : decode cX6_bitsEnd 17 = .ok (.aload_n 0, 1) := dk_42 (dk_at dksX6_bitsEnd_0 17 rfl rfl)
theorem dX6_bitsEnd_18 : decode cX6_bitsEnd 18 = .ok (.getfield 16, 3) := dk_180 0 16 (dk_at dksX6_bitsEnd_0 18 rfl rfl)
theorem dX6_bitsEnd_21 : decode cX6_bitsEnd 21 = .ok (.sipush 200, 3) := dk_17 0 200 (dk_at dksX6_bitsEnd_0 21 rfl rfl)
theorem dX6_bitsEnd_24 : decode cX6_bitsEnd 24 = .ok (.iload_n 1, 1) := dk_27 (dk_at dksX6_bitsEnd_1 0 rfl rfl)
theorem dX6_bitsEnd_25 : decode cX6_bitsEnd 25 = .ok (.imul, 1) := dk_104 (dk_at dksX6_bitsEnd_1 1 rfl rfl)
theorem dX6_bitsEnd_26 : decode cX6_bitsEnd 26 = .ok (.iload 4, 2) := dk_21 4 (dk_at dksX6_bitsEnd_1 2 rfl rfl)
theorem dX6_bitsEnd_28 : decode cX6_bitsEnd 28 = .ok (.iadd, 1) := dk_96 (dk_at dksX6_bitsEnd_1 4 rfl rfl)
theorem dX6_bitsEnd_29 : decode cX6_bitsEnd 29 = .ok (.iaload, 1) := dk_46 (dk_at dksX6_bitsEnd_1 5 rfl rfl)
theorem dX6_bitsEnd_30 : decode cX6_bitsEnd 30 = .ok (.aload_n 0, 1) := dk_42 (dk_at dksX6_bitsEnd_1 6 rfl rfl)
theorem dX6_bitsEnd_31 : decode cX6_bitsEnd 31 = .ok (.getfield 19, 3) := dk_180 0 19 (dk_at dksX6_bitsEnd_1 7 rfl rfl)
theorem dX6_bitsEnd_34 : decode cX6_bitsEnd 34 = .ok (.sipush 200, 3) := dk_17 0 200 (dk_at dksX6_bitsEnd_1 10 rfl rfl)
theorem dX6_bitsEnd_37 : decode cX6_bitsEnd 37 = .ok (.iload_n 1, 1) := dk_27 (dk_at dksX6_bitsEnd_1 13 rfl rfl)
theorem dX6_bitsEnd_38 : decode cX6_bitsEnd 38 = .ok (.imul, 1) := dk_104 (dk_at dksX6_bitsEnd_1 14 rfl rfl)
theorem dX6_bitsEnd_39 : decode cX6_bitsEnd 39 = .ok (.iload 4, 2) := dk_21 4 (dk_at dksX6_bitsEnd_1 15 rfl rfl)
theorem dX6_bitsEnd_41 : decode cX6_bitsEnd 41 = .ok (.iadd, 1) := dk_96 (dk_at dksX6_bitsEnd_1 17 rfl rfl)
theorem dX6_bitsEnd_42 : decode cX6_bitsEnd 42 = .ok (.iaload, 1) := dk_46 (dk_at dksX6_bitsEnd_1 18 rfl rfl)
theorem dX6_bitsEnd_43 : decode cX6_bitsEnd 43 = .ok (.invokestatic 449, 3) := dk_184 1 193 (dk_at dksX6_bitsEnd_1 19 rfl rfl)
theorem dX6_bitsEnd_46 : decode cX6_bitsEnd 46 = .ok (.istore_n 3, 1) := dk_62 (dk_at dksX6_bitsEnd_1 22 rfl rfl)
theorem dX6_bitsEnd_47 : decode cX6_bitsEnd 47 = .ok (.iinc 4 1, 3) := dk_132 4 1 (dk_at dksX6_bitsEnd_2 0 rfl rfl)
theorem dX6_bitsEnd_50 : decode cX6_bitsEnd 50 = .ok (.goto (-45), 3) := dk_167 255 211 (dk_at dksX6_bitsEnd_2 3 rfl rfl)
theorem dX6_bitsEnd_53 : decode cX6_bitsEnd 53 = .ok (.iload_n 3, 1) := dk_29 (dk_at dksX6_bitsEnd_2 6 rfl rfl)
theorem dX6_bitsEnd_54 : decode cX6_bitsEnd 54 = .ok (.ireturn, 1) := dk_172 (dk_at dksX6_bitsEnd_2 7 rfl rfl)
abbrev cX6_bitsPassed : ByteArray := prog_14_method_106_code
def yX6_bitsPassed : MethodName := ⟨RX6, "bitsPassed", "(III)I"⟩
def dkwX6_bitsPassed_3 : List UInt8 := [21, 5, 153, 0, 17, 26, 4, 28, 120, 130, 4, 28, 4, 96, 120, 130, 167, 0, 4, 26, 172]
abbrev dktX6_bitsPassed_3 : List UInt8 := dkwX6_bitsPassed_3 ++ []
def dkwX6_bitsPassed_2 : List UInt8 := [160, 0, 7, 29, 154, 0, 13, 27, 5, 160, 0, 12, 21, 4, 153, 0, 7, 4, 167, 0, 4, 3, 54, 5]
abbrev dktX6_bitsPassed_2 : List UInt8 := dkwX6_bitsPassed_2 ++ dktX6_bitsPassed_3
def dkwX6_bitsPassed_1 : List UInt8 := [160, 0, 7, 4, 167, 0, 4, 3, 54, 4, 29, 21, 4, 159, 0, 30, 27, 153, 0, 22, 27, 4]
abbrev dktX6_bitsPassed_1 : List UInt8 := dkwX6_bitsPassed_1 ++ dktX6_bitsPassed_2
def dkwX6_bitsPassed_0 : List UInt8 := [26, 28, 122, 4, 126, 4, 160, 0, 7, 4, 167, 0, 4, 3, 62, 26, 28, 4, 96, 122, 4, 126, 4]
abbrev dktX6_bitsPassed_0 : List UInt8 := dkwX6_bitsPassed_0 ++ dktX6_bitsPassed_1
theorem dksX6_bitsPassed_0 : cX6_bitsPassed.data.toList.drop 0 = dktX6_bitsPassed_0 := by decide +kernel
theorem dksX6_bitsPassed_1 : cX6_bitsPassed.data.toList.drop 23 = dktX6_bitsPassed_1 := dk_seg dksX6_bitsPassed_0 23 rfl rfl
theorem dksX6_bitsPassed_2 : cX6_bitsPassed.data.toList.drop 45 = dktX6_bitsPassed_2 := dk_seg dksX6_bitsPassed_1 22 rfl rfl
theorem dksX6_bitsPassed_3 : cX6_bitsPassed.data.toList.drop 69 = dktX6_bitsPassed_3 := dk_seg dksX6_bitsPassed_2 24 rfl rfl
theorem dX6_bitsPassed_0 : decode cX6_bitsPassed 0 = .ok (.iload_n 0, 1) := dk_26 (dk_at dksX6_bitsPassed_0 0 rfl rfl)
theorem dX6_bitsPassed_1 : decode cX6_bitsPassed 1 = .ok (.iload_n 2, 1) := dk_28 (dk_at dksX6_bitsPassed_0 1 rfl rfl)
theorem dX6_bitsPassed_2 : decode cX6_bitsPassed 2 = .ok (.ishr, 1) := dk_122 (dk_at dksX6_bitsPassed_0 2 rfl rfl)
theorem dX6_bitsPassed_3 : decode cX6_bitsPassed 3 = .ok (.iconst 1, 1) := dk_4 (dk_at dksX6_bitsPassed_0 3 rfl rfl)
theorem dX6_bitsPassed_4 : decode cX6_bitsPassed 4 = .ok (.iand, 1) := dk_126 (dk_at dksX6_bitsPassed_0 4 rfl rfl)
theorem dX6_bitsPassed_5 : decode cX6_bitsPassed 5 = .ok (.iconst 1, 1) := dk_4 (dk_at dksX6_bitsPassed_0 5 rfl rfl)
theorem dX6_bitsPassed_6 : decode cX6_bitsPassed 6 = .ok (.if_icmp .ne 7, 3) := dk_160 0 7 (dk_at dksX6_bitsPassed_0 6 rfl rfl)
theorem dX6_bitsPassed_9 : decode cX6_bitsPassed 9 = .ok (.iconst 1, 1) := dk_4 (dk_at dksX6_bitsPassed_0 9 rfl rfl)
theorem dX6_bitsPassed_10 : decode cX6_bitsPassed 10 = .ok (.goto 4, 3) := dk_167 0 4 (dk_at dksX6_bitsPassed_0 10 rfl rfl)
theorem dX6_bitsPassed_13 : decode cX6_bitsPassed 13 = .ok (.iconst 0, 1) := dk_3 (dk_at dksX6_bitsPassed_0 13 rfl rfl)
theorem dX6_bitsPassed_14 : decode cX6_bitsPassed 14 = .ok (.istore_n 3, 1) := dk_62 (dk_at dksX6_bitsPassed_0 14 rfl rfl)
theorem dX6_bitsPassed_15 : decode cX6_bitsPassed 15 = .ok (.iload_n 0, 1) := dk_26 (dk_at dksX6_bitsPassed_0 15 rfl rfl)
theorem dX6_bitsPassed_16 : decode cX6_bitsPassed 16 = .ok (.iload_n 2, 1) := dk_28 (dk_at dksX6_bitsPassed_0 16 rfl rfl)
theorem dX6_bitsPassed_17 : decode cX6_bitsPassed 17 = .ok (.iconst 1, 1) := dk_4 (dk_at dksX6_bitsPassed_0 17 rfl rfl)
theorem dX6_bitsPassed_18 : decode cX6_bitsPassed 18 = .ok (.iadd, 1) := dk_96 (dk_at dksX6_bitsPassed_0 18 rfl rfl)
theorem dX6_bitsPassed_19 : decode cX6_bitsPassed 19 = .ok (.ishr, 1) := dk_122 (dk_at dksX6_bitsPassed_0 19 rfl rfl)
theorem dX6_bitsPassed_20 : decode cX6_bitsPassed 20 = .ok (.iconst 1, 1) := dk_4 (dk_at dksX6_bitsPassed_0 20 rfl rfl)
theorem dX6_bitsPassed_21 : decode cX6_bitsPassed 21 = .ok (.iand, 1) := dk_126 (dk_at dksX6_bitsPassed_0 21 rfl rfl)
theorem dX6_bitsPassed_22 : decode cX6_bitsPassed 22 = .ok (.iconst 1, 1) := dk_4 (dk_at dksX6_bitsPassed_0 22 rfl rfl)
theorem dX6_bitsPassed_23 : decode cX6_bitsPassed 23 = .ok (.if_icmp .ne 7, 3) := dk_160 0 7 (dk_at dksX6_bitsPassed_1 0 rfl rfl)
theorem dX6_bitsPassed_26 : decode cX6_bitsPassed 26 = .ok (.iconst 1, 1) := dk_4 (dk_at dksX6_bitsPassed_1 3 rfl rfl)
theorem dX6_bitsPassed_27 : decode cX6_bitsPassed 27 = .ok (.goto 4, 3) := dk_167 0 4 (dk_at dksX6_bitsPassed_1 4 rfl rfl)
theorem dX6_bitsPassed_30 : decode cX6_bitsPassed 30 = .ok (.iconst 0, 1) := dk_3 (dk_at dksX6_bitsPassed_1 7 rfl rfl)
theorem dX6_bitsPassed_31 : decode cX6_bitsPassed 31 = .ok (.istore 4, 2) := dk_54 4 (dk_at dksX6_bitsPassed_1 8 rfl rfl)
theorem dX6_bitsPassed_33 : decode cX6_bitsPassed 33 = .ok (.iload_n 3, 1) := dk_29 (dk_at dksX6_bitsPassed_1 10 rfl rfl)
theorem dX6_bitsPassed_34 : decode cX6_bitsPassed 34 = .ok (.iload 4, 2) := dk_21 4 (dk_at dksX6_bitsPassed_1 11 rfl rfl)
theorem dX6_bitsPassed_36 : decode cX6_bitsPassed 36 = .ok (.if_icmp .eq 30, 3) := dk_159 0 30 (dk_at dksX6_bitsPassed_1 13 rfl rfl)
theorem dX6_bitsPassed_39 : decode cX6_bitsPassed 39 = .ok (.iload_n 1, 1) := dk_27 (dk_at dksX6_bitsPassed_1 16 rfl rfl)
theorem dX6_bitsPassed_40 : decode cX6_bitsPassed 40 = .ok (.ifCond .eq 22, 3) := dk_153 0 22 (dk_at dksX6_bitsPassed_1 17 rfl rfl)
theorem dX6_bitsPassed_43 : decode cX6_bitsPassed 43 = .ok (.iload_n 1, 1) := dk_27 (dk_at dksX6_bitsPassed_1 20 rfl rfl)
theorem dX6_bitsPassed_44 : decode cX6_bitsPassed 44 = .ok (.iconst 1, 1) := dk_4 (dk_at dksX6_bitsPassed_1 21 rfl rfl)
theorem dX6_bitsPassed_45 : decode cX6_bitsPassed 45 = .ok (.if_icmp .ne 7, 3) := dk_160 0 7 (dk_at dksX6_bitsPassed_2 0 rfl rfl)
theorem dX6_bitsPassed_48 : decode cX6_bitsPassed 48 = .ok (.iload_n 3, 1) := dk_29 (dk_at dksX6_bitsPassed_2 3 rfl rfl)
theorem dX6_bitsPassed_49 : decode cX6_bitsPassed 49 = .ok (.ifCond .ne 13, 3) := dk_154 0 13 (dk_at dksX6_bitsPassed_2 4 rfl rfl)
theorem dX6_bitsPassed_52 : decode cX6_bitsPassed 52 = .ok (.iload_n 1, 1) := dk_27 (dk_at dksX6_bitsPassed_2 7 rfl rfl)
theorem dX6_bitsPassed_53 : decode cX6_bitsPassed 53 = .ok (.iconst 2, 1) := dk_5 (dk_at dksX6_bitsPassed_2 8 rfl rfl)
theorem dX6_bitsPassed_54 : decode cX6_bitsPassed 54 = .ok (.if_icmp .ne 12, 3) := dk_160 0 12 (dk_at dksX6_bitsPassed_2 9 rfl rfl)
theorem dX6_bitsPassed_57 : decode cX6_bitsPassed 57 = .ok (.iload 4, 2) := dk_21 4 (dk_at dksX6_bitsPassed_2 12 rfl rfl)
theorem dX6_bitsPassed_59 : decode cX6_bitsPassed 59 = .ok (.ifCond .eq 7, 3) := dk_153 0 7 (dk_at dksX6_bitsPassed_2 14 rfl rfl)
theorem dX6_bitsPassed_62 : decode cX6_bitsPassed 62 = .ok (.iconst 1, 1) := dk_4 (dk_at dksX6_bitsPassed_2 17 rfl rfl)
theorem dX6_bitsPassed_63 : decode cX6_bitsPassed 63 = .ok (.goto 4, 3) := dk_167 0 4 (dk_at dksX6_bitsPassed_2 18 rfl rfl)
theorem dX6_bitsPassed_66 : decode cX6_bitsPassed 66 = .ok (.iconst 0, 1) := dk_3 (dk_at dksX6_bitsPassed_2 21 rfl rfl)
theorem dX6_bitsPassed_67 : decode cX6_bitsPassed 67 = .ok (.istore 5, 2) := dk_54 5 (dk_at dksX6_bitsPassed_2 22 rfl rfl)
theorem dX6_bitsPassed_69 : decode cX6_bitsPassed 69 = .ok (.iload 5, 2) := dk_21 5 (dk_at dksX6_bitsPassed_3 0 rfl rfl)
theorem dX6_bitsPassed_71 : decode cX6_bitsPassed 71 = .ok (.ifCond .eq 17, 3) := dk_153 0 17 (dk_at dksX6_bitsPassed_3 2 rfl rfl)
theorem dX6_bitsPassed_74 : decode cX6_bitsPassed 74 = .ok (.iload_n 0, 1) := dk_26 (dk_at dksX6_bitsPassed_3 5 rfl rfl)
theorem dX6_bitsPassed_75 : decode cX6_bitsPassed 75 = .ok (.iconst 1, 1) := dk_4 (dk_at dksX6_bitsPassed_3 6 rfl rfl)
theorem dX6_bitsPassed_76 : decode cX6_bitsPassed 76 = .ok (.iload_n 2, 1) := dk_28 (dk_at dksX6_bitsPassed_3 7 rfl rfl)
theorem dX6_bitsPassed_77 : decode cX6_bitsPassed 77 = .ok (.ishl, 1) := dk_120 (dk_at dksX6_bitsPassed_3 8 rfl rfl)
theorem dX6_bitsPassed_78 : decode cX6_bitsPassed 78 = .ok (.ixor, 1) := dk_130 (dk_at dksX6_bitsPassed_3 9 rfl rfl)
theorem dX6_bitsPassed_79 : decode cX6_bitsPassed 79 = .ok (.iconst 1, 1) := dk_4 (dk_at dksX6_bitsPassed_3 10 rfl rfl)
theorem dX6_bitsPassed_80 : decode cX6_bitsPassed 80 = .ok (.iload_n 2, 1) := dk_28 (dk_at dksX6_bitsPassed_3 11 rfl rfl)
theorem dX6_bitsPassed_81 : decode cX6_bitsPassed 81 = .ok (.iconst 1, 1) := dk_4 (dk_at dksX6_bitsPassed_3 12 rfl rfl)
theorem dX6_bitsPassed_82 : decode cX6_bitsPassed 82 = .ok (.iadd, 1) := dk_96 (dk_at dksX6_bitsPassed_3 13 rfl rfl)
theorem dX6_bitsPassed_83 : decode cX6_bitsPassed 83 = .ok (.ishl, 1) := dk_120 (dk_at dksX6_bitsPassed_3 14 rfl rfl)
theorem dX6_bitsPassed_84 : decode cX6_bitsPassed 84 = .ok (.ixor, 1) := dk_130 (dk_at dksX6_bitsPassed_3 15 rfl rfl)
theorem dX6_bitsPassed_85 : decode cX6_bitsPassed 85 = .ok (.goto 4, 3) := dk_167 0 4 (dk_at dksX6_bitsPassed_3 16 rfl rfl)
theorem dX6_bitsPassed_88 : decode cX6_bitsPassed 88 = .ok (.iload_n 0, 1) := dk_26 (dk_at dksX6_bitsPassed_3 19 rfl rfl)
theorem dX6_bitsPassed_89 : decode cX6_bitsPassed 89 = .ok (.ireturn, 1) := dk_172 (dk_at dksX6_bitsPassed_3 20 rfl rfl)
abbrev cX6_isSorted : ByteArray := prog_14_method_108_code
def yX6_isSorted : MethodName := ⟨RX6, "isSorted", "(II)Z"⟩
def dkwX6_isSorted_1 : List UInt8 := [126, 154, 0, 5, 3, 172, 132, 2, 1, 167, 255, 225, 4, 172]
abbrev dktX6_isSorted_1 : List UInt8 := dkwX6_isSorted_1 ++ []
def dkwX6_isSorted_0 : List UInt8 := [3, 61, 28, 4, 96, 26, 162, 0, 30, 27, 28, 122, 4, 126, 4, 160, 0, 15, 27, 28, 4, 96, 122, 4]
abbrev dktX6_isSorted_0 : List UInt8 := dkwX6_isSorted_0 ++ dktX6_isSorted_1
theorem dksX6_isSorted_0 : cX6_isSorted.data.toList.drop 0 = dktX6_isSorted_0 := by decide +kernel
theorem dksX6_isSorted_1 : cX6_isSorted.data.toList.drop 24 = dktX6_isSorted_1 := dk_seg dksX6_isSorted_0 24 rfl rfl
theorem dX6_isSorted_0 : decode cX6_isSorted 0 = .ok (.iconst 0, 1) := dk_3 (dk_at dksX6_isSorted_0 0 rfl rfl)
theorem dX6_isSorted_1 : decode cX6_isSorted 1 = .ok (.istore_n 2, 1) := dk_61 (dk_at dksX6_isSorted_0 1 rfl rfl)
theorem dX6_isSorted_2 : decode cX6_isSorted 2 = .ok (.iload_n 2, 1) := dk_28 (dk_at dksX6_isSorted_0 2 rfl rfl)
theorem dX6_isSorted_3 : decode cX6_isSorted 3 = .ok (.iconst 1, 1) := dk_4 (dk_at dksX6_isSorted_0 3 rfl rfl)
theorem dX6_isSorted_4 : decode cX6_isSorted 4 = .ok (.iadd, 1) := dk_96 (dk_at dksX6_isSorted_0 4 rfl rfl)
theorem dX6_isSorted_5 : decode cX6_isSorted 5 = .ok (.iload_n 0, 1) := dk_26 (dk_at dksX6_isSorted_0 5 rfl rfl)
theorem dX6_isSorted_6 : decode cX6_isSorted 6 = .ok (.if_icmp .ge 30, 3) := dk_162 0 30 (dk_at dksX6_isSorted_0 6 rfl rfl)
theorem dX6_isSorted_9 : decode cX6_isSorted 9 = .ok (.iload_n 1, 1) := dk_27 (dk_at dksX6_isSorted_0 9 rfl rfl)
theorem dX6_isSorted_10 : decode cX6_isSorted 10 = .ok (.iload_n 2, 1) := dk_28 (dk_at dksX6_isSorted_0 10 rfl rfl)
theorem dX6_isSorted_11 : decode cX6_isSorted 11 = .ok (.ishr, 1) := dk_122 (dk_at dksX6_isSorted_0 11 rfl rfl)
theorem dX6_isSorted_12 : decode cX6_isSorted 12 = .ok (.iconst 1, 1) := dk_4 (dk_at dksX6_isSorted_0 12 rfl rfl)
theorem dX6_isSorted_13 : decode cX6_isSorted 13 = .ok (.iand, 1) := dk_126 (dk_at dksX6_isSorted_0 13 rfl rfl)
theorem dX6_isSorted_14 : decode cX6_isSorted 14 = .ok (.iconst 1, 1) := dk_4 (dk_at dksX6_isSorted_0 14 rfl rfl)
theorem dX6_isSorted_15 : decode cX6_isSorted 15 = .ok (.if_icmp .ne 15, 3) := dk_160 0 15 (dk_at dksX6_isSorted_0 15 rfl rfl)
theorem dX6_isSorted_18 : decode cX6_isSorted 18 = .ok (.iload_n 1, 1) := dk_27 (dk_at dksX6_isSorted_0 18 rfl rfl)
theorem dX6_isSorted_19 : decode cX6_isSorted 19 = .ok (.iload_n 2, 1) := dk_28 (dk_at dksX6_isSorted_0 19 rfl rfl)
theorem dX6_isSorted_20 : decode cX6_isSorted 20 = .ok (.iconst 1, 1) := dk_4 (dk_at dksX6_isSorted_0 20 rfl rfl)
theorem dX6_isSorted_21 : decode cX6_isSorted 21 = .ok (.iadd, 1) := dk_96 (dk_at dksX6_isSorted_0 21 rfl rfl)
theorem dX6_isSorted_22 : decode cX6_isSorted 22 = .ok (.ishr, 1) := dk_122 (dk_at dksX6_isSorted_0 22 rfl rfl)
theorem dX6_isSorted_23 : decode cX6_isSorted 23 = .ok (.iconst 1, 1) := dk_4 (dk_at dksX6_isSorted_0 23 rfl rfl)
theorem dX6_isSorted_24 : decode cX6_isSorted 24 = .ok (.iand, 1) := dk_126 (dk_at dksX6_isSorted_1 0 rfl rfl)
theorem dX6_isSorted_25 : decode cX6_isSorted 25 = .ok (.ifCond .ne 5, 3) := dk_154 0 5 (dk_at dksX6_isSorted_1 1 rfl rfl)
theorem dX6_isSorted_28 : decode cX6_isSorted 28 = .ok (.iconst 0, 1) := dk_3 (dk_at dksX6_isSorted_1 4 rfl rfl)
theorem dX6_isSorted_29 : decode cX6_isSorted 29 = .ok (.ireturn, 1) := dk_172 (dk_at dksX6_isSorted_1 5 rfl rfl)
theorem dX6_isSorted_30 : decode cX6_isSorted 30 = .ok (.iinc 2 1, 3) := dk_132 2 1 (dk_at dksX6_isSorted_1 6 rfl rfl)
theorem dX6_isSorted_33 : decode cX6_isSorted 33 = .ok (.goto (-31), 3) := dk_167 255 225 (dk_at dksX6_isSorted_1 9 rfl rfl)
theorem dX6_isSorted_36 : decode cX6_isSorted 36 = .ok (.iconst 1, 1) := dk_4 (dk_at dksX6_isSorted_1 12 rfl rfl)
theorem dX6_isSorted_37 : decode cX6_isSorted 37 = .ok (.ireturn, 1) := dk_172 (dk_at dksX6_isSorted_1 13 rfl rfl)
abbrev cX6_firstFail : ByteArray := prog_14_method_110_code
def yX6_firstFail : MethodName := ⟨RX6, "firstFail", "(I)I"⟩
def dkwX6_firstFail_2 : List UInt8 := [184, 1, 199, 154, 0, 5, 28, 172, 132, 2, 1, 167, 255, 221, 16, 253, 172]
abbrev dktX6_firstFail_2 : List UInt8 := dkwX6_firstFail_2 ++ []
def dkwX6_firstFail_1 : List UInt8 := [4, 42, 180, 0, 7, 27, 46, 120, 162, 0, 29, 42, 180, 0, 7, 27, 46, 42, 27, 28, 182, 1, 196]
abbrev dktX6_firstFail_1 : List UInt8 := dkwX6_firstFail_1 ++ dktX6_firstFail_2
def dkwX6_firstFail_0 : List UInt8 := [42, 27, 182, 1, 51, 154, 0, 5, 2, 172, 42, 27, 182, 1, 54, 158, 0, 6, 16, 254, 172, 3, 61, 28]
abbrev dktX6_firstFail_0 : List UInt8 := dkwX6_firstFail_0 ++ dktX6_firstFail_1
theorem dksX6_firstFail_0 : cX6_firstFail.data.toList.drop 0 = dktX6_firstFail_0 := by decide +kernel
theorem dksX6_firstFail_1 : cX6_firstFail.data.toList.drop 24 = dktX6_firstFail_1 := dk_seg dksX6_firstFail_0 24 rfl rfl
theorem dksX6_firstFail_2 : cX6_firstFail.data.toList.drop 47 = dktX6_firstFail_2 := dk_seg dksX6_firstFail_1 23 rfl rfl
theorem dX6_firstFail_0 : decode cX6_firstFail 0 = .ok (.aload_n 0, 1) := dk_42 (dk_at dksX6_firstFail_0 0 rfl rfl)
theorem dX6_firstFail_1 : decode cX6_firstFail 1 = .ok (.iload_n 1, 1) := dk_27 (dk_at dksX6_firstFail_0 1 rfl rfl)
theorem dX6_firstFail_2 : decode cX6_firstFail 2 = .ok (.invokevirtual 307, 3) := dk_182 1 51 (dk_at dksX6_firstFail_0 2 rfl rfl)
theorem dX6_firstFail_5 : decode cX6_firstFail 5 = .ok (.ifCond .ne 5, 3) := dk_154 0 5 (dk_at dksX6_firstFail_0 5 rfl rfl)
theorem dX6_firstFail_8 : decode cX6_firstFail 8 = .ok (.iconst (-1), 1) := dk_2 (dk_at dksX6_firstFail_0 8 rfl rfl)
theorem dX6_firstFail_9 : decode cX6_firstFail 9 = .ok (.ireturn, 1) := dk_172 (dk_at dksX6_firstFail_0 9 rfl rfl)
theorem dX6_firstFail_10 : decode cX6_firstFail 10 = .ok (.aload_n 0, 1) := dk_42 (dk_at dksX6_firstFail_0 10 rfl rfl)
theorem dX6_firstFail_11 : decode cX6_firstFail 11 = .ok (.iload_n 1, 1) := dk_27 (dk_at dksX6_firstFail_0 11 rfl rfl)
theorem dX6_firstFail_12 : decode cX6_firstFail 12 = .ok (.invokevirtual 310, 3) := dk_182 1 54 (dk_at dksX6_firstFail_0 12 rfl rfl)
theorem dX6_firstFail_15 : decode cX6_firstFail 15 = .ok (.ifCond .le 6, 3) := dk_158 0 6 (dk_at dksX6_firstFail_0 15 rfl rfl)
theorem dX6_firstFail_18 : decode cX6_firstFail 18 = .ok (.bipush (-2), 2) := dk_16 254 (dk_at dksX6_firstFail_0 18 rfl rfl)
theorem dX6_firstFail_20 : decode cX6_firstFail 20 = .ok (.ireturn, 1) := dk_172 (dk_at dksX6_firstFail_0 20 rfl rfl)
theorem dX6_firstFail_21 : decode cX6_firstFail 21 = .ok (.iconst 0, 1) := dk_3 (dk_at dksX6_firstFail_0 21 rfl rfl)
theorem dX6_firstFail_22 : decode cX6_firstFail 22 = .ok (.istore_n 2, 1) := dk_61 (dk_at dksX6_firstFail_0 22 rfl rfl)
theorem dX6_firstFail_23 : decode cX6_firstFail 23 = .ok (.iload_n 2, 1) := dk_28 (dk_at dksX6_firstFail_0 23 rfl rfl)
theorem dX6_firstFail_24 : decode cX6_firstFail 24 = .ok (.iconst 1, 1) := dk_4 (dk_at dksX6_firstFail_1 0 rfl rfl)
theorem dX6_firstFail_25 : decode cX6_firstFail 25 = .ok (.aload_n 0, 1) := dk_42 (dk_at dksX6_firstFail_1 1 rfl rfl)
theorem dX6_firstFail_26 : decode cX6_firstFail 26 = .ok (.getfield 7, 3) := dk_180 0 7 (dk_at dksX6_firstFail_1 2 rfl rfl)
theorem dX6_firstFail_29 : decode cX6_firstFail 29 = .ok (.iload_n 1, 1) := dk_27 (dk_at dksX6_firstFail_1 5 rfl rfl)
theorem dX6_firstFail_30 : decode cX6_firstFail 30 = .ok (.iaload, 1) := dk_46 (dk_at dksX6_firstFail_1 6 rfl rfl)
theorem dX6_firstFail_31 : decode cX6_firstFail 31 = .ok (.ishl, 1) := dk_120 (dk_at dksX6_firstFail_1 7 rfl rfl)
theorem dX6_firstFail_32 : decode cX6_firstFail 32 = .ok (.if_icmp .ge 29, 3) := dk_162 0 29 (dk_at dksX6_firstFail_1 8 rfl rfl)
theorem dX6_firstFail_35 : decode cX6_firstFail 35 = .ok (.aload_n 0, 1) := dk_42 (dk_at dksX6_firstFail_1 11 rfl rfl)
theorem dX6_firstFail_36 : decode cX6_firstFail 36 = .ok (.getfield 7, 3) := dk_180 0 7 (dk_at dksX6_firstFail_1 12 rfl rfl)
theorem dX6_firstFail_39 : decode cX6_firstFail 39 = .ok (.iload_n 1, 1) := dk_27 (dk_at dksX6_firstFail_1 15 rfl rfl)
theorem dX6_firstFail_40 : decode cX6_firstFail 40 = .ok (.iaload, 1) := dk_46 (dk_at dksX6_firstFail_1 16 rfl rfl)
theorem dX6_firstFail_41 : decode cX6_firstFail 41 = .ok (.aload_n 0, 1) := dk_42 (dk_at dksX6_firstFail_1 17 rfl rfl)
theorem dX6_firstFail_42 : decode cX6_firstFail 42 = .ok (.iload_n 1, 1) := dk_27 (dk_at dksX6_firstFail_1 18 rfl rfl)
theorem dX6_firstFail_43 : decode cX6_firstFail 43 = .ok (.iload_n 2, 1) := dk_28 (dk_at dksX6_firstFail_1 19 rfl rfl)
theorem dX6_firstFail_44 : decode cX6_firstFail 44 = .ok (.invokevirtual 452, 3) := dk_182 1 196 (dk_at dksX6_firstFail_1 20 rfl rfl)
theorem dX6_firstFail_47 : decode cX6_firstFail 47 = .ok (.invokestatic 455, 3) := dk_184 1 199 (dk_at dksX6_firstFail_2 0 rfl rfl)
theorem dX6_firstFail_50 : decode cX6_firstFail 50 = .ok (.ifCond .ne 5, 3) := dk_154 0 5 (dk_at dksX6_firstFail_2 3 rfl rfl)
theorem dX6_firstFail_53 : decode cX6_firstFail 53 = .ok (.iload_n 2, 1) := dk_28 (dk_at dksX6_firstFail_2 6 rfl rfl)
theorem dX6_firstFail_54 : decode cX6_firstFail 54 = .ok (.ireturn, 1) := dk_172 (dk_at dksX6_firstFail_2 7 rfl rfl)
theorem dX6_firstFail_55 : decode cX6_firstFail 55 = .ok (.iinc 2 1, 3) := dk_132 2 1 (dk_at dksX6_firstFail_2 8 rfl rfl)
theorem dX6_firstFail_58 : decode cX6_firstFail 58 = .ok (.goto (-35), 3) := dk_167 255 221 (dk_at dksX6_firstFail_2 11 rfl rfl)
theorem dX6_firstFail_61 : decode cX6_firstFail 61 = .ok (.bipush (-3), 2) := dk_16 253 (dk_at dksX6_firstFail_2 14 rfl rfl)
theorem dX6_firstFail_63 : decode cX6_firstFail 63 = .ok (.ireturn, 1) := dk_172 (dk_at dksX6_firstFail_2 16 rfl rfl)
abbrev cX6_idle : ByteArray := prog_14_method_111_code
def yX6_idle : MethodName := ⟨RX6, "idle", "(II)I"⟩
def dkwX6_idle_6 : List UInt8 := [159, 0, 5, 3, 172, 132, 3, 1, 167, 255, 154, 4, 172]
abbrev dktX6_idle_6 : List UInt8 := dkwX6_idle_6 ++ []
def dkwX6_idle_5 : List UInt8 := [104, 28, 96, 46, 42, 180, 0, 19, 17, 0, 200, 27, 104, 28, 96, 46, 3, 182, 1, 110, 21, 4]
abbrev dktX6_idle_5 : List UInt8 := dkwX6_idle_5 ++ dktX6_idle_6
def dkwX6_idle_4 : List UInt8 := [46, 3, 182, 1, 110, 54, 4, 132, 5, 1, 167, 255, 212, 42, 21, 4, 42, 180, 0, 16, 17, 0, 200, 27]
abbrev dktX6_idle_4 : List UInt8 := dkwX6_idle_4 ++ dktX6_idle_5
def dkwX6_idle_3 : List UInt8 := [180, 0, 16, 17, 0, 200, 27, 104, 21, 5, 96, 46, 42, 180, 0, 19, 17, 0, 200, 27, 104, 21, 5, 96]
abbrev dktX6_idle_3 : List UInt8 := dkwX6_idle_3 ++ dktX6_idle_4
def dkwX6_idle_2 : List UInt8 := [42, 180, 1, 84, 162, 0, 100, 29, 54, 4, 3, 54, 5, 21, 5, 28, 162, 0, 44, 42, 21, 4, 42]
abbrev dktX6_idle_2 : List UInt8 := dkwX6_idle_2 ++ dktX6_idle_3
def dkwX6_idle_1 : List UInt8 := [42, 27, 182, 1, 54, 158, 0, 6, 16, 254, 172, 42, 42, 180, 0, 7, 27, 46, 182, 1, 107, 3, 62, 29]
abbrev dktX6_idle_1 : List UInt8 := dkwX6_idle_1 ++ dktX6_idle_2
def dkwX6_idle_0 : List UInt8 := [42, 27, 182, 1, 51, 153, 0, 17, 28, 155, 0, 13, 28, 42, 180, 0, 13, 27, 46, 161, 0, 5, 2, 172]
abbrev dktX6_idle_0 : List UInt8 := dkwX6_idle_0 ++ dktX6_idle_1
theorem dksX6_idle_0 : cX6_idle.data.toList.drop 0 = dktX6_idle_0 := by decide +kernel
theorem dksX6_idle_1 : cX6_idle.data.toList.drop 24 = dktX6_idle_1 := dk_seg dksX6_idle_0 24 rfl rfl
theorem dksX6_idle_2 : cX6_idle.data.toList.drop 48 = dktX6_idle_2 := dk_seg dksX6_idle_1 24 rfl rfl
theorem dksX6_idle_3 : cX6_idle.data.toList.drop 71 = dktX6_idle_3 := dk_seg dksX6_idle_2 23 rfl rfl
theorem dksX6_idle_4 : cX6_idle.data.toList.drop 95 = dktX6_idle_4 := dk_seg dksX6_idle_3 24 rfl rfl
theorem dksX6_idle_5 : cX6_idle.data.toList.drop 119 = dktX6_idle_5 := dk_seg dksX6_idle_4 24 rfl rfl
theorem dksX6_idle_6 : cX6_idle.data.toList.drop 141 = dktX6_idle_6 := dk_seg dksX6_idle_5 22 rfl rfl
theorem dX6_idle_0 : decode cX6_idle 0 = .ok (.aload_n 0, 1) := dk_42 (dk_at dksX6_idle_0 0 rfl rfl)
theorem dX6_idle_1 : decode cX6_idle 1 = .ok (.iload_n 1, 1) := dk_27 (dk_at dksX6_idle_0 1 rfl rfl)
theorem dX6_idle_2 : decode cX6_idle 2 = .ok (.invokevirtual 307, 3) := dk_182 1 51 (dk_at dksX6_idle_0 2 rfl rfl)
theorem dX6_idle_5 : decode cX6_idle 5 = .ok (.ifCond .eq 17, 3) := dk_153 0 17 (dk_at dksX6_idle_0 5 rfl rfl)
theorem dX6_idle_8 : decode cX6_idle 8 = .ok (.iload_n 2, 1) := dk_28 (dk_at dksX6_idle_0 8 rfl rfl)
theorem dX6_idle_9 : decode cX6_idle 9 = .ok (.ifCond .lt 13, 3) := dk_155 0 13 (dk_at dksX6_idle_0 9 rfl rfl)
theorem dX6_idle_12 : decode cX6_idle 12 = .ok (.iload_n 2, 1) := dk_28 (dk_at dksX6_idle_0 12 rfl rfl)
theorem dX6_idle_13 : decode cX6_idle 13 = .ok (.aload_n 0, 1) := dk_42 (dk_at dksX6_idle_0 13 rfl rfl)
theorem dX6_idle_14 : decode cX6_idle 14 = .ok (.getfield 13, 3) := dk_180 0 13 (dk_at dksX6_idle_0 14 rfl rfl)
theorem dX6_idle_17 : decode cX6_idle 17 = .ok (.iload_n 1, 1) := dk_27 (dk_at dksX6_idle_0 17 rfl rfl)
theorem dX6_idle_18 : decode cX6_idle 18 = .ok (.iaload, 1) := dk_46 (dk_at dksX6_idle_0 18 rfl rfl)
theorem dX6_idle_19 : decode cX6_idle 19 = .ok (.if_icmp .lt 5, 3) := dk_161 0 5 (dk_at dksX6_idle_0 19 rfl rfl)
theorem dX6_idle_22 : decode cX6_idle 22 = .ok (.iconst (-1), 1) := dk_2 (dk_at dksX6_idle_0 22 rfl rfl)
theorem dX6_idle_23 : decode cX6_idle 23 = .ok (.ireturn, 1) := dk_172 (dk_at dksX6_idle_0 23 rfl rfl)
theorem dX6_idle_24 : decode cX6_idle 24 = .ok (.aload_n 0, 1) := dk_42 (dk_at dksX6_idle_1 0 rfl rfl)
theorem dX6_idle_25 : decode cX6_idle 25 = .ok (.iload_n 1, 1) := dk_27 (dk_at dksX6_idle_1 1 rfl rfl)
theorem dX6_idle_26 : decode cX6_idle 26 = .ok (.invokevirtual 310, 3) := dk_182 1 54 (dk_at dksX6_idle_1 2 rfl rfl)
theorem dX6_idle_29 : decode cX6_idle 29 = .ok (.ifCond .le 6, 3) := dk_158 0 6 (dk_at dksX6_idle_1 5 rfl rfl)
theorem dX6_idle_32 : decode cX6_idle 32 = .ok (.bipush (-2), 2) := dk_16 254 (dk_at dksX6_idle_1 8 rfl rfl)
theorem dX6_idle_34 : decode cX6_idle 34 = .ok (.ireturn, 1) := dk_172 (dk_at dksX6_idle_1 10 rfl rfl)
theorem dX6_idle_35 : decode cX6_idle 35 = .ok (.aload_n 0, 1) := dk_42 (dk_at dksX6_idle_1 11 rfl rfl)
theorem dX6_idle_36 : decode cX6_idle 36 = .ok (.aload_n 0, 1) := dk_42 (dk_at dksX6_idle_1 12 rfl rfl)
theorem dX6_idle_37 : decode cX6_idle 37 = .ok (.getfield 7, 3) := dk_180 0 7 (dk_at dksX6_idle_1 13 rfl rfl)
theorem dX6_idle_40 : decode cX6_idle 40 = .ok (.iload_n 1, 1) := dk_27 (dk_at dksX6_idle_1 16 rfl rfl)
theorem dX6_idle_41 : decode cX6_idle 41 = .ok (.iaload, 1) := dk_46 (dk_at dksX6_idle_1 17 rfl rfl)
theorem dX6_idle_42 : decode cX6_idle 42 = .ok (.invokevirtual 363, 3) := dk_182 1 107 (dk_at dksX6_idle_1 18 rfl rfl)
theorem dX6_idle_45 : decode cX6_idle 45 = .ok (.iconst 0, 1) := dk_3 (dk_at dksX6_idle_1 21 rfl rfl)
theorem dX6_idle_46 : decode cX6_idle 46 = .ok (.istore_n 3, 1) := dk_62 (dk_at dksX6_idle_1 22 rfl rfl)
theorem dX6_idle_47 : decode cX6_idle 47 = .ok (.iload_n 3, 1) := dk_29 (dk_at dksX6_idle_1 23 rfl rfl)
theorem dX6_idle_48 : decode cX6_idle 48 = .ok (.aload_n 0, 1) := dk_42 (dk_at dksX6_idle_2 0 rfl rfl)
theorem dX6_idle_49 : decode cX6_idle 49 = .ok (.getfield 340, 3) := dk_180 1 84 (dk_at dksX6_idle_2 1 rfl rfl)
theorem dX6_idle_52 : decode cX6_idle 52 = .ok (.if_icmp .ge 100, 3) := dk_162 0 100 (dk_at dksX6_idle_2 4 rfl rfl)
theorem dX6_idle_55 : decode cX6_idle 55 = .ok (.iload_n 3, 1) := dk_29 (dk_at dksX6_idle_2 7 rfl rfl)
theorem dX6_idle_56 : decode cX6_idle 56 = .ok (.istore 4, 2) := dk_54 4 (dk_at dksX6_idle_2 8 rfl rfl)
theorem dX6_idle_58 : decode cX6_idle 58 = .ok (.iconst 0, 1) := dk_3 (dk_at dksX6_idle_2 10 rfl rfl)
theorem dX6_idle_59 : decode cX6_idle 59 = .ok (.istore 5, 2) := dk_54 5 (dk_at dksX6_idle_2 11 rfl rfl)
theorem dX6_idle_61 : decode cX6_idle 61 = .ok (.iload 5, 2) := dk_21 5 (dk_at dksX6_idle_2 13 rfl rfl)
theorem dX6_idle_63 : decode cX6_idle 63 = .ok (.iload_n 2, 1) := dk_28 (dk_at dksX6_idle_2 15 rfl rfl)
theorem dX6_idle_64 : decode cX6_idle 64 = .ok (.if_icmp .ge 44, 3) := dk_162 0 44 (dk_at dksX6_idle_2 16 rfl rfl)
theorem dX6_idle_67 : decode cX6_idle 67 = .ok (.aload_n 0, 1) := dk_42 (dk_at dksX6_idle_2 19 rfl rfl)
theorem dX6_idle_68 : decode cX6_idle 68 = .ok (.iload 4, 2) := dk_21 4 (dk_at dksX6_idle_2 20 rfl rfl)
theorem dX6_idle_70 : decode cX6_idle 70 = .ok (.aload_n 0, 1) := dk_42 (dk_at dksX6_idle_2 22 rfl rfl)
theorem dX6_idle_71 : decode cX6_idle 71 = .ok (.getfield 16, 3) := dk_180 0 16 (dk_at dksX6_idle_3 0 rfl rfl)
theorem dX6_idle_74 : decode cX6_idle 74 = .ok (.sipush 200, 3) := dk_17 0 200 (dk_at dksX6_idle_3 3 rfl rfl)
theorem dX6_idle_77 : decode cX6_idle 77 = .ok (.iload_n 1, 1) := dk_27 (dk_at dksX6_idle_3 6 rfl rfl)
theorem dX6_idle_78 : decode cX6_idle 78 = .ok (.imul, 1) := dk_104 (dk_at dksX6_idle_3 7 rfl rfl)
theorem dX6_idle_79 : decode cX6_idle 79 = .ok (.iload 5, 2) := dk_21 5 (dk_at dksX6_idle_3 8 rfl rfl)
theorem dX6_idle_81 : decode cX6_idle 81 = .ok (.iadd, 1) := dk_96 (dk_at dksX6_idle_3 10 rfl rfl)
theorem dX6_idle_82 : decode cX6_idle 82 = .ok (.iaload, 1) := dk_46 (dk_at dksX6_idle_3 11 rfl rfl)
theorem dX6_idle_83 : decode cX6_idle 83 = .ok (.aload_n 0, 1) := dk_42 (dk_at dksX6_idle_3 12 rfl rfl)
theorem dX6_idle_84 : decode cX6_idle 84 = .ok (.getfield 19, 3) := dk_180 0 19 (dk_at dksX6_idle_3 13 rfl rfl)
theorem dX6_idle_87 : decode cX6_idle 87 = .ok (.sipush 200, 3) := dk_17 0 200 (dk_at dksX6_idle_3 16 rfl rfl)
theorem dX6_idle_90 : decode cX6_idle 90 = .ok (.iload_n 1, 1) := dk_27 (dk_at dksX6_idle_3 19 rfl rfl)
theorem dX6_idle_91 : decode cX6_idle 91 = .ok (.imul, 1) := dk_104 (dk_at dksX6_idle_3 20 rfl rfl)
theorem dX6_idle_92 : decode cX6_idle 92 = .ok (.iload 5, 2) := dk_21 5 (dk_at dksX6_idle_3 21 rfl rfl)
theorem dX6_idle_94 : decode cX6_idle 94 = .ok (.iadd, 1) := dk_96 (dk_at dksX6_idle_3 23 rfl rfl)
theorem dX6_idle_95 : decode cX6_idle 95 = .ok (.iaload, 1) := dk_46 (dk_at dksX6_idle_4 0 rfl rfl)
theorem dX6_idle_96 : decode cX6_idle 96 = .ok (.iconst 0, 1) := dk_3 (dk_at dksX6_idle_4 1 rfl rfl)
theorem dX6_idle_97 : decode cX6_idle 97 = .ok (.invokevirtual 366, 3) := dk_182 1 110 (dk_at dksX6_idle_4 2 rfl rfl)
theorem dX6_idle_100 : decode cX6_idle 100 = .ok (.istore 4, 2) := dk_54 4 (dk_at dksX6_idle_4 5 rfl rfl)
theorem dX6_idle_102 : decode cX6_idle 102 = .ok (.iinc 5 1, 3) := dk_132 5 1 (dk_at dksX6_idle_4 7 rfl rfl)
theorem dX6_idle_105 : decode cX6_idle 105 = .ok (.goto (-44), 3) := dk_167 255 212 (dk_at dksX6_idle_4 10 rfl rfl)
theorem dX6_idle_108 : decode cX6_idle 108 = .ok (.aload_n 0, 1) := dk_42 (dk_at dksX6_idle_4 13 rfl rfl)
theorem dX6_idle_109 : decode cX6_idle 109 = .ok (.iload 4, 2) := dk_21 4 (dk_at dksX6_idle_4 14 rfl rfl)
theorem dX6_idle_111 : decode cX6_idle 111 = .ok (.aload_n 0, 1) := dk_42 (dk_at dksX6_idle_4 16 rfl rfl)
theorem dX6_idle_112 : decode cX6_idle 112 = .ok (.getfield 16, 3) := dk_180 0 16 (dk_at dksX6_idle_4 17 rfl rfl)
theorem dX6_idle_115 : decode cX6_idle 115 = .ok (.sipush 200, 3) := dk_17 0 200 (dk_at dksX6_idle_4 20 rfl rfl)
theorem dX6_idle_118 : decode cX6_idle 118 = .ok (.iload_n 1, 1) := dk_27 (dk_at dksX6_idle_4 23 rfl rfl)
theorem dX6_idle_119 : decode cX6_idle 119 = .ok (.imul, 1) := dk_104 (dk_at dksX6_idle_5 0 rfl rfl)
theorem dX6_idle_120 : decode cX6_idle 120 = .ok (.iload_n 2, 1) := dk_28 (dk_at dksX6_idle_5 1 rfl rfl)
theorem dX6_idle_121 : decode cX6_idle 121 = .ok (.iadd, 1) := dk_96 (dk_at dksX6_idle_5 2 rfl rfl)
theorem dX6_idle_122 : decode cX6_idle 122 = .ok (.iaload, 1) := dk_46 (dk_at dksX6_idle_5 3 rfl rfl)
theorem dX6_idle_123 : decode cX6_idle 123 = .ok (.aload_n 0, 1) := dk_42 (dk_at dksX6_idle_5 4 rfl rfl)
theorem dX6_idle_124 : decode cX6_idle 124 = .ok (.getfield 19, 3) := dk_180 0 19 (dk_at dksX6_idle_5 5 rfl rfl)
theorem dX6_idle_127 : decode cX6_idle 127 = .ok (.sipush 200, 3) := dk_17 0 200 (dk_at dksX6_idle_5 8 rfl rfl)
theorem dX6_idle_130 : decode cX6_idle 130 = .ok (.iload_n 1, 1) := dk_27 (dk_at dksX6_idle_5 11 rfl rfl)
theorem dX6_idle_131 : decode cX6_idle 131 = .ok (.imul, 1) := dk_104 (dk_at dksX6_idle_5 12 rfl rfl)
theorem dX6_idle_132 : decode cX6_idle 132 = .ok (.iload_n 2, 1) := dk_28 (dk_at dksX6_idle_5 13 rfl rfl)
theorem dX6_idle_133 : decode cX6_idle 133 = .ok (.iadd, 1) := dk_96 (dk_at dksX6_idle_5 14 rfl rfl)
theorem dX6_idle_134 : decode cX6_idle 134 = .ok (.iaload, 1) := dk_46 (dk_at dksX6_idle_5 15 rfl rfl)
theorem dX6_idle_135 : decode cX6_idle 135 = .ok (.iconst 0, 1) := dk_3 (dk_at dksX6_idle_5 16 rfl rfl)
theorem dX6_idle_136 : decode cX6_idle 136 = .ok (.invokevirtual 366, 3) := dk_182 1 110 (dk_at dksX6_idle_5 17 rfl rfl)
theorem dX6_idle_139 : decode cX6_idle 139 = .ok (.iload 4, 2) := dk_21 4 (dk_at dksX6_idle_5 20 rfl rfl)
theorem dX6_idle_141 : decode cX6_idle 141 = .ok (.if_icmp .eq 5, 3) := dk_159 0 5 (dk_at dksX6_idle_6 0 rfl rfl)
theorem dX6_idle_144 : decode cX6_idle 144 = .ok (.iconst 0, 1) := dk_3 (dk_at dksX6_idle_6 3 rfl rfl)
theorem dX6_idle_145 : decode cX6_idle 145 = .ok (.ireturn, 1) := dk_172 (dk_at dksX6_idle_6 4 rfl rfl)
theorem dX6_idle_146 : decode cX6_idle 146 = .ok (.iinc 3 1, 3) := dk_132 3 1 (dk_at dksX6_idle_6 5 rfl rfl)
theorem dX6_idle_149 : decode cX6_idle 149 = .ok (.goto (-102), 3) := dk_167 255 154 (dk_at dksX6_idle_6 8 rfl rfl)
theorem dX6_idle_152 : decode cX6_idle 152 = .ok (.iconst 1, 1) := dk_4 (dk_at dksX6_idle_6 11 rfl rfl)
theorem dX6_idle_153 : decode cX6_idle 153 = .ok (.ireturn, 1) := dk_172 (dk_at dksX6_idle_6 12 rfl rfl)
abbrev cX6_needed : ByteArray := prog_14_method_112_code
def yX6_needed : MethodName := ⟨RX6, "needed", "(II)I"⟩
def dkwX6_needed_2 : List UInt8 := [3, 172]
abbrev dktX6_needed_2 : List UInt8 := dkwX6_needed_2 ++ []
def dkwX6_needed_1 : List UInt8 := [42, 27, 182, 1, 54, 158, 0, 6, 16, 254, 172, 42, 27, 28, 182, 1, 190, 158, 0, 7, 4, 167, 0, 4]
abbrev dktX6_needed_1 : List UInt8 := dkwX6_needed_1 ++ dktX6_needed_2
def dkwX6_needed_0 : List UInt8 := [42, 27, 182, 1, 51, 153, 0, 17, 28, 155, 0, 13, 28, 42, 180, 0, 13, 27, 46, 161, 0, 5, 2, 172]
abbrev dktX6_needed_0 : List UInt8 := dkwX6_needed_0 ++ dktX6_needed_1
theorem dksX6_needed_0 : cX6_needed.data.toList.drop 0 = dktX6_needed_0 := by decide +kernel
theorem dksX6_needed_1 : cX6_needed.data.toList.drop 24 = dktX6_needed_1 := dk_seg dksX6_needed_0 24 rfl rfl
theorem dksX6_needed_2 : cX6_needed.data.toList.drop 48 = dktX6_needed_2 := dk_seg dksX6_needed_1 24 rfl rfl
theorem dX6_needed_0 : decode cX6_needed 0 = .ok (.aload_n 0, 1) := dk_42 (dk_at dksX6_needed_0 0 rfl rfl)
theorem dX6_needed_1 : decode cX6_needed 1 = .ok (.iload_n 1, 1) := dk_27 (dk_at dksX6_needed_0 1 rfl rfl)
theorem dX6_needed_2 : decode cX6_needed 2 = .ok (.invokevirtual 307, 3) := dk_182 1 51 (dk_at dksX6_needed_0 2 rfl rfl)
theorem dX6_needed_5 : decode cX6_needed 5 = .ok (.ifCond .eq 17, 3) := dk_153 0 17 (dk_at dksX6_needed_0 5 rfl rfl)
theorem dX6_needed_8 : decode cX6_needed 8 = .ok (.iload_n 2, 1) := dk_28 (dk_at dksX6_needed_0 8 rfl rfl)
theorem dX6_needed_9 : decode cX6_needed 9 = .ok (.ifCond .lt 13, 3) := dk_155 0 13 (dk_at dksX6_needed_0 9 rfl rfl)
theorem dX6_needed_12 : decode cX6_needed 12 = .ok (.iload_n 2, 1) := dk_28 (dk_at dksX6_needed_0 12 rfl rfl)
theorem dX6_needed_13 : decode cX6_needed 13 = .ok (.aload_n 0, 1) := dk_42 (dk_at dksX6_needed_0 13 rfl rfl)
theorem dX6_needed_14 : decode cX6_needed 14 = .ok (.getfield 13, 3) := dk_180 0 13 (dk_at dksX6_needed_0 14 rfl rfl)
theorem dX6_needed_17 : decode cX6_needed 17 = .ok (.iload_n 1, 1) := dk_27 (dk_at dksX6_needed_0 17 rfl rfl)
theorem dX6_needed_18 : decode cX6_needed 18 = .ok (.iaload, 1) := dk_46 (dk_at dksX6_needed_0 18 rfl rfl)
theorem dX6_needed_19 : decode cX6_needed 19 = .ok (.if_icmp .lt 5, 3) := dk_161 0 5 (dk_at dksX6_needed_0 19 rfl rfl)
theorem dX6_needed_22 : decode cX6_needed 22 = .ok (.iconst (-1), 1) := dk_2 (dk_at dksX6_needed_0 22 rfl rfl)
theorem dX6_needed_23 : decode cX6_needed 23 = .ok (.ireturn, 1) := dk_172 (dk_at dksX6_needed_0 23 rfl rfl)
theorem dX6_needed_24 : decode cX6_needed 24 = .ok (.aload_n 0, 1) := dk_42 (dk_at dksX6_needed_1 0 rfl rfl)
theorem dX6_needed_25 : decode cX6_needed 25 = .ok (.iload_n 1, 1) := dk_27 (dk_at dksX6_needed_1 1 rfl rfl)
theorem dX6_needed_26 : decode cX6_needed 26 = .ok (.invokevirtual 310, 3) := dk_182 1 54 (dk_at dksX6_needed_1 2 rfl rfl)
theorem dX6_needed_29 : decode cX6_needed 29 = .ok (.ifCond .le 6, 3) := dk_158 0 6 (dk_at dksX6_needed_1 5 rfl rfl)
theorem dX6_needed_32 : decode cX6_needed 32 = .ok (.bipush (-2), 2) := dk_16 254 (dk_at dksX6_needed_1 8 rfl rfl)
theorem dX6_needed_34 : decode cX6_needed 34 = .ok (.ireturn, 1) := dk_172 (dk_at dksX6_needed_1 10 rfl rfl)
theorem dX6_needed_35 : decode cX6_needed 35 = .ok (.aload_n 0, 1) := dk_42 (dk_at dksX6_needed_1 11 rfl rfl)
theorem dX6_needed_36 : decode cX6_needed 36 = .ok (.iload_n 1, 1) := dk_27 (dk_at dksX6_needed_1 12 rfl rfl)
theorem dX6_needed_37 : decode cX6_needed 37 = .ok (.iload_n 2, 1) := dk_28 (dk_at dksX6_needed_1 13 rfl rfl)
theorem dX6_needed_38 : decode cX6_needed 38 = .ok (.invokevirtual 446, 3) := dk_182 1 190 (dk_at dksX6_needed_1 14 rfl rfl)
theorem dX6_needed_41 : decode cX6_needed 41 = .ok (.ifCond .le 7, 3) := dk_158 0 7 (dk_at dksX6_needed_1 17 rfl rfl)
theorem dX6_needed_44 : decode cX6_needed 44 = .ok (.iconst 1, 1) := dk_4 (dk_at dksX6_needed_1 20 rfl rfl)
theorem dX6_needed_45 : decode cX6_needed 45 = .ok (.goto 4, 3) := dk_167 0 4 (dk_at dksX6_needed_1 21 rfl rfl)
theorem dX6_needed_48 : decode cX6_needed 48 = .ok (.iconst 0, 1) := dk_3 (dk_at dksX6_needed_2 0 rfl rfl)
theorem dX6_needed_49 : decode cX6_needed 49 = .ok (.ireturn, 1) := dk_172 (dk_at dksX6_needed_2 1 rfl rfl)
abbrev cX6_mend : ByteArray := prog_14_method_117_code
def yX6_mend : MethodName := ⟨RX6, "mend", "(I)I"⟩
def dkwX6_mend_0 : List UInt8 := [42, 27, 182, 1, 211, 172]
abbrev dktX6_mend_0 : List UInt8 := dkwX6_mend_0 ++ []
theorem dksX6_mend_0 : cX6_mend.data.toList.drop 0 = dktX6_mend_0 := by decide +kernel
theorem dX6_mend_0 : decode cX6_mend 0 = .ok (.aload_n 0, 1) := dk_42 (dk_at dksX6_mend_0 0 rfl rfl)
theorem dX6_mend_1 : decode cX6_mend 1 = .ok (.iload_n 1, 1) := dk_27 (dk_at dksX6_mend_0 1 rfl rfl)
theorem dX6_mend_2 : decode cX6_mend 2 = .ok (.invokevirtual 467, 3) := dk_182 1 211 (dk_at dksX6_mend_0 2 rfl rfl)
theorem dX6_mend_5 : decode cX6_mend 5 = .ok (.ireturn, 1) := dk_172 (dk_at dksX6_mend_0 5 rfl rfl)
abbrev cX6_mending : ByteArray := prog_14_method_116_code
def yX6_mending : MethodName := ⟨RX6, "mending", "(I)I"⟩
def dkwX6_mending_4 : List UInt8 := [182, 1, 208, 153, 0, 5, 28, 172, 132, 2, 1, 167, 255, 231, 2, 172]
abbrev dktX6_mending_4 : List UInt8 := dkwX6_mending_4 ++ []
def dkwX6_mending_3 : List UInt8 := [128, 79, 132, 2, 1, 167, 255, 224, 3, 61, 28, 16, 11, 162, 0, 25, 42, 42, 180, 0, 7, 27, 46, 28]
abbrev dktX6_mending_3 : List UInt8 := dkwX6_mending_3 ++ dktX6_mending_4
def dkwX6_mending_2 : List UInt8 := [180, 0, 7, 27, 46, 120, 162, 0, 26, 42, 180, 0, 152, 3, 92, 46, 4, 42, 27, 28, 182, 1, 196, 120]
abbrev dktX6_mending_2 : List UInt8 := dkwX6_mending_2 ++ dktX6_mending_3
def dkwX6_mending_1 : List UInt8 := [180, 0, 7, 27, 46, 8, 164, 0, 6, 16, 253, 172, 42, 180, 0, 152, 3, 3, 79, 3, 61, 28, 4, 42]
abbrev dktX6_mending_1 : List UInt8 := dkwX6_mending_1 ++ dktX6_mending_2
def dkwX6_mending_0 : List UInt8 := [42, 27, 182, 1, 51, 154, 0, 5, 2, 172, 42, 27, 182, 1, 54, 158, 0, 6, 16, 254, 172, 42]
abbrev dktX6_mending_0 : List UInt8 := dkwX6_mending_0 ++ dktX6_mending_1
theorem dksX6_mending_0 : cX6_mending.data.toList.drop 0 = dktX6_mending_0 := by decide +kernel
theorem dksX6_mending_1 : cX6_mending.data.toList.drop 22 = dktX6_mending_1 := dk_seg dksX6_mending_0 22 rfl rfl
theorem dksX6_mending_2 : cX6_mending.data.toList.drop 46 = dktX6_mending_2 := dk_seg dksX6_mending_1 24 rfl rfl
theorem dksX6_mending_3 : cX6_mending.data.toList.drop 70 = dktX6_mending_3 := dk_seg dksX6_mending_2 24 rfl rfl
theorem dksX6_mending_4 : cX6_mending.data.toList.drop 94 = dktX6_mending_4 := dk_seg dksX6_mending_3 24 rfl rfl
theorem dX6_mending_0 : decode cX6_mending 0 = .ok (.aload_n 0, 1) := dk_42 (dk_at dksX6_mending_0 0 rfl rfl)
theorem dX6_mending_1 : decode cX6_mending 1 = .ok (.iload_n 1, 1) := dk_27 (dk_at dksX6_mending_0 1 rfl rfl)
theorem dX6_mending_2 : decode cX6_mending 2 = .ok (.invokevirtual 307, 3) := dk_182 1 51 (dk_at dksX6_mending_0 2 rfl rfl)
theorem dX6_mending_5 : decode cX6_mending 5 = .ok (.ifCond .ne 5, 3) := dk_154 0 5 (dk_at dksX6_mending_0 5 rfl rfl)
theorem dX6_mending_8 : decode cX6_mending 8 = .ok (.iconst (-1), 1) := dk_2 (dk_at dksX6_mending_0 8 rfl rfl)
theorem dX6_mending_9 : decode cX6_mending 9 = .ok (.ireturn, 1) := dk_172 (dk_at dksX6_mending_0 9 rfl rfl)
theorem dX6_mending_10 : decode cX6_mending 10 = .ok (.aload_n 0, 1) := dk_42 (dk_at dksX6_mending_0 10 rfl rfl)
theorem dX6_mending_11 : decode cX6_mending 11 = .ok (.iload_n 1, 1) := dk_27 (dk_at dksX6_mending_0 11 rfl rfl)
theorem dX6_mending_12 : decode cX6_mending 12 = .ok (.invokevirtual 310, 3) := dk_182 1 54 (dk_at dksX6_mending_0 12 rfl rfl)
theorem dX6_mending_15 : decode cX6_mending 15 = .ok (.ifCond .le 6, 3) := dk_158 0 6 (dk_at dksX6_mending_0 15 rfl rfl)
theorem dX6_mending_18 : decode cX6_mending 18 = .ok (.bipush (-2), 2) := dk_16 254 (dk_at dksX6_mending_0 18 rfl rfl)
theorem dX6_mending_20 : decode cX6_mending 20 = .ok (.ireturn, 1) := dk_172 (dk_at dksX6_mending_0 20 rfl rfl)
theorem dX6_mending_21 : decode cX6_mending 21 = .ok (.aload_n 0, 1) := dk_42 (dk_at dksX6_mending_0 21 rfl rfl)
theorem dX6_mending_22 : decode cX6_mending 22 = .ok (.getfield 7, 3) := dk_180 0 7 (dk_at dksX6_mending_1 0 rfl rfl)
theorem dX6_mending_25 : decode cX6_mending 25 = .ok (.iload_n 1, 1) := dk_27 (dk_at dksX6_mending_1 3 rfl rfl)
theorem dX6_mending_26 : decode cX6_mending 26 = .ok (.iaload, 1) := dk_46 (dk_at dksX6_mending_1 4 rfl rfl)
theorem dX6_mending_27 : decode cX6_mending 27 = .ok (.iconst 5, 1) := dk_8 (dk_at dksX6_mending_1 5 rfl rfl)
theorem dX6_mending_28 : decode cX6_mending 28 = .ok (.if_icmp .le 6, 3) := dk_164 0 6 (dk_at dksX6_mending_1 6 rfl rfl)
theorem dX6_mending_31 : decode cX6_mending 31 = .ok (.bipush (-3), 2) := dk_16 253 (dk_at dksX6_mending_1 9 rfl rfl)
theorem dX6_mending_33 : decode cX6_mending 33 = .ok (.ireturn, 1) := dk_172 (dk_at dksX6_mending_1 11 rfl rfl)
theorem dX6_mending_34 : decode cX6_mending 34 = .ok (.aload_n 0, 1) := dk_42 (dk_at dksX6_mending_1 12 rfl rfl)
theorem dX6_mending_35 : decode cX6_mending 35 = .ok (.getfield 152, 3) := dk_180 0 152 (dk_at dksX6_mending_1 13 rfl rfl)
theorem dX6_mending_38 : decode cX6_mending 38 = .ok (.iconst 0, 1) := dk_3 (dk_at dksX6_mending_1 16 rfl rfl)
theorem dX6_mending_39 : decode cX6_mending 39 = .ok (.iconst 0, 1) := dk_3 (dk_at dksX6_mending_1 17 rfl rfl)
theorem dX6_mending_40 : decode cX6_mending 40 = .ok (.iastore, 1) := dk_79 (dk_at dksX6_mending_1 18 rfl rfl)
theorem dX6_mending_41 : decode cX6_mending 41 = .ok (.iconst 0, 1) := dk_3 (dk_at dksX6_mending_1 19 rfl rfl)
theorem dX6_mending_42 : decode cX6_mending 42 = .ok (.istore_n 2, 1) := dk_61 (dk_at dksX6_mending_1 20 rfl rfl)
theorem dX6_mending_43 : decode cX6_mending 43 = .ok (.iload_n 2, 1) := dk_28 (dk_at dksX6_mending_1 21 rfl rfl)
theorem dX6_mending_44 : decode cX6_mending 44 = .ok (.iconst 1, 1) := dk_4 (dk_at dksX6_mending_1 22 rfl rfl)
theorem dX6_mending_45 : decode cX6_mending 45 = .ok (.aload_n 0, 1) := dk_42 (dk_at dksX6_mending_1 23 rfl rfl)
theorem dX6_mending_46 : decode cX6_mending 46 = .ok (.getfield 7, 3) := dk_180 0 7 (dk_at dksX6_mending_2 0 rfl rfl)
theorem dX6_mending_49 : decode cX6_mending 49 = .ok (.iload_n 1, 1) := dk_27 (dk_at dksX6_mending_2 3 rfl rfl)
theorem dX6_mending_50 : decode cX6_mending 50 = .ok (.iaload, 1) := dk_46 (dk_at dksX6_mending_2 4 rfl rfl)
theorem dX6_mending_51 : decode cX6_mending 51 = .ok (.ishl, 1) := dk_120 (dk_at dksX6_mending_2 5 rfl rfl)
theorem dX6_mending_52 : decode cX6_mending 52 = .ok (.if_icmp .ge 26, 3) := dk_162 0 26 (dk_at dksX6_mending_2 6 rfl rfl)
theorem dX6_mending_55 : decode cX6_mending 55 = .ok (.aload_n 0, 1) := dk_42 (dk_at dksX6_mending_2 9 rfl rfl)
theorem dX6_mending_56 : decode cX6_mending 56 = .ok (.getfield 152, 3) := dk_180 0 152 (dk_at dksX6_mending_2 10 rfl rfl)
theorem dX6_mending_59 : decode cX6_mending 59 = .ok (.iconst 0, 1) := dk_3 (dk_at dksX6_mending_2 13 rfl rfl)
theorem dX6_mending_60 : decode cX6_mending 60 = .ok (.dup2, 1) := dk_92 (dk_at dksX6_mending_2 14 rfl rfl)
theorem dX6_mending_61 : decode cX6_mending 61 = .ok (.iaload, 1) := dk_46 (dk_at dksX6_mending_2 15 rfl rfl)
theorem dX6_mending_62 : decode cX6_mending 62 = .ok (.iconst 1, 1) := dk_4 (dk_at dksX6_mending_2 16 rfl rfl)
theorem dX6_mending_63 : decode cX6_mending 63 = .ok (.aload_n 0, 1) := dk_42 (dk_at dksX6_mending_2 17 rfl rfl)
theorem dX6_mending_64 : decode cX6_mending 64 = .ok (.iload_n 1, 1) := dk_27 (dk_at dksX6_mending_2 18 rfl rfl)
theorem dX6_mending_65 : decode cX6_mending 65 = .ok (.iload_n 2, 1) := dk_28 (dk_at dksX6_mending_2 19 rfl rfl)
theorem dX6_mending_66 : decode cX6_mending 66 = .ok (.invokevirtual 452, 3) := dk_182 1 196 (dk_at dksX6_mending_2 20 rfl rfl)
theorem dX6_mending_69 : decode cX6_mending 69 = .ok (.ishl, 1) := dk_120 (dk_at dksX6_mending_2 23 rfl rfl)
theorem dX6_mending_70 : decode cX6_mending 70 = .ok (.ior, 1) := dk_128 (dk_at dksX6_mending_3 0 rfl rfl)
theorem dX6_mending_71 : decode cX6_mending 71 = .ok (.iastore, 1) := dk_79 (dk_at dksX6_mending_3 1 rfl rfl)
theorem dX6_mending_72 : decode cX6_mending 72 = .ok (.iinc 2 1, 3) := dk_132 2 1 (dk_at dksX6_mending_3 2 rfl rfl)
theorem dX6_mending_75 : decode cX6_mending 75 = .ok (.goto (-32), 3) := dk_167 255 224 (dk_at dksX6_mending_3 5 rfl rfl)
theorem dX6_mending_78 : decode cX6_mending 78 = .ok (.iconst 0, 1) := dk_3 (dk_at dksX6_mending_3 8 rfl rfl)
theorem dX6_mending_79 : decode cX6_mending 79 = .ok (.istore_n 2, 1) := dk_61 (dk_at dksX6_mending_3 9 rfl rfl)
theorem dX6_mending_80 : decode cX6_mending 80 = .ok (.iload_n 2, 1) := dk_28 (dk_at dksX6_mending_3 10 rfl rfl)
theorem dX6_mending_81 : decode cX6_mending 81 = .ok (.bipush 11, 2) := dk_16 11 (dk_at dksX6_mending_3 11 rfl rfl)
theorem dX6_mending_83 : decode cX6_mending 83 = .ok (.if_icmp .ge 25, 3) := dk_162 0 25 (dk_at dksX6_mending_3 13 rfl rfl)
theorem dX6_mending_86 : decode cX6_mending 86 = .ok (.aload_n 0, 1) := dk_42 (dk_at dksX6_mending_3 16 rfl rfl)
theorem dX6_mending_87 : decode cX6_mending 87 = .ok (.aload_n 0, 1) := dk_42 (dk_at dksX6_mending_3 17 rfl rfl)
theorem dX6_mending_88 : decode cX6_mending 88 = .ok (.getfield 7, 3) := dk_180 0 7 (dk_at dksX6_mending_3 18 rfl rfl)
theorem dX6_mending_91 : decode cX6_mending 91 = .ok (.iload_n 1, 1) := dk_27 (dk_at dksX6_mending_3 21 rfl rfl)
theorem dX6_mending_92 : decode cX6_mending 92 = .ok (.iaload, 1) := dk_46 (dk_at dksX6_mending_3 22 rfl rfl)
theorem dX6_mending_93 : decode cX6_mending 93 = .ok (.iload_n 2, 1) := dk_28 (dk_at dksX6_mending_3 23 rfl rfl)
theorem dX6_mending_94 : decode cX6_mending 94 = .ok (.invokevirtual 464, 3) := dk_182 1 208 (dk_at dksX6_mending_4 0 rfl rfl)
theorem dX6_mending_97 : decode cX6_mending 97 = .ok (.ifCond .eq 5, 3) := dk_153 0 5 (dk_at dksX6_mending_4 3 rfl rfl)
theorem dX6_mending_100 : decode cX6_mending 100 = .ok (.iload_n 2, 1) := dk_28 (dk_at dksX6_mending_4 6 rfl rfl)
theorem dX6_mending_101 : decode cX6_mending 101 = .ok (.ireturn, 1) := dk_172 (dk_at dksX6_mending_4 7 rfl rfl)
theorem dX6_mending_102 : decode cX6_mending 102 = .ok (.iinc 2 1, 3) := dk_132 2 1 (dk_at dksX6_mending_4 8 rfl rfl)
theorem dX6_mending_105 : decode cX6_mending 105 = .ok (.goto (-25), 3) := dk_167 255 231 (dk_at dksX6_mending_4 11 rfl rfl)
theorem dX6_mending_108 : decode cX6_mending 108 = .ok (.iconst (-1), 1) := dk_2 (dk_at dksX6_mending_4 14 rfl rfl)
theorem dX6_mending_109 : decode cX6_mending 109 = .ok (.ireturn, 1) := dk_172 (dk_at dksX6_mending_4 15 rfl rfl)
abbrev cX6_mends : ByteArray := prog_14_method_115_code
def yX6_mends : MethodName := ⟨RX6, "mends", "(II)Z"⟩
def dkwX6_mends_4 : List UInt8 := [180, 0, 149, 29, 2, 79, 167, 255, 164, 3, 172]
abbrev dktX6_mends_4 : List UInt8 := dkwX6_mends_4 ++ []
def dkwX6_mends_3 : List UInt8 := [4, 96, 42, 180, 0, 152, 29, 46, 27, 42, 180, 0, 149, 29, 46, 184, 1, 205, 79, 132, 3, 1, 42]
abbrev dktX6_mends_3 : List UInt8 := dkwX6_mends_3 ++ dktX6_mends_4
def dkwX6_mends_2 : List UInt8 := [79, 42, 180, 0, 149, 29, 46, 27, 5, 100, 164, 0, 9, 132, 3, 255, 167, 255, 201, 42, 180, 0, 152, 29]
abbrev dktX6_mends_2 : List UInt8 := dkwX6_mends_2 ++ dktX6_mends_3
def dkwX6_mends_1 : List UInt8 := [27, 184, 1, 202, 153, 0, 5, 4, 172, 132, 3, 255, 167, 255, 229, 42, 180, 0, 149, 29, 92, 46, 4, 96]
abbrev dktX6_mends_1 : List UInt8 := dkwX6_mends_1 ++ dktX6_mends_2
def dkwX6_mends_0 : List UInt8 := [3, 62, 42, 180, 0, 149, 3, 2, 79, 29, 155, 0, 94, 29, 28, 160, 0, 24, 42, 180, 0, 152, 29, 46]
abbrev dktX6_mends_0 : List UInt8 := dkwX6_mends_0 ++ dktX6_mends_1
theorem dksX6_mends_0 : cX6_mends.data.toList.drop 0 = dktX6_mends_0 := by decide +kernel
theorem dksX6_mends_1 : cX6_mends.data.toList.drop 24 = dktX6_mends_1 := dk_seg dksX6_mends_0 24 rfl rfl
theorem dksX6_mends_2 : cX6_mends.data.toList.drop 48 = dktX6_mends_2 := dk_seg dksX6_mends_1 24 rfl rfl
theorem dksX6_mends_3 : cX6_mends.data.toList.drop 72 = dktX6_mends_3 := dk_seg dksX6_mends_2 24 rfl rfl
theorem dksX6_mends_4 : cX6_mends.data.toList.drop 95 = dktX6_mends_4 := dk_seg dksX6_mends_3 23 rfl rfl
theorem dX6_mends_0 : decode cX6_mends 0 = .ok (.iconst 0, 1) := dk_3 (dk_at dksX6_mends_0 0 rfl rfl)
theorem dX6_mends_1 : decode cX6_mends 1 = .ok (.istore_n 3, 1) := dk_62 (dk_at dksX6_mends_0 1 rfl rfl)
theorem dX6_mends_2 : decode cX6_mends 2 = .ok (.aload_n 0, 1) := dk_42 (dk_at dksX6_mends_0 2 rfl rfl)
theorem dX6_mends_3 : decode cX6_mends 3 = .ok (.getfield 149, 3) := dk_180 0 149 (dk_at dksX6_mends_0 3 rfl rfl)
theorem dX6_mends_6 : decode cX6_mends 6 = .ok (.iconst 0, 1) := dk_3 (dk_at dksX6_mends_0 6 rfl rfl)
theorem dX6_mends_7 : decode cX6_mends 7 = .ok (.iconst (-1), 1) := dk_2 (dk_at dksX6_mends_0 7 rfl rfl)
theorem dX6_mends_8 : decode cX6_mends 8 = .ok (.iastore, 1) := dk_79 (dk_at dksX6_mends_0 8 rfl rfl)
theorem dX6_mends_9 : decode cX6_mends 9 = .ok (.iload_n 3, 1) := dk_29 (dk_at dksX6_mends_0 9 rfl rfl)
theorem dX6_mends_10 : decode cX6_mends 10 = .ok (.ifCond .lt 94, 3) := dk_155 0 94 (dk_at dksX6_mends_0 10 rfl rfl)
theorem dX6_mends_13 : decode cX6_mends 13 = .ok (.iload_n 3, 1) := dk_29 (dk_at dksX6_mends_0 13 rfl rfl)
theorem dX6_mends_14 : decode cX6_mends 14 = .ok (.iload_n 2, 1) := dk_28 (dk_at dksX6_mends_0 14 rfl rfl)
theorem dX6_mends_15 : decode cX6_mends 15 = .ok (.if_icmp .ne 24, 3) := dk_160 0 24 (dk_at dksX6_mends_0 15 rfl rfl)
theorem dX6_mends_18 : decode cX6_mends 18 = .ok (.aload_n 0, 1) := dk_42 (dk_at dksX6_mends_0 18 rfl rfl)
theorem dX6_mends_19 : decode cX6_mends 19 = .ok (.getfield 152, 3) := dk_180 0 152 (dk_at dksX6_mends_0 19 rfl rfl)
theorem dX6_mends_22 : decode cX6_mends 22 = .ok (.iload_n 3, 1) := dk_29 (dk_at dksX6_mends_0 22 rfl rfl)
theorem dX6_mends_23 : decode cX6_mends 23 = .ok (.iaload, 1) := dk_46 (dk_at dksX6_mends_0 23 rfl rfl)
theorem dX6_mends_24 : decode cX6_mends 24 = .ok (.iload_n 1, 1) := dk_27 (dk_at dksX6_mends_1 0 rfl rfl)
theorem dX6_mends_25 : decode cX6_mends 25 = .ok (.invokestatic 458, 3) := dk_184 1 202 (dk_at dksX6_mends_1 1 rfl rfl)
theorem dX6_mends_28 : decode cX6_mends 28 = .ok (.ifCond .eq 5, 3) := dk_153 0 5 (dk_at dksX6_mends_1 4 rfl rfl)
theorem dX6_mends_31 : decode cX6_mends 31 = .ok (.iconst 1, 1) := dk_4 (dk_at dksX6_mends_1 7 rfl rfl)
theorem dX6_mends_32 : decode cX6_mends 32 = .ok (.ireturn, 1) := dk_172 (dk_at dksX6_mends_1 8 rfl rfl)
theorem dX6_mends_33 : decode cX6_mends 33 = .ok (.iinc 3 (-1), 3) := dk_132 3 255 (dk_at dksX6_mends_1 9 rfl rfl)
theorem dX6_mends_36 : decode cX6_mends 36 = .ok (.goto (-27), 3) := dk_167 255 229 (dk_at dksX6_mends_1 12 rfl rfl)
theorem dX6_mends_39 : decode cX6_mends 39 = .ok (.aload_n 0, 1) := dk_42 (dk_at dksX6_mends_1 15 rfl rfl)
theorem dX6_mends_40 : decode cX6_mends 40 = .ok (.getfield 149, 3) := dk_180 0 149 (dk_at dksX6_mends_1 16 rfl rfl)
theorem dX6_mends_43 : decode cX6_mends 43 = .ok (.iload_n 3, 1) := dk_29 (dk_at dksX6_mends_1 19 rfl rfl)
theorem dX6_mends_44 : decode cX6_mends 44 = .ok (.dup2, 1) := dk_92 (dk_at dksX6_mends_1 20 rfl rfl)
theorem dX6_mends_45 : decode cX6_mends 45 = .ok (.iaload, 1) := dk_46 (dk_at dksX6_mends_1 21 rfl rfl)
theorem dX6_mends_46 : decode cX6_mends 46 = .ok (.iconst 1, 1) := dk_4 (dk_at dksX6_mends_1 22 rfl rfl)
theorem dX6_mends_47 : decode cX6_mends 47 = .ok (.iadd, 1) := dk_96 (dk_at dksX6_mends_1 23 rfl rfl)
theorem dX6_mends_48 : decode cX6_mends 48 = .ok (.iastore, 1) := dk_79 (dk_at dksX6_mends_2 0 rfl rfl)
theorem dX6_mends_49 : decode cX6_mends 49 = .ok (.aload_n 0, 1) := dk_42 (dk_at dksX6_mends_2 1 rfl rfl)
theorem dX6_mends_50 : decode cX6_mends 50 = .ok (.getfield 149, 3) := dk_180 0 149 (dk_at dksX6_mends_2 2 rfl rfl)
theorem dX6_mends_53 : decode cX6_mends 53 = .ok (.iload_n 3, 1) := dk_29 (dk_at dksX6_mends_2 5 rfl rfl)
theorem dX6_mends_54 : decode cX6_mends 54 = .ok (.iaload, 1) := dk_46 (dk_at dksX6_mends_2 6 rfl rfl)
theorem dX6_mends_55 : decode cX6_mends 55 = .ok (.iload_n 1, 1) := dk_27 (dk_at dksX6_mends_2 7 rfl rfl)
theorem dX6_mends_56 : decode cX6_mends 56 = .ok (.iconst 2, 1) := dk_5 (dk_at dksX6_mends_2 8 rfl rfl)
theorem dX6_mends_57 : decode cX6_mends 57 = .ok (.isub, 1) := dk_100 (dk_at dksX6_mends_2 9 rfl rfl)
theorem dX6_mends_58 : decode cX6_mends 58 = .ok (.if_icmp .le 9, 3) := dk_164 0 9 (dk_at dksX6_mends_2 10 rfl rfl)
theorem dX6_mends_61 : decode cX6_mends 61 = .ok (.iinc 3 (-1), 3) := dk_132 3 255 (dk_at dksX6_mends_2 13 rfl rfl)
theorem dX6_mends_64 : decode cX6_mends 64 = .ok (.goto (-55), 3) := dk_167 255 201 (dk_at dksX6_mends_2 16 rfl rfl)
theorem dX6_mends_67 : decode cX6_mends 67 = .ok (.aload_n 0, 1) := dk_42 (dk_at dksX6_mends_2 19 rfl rfl)
theorem dX6_mends_68 : decode cX6_mends 68 = .ok (.getfield 152, 3) := dk_180 0 152 (dk_at dksX6_mends_2 20 rfl rfl)
theorem dX6_mends_71 : decode cX6_mends 71 = .ok (.iload_n 3, 1) := dk_29 (dk_at dksX6_mends_2 23 rfl rfl)
theorem dX6_mends_72 : decode cX6_mends 72 = .ok (.iconst 1, 1) := dk_4 (dk_at dksX6_mends_3 0 rfl rfl)
theorem dX6_mends_73 : decode cX6_mends 73 = .ok (.iadd, 1) := dk_96 (dk_at dksX6_mends_3 1 rfl rfl)
theorem dX6_mends_74 : decode cX6_mends 74 = .ok (.aload_n 0, 1) := dk_42 (dk_at dksX6_mends_3 2 rfl rfl)
theorem dX6_mends_75 : decode cX6_mends 75 = .ok (.getfield 152, 3) := dk_180 0 152 (dk_at dksX6_mends_3 3 rfl rfl)
theorem dX6_mends_78 : decode cX6_mends 78 = .ok (.iload_n 3, 1) := dk_29 (dk_at dksX6_mends_3 6 rfl rfl)
theorem dX6_mends_79 : decode cX6_mends 79 = .ok (.iaload, 1) := dk_46 (dk_at dksX6_mends_3 7 rfl rfl)
theorem dX6_mends_80 : decode cX6_mends 80 = .ok (.iload_n 1, 1) := dk_27 (dk_at dksX6_mends_3 8 rfl rfl)
theorem dX6_mends_81 : decode cX6_mends 81 = .ok (.aload_n 0, 1) := dk_42 (dk_at dksX6_mends_3 9 rfl rfl)
theorem dX6_mends_82 : decode cX6_mends 82 = .ok (.getfield 149, 3) := dk_180 0 149 (dk_at dksX6_mends_3 10 rfl rfl)
theorem dX6_mends_85 : decode cX6_mends 85 = .ok (.iload_n 3, 1) := dk_29 (dk_at dksX6_mends_3 13 rfl rfl)
theorem dX6_mends_86 : decode cX6_mends 86 = .ok (.iaload, 1) := dk_46 (dk_at dksX6_mends_3 14 rfl rfl)
theorem dX6_mends_87 : decode cX6_mends 87 = .ok (.invokestatic 461, 3) := dk_184 1 205 (dk_at dksX6_mends_3 15 rfl rfl)
theorem dX6_mends_90 : decode cX6_mends 90 = .ok (.iastore, 1) := dk_79 (dk_at dksX6_mends_3 18 rfl rfl)
theorem dX6_mends_91 : decode cX6_mends 91 = .ok (.iinc 3 1, 3) := dk_132 3 1 (dk_at dksX6_mends_3 19 rfl rfl)
theorem dX6_mends_94 : decode cX6_mends 94 = .ok (.aload_n 0, 1) := dk_42 (dk_at dksX6_mends_3 22 rfl rfl)
theorem dX6_mends_95 : decode cX6_mends 95 = .ok (.getfield 149, 3) := dk_180 0 149 (dk_at dksX6_mends_4 0 rfl rfl)
theorem dX6_mends_98 : decode cX6_mends 98 = .ok (.iload_n 3, 1) := dk_29 (dk_at dksX6_mends_4 3 rfl rfl)
theorem dX6_mends_99 : decode cX6_mends 99 = .ok (.iconst (-1), 1) := dk_2 (dk_at dksX6_mends_4 4 rfl rfl)
theorem dX6_mends_100 : decode cX6_mends 100 = .ok (.iastore, 1) := dk_79 (dk_at dksX6_mends_4 5 rfl rfl)
theorem dX6_mends_101 : decode cX6_mends 101 = .ok (.goto (-92), 3) := dk_167 255 164 (dk_at dksX6_mends_4 6 rfl rfl)
theorem dX6_mends_104 : decode cX6_mends 104 = .ok (.iconst 0, 1) := dk_3 (dk_at dksX6_mends_4 9 rfl rfl)
theorem dX6_mends_105 : decode cX6_mends 105 = .ok (.ireturn, 1) := dk_172 (dk_at dksX6_mends_4 10 rfl rfl)
abbrev cX6_isAllSorted : ByteArray := prog_14_method_114_code
def yX6_isAllSorted : MethodName := ⟨RX6, "isAllSorted", "(II)Z"⟩
def dkwX6_isAllSorted_1 : List UInt8 := [154, 0, 5, 3, 172, 132, 2, 1, 167, 255, 227, 4, 172]
abbrev dktX6_isAllSorted_1 : List UInt8 := dkwX6_isAllSorted_1 ++ []
def dkwX6_isAllSorted_0 : List UInt8 := [3, 61, 28, 4, 27, 120, 162, 0, 28, 26, 28, 122, 4, 126, 4, 160, 0, 13, 27, 28, 184, 1, 199]
abbrev dktX6_isAllSorted_0 : List UInt8 := dkwX6_isAllSorted_0 ++ dktX6_isAllSorted_1
theorem dksX6_isAllSorted_0 : cX6_isAllSorted.data.toList.drop 0 = dktX6_isAllSorted_0 := by decide +kernel
theorem dksX6_isAllSorted_1 : cX6_isAllSorted.data.toList.drop 23 = dktX6_isAllSorted_1 := dk_seg dksX6_isAllSorted_0 23 rfl rfl
theorem dX6_isAllSorted_0 : decode cX6_isAllSorted 0 = .ok (.iconst 0, 1) := dk_3 (dk_at dksX6_isAllSorted_0 0 rfl rfl)
theorem dX6_isAllSorted_1 : decode cX6_isAllSorted 1 = .ok (.istore_n 2, 1) := dk_61 (dk_at dksX6_isAllSorted_0 1 rfl rfl)
theorem dX6_isAllSorted_2 : decode cX6_isAllSorted 2 = .ok (.iload_n 2, 1) := dk_28 (dk_at dksX6_isAllSorted_0 2 rfl rfl)
theorem dX6_isAllSorted_3 : decode cX6_isAllSorted 3 = .ok (.iconst 1, 1) := dk_4 (dk_at dksX6_isAllSorted_0 3 rfl rfl)
theorem dX6_isAllSorted_4 : decode cX6_isAllSorted 4 = .ok (.iload_n 1, 1) := dk_27 (dk_at dksX6_isAllSorted_0 4 rfl rfl)
theorem dX6_isAllSorted_5 : decode cX6_isAllSorted 5 = .ok (.ishl, 1) := dk_120 (dk_at dksX6_isAllSorted_0 5 rfl rfl)
theorem dX6_isAllSorted_6 : decode cX6_isAllSorted 6 = .ok (.if_icmp .ge 28, 3) := dk_162 0 28 (dk_at dksX6_isAllSorted_0 6 rfl rfl)
theorem dX6_isAllSorted_9 : decode cX6_isAllSorted 9 = .ok (.iload_n 0, 1) := dk_26 (dk_at dksX6_isAllSorted_0 9 rfl rfl)
theorem dX6_isAllSorted_10 : decode cX6_isAllSorted 10 = .ok (.iload_n 2, 1) := dk_28 (dk_at dksX6_isAllSorted_0 10 rfl rfl)
theorem dX6_isAllSorted_11 : decode cX6_isAllSorted 11 = .ok (.ishr, 1) := dk_122 (dk_at dksX6_isAllSorted_0 11 rfl rfl)
theorem dX6_isAllSorted_12 : decode cX6_isAllSorted 12 = .ok (.iconst 1, 1) := dk_4 (dk_at dksX6_isAllSorted_0 12 rfl rfl)
theorem dX6_isAllSorted_13 : decode cX6_isAllSorted 13 = .ok (.iand, 1) := dk_126 (dk_at dksX6_isAllSorted_0 13 rfl rfl)
theorem dX6_isAllSorted_14 : decode cX6_isAllSorted 14 = .ok (.iconst 1, 1) := dk_4 (dk_at dksX6_isAllSorted_0 14 rfl rfl)
theorem dX6_isAllSorted_15 : decode cX6_isAllSorted 15 = .ok (.if_icmp .ne 13, 3) := dk_160 0 13 (dk_at dksX6_isAllSorted_0 15 rfl rfl)
theorem dX6_isAllSorted_18 : decode cX6_isAllSorted 18 = .ok (.iload_n 1, 1) := dk_27 (dk_at dksX6_isAllSorted_0 18 rfl rfl)
theorem dX6_isAllSorted_19 : decode cX6_isAllSorted 19 = .ok (.iload_n 2, 1) := dk_28 (dk_at dksX6_isAllSorted_0 19 rfl rfl)
theorem dX6_isAllSorted_20 : decode cX6_isAllSorted 20 = .ok (.invokestatic 455, 3) := dk_184 1 199 (dk_at dksX6_isAllSorted_0 20 rfl rfl)
theorem dX6_isAllSorted_23 : decode cX6_isAllSorted 23 = .ok (.ifCond .ne 5, 3) := dk_154 0 5 (dk_at dksX6_isAllSorted_1 0 rfl rfl)
theorem dX6_isAllSorted_26 : decode cX6_isAllSorted 26 = .ok (.iconst 0, 1) := dk_3 (dk_at dksX6_isAllSorted_1 3 rfl rfl)
theorem dX6_isAllSorted_27 : decode cX6_isAllSorted 27 = .ok (.ireturn, 1) := dk_172 (dk_at dksX6_isAllSorted_1 4 rfl rfl)
theorem dX6_isAllSorted_28 : decode cX6_isAllSorted 28 = .ok (.iinc 2 1, 3) := dk_132 2 1 (dk_at dksX6_isAllSorted_1 5 rfl rfl)
theorem dX6_isAllSorted_31 : decode cX6_isAllSorted 31 = .ok (.goto (-29), 3) := dk_167 255 227 (dk_at dksX6_isAllSorted_1 8 rfl rfl)
theorem dX6_isAllSorted_34 : decode cX6_isAllSorted 34 = .ok (.iconst 1, 1) := dk_4 (dk_at dksX6_isAllSorted_1 11 rfl rfl)
theorem dX6_isAllSorted_35 : decode cX6_isAllSorted 35 = .ok (.ireturn, 1) := dk_172 (dk_at dksX6_isAllSorted_1 12 rfl rfl)
abbrev cX6_gated : ByteArray := prog_14_method_113_code
def yX6_gated : MethodName := ⟨RX6, "gated", "(III)I"⟩
def dkwX6_gated_1 : List UInt8 := [4, 21, 4, 4, 28, 184, 1, 193, 120, 128, 62, 132, 4, 1, 167, 255, 223, 29, 172]
abbrev dktX6_gated_1 : List UInt8 := dkwX6_gated_1 ++ []
def dkwX6_gated_0 : List UInt8 := [3, 62, 3, 54, 4, 21, 4, 4, 27, 120, 162, 0, 31, 26, 21, 4, 122, 4, 126, 4, 160, 0, 15, 29]
abbrev dktX6_gated_0 : List UInt8 := dkwX6_gated_0 ++ dktX6_gated_1
theorem dksX6_gated_0 : cX6_gated.data.toList.drop 0 = dktX6_gated_0 := by decide +kernel
theorem dksX6_gated_1 : cX6_gated.data.toList.drop 24 = dktX6_gated_1 := dk_seg dksX6_gated_0 24 rfl rfl
theorem dX6_gated_0 : decode cX6_gated 0 = .ok (.iconst 0, 1) := dk_3 (dk_at dksX6_gated_0 0 rfl rfl)
theorem dX6_gated_1 : decode cX6_gated 1 = .ok (.istore_n 3, 1) := dk_62 (dk_at dksX6_gated_0 1 rfl rfl)
theorem dX6_gated_2 : decode cX6_gated 2 = .ok (.iconst 0, 1) := dk_3 (dk_at dksX6_gated_0 2 rfl rfl)
theorem dX6_gated_3 : decode cX6_gated 3 = .ok (.istore 4, 2) := dk_54 4 (dk_at dksX6_gated_0 3 rfl rfl)
theorem dX6_gated_5 : decode cX6_gated 5 = .ok (.iload 4, 2) := dk_21 4 (dk_at dksX6_gated_0 5 rfl rfl)
theorem dX6_gated_7 : decode cX6_gated 7 = .ok (.iconst 1, 1) := dk_4 (dk_at dksX6_gated_0 7 rfl rfl)
theorem dX6_gated_8 : decode cX6_gated 8 = .ok (.iload_n 1, 1) := dk_27 (dk_at dksX6_gated_0 8 rfl rfl)
theorem dX6_gated_9 : decode cX6_gated 9 = .ok (.ishl, 1) := dk_120 (dk_at dksX6_gated_0 9 rfl rfl)
theorem dX6_gated_10 : decode cX6_gated 10 = .ok (.if_icmp .ge 31, 3) := dk_162 0 31 (dk_at dksX6_gated_0 10 rfl rfl)
theorem dX6_gated_13 : decode cX6_gated 13 = .ok (.iload_n 0, 1) := dk_26 (dk_at dksX6_gated_0 13 rfl rfl)
theorem dX6_gated_14 : decode cX6_gated 14 = .ok (.iload 4, 2) := dk_21 4 (dk_at dksX6_gated_0 14 rfl rfl)
theorem dX6_gated_16 : decode cX6_gated 16 = .ok (.ishr, 1) := dk_122 (dk_at dksX6_gated_0 16 rfl rfl)
theorem dX6_gated_17 : decode cX6_gated 17 = .ok (.iconst 1, 1) := dk_4 (dk_at dksX6_gated_0 17 rfl rfl)
theorem dX6_gated_18 : decode cX6_gated 18 = .ok (.iand, 1) := dk_126 (dk_at dksX6_gated_0 18 rfl rfl)
theorem dX6_gated_19 : decode cX6_gated 19 = .ok (.iconst 1, 1) := dk_4 (dk_at dksX6_gated_0 19 rfl rfl)
theorem dX6_gated_20 : decode cX6_gated 20 = .ok (.if_icmp .ne 15, 3) := dk_160 0 15 (dk_at dksX6_gated_0 20 rfl rfl)
theorem dX6_gated_23 : decode cX6_gated 23 = .ok (.iload_n 3, 1) := dk_29 (dk_at dksX6_gated_0 23 rfl rfl)
theorem dX6_gated_24 : decode cX6_gated 24 = .ok (.iconst 1, 1) := dk_4 (dk_at dksX6_gated_1 0 rfl rfl)
theorem dX6_gated_25 : decode cX6_gated 25 = .ok (.iload 4, 2) := dk_21 4 (dk_at dksX6_gated_1 1 rfl rfl)
theorem dX6_gated_27 : decode cX6_gated 27 = .ok (.iconst 1, 1) := dk_4 (dk_at dksX6_gated_1 3 rfl rfl)
theorem dX6_gated_28 : decode cX6_gated 28 = .ok (.iload_n 2, 1) := dk_28 (dk_at dksX6_gated_1 4 rfl rfl)
theorem dX6_gated_29 : decode cX6_gated 29 = .ok (.invokestatic 449, 3) := dk_184 1 193 (dk_at dksX6_gated_1 5 rfl rfl)
theorem dX6_gated_32 : decode cX6_gated 32 = .ok (.ishl, 1) := dk_120 (dk_at dksX6_gated_1 8 rfl rfl)
theorem dX6_gated_33 : decode cX6_gated 33 = .ok (.ior, 1) := dk_128 (dk_at dksX6_gated_1 9 rfl rfl)
theorem dX6_gated_34 : decode cX6_gated 34 = .ok (.istore_n 3, 1) := dk_62 (dk_at dksX6_gated_1 10 rfl rfl)
theorem dX6_gated_35 : decode cX6_gated 35 = .ok (.iinc 4 1, 3) := dk_132 4 1 (dk_at dksX6_gated_1 11 rfl rfl)
theorem dX6_gated_38 : decode cX6_gated 38 = .ok (.goto (-33), 3) := dk_167 255 223 (dk_at dksX6_gated_1 14 rfl rfl)
theorem dX6_gated_41 : decode cX6_gated 41 = .ok (.iload_n 3, 1) := dk_29 (dk_at dksX6_gated_1 17 rfl rfl)
theorem dX6_gated_42 : decode cX6_gated 42 = .ok (.ireturn, 1) := dk_172 (dk_at dksX6_gated_1 18 rfl rfl)
abbrev cX6_mendAt : ByteArray := prog_14_method_118_code
def yX6_mendAt : MethodName := ⟨RX6, "mendAt", "(II)I"⟩
def dkwX6_mendAt_1 : List UInt8 := [2, 172]
abbrev dktX6_mendAt_1 : List UInt8 := dkwX6_mendAt_1 ++ []
def dkwX6_mendAt_0 : List UInt8 := [42, 27, 182, 1, 211, 62, 28, 155, 0, 17, 28, 29, 162, 0, 12, 42, 180, 0, 149, 28, 46, 167, 0, 4]
abbrev dktX6_mendAt_0 : List UInt8 := dkwX6_mendAt_0 ++ dktX6_mendAt_1
theorem dksX6_mendAt_0 : cX6_mendAt.data.toList.drop 0 = dktX6_mendAt_0 := by decide +kernel
theorem dksX6_mendAt_1 : cX6_mendAt.data.toList.drop 24 = dktX6_mendAt_1 := dk_seg dksX6_mendAt_0 24 rfl rfl
theorem dX6_mendAt_0 : decode cX6_mendAt 0 = .ok (.aload_n 0, 1) := dk_42 (dk_at dksX6_mendAt_0 0 rfl rfl)
theorem dX6_mendAt_1 : decode cX6_mendAt 1 = .ok (.iload_n 1, 1) := dk_27 (dk_at dksX6_mendAt_0 1 rfl rfl)
theorem dX6_mendAt_2 : decode cX6_mendAt 2 = .ok (.invokevirtual 467, 3) := dk_182 1 211 (dk_at dksX6_mendAt_0 2 rfl rfl)
theorem dX6_mendAt_5 : decode cX6_mendAt 5 = .ok (.istore_n 3, 1) := dk_62 (dk_at dksX6_mendAt_0 5 rfl rfl)
theorem dX6_mendAt_6 : decode cX6_mendAt 6 = .ok (.iload_n 2, 1) := dk_28 (dk_at dksX6_mendAt_0 6 rfl rfl)
theorem dX6_mendAt_7 : decode cX6_mendAt 7 = .ok (.ifCond .lt 17, 3) := dk_155 0 17 (dk_at dksX6_mendAt_0 7 rfl rfl)
theorem dX6_mendAt_10 : decode cX6_mendAt 10 = .ok (.iload_n 2, 1) := dk_28 (dk_at dksX6_mendAt_0 10 rfl rfl)
theorem dX6_mendAt_11 : decode cX6_mendAt 11 = .ok (.iload_n 3, 1) := dk_29 (dk_at dksX6_mendAt_0 11 rfl rfl)
theorem dX6_mendAt_12 : decode cX6_mendAt 12 = .ok (.if_icmp .ge 12, 3) := dk_162 0 12 (dk_at dksX6_mendAt_0 12 rfl rfl)
theorem dX6_mendAt_15 : decode cX6_mendAt 15 = .ok (.aload_n 0, 1) := dk_42 (dk_at dksX6_mendAt_0 15 rfl rfl)
theorem dX6_mendAt_16 : decode cX6_mendAt 16 = .ok (.getfield 149, 3) := dk_180 0 149 (dk_at dksX6_mendAt_0 16 rfl rfl)
theorem dX6_mendAt_19 : decode cX6_mendAt 19 = .ok (.iload_n 2, 1) := dk_28 (dk_at dksX6_mendAt_0 19 rfl rfl)
theorem dX6_mendAt_20 : decode cX6_mendAt 20 = .ok (.iaload, 1) := dk_46 (dk_at dksX6_mendAt_0 20 rfl rfl)
theorem dX6_mendAt_21 : decode cX6_mendAt 21 = .ok (.goto 4, 3) := dk_167 0 4 (dk_at dksX6_mendAt_0 21 rfl rfl)
theorem dX6_mendAt_24 : decode cX6_mendAt 24 = .ok (.iconst (-1), 1) := dk_2 (dk_at dksX6_mendAt_1 0 rfl rfl)
theorem dX6_mendAt_25 : decode cX6_mendAt 25 = .ok (.ireturn, 1) := dk_172 (dk_at dksX6_mendAt_1 1 rfl rfl)
abbrev cX6_unlike : ByteArray := prog_14_method_119_code
def yX6_unlike : MethodName := ⟨RX6, "unlike", "(II)I"⟩
def dkwX6_unlike_4 : List UInt8 := [182, 1, 117, 159, 0, 7, 4, 167, 0, 4, 3, 96, 62, 132, 4, 1, 167, 255, 215, 29, 172]
abbrev dktX6_unlike_4 : List UInt8 := dkwX6_unlike_4 ++ []
def dkwX6_unlike_3 : List UInt8 := [180, 1, 84, 162, 0, 38, 29, 42, 27, 21, 4, 3, 2, 182, 1, 117, 42, 28, 21, 4, 3, 2]
abbrev dktX6_unlike_3 : List UInt8 := dkwX6_unlike_3 ++ dktX6_unlike_4
def dkwX6_unlike_2 : List UInt8 := [159, 0, 6, 16, 254, 172, 42, 42, 180, 0, 7, 27, 46, 182, 1, 107, 3, 62, 3, 54, 4, 21, 4, 42]
abbrev dktX6_unlike_2 : List UInt8 := dkwX6_unlike_2 ++ dktX6_unlike_3
def dkwX6_unlike_1 : List UInt8 := [157, 0, 26, 42, 28, 182, 1, 54, 157, 0, 18, 42, 180, 0, 7, 27, 46, 42, 180, 0, 7, 28, 46]
abbrev dktX6_unlike_1 : List UInt8 := dkwX6_unlike_1 ++ dktX6_unlike_2
def dkwX6_unlike_0 : List UInt8 := [42, 27, 182, 1, 51, 153, 0, 11, 42, 28, 182, 1, 51, 154, 0, 5, 2, 172, 42, 27, 182, 1, 54]
abbrev dktX6_unlike_0 : List UInt8 := dkwX6_unlike_0 ++ dktX6_unlike_1
theorem dksX6_unlike_0 : cX6_unlike.data.toList.drop 0 = dktX6_unlike_0 := by decide +kernel
theorem dksX6_unlike_1 : cX6_unlike.data.toList.drop 23 = dktX6_unlike_1 := dk_seg dksX6_unlike_0 23 rfl rfl
theorem dksX6_unlike_2 : cX6_unlike.data.toList.drop 46 = dktX6_unlike_2 := dk_seg dksX6_unlike_1 23 rfl rfl
theorem dksX6_unlike_3 : cX6_unlike.data.toList.drop 70 = dktX6_unlike_3 := dk_seg dksX6_unlike_2 24 rfl rfl
theorem dksX6_unlike_4 : cX6_unlike.data.toList.drop 92 = dktX6_unlike_4 := dk_seg dksX6_unlike_3 22 rfl rfl
theorem dX6_unlike_0 : decode cX6_unlike 0 = .ok (.aload_n 0, 1) := dk_42 (dk_at dksX6_unlike_0 0 rfl rfl)
theorem dX6_unlike_1 : decode cX6_unlike 1 = .ok (.iload_n 1, 1) := dk_27 (dk_at dksX6_unlike_0 1 rfl rfl)
theorem dX6_unlike_2 : decode cX6_unlike 2 = .ok (.invokevirtual 307, 3) := dk_182 1 51 (dk_at dksX6_unlike_0 2 rfl rfl)
theorem dX6_unlike_5 : decode cX6_unlike 5 = .ok (.ifCond .eq 11, 3) := dk_153 0 11 (dk_at dksX6_unlike_0 5 rfl rfl)
theorem dX6_unlike_8 : decode cX6_unlike 8 = .ok (.aload_n 0, 1) := dk_42 (dk_at dksX6_unlike_0 8 rfl rfl)
theorem dX6_unlike_9 : decode cX6_unlike 9 = .ok (.iload_n 2, 1) := dk_28 (dk_at dksX6_unlike_0 9 rfl rfl)
theorem dX6_unlike_10 : decode cX6_unlike 10 = .ok (.invokevirtual 307, 3) := dk_182 1 51 (dk_at dksX6_unlike_0 10 rfl rfl)
theorem dX6_unlike_13 : decode cX6_unlike 13 = .ok (.ifCond .ne 5, 3) := dk_154 0 5 (dk_at dksX6_unlike_0 13 rfl rfl)
theorem dX6_unlike_16 : decode cX6_unlike 16 = .ok (.iconst (-1), 1) := dk_2 (dk_at dksX6_unlike_0 16 rfl rfl)
theorem dX6_unlike_17 : decode cX6_unlike 17 = .ok (.ireturn, 1) := dk_172 (dk_at dksX6_unlike_0 17 rfl rfl)
theorem dX6_unlike_18 : decode cX6_unlike 18 = .ok (.aload_n 0, 1) := dk_42 (dk_at dksX6_unlike_0 18 rfl rfl)
theorem dX6_unlike_19 : decode cX6_unlike 19 = .ok (.iload_n 1, 1) := dk_27 (dk_at dksX6_unlike_0 19 rfl rfl)
theorem dX6_unlike_20 : decode cX6_unlike 20 = .ok (.invokevirtual 310, 3) := dk_182 1 54 (dk_at dksX6_unlike_0 20 rfl rfl)
theorem dX6_unlike_23 : decode cX6_unlike 23 = .ok (.ifCond .gt 26, 3) := dk_157 0 26 (dk_at dksX6_unlike_1 0 rfl rfl)
theorem dX6_unlike_26 : decode cX6_unlike 26 = .ok (.aload_n 0, 1) := dk_42 (dk_at dksX6_unlike_1 3 rfl rfl)
theorem dX6_unlike_27 : decode cX6_unlike 27 = .ok (.iload_n 2, 1) := dk_28 (dk_at dksX6_unlike_1 4 rfl rfl)
theorem dX6_unlike_28 : decode cX6_unlike 28 = .ok (.invokevirtual 310, 3) := dk_182 1 54 (dk_at dksX6_unlike_1 5 rfl rfl)
theorem dX6_unlike_31 : decode cX6_unlike 31 = .ok (.ifCond .gt 18, 3) := dk_157 0 18 (dk_at dksX6_unlike_1 8 rfl rfl)
theorem dX6_unlike_34 : decode cX6_unlike 34 = .ok (.aload_n 0, 1) := dk_42 (dk_at dksX6_unlike_1 11 rfl rfl)
theorem dX6_unlike_35 : decode cX6_unlike 35 = .ok (.getfield 7, 3) := dk_180 0 7 (dk_at dksX6_unlike_1 12 rfl rfl)
theorem dX6_unlike_38 : decode cX6_unlike 38 = .ok (.iload_n 1, 1) := dk_27 (dk_at dksX6_unlike_1 15 rfl rfl)
theorem dX6_unlike_39 : decode cX6_unlike 39 = .ok (.iaload, 1) := dk_46 (dk_at dksX6_unlike_1 16 rfl rfl)
theorem dX6_unlike_40 : decode cX6_unlike 40 = .ok (.aload_n 0, 1) := dk_42 (dk_at dksX6_unlike_1 17 rfl rfl)
theorem dX6_unlike_41 : decode cX6_unlike 41 = .ok (.getfield 7, 3) := dk_180 0 7 (dk_at dksX6_unlike_1 18 rfl rfl)
theorem dX6_unlike_44 : decode cX6_unlike 44 = .ok (.iload_n 2, 1) := dk_28 (dk_at dksX6_unlike_1 21 rfl rfl)
theorem dX6_unlike_45 : decode cX6_unlike 45 = .ok (.iaload, 1) := dk_46 (dk_at dksX6_unlike_1 22 rfl rfl)
theorem dX6_unlike_46 : decode cX6_unlike 46 = .ok (.if_icmp .eq 6, 3) := dk_159 0 6 (dk_at dksX6_unlike_2 0 rfl rfl)
theorem dX6_unlike_49 : decode cX6_unlike 49 = .ok (.bipush (-2), 2) := dk_16 254 (dk_at dksX6_unlike_2 3 rfl rfl)
theorem dX6_unlike_51 : decode cX6_unlike 51 = .ok (.ireturn, 1) := dk_172 (dk_at dksX6_unlike_2 5 rfl rfl)
theorem dX6_unlike_52 : decode cX6_unlike 52 = .ok (.aload_n 0, 1) := dk_42 (dk_at dksX6_unlike_2 6 rfl rfl)
theorem dX6_unlike_53 : decode cX6_unlike 53 = .ok (.aload_n 0, 1) := dk_42 (dk_at dksX6_unlike_2 7 rfl rfl)
theorem dX6_unlike_54 : decode cX6_unlike 54 = .ok (.getfield 7, 3) := dk_180 0 7 (dk_at dksX6_unlike_2 8 rfl rfl)
theorem dX6_unlike_57 : decode cX6_unlike 57 = .ok (.iload_n 1, 1) := dk_27 (dk_at dksX6_unlike_2 11 rfl rfl)
theorem dX6_unlike_58 : decode cX6_unlike 58 = .ok (.iaload, 1) := dk_46 (dk_at dksX6_unlike_2 12 rfl rfl)
theorem dX6_unlike_59 : decode cX6_unlike 59 = .ok (.invokevirtual 363, 3) := dk_182 1 107 (dk_at dksX6_unlike_2 13 rfl rfl)
theorem dX6_unlike_62 : decode cX6_unlike 62 = .ok (.iconst 0, 1) := dk_3 (dk_at dksX6_unlike_2 16 rfl rfl)
theorem dX6_unlike_63 : decode cX6_unlike 63 = .ok (.istore_n 3, 1) := dk_62 (dk_at dksX6_unlike_2 17 rfl rfl)
theorem dX6_unlike_64 : decode cX6_unlike 64 = .ok (.iconst 0, 1) := dk_3 (dk_at dksX6_unlike_2 18 rfl rfl)
theorem dX6_unlike_65 : decode cX6_unlike 65 = .ok (.istore 4, 2) := dk_54 4 (dk_at dksX6_unlike_2 19 rfl rfl)
theorem dX6_unlike_67 : decode cX6_unlike 67 = .ok (.iload 4, 2) := dk_21 4 (dk_at dksX6_unlike_2 21 rfl rfl)
theorem dX6_unlike_69 : decode cX6_unlike 69 = .ok (.aload_n 0, 1) := dk_42 (dk_at dksX6_unlike_2 23 rfl rfl)
theorem dX6_unlike_70 : decode cX6_unlike 70 = .ok (.getfield 340, 3) := dk_180 1 84 (dk_at dksX6_unlike_3 0 rfl rfl)
theorem dX6_unlike_73 : decode cX6_unlike 73 = .ok (.if_icmp .ge 38, 3) := dk_162 0 38 (dk_at dksX6_unlike_3 3 rfl rfl)
theorem dX6_unlike_76 : decode cX6_unlike 76 = .ok (.iload_n 3, 1) := dk_29 (dk_at dksX6_unlike_3 6 rfl rfl)
theorem dX6_unlike_77 : decode cX6_unlike 77 = .ok (.aload_n 0, 1) := dk_42 (dk_at dksX6_unlike_3 7 rfl rfl)
theorem dX6_unlike_78 : decode cX6_unlike 78 = .ok (.iload_n 1, 1) := dk_27 (dk_at dksX6_unlike_3 8 rfl rfl)
theorem dX6_unlike_79 : decode cX6_unlike 79 = .ok (.iload 4, 2) := dk_21 4 (dk_at dksX6_unlike_3 9 rfl rfl)
theorem dX6_unlike_81 : decode cX6_unlike 81 = .ok (.iconst 0, 1) := dk_3 (dk_at dksX6_unlike_3 11 rfl rfl)
theorem dX6_unlike_82 : decode cX6_unlike 82 = .ok (.iconst (-1), 1) := dk_2 (dk_at dksX6_unlike_3 12 rfl rfl)
theorem dX6_unlike_83 : decode cX6_unlike 83 = .ok (.invokevirtual 373, 3) := dk_182 1 117 (dk_at dksX6_unlike_3 13 rfl rfl)
theorem dX6_unlike_86 : decode cX6_unlike 86 = .ok (.aload_n 0, 1) := dk_42 (dk_at dksX6_unlike_3 16 rfl rfl)
theorem dX6_unlike_87 : decode cX6_unlike 87 = .ok (.iload_n 2, 1) := dk_28 (dk_at dksX6_unlike_3 17 rfl rfl)
theorem dX6_unlike_88 : decode cX6_unlike 88 = .ok (.iload 4, 2) := dk_21 4 (dk_at dksX6_unlike_3 18 rfl rfl)
theorem dX6_unlike_90 : decode cX6_unlike 90 = .ok (.iconst 0, 1) := dk_3 (dk_at dksX6_unlike_3 20 rfl rfl)
theorem dX6_unlike_91 : decode cX6_unlike 91 = .ok (.iconst (-1), 1) := dk_2 (dk_at dksX6_unlike_3 21 rfl rfl)
theorem dX6_unlike_92 : decode cX6_unlike 92 = .ok (.invokevirtual 373, 3) := dk_182 1 117 (dk_at dksX6_unlike_4 0 rfl rfl)
theorem dX6_unlike_95 : decode cX6_unlike 95 = .ok (.if_icmp .eq 7, 3) := dk_159 0 7 (dk_at dksX6_unlike_4 3 rfl rfl)
theorem dX6_unlike_98 : decode cX6_unlike 98 = .ok (.iconst 1, 1) := dk_4 (dk_at dksX6_unlike_4 6 rfl rfl)
theorem dX6_unlike_99 : decode cX6_unlike 99 = .ok (.goto 4, 3) := dk_167 0 4 (dk_at dksX6_unlike_4 7 rfl rfl)
theorem dX6_unlike_102 : decode cX6_unlike 102 = .ok (.iconst 0, 1) := dk_3 (dk_at dksX6_unlike_4 10 rfl rfl)
theorem dX6_unlike_103 : decode cX6_unlike 103 = .ok (.iadd, 1) := dk_96 (dk_at dksX6_unlike_4 11 rfl rfl)
theorem dX6_unlike_104 : decode cX6_unlike 104 = .ok (.istore_n 3, 1) := dk_62 (dk_at dksX6_unlike_4 12 rfl rfl)
theorem dX6_unlike_105 : decode cX6_unlike 105 = .ok (.iinc 4 1, 3) := dk_132 4 1 (dk_at dksX6_unlike_4 13 rfl rfl)
theorem dX6_unlike_108 : decode cX6_unlike 108 = .ok (.goto (-41), 3) := dk_167 255 215 (dk_at dksX6_unlike_4 16 rfl rfl)
theorem dX6_unlike_111 : decode cX6_unlike 111 = .ok (.iload_n 3, 1) := dk_29 (dk_at dksX6_unlike_4 19 rfl rfl)
theorem dX6_unlike_112 : decode cX6_unlike 112 = .ok (.ireturn, 1) := dk_172 (dk_at dksX6_unlike_4 20 rfl rfl)
abbrev cX6_count : ByteArray := prog_14_method_120_code
def yX6_count : MethodName := ⟨RX6, "count", "(I)I"⟩
def dkwX6_count_1 : List UInt8 := [5, 160, 0, 10, 42, 180, 0, 155, 167, 0, 4, 2, 172]
abbrev dktX6_count_1 : List UInt8 := dkwX6_count_1 ++ []
def dkwX6_count_0 : List UInt8 := [27, 154, 0, 10, 42, 180, 1, 30, 167, 0, 28, 27, 4, 160, 0, 10, 42, 180, 1, 48, 167, 0, 16, 27]
abbrev dktX6_count_0 : List UInt8 := dkwX6_count_0 ++ dktX6_count_1
theorem dksX6_count_0 : cX6_count.data.toList.drop 0 = dktX6_count_0 := by decide +kernel
theorem dksX6_count_1 : cX6_count.data.toList.drop 24 = dktX6_count_1 := dk_seg dksX6_count_0 24 rfl rfl
theorem dX6_count_0 : decode cX6_count 0 = .ok (.iload_n 1, 1) := dk_27 (dk_at dksX6_count_0 0 rfl rfl)
theorem dX6_count_1 : decode cX6_count 1 = .ok (.ifCond .ne 10, 3) := dk_154 0 10 (dk_at dksX6_count_0 1 rfl rfl)
theorem dX6_count_4 : decode cX6_count 4 = .ok (.aload_n 0, 1) := dk_42 (dk_at dksX6_count_0 4 rfl rfl)
theorem dX6_count_5 : decode cX6_count 5 = .ok (.getfield 286, 3) := dk_180 1 30 (dk_at dksX6_count_0 5 rfl rfl)
theorem dX6_count_8 : decode cX6_count 8 = .ok (.goto 28, 3) := dk_167 0 28 (dk_at dksX6_count_0 8 rfl rfl)
theorem dX6_count_11 : decode cX6_count 11 = .ok (.iload_n 1, 1) := dk_27 (dk_at dksX6_count_0 11 rfl rfl)
theorem dX6_count_12 : decode cX6_count 12 = .ok (.iconst 1, 1) := dk_4 (dk_at dksX6_count_0 12 rfl rfl)
theorem dX6_count_13 : decode cX6_count 13 = .ok (.if_icmp .ne 10, 3) := dk_160 0 10 (dk_at dksX6_count_0 13 rfl rfl)
theorem dX6_count_16 : decode cX6_count 16 = .ok (.aload_n 0, 1) := dk_42 (dk_at dksX6_count_0 16 rfl rfl)
theorem dX6_count_17 : decode cX6_count 17 = .ok (.getfield 304, 3) := dk_180 1 48 (dk_at dksX6_count_0 17 rfl rfl)
theorem dX6_count_20 : decode cX6_count 20 = .ok (.goto 16, 3) := dk_167 0 16 (dk_at dksX6_count_0 20 rfl rfl)
theorem dX6_count_23 : decode cX6_count 23 = .ok (.iload_n 1, 1) := dk_27 (dk_at dksX6_count_0 23 rfl rfl)
theorem dX6_count_24 : decode cX6_count 24 = .ok (.iconst 2, 1) := dk_5 (dk_at dksX6_count_1 0 rfl rfl)
theorem dX6_count_25 : decode cX6_count 25 = .ok (.if_icmp .ne 10, 3) := dk_160 0 10 (dk_at dksX6_count_1 1 rfl rfl)
theorem dX6_count_28 : decode cX6_count 28 = .ok (.aload_n 0, 1) := dk_42 (dk_at dksX6_count_1 4 rfl rfl)
theorem dX6_count_29 : decode cX6_count 29 = .ok (.getfield 155, 3) := dk_180 0 155 (dk_at dksX6_count_1 5 rfl rfl)
theorem dX6_count_32 : decode cX6_count 32 = .ok (.goto 4, 3) := dk_167 0 4 (dk_at dksX6_count_1 8 rfl rfl)
theorem dX6_count_35 : decode cX6_count 35 = .ok (.iconst (-1), 1) := dk_2 (dk_at dksX6_count_1 11 rfl rfl)
theorem dX6_count_36 : decode cX6_count 36 = .ok (.ireturn, 1) := dk_172 (dk_at dksX6_count_1 12 rfl rfl)
theorem q128 : (Jvm.Cond.initialized "LadderLotsModel") ∈ lw_all := lw_g (lw_at lw_m1 10 rfl) rfl
theorem q831 : (Jvm.Cond.selects "LadderLotsModel" ({ cls := "java/lang/Object", name := "getClass", desc := "()Ljava/lang/Class;" } : Jvm.MethodName) ({ cls := "java/lang/Object", name := "getClass", desc := "()Ljava/lang/Class;" } : Jvm.MethodName)) ∈ lw_all := lw_g (lw_at lw_m3 233 rfl) rfl
theorem q1283 : (Jvm.Cond.instantiable "LadderLotsModel" (60 : Nat)) ∈ lw_all := lw_g (lw_at lw_m5 205 rfl) rfl
theorem q1285 : (Jvm.Cond.instanceMethod ({ cls := "LadderLotsModel", name := "<init>", desc := "()V" } : Jvm.MethodName)) ∈ lw_all := lw_g (lw_at lw_m5 207 rfl) rfl
theorem q1286 : (Jvm.Cond.code ({ cls := "LadderLotsModel", name := "<init>", desc := "()V" } : Jvm.MethodName) prog_14_method_1_code (1 : Nat) (Option.none : Option Jvm.ClassFile.FieldType)) ∈ lw_all := lw_g (lw_at lw_m5 208 rfl) rfl
theorem q1287 : (Jvm.Cond.methodLink "LadderLotsModel" (1 : Nat) ({ cls := "java/lang/Object", name := "<init>", desc := "()V" } : Jvm.MethodName)) ∈ lw_all := lw_g (lw_at lw_m5 209 rfl) rfl
theorem q1288 : (Jvm.Cond.constant "LadderLotsModel" (97 : Nat) (35280 : Int32)) ∈ lw_all := lw_g (lw_at lw_m5 210 rfl) rfl
theorem q1289 : (Jvm.Cond.fieldLink "LadderLotsModel" (286 : Nat) "LadderLotsModel" "ladders" "I") ∈ lw_all := lw_g (lw_at lw_m5 211 rfl) rfl
theorem q1290 : (Jvm.Cond.fieldLink "LadderLotsModel" (7 : Nat) "LadderLotsModel" "legs" "[I") ∈ lw_all := lw_g (lw_at lw_m5 212 rfl) rfl
theorem q1291 : (Jvm.Cond.fieldLink "LadderLotsModel" (13 : Nat) "LadderLotsModel" "size" "[I") ∈ lw_all := lw_g (lw_at lw_m5 213 rfl) rfl
theorem q1292 : (Jvm.Cond.fieldLink "LadderLotsModel" (16 : Nat) "LadderLotsModel" "kind" "[I") ∈ lw_all := lw_g (lw_at lw_m5 214 rfl) rfl
theorem q1293 : (Jvm.Cond.fieldLink "LadderLotsModel" (19 : Nat) "LadderLotsModel" "leg" "[I") ∈ lw_all := lw_g (lw_at lw_m5 215 rfl) rfl
theorem q1294 : (Jvm.Cond.fieldLink "LadderLotsModel" (22 : Nat) "LadderLotsModel" "byA" "[I") ∈ lw_all := lw_g (lw_at lw_m5 216 rfl) rfl
theorem q1295 : (Jvm.Cond.fieldLink "LadderLotsModel" (25 : Nat) "LadderLotsModel" "byB" "[I") ∈ lw_all := lw_g (lw_at lw_m5 217 rfl) rfl
theorem q1296 : (Jvm.Cond.fieldLink "LadderLotsModel" (304 : Nat) "LadderLotsModel" "logs" "I") ∈ lw_all := lw_g (lw_at lw_m5 218 rfl) rfl
theorem q1297 : (Jvm.Cond.fieldLink "LadderLotsModel" (28 : Nat) "LadderLotsModel" "logLadder" "[I") ∈ lw_all := lw_g (lw_at lw_m5 219 rfl) rfl
theorem q1298 : (Jvm.Cond.fieldLink "LadderLotsModel" (31 : Nat) "LadderLotsModel" "logNumber" "[I") ∈ lw_all := lw_g (lw_at lw_m5 220 rfl) rfl
theorem q1299 : (Jvm.Cond.fieldLink "LadderLotsModel" (34 : Nat) "LadderLotsModel" "logLeg" "[I") ∈ lw_all := lw_g (lw_at lw_m5 221 rfl) rfl
theorem q1300 : (Jvm.Cond.fieldLink "LadderLotsModel" (37 : Nat) "LadderLotsModel" "voids" "[I") ∈ lw_all := lw_g (lw_at lw_m5 222 rfl) rfl
theorem q1301 : (Jvm.Cond.fieldLink "LadderLotsModel" (155 : Nat) "LadderLotsModel" "taped" "I") ∈ lw_all := lw_g (lw_at lw_m5 223 rfl) rfl
theorem q1302 : (Jvm.Cond.fieldLink "LadderLotsModel" (40 : Nat) "LadderLotsModel" "tape" "[I") ∈ lw_all := lw_g (lw_at lw_m5 224 rfl) rfl
theorem q1303 : (Jvm.Cond.fieldLink "LadderLotsModel" (166 : Nat) "LadderLotsModel" "tokens" "I") ∈ lw_all := lw_g (lw_at lw_m5 225 rfl) rfl
theorem q1304 : (Jvm.Cond.fieldLink "LadderLotsModel" (43 : Nat) "LadderLotsModel" "tokenSort" "[I") ∈ lw_all := lw_g (lw_at lw_m5 226 rfl) rfl
theorem q1305 : (Jvm.Cond.fieldLink "LadderLotsModel" (46 : Nat) "LadderLotsModel" "tokenFrom" "[I") ∈ lw_all := lw_g (lw_at lw_m5 227 rfl) rfl
theorem q1306 : (Jvm.Cond.fieldLink "LadderLotsModel" (49 : Nat) "LadderLotsModel" "tokenWhat" "[I") ∈ lw_all := lw_g (lw_at lw_m5 228 rfl) rfl
theorem q1307 : (Jvm.Cond.fieldLink "LadderLotsModel" (52 : Nat) "LadderLotsModel" "tokenName" "[J") ∈ lw_all := lw_g (lw_at lw_m5 229 rfl) rfl
theorem q1308 : (Jvm.Cond.fieldLink "LadderLotsModel" (214 : Nat) "LadderLotsModel" "head" "I") ∈ lw_all := lw_g (lw_at lw_m5 230 rfl) rfl
theorem q1309 : (Jvm.Cond.fieldLink "LadderLotsModel" (211 : Nat) "LadderLotsModel" "fault" "I") ∈ lw_all := lw_g (lw_at lw_m5 231 rfl) rfl
theorem q1310 : (Jvm.Cond.fieldLink "LadderLotsModel" (56 : Nat) "LadderLotsModel" "faultPlace" "I") ∈ lw_all := lw_g (lw_at lw_m5 232 rfl) rfl
theorem q1311 : (Jvm.Cond.fieldLink "LadderLotsModel" (230 : Nat) "LadderLotsModel" "parts" "I") ∈ lw_all := lw_g (lw_at lw_m5 233 rfl) rfl
theorem q1312 : (Jvm.Cond.fieldLink "LadderLotsModel" (60 : Nat) "LadderLotsModel" "partName" "[J") ∈ lw_all := lw_g (lw_at lw_m5 234 rfl) rfl
theorem q1313 : (Jvm.Cond.fieldLink "LadderLotsModel" (63 : Nat) "LadderLotsModel" "partDone" "[Z") ∈ lw_all := lw_g (lw_at lw_m5 235 rfl) rfl
theorem q1314 : (Jvm.Cond.fieldLink "LadderLotsModel" (67 : Nat) "LadderLotsModel" "partToken" "[I") ∈ lw_all := lw_g (lw_at lw_m5 236 rfl) rfl
theorem q1315 : (Jvm.Cond.fieldLink "LadderLotsModel" (70 : Nat) "LadderLotsModel" "toldSize" "[I") ∈ lw_all := lw_g (lw_at lw_m5 237 rfl) rfl
theorem q1316 : (Jvm.Cond.fieldLink "LadderLotsModel" (73 : Nat) "LadderLotsModel" "toldKind" "[I") ∈ lw_all := lw_g (lw_at lw_m5 238 rfl) rfl
theorem q1317 : (Jvm.Cond.fieldLink "LadderLotsModel" (76 : Nat) "LadderLotsModel" "toldLeg" "[I") ∈ lw_all := lw_g (lw_at lw_m5 239 rfl) rfl
theorem q1318 : (Jvm.Cond.fieldLink "LadderLotsModel" (79 : Nat) "LadderLotsModel" "toldA" "[I") ∈ lw_all := lw_g (lw_at lw_m6 0 rfl) rfl
theorem q1319 : (Jvm.Cond.fieldLink "LadderLotsModel" (82 : Nat) "LadderLotsModel" "toldB" "[I") ∈ lw_all := lw_g (lw_at lw_m6 1 rfl) rfl
theorem q1320 : (Jvm.Cond.fieldLink "LadderLotsModel" (227 : Nat) "LadderLotsModel" "open" "I") ∈ lw_all := lw_g (lw_at lw_m6 2 rfl) rfl
theorem q1321 : (Jvm.Cond.fieldLink "LadderLotsModel" (85 : Nat) "LadderLotsModel" "openTimes" "[I") ∈ lw_all := lw_g (lw_at lw_m6 3 rfl) rfl
theorem q1322 : (Jvm.Cond.fieldLink "LadderLotsModel" (88 : Nat) "LadderLotsModel" "openSize" "[I") ∈ lw_all := lw_g (lw_at lw_m6 4 rfl) rfl
theorem q1323 : (Jvm.Cond.fieldLink "LadderLotsModel" (248 : Nat) "LadderLotsModel" "into" "I") ∈ lw_all := lw_g (lw_at lw_m6 5 rfl) rfl
theorem q1324 : (Jvm.Cond.fieldLink "LadderLotsModel" (251 : Nat) "LadderLotsModel" "toldLegs" "I") ∈ lw_all := lw_g (lw_at lw_m6 6 rfl) rfl
theorem q1325 : (Jvm.Cond.fieldLink "LadderLotsModel" (91 : Nat) "LadderLotsModel" "layers" "[I") ∈ lw_all := lw_g (lw_at lw_m6 7 rfl) rfl
theorem q1326 : (Jvm.Cond.fieldLink "LadderLotsModel" (94 : Nat) "LadderLotsModel" "legLayer" "[I") ∈ lw_all := lw_g (lw_at lw_m6 8 rfl) rfl
theorem q1327 : (Jvm.Cond.fieldLink "LadderLotsModel" (334 : Nat) "LadderLotsModel" "laid" "I") ∈ lw_all := lw_g (lw_at lw_m6 9 rfl) rfl
theorem q1328 : (Jvm.Cond.fieldLink "LadderLotsModel" (340 : Nat) "LadderLotsModel" "orders" "I") ∈ lw_all := lw_g (lw_at lw_m6 10 rfl) rfl
theorem q1329 : (Jvm.Cond.fieldLink "LadderLotsModel" (98 : Nat) "LadderLotsModel" "rows" "[I") ∈ lw_all := lw_g (lw_at lw_m6 11 rfl) rfl
theorem q1330 : (Jvm.Cond.fieldLink "LadderLotsModel" (101 : Nat) "LadderLotsModel" "swapped" "[I") ∈ lw_all := lw_g (lw_at lw_m6 12 rfl) rfl
theorem q1331 : (Jvm.Cond.fieldLink "LadderLotsModel" (104 : Nat) "LadderLotsModel" "renamed" "[I") ∈ lw_all := lw_g (lw_at lw_m6 13 rfl) rfl
theorem q1332 : (Jvm.Cond.fieldLink "LadderLotsModel" (107 : Nat) "LadderLotsModel" "turnedPairs" "[I") ∈ lw_all := lw_g (lw_at lw_m6 14 rfl) rfl
theorem q1333 : (Jvm.Cond.fieldLink "LadderLotsModel" (110 : Nat) "LadderLotsModel" "least" "[J") ∈ lw_all := lw_g (lw_at lw_m6 15 rfl) rfl
theorem q1334 : (Jvm.Cond.fieldLink "LadderLotsModel" (113 : Nat) "LadderLotsModel" "hand" "[I") ∈ lw_all := lw_g (lw_at lw_m6 16 rfl) rfl
theorem q1335 : (Jvm.Cond.fieldLink "LadderLotsModel" (116 : Nat) "LadderLotsModel" "word" "[I") ∈ lw_all := lw_g (lw_at lw_m6 17 rfl) rfl
theorem q1336 : (Jvm.Cond.fieldLink "LadderLotsModel" (119 : Nat) "LadderLotsModel" "stays" "[I") ∈ lw_all := lw_g (lw_at lw_m6 18 rfl) rfl
theorem q1337 : (Jvm.Cond.fieldLink "LadderLotsModel" (389 : Nat) "LadderLotsModel" "stayed" "I") ∈ lw_all := lw_g (lw_at lw_m6 19 rfl) rfl
theorem q1338 : (Jvm.Cond.fieldLink "LadderLotsModel" (122 : Nat) "LadderLotsModel" "changedAt" "[I") ∈ lw_all := lw_g (lw_at lw_m6 20 rfl) rfl
theorem q1339 : (Jvm.Cond.fieldLink "LadderLotsModel" (125 : Nat) "LadderLotsModel" "leads" "[I") ∈ lw_all := lw_g (lw_at lw_m6 21 rfl) rfl
theorem q1340 : (Jvm.Cond.fieldLink "LadderLotsModel" (128 : Nat) "LadderLotsModel" "isTurn" "[Z") ∈ lw_all := lw_g (lw_at lw_m6 22 rfl) rfl
theorem q1341 : (Jvm.Cond.fieldLink "LadderLotsModel" (131 : Nat) "LadderLotsModel" "far" "[I") ∈ lw_all := lw_g (lw_at lw_m6 23 rfl) rfl
theorem q1342 : (Jvm.Cond.fieldLink "LadderLotsModel" (134 : Nat) "LadderLotsModel" "ways" "[J") ∈ lw_all := lw_g (lw_at lw_m6 24 rfl) rfl
theorem q1343 : (Jvm.Cond.fieldLink "LadderLotsModel" (137 : Nat) "LadderLotsModel" "then" "[J") ∈ lw_all := lw_g (lw_at lw_m6 25 rfl) rfl
theorem q1344 : (Jvm.Cond.fieldLink "LadderLotsModel" (140 : Nat) "LadderLotsModel" "need" "[I") ∈ lw_all := lw_g (lw_at lw_m6 26 rfl) rfl
theorem q1345 : (Jvm.Cond.fieldLink "LadderLotsModel" (143 : Nat) "LadderLotsModel" "cost" "[I") ∈ lw_all := lw_g (lw_at lw_m6 27 rfl) rfl
theorem q1346 : (Jvm.Cond.fieldLink "LadderLotsModel" (146 : Nat) "LadderLotsModel" "costThen" "[I") ∈ lw_all := lw_g (lw_at lw_m6 28 rfl) rfl
theorem q1347 : (Jvm.Cond.fieldLink "LadderLotsModel" (149 : Nat) "LadderLotsModel" "gates" "[I") ∈ lw_all := lw_g (lw_at lw_m6 29 rfl) rfl
theorem q1348 : (Jvm.Cond.fieldLink "LadderLotsModel" (152 : Nat) "LadderLotsModel" "sets" "[I") ∈ lw_all := lw_g (lw_at lw_m6 30 rfl) rfl
theorem q1349 : (Jvm.Cond.lays "LadderLotsModel" "LadderLotsModel" "ladders" "I") ∈ lw_all := lw_g (lw_at lw_m6 31 rfl) rfl
theorem q1350 : (Jvm.Cond.soleField "LadderLotsModel" "ladders") ∈ lw_all := lw_g (lw_at lw_m6 32 rfl) rfl
theorem q1351 : (Jvm.Cond.laysFinal "LadderLotsModel" "LadderLotsModel" "legs" "[I") ∈ lw_all := lw_g (lw_at lw_m6 33 rfl) rfl
theorem q1352 : (Jvm.Cond.soleField "LadderLotsModel" "legs") ∈ lw_all := lw_g (lw_at lw_m6 34 rfl) rfl
theorem q1353 : (Jvm.Cond.laysFinal "LadderLotsModel" "LadderLotsModel" "size" "[I") ∈ lw_all := lw_g (lw_at lw_m6 35 rfl) rfl
theorem q1354 : (Jvm.Cond.soleField "LadderLotsModel" "size") ∈ lw_all := lw_g (lw_at lw_m6 36 rfl) rfl
theorem q1355 : (Jvm.Cond.laysFinal "LadderLotsModel" "LadderLotsModel" "kind" "[I") ∈ lw_all := lw_g (lw_at lw_m6 37 rfl) rfl
theorem q1356 : (Jvm.Cond.soleField "LadderLotsModel" "kind") ∈ lw_all := lw_g (lw_at lw_m6 38 rfl) rfl
theorem q1357 : (Jvm.Cond.laysFinal "LadderLotsModel" "LadderLotsModel" "leg" "[I") ∈ lw_all := lw_g (lw_at lw_m6 39 rfl) rfl
theorem q1358 : (Jvm.Cond.soleField "LadderLotsModel" "leg") ∈ lw_all := lw_g (lw_at lw_m6 40 rfl) rfl
theorem q1359 : (Jvm.Cond.laysFinal "LadderLotsModel" "LadderLotsModel" "byA" "[I") ∈ lw_all := lw_g (lw_at lw_m6 41 rfl) rfl
theorem q1360 : (Jvm.Cond.soleField "LadderLotsModel" "byA") ∈ lw_all := lw_g (lw_at lw_m6 42 rfl) rfl
theorem q1361 : (Jvm.Cond.laysFinal "LadderLotsModel" "LadderLotsModel" "byB" "[I") ∈ lw_all := lw_g (lw_at lw_m6 43 rfl) rfl
theorem q1362 : (Jvm.Cond.soleField "LadderLotsModel" "byB") ∈ lw_all := lw_g (lw_at lw_m6 44 rfl) rfl
theorem q1363 : (Jvm.Cond.lays "LadderLotsModel" "LadderLotsModel" "logs" "I") ∈ lw_all := lw_g (lw_at lw_m6 45 rfl) rfl
theorem q1364 : (Jvm.Cond.soleField "LadderLotsModel" "logs") ∈ lw_all := lw_g (lw_at lw_m6 46 rfl) rfl
theorem q1365 : (Jvm.Cond.laysFinal "LadderLotsModel" "LadderLotsModel" "logLadder" "[I") ∈ lw_all := lw_g (lw_at lw_m6 47 rfl) rfl
theorem q1366 : (Jvm.Cond.soleField "LadderLotsModel" "logLadder") ∈ lw_all := lw_g (lw_at lw_m6 48 rfl) rfl
theorem q1367 : (Jvm.Cond.laysFinal "LadderLotsModel" "LadderLotsModel" "logNumber" "[I") ∈ lw_all := lw_g (lw_at lw_m6 49 rfl) rfl
theorem q1368 : (Jvm.Cond.soleField "LadderLotsModel" "logNumber") ∈ lw_all := lw_g (lw_at lw_m6 50 rfl) rfl
theorem q1369 : (Jvm.Cond.laysFinal "LadderLotsModel" "LadderLotsModel" "logLeg" "[I") ∈ lw_all := lw_g (lw_at lw_m6 51 rfl) rfl
theorem q1370 : (Jvm.Cond.soleField "LadderLotsModel" "logLeg") ∈ lw_all := lw_g (lw_at lw_m6 52 rfl) rfl
theorem q1371 : (Jvm.Cond.laysFinal "LadderLotsModel" "LadderLotsModel" "voids" "[I") ∈ lw_all := lw_g (lw_at lw_m6 53 rfl) rfl
theorem q1372 : (Jvm.Cond.soleField "LadderLotsModel" "voids") ∈ lw_all := lw_g (lw_at lw_m6 54 rfl) rfl
theorem q1373 : (Jvm.Cond.lays "LadderLotsModel" "LadderLotsModel" "taped" "I") ∈ lw_all := lw_g (lw_at lw_m6 55 rfl) rfl
theorem q1374 : (Jvm.Cond.soleField "LadderLotsModel" "taped") ∈ lw_all := lw_g (lw_at lw_m6 56 rfl) rfl
theorem q1375 : (Jvm.Cond.laysFinal "LadderLotsModel" "LadderLotsModel" "tape" "[I") ∈ lw_all := lw_g (lw_at lw_m6 57 rfl) rfl
theorem q1376 : (Jvm.Cond.soleField "LadderLotsModel" "tape") ∈ lw_all := lw_g (lw_at lw_m6 58 rfl) rfl
theorem q1377 : (Jvm.Cond.lays "LadderLotsModel" "LadderLotsModel" "tokens" "I") ∈ lw_all := lw_g (lw_at lw_m6 59 rfl) rfl
theorem q1378 : (Jvm.Cond.soleField "LadderLotsModel" "tokens") ∈ lw_all := lw_g (lw_at lw_m6 60 rfl) rfl
theorem q1379 : (Jvm.Cond.laysFinal "LadderLotsModel" "LadderLotsModel" "tokenSort" "[I") ∈ lw_all := lw_g (lw_at lw_m6 61 rfl) rfl
theorem q1380 : (Jvm.Cond.soleField "LadderLotsModel" "tokenSort") ∈ lw_all := lw_g (lw_at lw_m6 62 rfl) rfl
theorem q1381 : (Jvm.Cond.laysFinal "LadderLotsModel" "LadderLotsModel" "tokenFrom" "[I") ∈ lw_all := lw_g (lw_at lw_m6 63 rfl) rfl
theorem q1382 : (Jvm.Cond.soleField "LadderLotsModel" "tokenFrom") ∈ lw_all := lw_g (lw_at lw_m6 64 rfl) rfl
theorem q1383 : (Jvm.Cond.laysFinal "LadderLotsModel" "LadderLotsModel" "tokenWhat" "[I") ∈ lw_all := lw_g (lw_at lw_m6 65 rfl) rfl
theorem q1384 : (Jvm.Cond.soleField "LadderLotsModel" "tokenWhat") ∈ lw_all := lw_g (lw_at lw_m6 66 rfl) rfl
theorem q1385 : (Jvm.Cond.laysFinal "LadderLotsModel" "LadderLotsModel" "tokenName" "[J") ∈ lw_all := lw_g (lw_at lw_m6 67 rfl) rfl
theorem q1386 : (Jvm.Cond.soleField "LadderLotsModel" "tokenName") ∈ lw_all := lw_g (lw_at lw_m6 68 rfl) rfl
theorem q1387 : (Jvm.Cond.lays "LadderLotsModel" "LadderLotsModel" "head" "I") ∈ lw_all := lw_g (lw_at lw_m6 69 rfl) rfl
theorem q1388 : (Jvm.Cond.soleField "LadderLotsModel" "head") ∈ lw_all := lw_g (lw_at lw_m6 70 rfl) rfl
theorem q1389 : (Jvm.Cond.lays "LadderLotsModel" "LadderLotsModel" "fault" "I") ∈ lw_all := lw_g (lw_at lw_m6 71 rfl) rfl
theorem q1390 : (Jvm.Cond.soleField "LadderLotsModel" "fault") ∈ lw_all := lw_g (lw_at lw_m6 72 rfl) rfl
theorem q1391 : (Jvm.Cond.lays "LadderLotsModel" "LadderLotsModel" "faultPlace" "I") ∈ lw_all := lw_g (lw_at lw_m6 73 rfl) rfl
theorem q1392 : (Jvm.Cond.soleField "LadderLotsModel" "faultPlace") ∈ lw_all := lw_g (lw_at lw_m6 74 rfl) rfl
theorem q1393 : (Jvm.Cond.lays "LadderLotsModel" "LadderLotsModel" "parts" "I") ∈ lw_all := lw_g (lw_at lw_m6 75 rfl) rfl
theorem q1394 : (Jvm.Cond.soleField "LadderLotsModel" "parts") ∈ lw_all := lw_g (lw_at lw_m6 76 rfl) rfl
theorem q1395 : (Jvm.Cond.laysFinal "LadderLotsModel" "LadderLotsModel" "partName" "[J") ∈ lw_all := lw_g (lw_at lw_m6 77 rfl) rfl
theorem q1396 : (Jvm.Cond.soleField "LadderLotsModel" "partName") ∈ lw_all := lw_g (lw_at lw_m6 78 rfl) rfl
theorem q1397 : (Jvm.Cond.laysFinal "LadderLotsModel" "LadderLotsModel" "partDone" "[Z") ∈ lw_all := lw_g (lw_at lw_m6 79 rfl) rfl
theorem q1398 : (Jvm.Cond.soleField "LadderLotsModel" "partDone") ∈ lw_all := lw_g (lw_at lw_m6 80 rfl) rfl
theorem q1399 : (Jvm.Cond.laysFinal "LadderLotsModel" "LadderLotsModel" "partToken" "[I") ∈ lw_all := lw_g (lw_at lw_m6 81 rfl) rfl
theorem q1400 : (Jvm.Cond.soleField "LadderLotsModel" "partToken") ∈ lw_all := lw_g (lw_at lw_m6 82 rfl) rfl
theorem q1401 : (Jvm.Cond.laysFinal "LadderLotsModel" "LadderLotsModel" "toldSize" "[I") ∈ lw_all := lw_g (lw_at lw_m6 83 rfl) rfl
theorem q1402 : (Jvm.Cond.soleField "LadderLotsModel" "toldSize") ∈ lw_all := lw_g (lw_at lw_m6 84 rfl) rfl
theorem q1403 : (Jvm.Cond.laysFinal "LadderLotsModel" "LadderLotsModel" "toldKind" "[I") ∈ lw_all := lw_g (lw_at lw_m6 85 rfl) rfl
theorem q1404 : (Jvm.Cond.soleField "LadderLotsModel" "toldKind") ∈ lw_all := lw_g (lw_at lw_m6 86 rfl) rfl
theorem q1405 : (Jvm.Cond.laysFinal "LadderLotsModel" "LadderLotsModel" "toldLeg" "[I") ∈ lw_all := lw_g (lw_at lw_m6 87 rfl) rfl
theorem q1406 : (Jvm.Cond.soleField "LadderLotsModel" "toldLeg") ∈ lw_all := lw_g (lw_at lw_m6 88 rfl) rfl
theorem q1407 : (Jvm.Cond.laysFinal "LadderLotsModel" "LadderLotsModel" "toldA" "[I") ∈ lw_all := lw_g (lw_at lw_m6 89 rfl) rfl
theorem q1408 : (Jvm.Cond.soleField "LadderLotsModel" "toldA") ∈ lw_all := lw_g (lw_at lw_m6 90 rfl) rfl
theorem q1409 : (Jvm.Cond.laysFinal "LadderLotsModel" "LadderLotsModel" "toldB" "[I") ∈ lw_all := lw_g (lw_at lw_m6 91 rfl) rfl
theorem q1410 : (Jvm.Cond.soleField "LadderLotsModel" "toldB") ∈ lw_all := lw_g (lw_at lw_m6 92 rfl) rfl
theorem q1411 : (Jvm.Cond.lays "LadderLotsModel" "LadderLotsModel" "open" "I") ∈ lw_all := lw_g (lw_at lw_m6 93 rfl) rfl
theorem q1412 : (Jvm.Cond.soleField "LadderLotsModel" "open") ∈ lw_all := lw_g (lw_at lw_m6 94 rfl) rfl
theorem q1413 : (Jvm.Cond.laysFinal "LadderLotsModel" "LadderLotsModel" "openTimes" "[I") ∈ lw_all := lw_g (lw_at lw_m6 95 rfl) rfl
theorem q1414 : (Jvm.Cond.soleField "LadderLotsModel" "openTimes") ∈ lw_all := lw_g (lw_at lw_m6 96 rfl) rfl
theorem q1415 : (Jvm.Cond.laysFinal "LadderLotsModel" "LadderLotsModel" "openSize" "[I") ∈ lw_all := lw_g (lw_at lw_m6 97 rfl) rfl
theorem q1416 : (Jvm.Cond.soleField "LadderLotsModel" "openSize") ∈ lw_all := lw_g (lw_at lw_m6 98 rfl) rfl
theorem q1417 : (Jvm.Cond.lays "LadderLotsModel" "LadderLotsModel" "into" "I") ∈ lw_all := lw_g (lw_at lw_m6 99 rfl) rfl
theorem q1418 : (Jvm.Cond.soleField "LadderLotsModel" "into") ∈ lw_all := lw_g (lw_at lw_m6 100 rfl) rfl
theorem q1419 : (Jvm.Cond.lays "LadderLotsModel" "LadderLotsModel" "toldLegs" "I") ∈ lw_all := lw_g (lw_at lw_m6 101 rfl) rfl
theorem q1420 : (Jvm.Cond.soleField "LadderLotsModel" "toldLegs") ∈ lw_all := lw_g (lw_at lw_m6 102 rfl) rfl
theorem q1421 : (Jvm.Cond.laysFinal "LadderLotsModel" "LadderLotsModel" "layers" "[I") ∈ lw_all := lw_g (lw_at lw_m6 103 rfl) rfl
theorem q1422 : (Jvm.Cond.soleField "LadderLotsModel" "layers") ∈ lw_all := lw_g (lw_at lw_m6 104 rfl) rfl
theorem q1423 : (Jvm.Cond.laysFinal "LadderLotsModel" "LadderLotsModel" "legLayer" "[I") ∈ lw_all := lw_g (lw_at lw_m6 105 rfl) rfl
theorem q1424 : (Jvm.Cond.soleField "LadderLotsModel" "legLayer") ∈ lw_all := lw_g (lw_at lw_m6 106 rfl) rfl
theorem q1425 : (Jvm.Cond.lays "LadderLotsModel" "LadderLotsModel" "laid" "I") ∈ lw_all := lw_g (lw_at lw_m6 107 rfl) rfl
theorem q1426 : (Jvm.Cond.soleField "LadderLotsModel" "laid") ∈ lw_all := lw_g (lw_at lw_m6 108 rfl) rfl
theorem q1427 : (Jvm.Cond.lays "LadderLotsModel" "LadderLotsModel" "orders" "I") ∈ lw_all := lw_g (lw_at lw_m6 109 rfl) rfl
theorem q1428 : (Jvm.Cond.soleField "LadderLotsModel" "orders") ∈ lw_all := lw_g (lw_at lw_m6 110 rfl) rfl
theorem q1429 : (Jvm.Cond.laysFinal "LadderLotsModel" "LadderLotsModel" "rows" "[I") ∈ lw_all := lw_g (lw_at lw_m6 111 rfl) rfl
theorem q1430 : (Jvm.Cond.soleField "LadderLotsModel" "rows") ∈ lw_all := lw_g (lw_at lw_m6 112 rfl) rfl
theorem q1431 : (Jvm.Cond.laysFinal "LadderLotsModel" "LadderLotsModel" "swapped" "[I") ∈ lw_all := lw_g (lw_at lw_m6 113 rfl) rfl
theorem q1432 : (Jvm.Cond.soleField "LadderLotsModel" "swapped") ∈ lw_all := lw_g (lw_at lw_m6 114 rfl) rfl
theorem q1433 : (Jvm.Cond.laysFinal "LadderLotsModel" "LadderLotsModel" "renamed" "[I") ∈ lw_all := lw_g (lw_at lw_m6 115 rfl) rfl
theorem q1434 : (Jvm.Cond.soleField "LadderLotsModel" "renamed") ∈ lw_all := lw_g (lw_at lw_m6 116 rfl) rfl
theorem q1435 : (Jvm.Cond.laysFinal "LadderLotsModel" "LadderLotsModel" "turnedPairs" "[I") ∈ lw_all := lw_g (lw_at lw_m6 117 rfl) rfl
theorem q1436 : (Jvm.Cond.soleField "LadderLotsModel" "turnedPairs") ∈ lw_all := lw_g (lw_at lw_m6 118 rfl) rfl
theorem q1437 : (Jvm.Cond.laysFinal "LadderLotsModel" "LadderLotsModel" "least" "[J") ∈ lw_all := lw_g (lw_at lw_m6 119 rfl) rfl
theorem q1438 : (Jvm.Cond.soleField "LadderLotsModel" "least") ∈ lw_all := lw_g (lw_at lw_m6 120 rfl) rfl
theorem q1439 : (Jvm.Cond.laysFinal "LadderLotsModel" "LadderLotsModel" "hand" "[I") ∈ lw_all := lw_g (lw_at lw_m6 121 rfl) rfl
theorem q1440 : (Jvm.Cond.soleField "LadderLotsModel" "hand") ∈ lw_all := lw_g (lw_at lw_m6 122 rfl) rfl
theorem q1441 : (Jvm.Cond.laysFinal "LadderLotsModel" "LadderLotsModel" "word" "[I") ∈ lw_all := lw_g (lw_at lw_m6 123 rfl) rfl
theorem q1442 : (Jvm.Cond.soleField "LadderLotsModel" "word") ∈ lw_all := lw_g (lw_at lw_m6 124 rfl) rfl
theorem q1443 : (Jvm.Cond.laysFinal "LadderLotsModel" "LadderLotsModel" "stays" "[I") ∈ lw_all := lw_g (lw_at lw_m6 125 rfl) rfl
theorem q1444 : (Jvm.Cond.soleField "LadderLotsModel" "stays") ∈ lw_all := lw_g (lw_at lw_m6 126 rfl) rfl
theorem q1445 : (Jvm.Cond.lays "LadderLotsModel" "LadderLotsModel" "stayed" "I") ∈ lw_all := lw_g (lw_at lw_m6 127 rfl) rfl
theorem q1446 : (Jvm.Cond.soleField "LadderLotsModel" "stayed") ∈ lw_all := lw_g (lw_at lw_m6 128 rfl) rfl
theorem q1447 : (Jvm.Cond.laysFinal "LadderLotsModel" "LadderLotsModel" "changedAt" "[I") ∈ lw_all := lw_g (lw_at lw_m6 129 rfl) rfl
theorem q1448 : (Jvm.Cond.soleField "LadderLotsModel" "changedAt") ∈ lw_all := lw_g (lw_at lw_m6 130 rfl) rfl
theorem q1449 : (Jvm.Cond.laysFinal "LadderLotsModel" "LadderLotsModel" "leads" "[I") ∈ lw_all := lw_g (lw_at lw_m6 131 rfl) rfl
theorem q1450 : (Jvm.Cond.soleField "LadderLotsModel" "leads") ∈ lw_all := lw_g (lw_at lw_m6 132 rfl) rfl
theorem q1451 : (Jvm.Cond.laysFinal "LadderLotsModel" "LadderLotsModel" "isTurn" "[Z") ∈ lw_all := lw_g (lw_at lw_m6 133 rfl) rfl
theorem q1452 : (Jvm.Cond.soleField "LadderLotsModel" "isTurn") ∈ lw_all := lw_g (lw_at lw_m6 134 rfl) rfl
theorem q1453 : (Jvm.Cond.laysFinal "LadderLotsModel" "LadderLotsModel" "far" "[I") ∈ lw_all := lw_g (lw_at lw_m6 135 rfl) rfl
theorem q1454 : (Jvm.Cond.soleField "LadderLotsModel" "far") ∈ lw_all := lw_g (lw_at lw_m6 136 rfl) rfl
theorem q1455 : (Jvm.Cond.laysFinal "LadderLotsModel" "LadderLotsModel" "ways" "[J") ∈ lw_all := lw_g (lw_at lw_m6 137 rfl) rfl
theorem q1456 : (Jvm.Cond.soleField "LadderLotsModel" "ways") ∈ lw_all := lw_g (lw_at lw_m6 138 rfl) rfl
theorem q1457 : (Jvm.Cond.laysFinal "LadderLotsModel" "LadderLotsModel" "then" "[J") ∈ lw_all := lw_g (lw_at lw_m6 139 rfl) rfl
theorem q1458 : (Jvm.Cond.soleField "LadderLotsModel" "then") ∈ lw_all := lw_g (lw_at lw_m6 140 rfl) rfl
theorem q1459 : (Jvm.Cond.laysFinal "LadderLotsModel" "LadderLotsModel" "need" "[I") ∈ lw_all := lw_g (lw_at lw_m6 141 rfl) rfl
theorem q1460 : (Jvm.Cond.soleField "LadderLotsModel" "need") ∈ lw_all := lw_g (lw_at lw_m6 142 rfl) rfl
theorem q1461 : (Jvm.Cond.laysFinal "LadderLotsModel" "LadderLotsModel" "cost" "[I") ∈ lw_all := lw_g (lw_at lw_m6 143 rfl) rfl
theorem q1462 : (Jvm.Cond.soleField "LadderLotsModel" "cost") ∈ lw_all := lw_g (lw_at lw_m6 144 rfl) rfl
theorem q1463 : (Jvm.Cond.laysFinal "LadderLotsModel" "LadderLotsModel" "costThen" "[I") ∈ lw_all := lw_g (lw_at lw_m6 145 rfl) rfl
theorem q1464 : (Jvm.Cond.soleField "LadderLotsModel" "costThen") ∈ lw_all := lw_g (lw_at lw_m6 146 rfl) rfl
theorem q1465 : (Jvm.Cond.laysFinal "LadderLotsModel" "LadderLotsModel" "gates" "[I") ∈ lw_all := lw_g (lw_at lw_m6 147 rfl) rfl
theorem q1466 : (Jvm.Cond.soleField "LadderLotsModel" "gates") ∈ lw_all := lw_g (lw_at lw_m6 148 rfl) rfl
theorem q1467 : (Jvm.Cond.laysFinal "LadderLotsModel" "LadderLotsModel" "sets" "[I") ∈ lw_all := lw_g (lw_at lw_m6 149 rfl) rfl
theorem q1468 : (Jvm.Cond.soleField "LadderLotsModel" "sets") ∈ lw_all := lw_g (lw_at lw_m6 150 rfl) rfl
theorem q1469 : (Jvm.Cond.superclass "LadderLotsModel" "java/lang/Object") ∈ lw_all := lw_g (lw_at lw_m6 151 rfl) rfl
theorem q1471 : (Jvm.Cond.instanceMethod ({ cls := "LadderLotsModel", name := "feed", desc := "(IIIII)I" } : Jvm.MethodName)) ∈ lw_all := lw_g (lw_at lw_m6 153 rfl) rfl
theorem q1472 : (Jvm.Cond.selects "LadderLotsModel" ({ cls := "LadderLotsModel", name := "feed", desc := "(IIIII)I" } : Jvm.MethodName) ({ cls := "LadderLotsModel", name := "feed", desc := "(IIIII)I" } : Jvm.MethodName)) ∈ lw_all := lw_g (lw_at lw_m6 154 rfl) rfl
theorem q1473 : (Jvm.Cond.code ({ cls := "LadderLotsModel", name := "feed", desc := "(IIIII)I" } : Jvm.MethodName) prog_14_method_2_code (6 : Nat) (Option.some Jvm.ClassFile.FieldType.int)) ∈ lw_all := lw_g (lw_at lw_m6 155 rfl) rfl
theorem q1474 : (Jvm.Cond.methodLink "LadderLotsModel" (158 : Nat) ({ cls := "LadderLotsModel", name := "typed", desc := "(I)V" } : Jvm.MethodName)) ∈ lw_all := lw_g (lw_at lw_m6 156 rfl) rfl
theorem q1475 : (Jvm.Cond.privateMethod ({ cls := "LadderLotsModel", name := "typed", desc := "(I)V" } : Jvm.MethodName)) ∈ lw_tbl := lw_at lw_m6 157 rfl
theorem q1476 : (Jvm.Cond.instanceMethod ({ cls := "LadderLotsModel", name := "typed", desc := "(I)V" } : Jvm.MethodName)) ∈ lw_all := lw_g (lw_at lw_m6 158 rfl) rfl
theorem q1477 : (Jvm.Cond.code ({ cls := "LadderLotsModel", name := "typed", desc := "(I)V" } : Jvm.MethodName) prog_14_method_3_code (3 : Nat) (Option.none : Option Jvm.ClassFile.FieldType)) ∈ lw_all := lw_g (lw_at lw_m6 159 rfl) rfl
theorem q1479 : (Jvm.Cond.instanceMethod ({ cls := "LadderLotsModel", name := "back", desc := "(I)I" } : Jvm.MethodName)) ∈ lw_all := lw_g (lw_at lw_m6 161 rfl) rfl
theorem q1480 : (Jvm.Cond.selects "LadderLotsModel" ({ cls := "LadderLotsModel", name := "back", desc := "(I)I" } : Jvm.MethodName) ({ cls := "LadderLotsModel", name := "back", desc := "(I)I" } : Jvm.MethodName)) ∈ lw_all := lw_g (lw_at lw_m6 162 rfl) rfl
theorem q1481 : (Jvm.Cond.code ({ cls := "LadderLotsModel", name := "back", desc := "(I)I" } : Jvm.MethodName) prog_14_method_4_code (2 : Nat) (Option.some Jvm.ClassFile.FieldType.int)) ∈ lw_all := lw_g (lw_at lw_m6 163 rfl) rfl
theorem q1483 : (Jvm.Cond.instanceMethod ({ cls := "LadderLotsModel", name := "read", desc := "()I" } : Jvm.MethodName)) ∈ lw_all := lw_g (lw_at lw_m6 165 rfl) rfl
theorem q1484 : (Jvm.Cond.selects "LadderLotsModel" ({ cls := "LadderLotsModel", name := "read", desc := "()I" } : Jvm.MethodName) ({ cls := "LadderLotsModel", name := "read", desc := "()I" } : Jvm.MethodName)) ∈ lw_all := lw_g (lw_at lw_m6 166 rfl) rfl
theorem q1485 : (Jvm.Cond.code ({ cls := "LadderLotsModel", name := "read", desc := "()I" } : Jvm.MethodName) prog_14_method_32_code (3 : Nat) (Option.some Jvm.ClassFile.FieldType.int)) ∈ lw_all := lw_g (lw_at lw_m6 167 rfl) rfl
theorem q1486 : (Jvm.Cond.methodLink "LadderLotsModel" (289 : Nat) ({ cls := "LadderLotsModel", name := "scanAll", desc := "()V" } : Jvm.MethodName)) ∈ lw_all := lw_g (lw_at lw_m6 168 rfl) rfl
theorem q1487 : (Jvm.Cond.privateMethod ({ cls := "LadderLotsModel", name := "scanAll", desc := "()V" } : Jvm.MethodName)) ∈ lw_tbl := lw_at lw_m6 169 rfl
theorem q1488 : (Jvm.Cond.instanceMethod ({ cls := "LadderLotsModel", name := "scanAll", desc := "()V" } : Jvm.MethodName)) ∈ lw_all := lw_g (lw_at lw_m6 170 rfl) rfl
theorem q1489 : (Jvm.Cond.code ({ cls := "LadderLotsModel", name := "scanAll", desc := "()V" } : Jvm.MethodName) prog_14_method_11_code (4 : Nat) (Option.none : Option Jvm.ClassFile.FieldType)) ∈ lw_all := lw_g (lw_at lw_m6 171 rfl) rfl
theorem q1490 : (Jvm.Cond.methodLink "LadderLotsModel" (162 : Nat) ({ cls := "LadderLotsModel", name := "byteAt", desc := "(I)I" } : Jvm.MethodName)) ∈ lw_all := lw_g (lw_at lw_m6 172 rfl) rfl
theorem q1491 : (Jvm.Cond.privateMethod ({ cls := "LadderLotsModel", name := "byteAt", desc := "(I)I" } : Jvm.MethodName)) ∈ lw_tbl := lw_at lw_m6 173 rfl
theorem q1492 : (Jvm.Cond.instanceMethod ({ cls := "LadderLotsModel", name := "byteAt", desc := "(I)I" } : Jvm.MethodName)) ∈ lw_all := lw_g (lw_at lw_m6 174 rfl) rfl
theorem q1493 : (Jvm.Cond.code ({ cls := "LadderLotsModel", name := "byteAt", desc := "(I)I" } : Jvm.MethodName) prog_14_method_5_code (2 : Nat) (Option.some Jvm.ClassFile.FieldType.int)) ∈ lw_all := lw_g (lw_at lw_m6 175 rfl) rfl
theorem q1494 : (Jvm.Cond.methodLink "LadderLotsModel" (208 : Nat) ({ cls := "LadderLotsModel", name := "scan", desc := "(I)I" } : Jvm.MethodName)) ∈ lw_all := lw_g (lw_at lw_m6 176 rfl) rfl
theorem q1495 : (Jvm.Cond.privateMethod ({ cls := "LadderLotsModel", name := "scan", desc := "(I)I" } : Jvm.MethodName)) ∈ lw_tbl := lw_at lw_m6 177 rfl
theorem q1496 : (Jvm.Cond.instanceMethod ({ cls := "LadderLotsModel", name := "scan", desc := "(I)I" } : Jvm.MethodName)) ∈ lw_all := lw_g (lw_at lw_m6 178 rfl) rfl
theorem q1497 : (Jvm.Cond.code ({ cls := "LadderLotsModel", name := "scan", desc := "(I)I" } : Jvm.MethodName) prog_14_method_10_code (6 : Nat) (Option.some Jvm.ClassFile.FieldType.int)) ∈ lw_all := lw_g (lw_at lw_m6 179 rfl) rfl
theorem q1498 : (Jvm.Cond.methodLink "LadderLotsModel" (189 : Nat) ({ cls := "LadderLotsModel", name := "isLetter", desc := "(I)Z" } : Jvm.MethodName)) ∈ lw_all := lw_g (lw_at lw_m6 180 rfl) rfl
theorem q1499 : (Jvm.Cond.privateMethod ({ cls := "LadderLotsModel", name := "isLetter", desc := "(I)Z" } : Jvm.MethodName)) ∈ lw_tbl := lw_at lw_m6 181 rfl
theorem q1500 : (Jvm.Cond.instanceMethod ({ cls := "LadderLotsModel", name := "isLetter", desc := "(I)Z" } : Jvm.MethodName)) ∈ lw_all := lw_g (lw_at lw_m6 182 rfl) rfl
theorem q1501 : (Jvm.Cond.code ({ cls := "LadderLotsModel", name := "isLetter", desc := "(I)Z" } : Jvm.MethodName) prog_14_method_6_code (2 : Nat) (Option.some Jvm.ClassFile.FieldType.boolean)) ∈ lw_all := lw_g (lw_at lw_m6 183 rfl) rfl
theorem q1502 : (Jvm.Cond.constantLong "LadderLotsModel" (193 : Nat) (27 : Int64)) ∈ lw_all := lw_g (lw_at lw_m6 184 rfl) rfl
theorem q1503 : (Jvm.Cond.constantLong "LadderLotsModel" (195 : Nat) (96 : Int64)) ∈ lw_all := lw_g (lw_at lw_m6 185 rfl) rfl
theorem q1504 : (Jvm.Cond.methodLink "LadderLotsModel" (197 : Nat) ({ cls := "LadderLotsModel", name := "wordOf", desc := "(J)I" } : Jvm.MethodName)) ∈ lw_all := lw_g (lw_at lw_m6 186 rfl) rfl
theorem q1505 : (Jvm.Cond.static ({ cls := "LadderLotsModel", name := "wordOf", desc := "(J)I" } : Jvm.MethodName)) ∈ lw_all := lw_g (lw_at lw_m6 187 rfl) rfl
theorem q1506 : (Jvm.Cond.code ({ cls := "LadderLotsModel", name := "wordOf", desc := "(J)I" } : Jvm.MethodName) prog_14_method_9_code (2 : Nat) (Option.some Jvm.ClassFile.FieldType.int)) ∈ lw_all := lw_g (lw_at lw_m6 188 rfl) rfl
theorem q1507 : (Jvm.Cond.constantLong "LadderLotsModel" (169 : Nat) (240049 : Int64)) ∈ lw_all := lw_g (lw_at lw_m6 189 rfl) rfl
theorem q1508 : (Jvm.Cond.constantLong "LadderLotsModel" (171 : Nat) (316163 : Int64)) ∈ lw_all := lw_g (lw_at lw_m6 190 rfl) rfl
theorem q1509 : (Jvm.Cond.constantLong "LadderLotsModel" (173 : Nat) (369988 : Int64)) ∈ lw_all := lw_g (lw_at lw_m6 191 rfl) rfl
theorem q1510 : (Jvm.Cond.constantLong "LadderLotsModel" (175 : Nat) (139055 : Int64)) ∈ lw_all := lw_g (lw_at lw_m6 192 rfl) rfl
theorem q1511 : (Jvm.Cond.constantLong "LadderLotsModel" (177 : Nat) (40187 : Int64)) ∈ lw_all := lw_g (lw_at lw_m6 193 rfl) rfl
theorem q1512 : (Jvm.Cond.constantLong "LadderLotsModel" (179 : Nat) (6946700 : Int64)) ∈ lw_all := lw_g (lw_at lw_m6 194 rfl) rfl
theorem q1513 : (Jvm.Cond.constantLong "LadderLotsModel" (181 : Nat) (15827 : Int64)) ∈ lw_all := lw_g (lw_at lw_m6 195 rfl) rfl
theorem q1514 : (Jvm.Cond.constantLong "LadderLotsModel" (183 : Nat) (310210754 : Int64)) ∈ lw_all := lw_g (lw_at lw_m6 196 rfl) rfl
theorem q1515 : (Jvm.Cond.constantLong "LadderLotsModel" (185 : Nat) (298503040 : Int64)) ∈ lw_all := lw_g (lw_at lw_m6 197 rfl) rfl
theorem q1516 : (Jvm.Cond.constantLong "LadderLotsModel" (187 : Nat) (10815598 : Int64)) ∈ lw_all := lw_g (lw_at lw_m6 198 rfl) rfl
theorem q1517 : (Jvm.Cond.methodLink "LadderLotsModel" (201 : Nat) ({ cls := "LadderLotsModel", name := "token", desc := "(III)V" } : Jvm.MethodName)) ∈ lw_all := lw_g (lw_at lw_m6 199 rfl) rfl
theorem q1518 : (Jvm.Cond.privateMethod ({ cls := "LadderLotsModel", name := "token", desc := "(III)V" } : Jvm.MethodName)) ∈ lw_tbl := lw_at lw_m6 200 rfl
theorem q1519 : (Jvm.Cond.instanceMethod ({ cls := "LadderLotsModel", name := "token", desc := "(III)V" } : Jvm.MethodName)) ∈ lw_all := lw_g (lw_at lw_m6 201 rfl) rfl
theorem q1520 : (Jvm.Cond.code ({ cls := "LadderLotsModel", name := "token", desc := "(III)V" } : Jvm.MethodName) prog_14_method_8_code (4 : Nat) (Option.none : Option Jvm.ClassFile.FieldType)) ∈ lw_all := lw_g (lw_at lw_m6 202 rfl) rfl
theorem q1521 : (Jvm.Cond.methodLink "LadderLotsModel" (205 : Nat) ({ cls := "LadderLotsModel", name := "isDigit", desc := "(I)Z" } : Jvm.MethodName)) ∈ lw_all := lw_g (lw_at lw_m6 203 rfl) rfl
theorem q1522 : (Jvm.Cond.privateMethod ({ cls := "LadderLotsModel", name := "isDigit", desc := "(I)Z" } : Jvm.MethodName)) ∈ lw_tbl := lw_at lw_m6 204 rfl
theorem q1523 : (Jvm.Cond.instanceMethod ({ cls := "LadderLotsModel", name := "isDigit", desc := "(I)Z" } : Jvm.MethodName)) ∈ lw_all := lw_g (lw_at lw_m6 205 rfl) rfl
theorem q1524 : (Jvm.Cond.code ({ cls := "LadderLotsModel", name := "isDigit", desc := "(I)Z" } : Jvm.MethodName) prog_14_method_7_code (2 : Nat) (Option.some Jvm.ClassFile.FieldType.boolean)) ∈ lw_all := lw_g (lw_at lw_m6 206 rfl) rfl
theorem q1525 : (Jvm.Cond.methodLink "LadderLotsModel" (292 : Nat) ({ cls := "LadderLotsModel", name := "parses", desc := "()Z" } : Jvm.MethodName)) ∈ lw_all := lw_g (lw_at lw_m6 207 rfl) rfl
theorem q1526 : (Jvm.Cond.privateMethod ({ cls := "LadderLotsModel", name := "parses", desc := "()Z" } : Jvm.MethodName)) ∈ lw_tbl := lw_at lw_m6 208 rfl
theorem q1527 : (Jvm.Cond.instanceMethod ({ cls := "LadderLotsModel", name := "parses", desc := "()Z" } : Jvm.MethodName)) ∈ lw_all := lw_g (lw_at lw_m6 209 rfl) rfl
theorem q1528 : (Jvm.Cond.code ({ cls := "LadderLotsModel", name := "parses", desc := "()Z" } : Jvm.MethodName) prog_14_method_20_code (1 : Nat) (Option.some Jvm.ClassFile.FieldType.boolean)) ∈ lw_all := lw_g (lw_at lw_m6 210 rfl) rfl
theorem q1529 : (Jvm.Cond.methodLink "LadderLotsModel" (242 : Nat) ({ cls := "LadderLotsModel", name := "isWord", desc := "(I)Z" } : Jvm.MethodName)) ∈ lw_all := lw_g (lw_at lw_m6 211 rfl) rfl
theorem q1530 : (Jvm.Cond.privateMethod ({ cls := "LadderLotsModel", name := "isWord", desc := "(I)Z" } : Jvm.MethodName)) ∈ lw_tbl := lw_at lw_m6 212 rfl
theorem q1531 : (Jvm.Cond.instanceMethod ({ cls := "LadderLotsModel", name := "isWord", desc := "(I)Z" } : Jvm.MethodName)) ∈ lw_all := lw_g (lw_at lw_m6 213 rfl) rfl
theorem q1532 : (Jvm.Cond.code ({ cls := "LadderLotsModel", name := "isWord", desc := "(I)Z" } : Jvm.MethodName) prog_14_method_15_code (2 : Nat) (Option.some Jvm.ClassFile.FieldType.boolean)) ∈ lw_all := lw_g (lw_at lw_m6 214 rfl) rfl
theorem q1533 : (Jvm.Cond.methodLink "LadderLotsModel" (217 : Nat) ({ cls := "LadderLotsModel", name := "wrong", desc := "(I)Z" } : Jvm.MethodName)) ∈ lw_all := lw_g (lw_at lw_m6 215 rfl) rfl
theorem q1534 : (Jvm.Cond.privateMethod ({ cls := "LadderLotsModel", name := "wrong", desc := "(I)Z" } : Jvm.MethodName)) ∈ lw_tbl := lw_at lw_m6 216 rfl
theorem q1535 : (Jvm.Cond.instanceMethod ({ cls := "LadderLotsModel", name := "wrong", desc := "(I)Z" } : Jvm.MethodName)) ∈ lw_all := lw_g (lw_at lw_m6 217 rfl) rfl
theorem q1536 : (Jvm.Cond.code ({ cls := "LadderLotsModel", name := "wrong", desc := "(I)Z" } : Jvm.MethodName) prog_14_method_12_code (2 : Nat) (Option.some Jvm.ClassFile.FieldType.boolean)) ∈ lw_all := lw_g (lw_at lw_m6 218 rfl) rfl
theorem q1537 : (Jvm.Cond.methodLink "LadderLotsModel" (220 : Nat) ({ cls := "LadderLotsModel", name := "pass", desc := "()Z" } : Jvm.MethodName)) ∈ lw_all := lw_g (lw_at lw_m6 219 rfl) rfl
theorem q1538 : (Jvm.Cond.privateMethod ({ cls := "LadderLotsModel", name := "pass", desc := "()Z" } : Jvm.MethodName)) ∈ lw_tbl := lw_at lw_m6 220 rfl
theorem q1539 : (Jvm.Cond.instanceMethod ({ cls := "LadderLotsModel", name := "pass", desc := "()Z" } : Jvm.MethodName)) ∈ lw_all := lw_g (lw_at lw_m6 221 rfl) rfl
theorem q1540 : (Jvm.Cond.code ({ cls := "LadderLotsModel", name := "pass", desc := "()Z" } : Jvm.MethodName) prog_14_method_13_code (1 : Nat) (Option.some Jvm.ClassFile.FieldType.boolean)) ∈ lw_all := lw_g (lw_at lw_m6 222 rfl) rfl
theorem q1541 : (Jvm.Cond.methodLink "LadderLotsModel" (233 : Nat) ({ cls := "LadderLotsModel", name := "takes", desc := "(I)Z" } : Jvm.MethodName)) ∈ lw_all := lw_g (lw_at lw_m6 223 rfl) rfl
theorem q1542 : (Jvm.Cond.privateMethod ({ cls := "LadderLotsModel", name := "takes", desc := "(I)Z" } : Jvm.MethodName)) ∈ lw_tbl := lw_at lw_m6 224 rfl
theorem q1543 : (Jvm.Cond.instanceMethod ({ cls := "LadderLotsModel", name := "takes", desc := "(I)Z" } : Jvm.MethodName)) ∈ lw_all := lw_g (lw_at lw_m6 225 rfl) rfl
theorem q1544 : (Jvm.Cond.code ({ cls := "LadderLotsModel", name := "takes", desc := "(I)Z" } : Jvm.MethodName) prog_14_method_16_code (2 : Nat) (Option.some Jvm.ClassFile.FieldType.boolean)) ∈ lw_all := lw_g (lw_at lw_m6 226 rfl) rfl
theorem q1545 : (Jvm.Cond.methodLink "LadderLotsModel" (239 : Nat) ({ cls := "LadderLotsModel", name := "takesSign", desc := "(I)Z" } : Jvm.MethodName)) ∈ lw_all := lw_g (lw_at lw_m6 227 rfl) rfl
theorem q1546 : (Jvm.Cond.privateMethod ({ cls := "LadderLotsModel", name := "takesSign", desc := "(I)Z" } : Jvm.MethodName)) ∈ lw_tbl := lw_at lw_m6 228 rfl
theorem q1547 : (Jvm.Cond.instanceMethod ({ cls := "LadderLotsModel", name := "takesSign", desc := "(I)Z" } : Jvm.MethodName)) ∈ lw_all := lw_g (lw_at lw_m6 229 rfl) rfl
theorem q1548 : (Jvm.Cond.code ({ cls := "LadderLotsModel", name := "takesSign", desc := "(I)Z" } : Jvm.MethodName) prog_14_method_17_code (2 : Nat) (Option.some Jvm.ClassFile.FieldType.boolean)) ∈ lw_all := lw_g (lw_at lw_m6 230 rfl) rfl
theorem q1549 : (Jvm.Cond.methodLink "LadderLotsModel" (224 : Nat) ({ cls := "LadderLotsModel", name := "isSign", desc := "(I)Z" } : Jvm.MethodName)) ∈ lw_all := lw_g (lw_at lw_m6 231 rfl) rfl
theorem q1550 : (Jvm.Cond.privateMethod ({ cls := "LadderLotsModel", name := "isSign", desc := "(I)Z" } : Jvm.MethodName)) ∈ lw_tbl := lw_at lw_m6 232 rfl
theorem q1551 : (Jvm.Cond.instanceMethod ({ cls := "LadderLotsModel", name := "isSign", desc := "(I)Z" } : Jvm.MethodName)) ∈ lw_all := lw_g (lw_at lw_m6 233 rfl) rfl
theorem q1552 : (Jvm.Cond.code ({ cls := "LadderLotsModel", name := "isSign", desc := "(I)Z" } : Jvm.MethodName) prog_14_method_14_code (2 : Nat) (Option.some Jvm.ClassFile.FieldType.boolean)) ∈ lw_all := lw_g (lw_at lw_m6 234 rfl) rfl
theorem q1553 : (Jvm.Cond.methodLink "LadderLotsModel" (245 : Nat) ({ cls := "LadderLotsModel", name := "goesThrough", desc := "()Z" } : Jvm.MethodName)) ∈ lw_all := lw_g (lw_at lw_m6 235 rfl) rfl
theorem q1554 : (Jvm.Cond.privateMethod ({ cls := "LadderLotsModel", name := "goesThrough", desc := "()Z" } : Jvm.MethodName)) ∈ lw_tbl := lw_at lw_m6 236 rfl
theorem q1555 : (Jvm.Cond.instanceMethod ({ cls := "LadderLotsModel", name := "goesThrough", desc := "()Z" } : Jvm.MethodName)) ∈ lw_all := lw_g (lw_at lw_m6 237 rfl) rfl
theorem q1556 : (Jvm.Cond.code ({ cls := "LadderLotsModel", name := "goesThrough", desc := "()Z" } : Jvm.MethodName) prog_14_method_19_code (2 : Nat) (Option.some Jvm.ClassFile.FieldType.boolean)) ∈ lw_all := lw_g (lw_at lw_m6 238 rfl) rfl
theorem q1557 : (Jvm.Cond.methodLink "LadderLotsModel" (236 : Nat) ({ cls := "LadderLotsModel", name := "opens", desc := "()Z" } : Jvm.MethodName)) ∈ lw_all := lw_g (lw_at lw_m6 239 rfl) rfl
theorem q1558 : (Jvm.Cond.privateMethod ({ cls := "LadderLotsModel", name := "opens", desc := "()Z" } : Jvm.MethodName)) ∈ lw_tbl := lw_at lw_m7 0 rfl
theorem q1559 : (Jvm.Cond.instanceMethod ({ cls := "LadderLotsModel", name := "opens", desc := "()Z" } : Jvm.MethodName)) ∈ lw_all := lw_g (lw_at lw_m7 1 rfl) rfl
theorem q1560 : (Jvm.Cond.code ({ cls := "LadderLotsModel", name := "opens", desc := "()Z" } : Jvm.MethodName) prog_14_method_18_code (1 : Nat) (Option.some Jvm.ClassFile.FieldType.boolean)) ∈ lw_all := lw_g (lw_at lw_m7 2 rfl) rfl
theorem q1561 : (Jvm.Cond.methodLink "LadderLotsModel" (295 : Nat) ({ cls := "LadderLotsModel", name := "tellAll", desc := "()V" } : Jvm.MethodName)) ∈ lw_all := lw_g (lw_at lw_m7 3 rfl) rfl
theorem q1562 : (Jvm.Cond.privateMethod ({ cls := "LadderLotsModel", name := "tellAll", desc := "()V" } : Jvm.MethodName)) ∈ lw_tbl := lw_at lw_m7 4 rfl
theorem q1563 : (Jvm.Cond.instanceMethod ({ cls := "LadderLotsModel", name := "tellAll", desc := "()V" } : Jvm.MethodName)) ∈ lw_all := lw_g (lw_at lw_m7 5 rfl) rfl
theorem q1564 : (Jvm.Cond.code ({ cls := "LadderLotsModel", name := "tellAll", desc := "()V" } : Jvm.MethodName) prog_14_method_31_code (3 : Nat) (Option.none : Option Jvm.ClassFile.FieldType)) ∈ lw_all := lw_g (lw_at lw_m7 6 rfl) rfl
theorem q1565 : (Jvm.Cond.methodLink "LadderLotsModel" (254 : Nat) ({ cls := "LadderLotsModel", name := "tells", desc := "(II)V" } : Jvm.MethodName)) ∈ lw_all := lw_g (lw_at lw_m7 7 rfl) rfl
theorem q1566 : (Jvm.Cond.privateMethod ({ cls := "LadderLotsModel", name := "tells", desc := "(II)V" } : Jvm.MethodName)) ∈ lw_tbl := lw_at lw_m7 8 rfl
theorem q1567 : (Jvm.Cond.instanceMethod ({ cls := "LadderLotsModel", name := "tells", desc := "(II)V" } : Jvm.MethodName)) ∈ lw_all := lw_g (lw_at lw_m7 9 rfl) rfl
theorem q1568 : (Jvm.Cond.code ({ cls := "LadderLotsModel", name := "tells", desc := "(II)V" } : Jvm.MethodName) prog_14_method_21_code (4 : Nat) (Option.none : Option Jvm.ClassFile.FieldType)) ∈ lw_all := lw_g (lw_at lw_m7 10 rfl) rfl
theorem q1569 : (Jvm.Cond.methodLink "LadderLotsModel" (268 : Nat) ({ cls := "LadderLotsModel", name := "shut", desc := "()V" } : Jvm.MethodName)) ∈ lw_all := lw_g (lw_at lw_m7 11 rfl) rfl
theorem q1570 : (Jvm.Cond.privateMethod ({ cls := "LadderLotsModel", name := "shut", desc := "()V" } : Jvm.MethodName)) ∈ lw_tbl := lw_at lw_m7 12 rfl
theorem q1571 : (Jvm.Cond.instanceMethod ({ cls := "LadderLotsModel", name := "shut", desc := "()V" } : Jvm.MethodName)) ∈ lw_all := lw_g (lw_at lw_m7 13 rfl) rfl
theorem q1572 : (Jvm.Cond.code ({ cls := "LadderLotsModel", name := "shut", desc := "()V" } : Jvm.MethodName) prog_14_method_30_code (5 : Nat) (Option.none : Option Jvm.ClassFile.FieldType)) ∈ lw_all := lw_g (lw_at lw_m7 14 rfl) rfl
theorem q1573 : (Jvm.Cond.methodLink "LadderLotsModel" (265 : Nat) ({ cls := "LadderLotsModel", name := "isLong", desc := "()Z" } : Jvm.MethodName)) ∈ lw_all := lw_g (lw_at lw_m7 15 rfl) rfl
theorem q1574 : (Jvm.Cond.privateMethod ({ cls := "LadderLotsModel", name := "isLong", desc := "()Z" } : Jvm.MethodName)) ∈ lw_tbl := lw_at lw_m7 16 rfl
theorem q1575 : (Jvm.Cond.instanceMethod ({ cls := "LadderLotsModel", name := "isLong", desc := "()Z" } : Jvm.MethodName)) ∈ lw_all := lw_g (lw_at lw_m7 17 rfl) rfl
theorem q1576 : (Jvm.Cond.code ({ cls := "LadderLotsModel", name := "isLong", desc := "()Z" } : Jvm.MethodName) prog_14_method_23_code (3 : Nat) (Option.some Jvm.ClassFile.FieldType.boolean)) ∈ lw_all := lw_g (lw_at lw_m7 18 rfl) rfl
theorem q1577 : (Jvm.Cond.methodLink "LadderLotsModel" (261 : Nat) ({ cls := "LadderLotsModel", name := "put", desc := "(IIII)V" } : Jvm.MethodName)) ∈ lw_all := lw_g (lw_at lw_m7 19 rfl) rfl
theorem q1578 : (Jvm.Cond.privateMethod ({ cls := "LadderLotsModel", name := "put", desc := "(IIII)V" } : Jvm.MethodName)) ∈ lw_tbl := lw_at lw_m7 20 rfl
theorem q1579 : (Jvm.Cond.instanceMethod ({ cls := "LadderLotsModel", name := "put", desc := "(IIII)V" } : Jvm.MethodName)) ∈ lw_all := lw_g (lw_at lw_m7 21 rfl) rfl
theorem q1580 : (Jvm.Cond.code ({ cls := "LadderLotsModel", name := "put", desc := "(IIII)V" } : Jvm.MethodName) prog_14_method_22_code (6 : Nat) (Option.none : Option Jvm.ClassFile.FieldType)) ∈ lw_all := lw_g (lw_at lw_m7 22 rfl) rfl
theorem q1581 : (Jvm.Cond.methodLink "LadderLotsModel" (271 : Nat) ({ cls := "LadderLotsModel", name := "tellPart", desc := "()V" } : Jvm.MethodName)) ∈ lw_all := lw_g (lw_at lw_m7 23 rfl) rfl
theorem q1582 : (Jvm.Cond.privateMethod ({ cls := "LadderLotsModel", name := "tellPart", desc := "()V" } : Jvm.MethodName)) ∈ lw_tbl := lw_at lw_m7 24 rfl
theorem q1583 : (Jvm.Cond.instanceMethod ({ cls := "LadderLotsModel", name := "tellPart", desc := "()V" } : Jvm.MethodName)) ∈ lw_all := lw_g (lw_at lw_m7 25 rfl) rfl
theorem q1584 : (Jvm.Cond.code ({ cls := "LadderLotsModel", name := "tellPart", desc := "()V" } : Jvm.MethodName) prog_14_method_28_code (2 : Nat) (Option.none : Option Jvm.ClassFile.FieldType)) ∈ lw_all := lw_g (lw_at lw_m7 26 rfl) rfl
theorem q1585 : (Jvm.Cond.methodLink "LadderLotsModel" (274 : Nat) ({ cls := "LadderLotsModel", name := "tellMaybe", desc := "()V" } : Jvm.MethodName)) ∈ lw_all := lw_g (lw_at lw_m7 27 rfl) rfl
theorem q1586 : (Jvm.Cond.privateMethod ({ cls := "LadderLotsModel", name := "tellMaybe", desc := "()V" } : Jvm.MethodName)) ∈ lw_tbl := lw_at lw_m7 28 rfl
theorem q1587 : (Jvm.Cond.instanceMethod ({ cls := "LadderLotsModel", name := "tellMaybe", desc := "()V" } : Jvm.MethodName)) ∈ lw_all := lw_g (lw_at lw_m7 29 rfl) rfl
theorem q1588 : (Jvm.Cond.code ({ cls := "LadderLotsModel", name := "tellMaybe", desc := "()V" } : Jvm.MethodName) prog_14_method_26_code (3 : Nat) (Option.none : Option Jvm.ClassFile.FieldType)) ∈ lw_all := lw_g (lw_at lw_m7 30 rfl) rfl
theorem q1589 : (Jvm.Cond.methodLink "LadderLotsModel" (258 : Nat) ({ cls := "LadderLotsModel", name := "checkLeg", desc := "(I)V" } : Jvm.MethodName)) ∈ lw_all := lw_g (lw_at lw_m7 31 rfl) rfl
theorem q1590 : (Jvm.Cond.privateMethod ({ cls := "LadderLotsModel", name := "checkLeg", desc := "(I)V" } : Jvm.MethodName)) ∈ lw_tbl := lw_at lw_m7 32 rfl
theorem q1591 : (Jvm.Cond.instanceMethod ({ cls := "LadderLotsModel", name := "checkLeg", desc := "(I)V" } : Jvm.MethodName)) ∈ lw_all := lw_g (lw_at lw_m7 33 rfl) rfl
theorem q1592 : (Jvm.Cond.code ({ cls := "LadderLotsModel", name := "checkLeg", desc := "(I)V" } : Jvm.MethodName) prog_14_method_24_code (2 : Nat) (Option.none : Option Jvm.ClassFile.FieldType)) ∈ lw_all := lw_g (lw_at lw_m7 34 rfl) rfl
theorem q1593 : (Jvm.Cond.methodLink "LadderLotsModel" (277 : Nat) ({ cls := "LadderLotsModel", name := "tellUse", desc := "()V" } : Jvm.MethodName)) ∈ lw_all := lw_g (lw_at lw_m7 35 rfl) rfl
theorem q1594 : (Jvm.Cond.privateMethod ({ cls := "LadderLotsModel", name := "tellUse", desc := "()V" } : Jvm.MethodName)) ∈ lw_tbl := lw_at lw_m7 36 rfl
theorem q1595 : (Jvm.Cond.instanceMethod ({ cls := "LadderLotsModel", name := "tellUse", desc := "()V" } : Jvm.MethodName)) ∈ lw_all := lw_g (lw_at lw_m7 37 rfl) rfl
theorem q1596 : (Jvm.Cond.code ({ cls := "LadderLotsModel", name := "tellUse", desc := "()V" } : Jvm.MethodName) prog_14_method_27_code (8 : Nat) (Option.none : Option Jvm.ClassFile.FieldType)) ∈ lw_all := lw_g (lw_at lw_m7 38 rfl) rfl
theorem q1597 : (Jvm.Cond.methodLink "LadderLotsModel" (280 : Nat) ({ cls := "LadderLotsModel", name := "tellTimes", desc := "()V" } : Jvm.MethodName)) ∈ lw_all := lw_g (lw_at lw_m7 39 rfl) rfl
theorem q1598 : (Jvm.Cond.privateMethod ({ cls := "LadderLotsModel", name := "tellTimes", desc := "()V" } : Jvm.MethodName)) ∈ lw_tbl := lw_at lw_m7 40 rfl
theorem q1599 : (Jvm.Cond.instanceMethod ({ cls := "LadderLotsModel", name := "tellTimes", desc := "()V" } : Jvm.MethodName)) ∈ lw_all := lw_g (lw_at lw_m7 41 rfl) rfl
theorem q1600 : (Jvm.Cond.code ({ cls := "LadderLotsModel", name := "tellTimes", desc := "()V" } : Jvm.MethodName) prog_14_method_29_code (1 : Nat) (Option.none : Option Jvm.ClassFile.FieldType)) ∈ lw_all := lw_g (lw_at lw_m7 42 rfl) rfl
theorem q1601 : (Jvm.Cond.methodLink "LadderLotsModel" (283 : Nat) ({ cls := "LadderLotsModel", name := "tellElement", desc := "(I)V" } : Jvm.MethodName)) ∈ lw_all := lw_g (lw_at lw_m7 43 rfl) rfl
theorem q1602 : (Jvm.Cond.privateMethod ({ cls := "LadderLotsModel", name := "tellElement", desc := "(I)V" } : Jvm.MethodName)) ∈ lw_tbl := lw_at lw_m7 44 rfl
theorem q1603 : (Jvm.Cond.instanceMethod ({ cls := "LadderLotsModel", name := "tellElement", desc := "(I)V" } : Jvm.MethodName)) ∈ lw_all := lw_g (lw_at lw_m7 45 rfl) rfl
theorem q1604 : (Jvm.Cond.code ({ cls := "LadderLotsModel", name := "tellElement", desc := "(I)V" } : Jvm.MethodName) prog_14_method_25_code (2 : Nat) (Option.none : Option Jvm.ClassFile.FieldType)) ∈ lw_all := lw_g (lw_at lw_m7 46 rfl) rfl
theorem q1605 : (Jvm.Cond.methodLink "LadderLotsModel" (298 : Nat) ({ cls := "LadderLotsModel", name := "begin", desc := "(I)V" } : Jvm.MethodName)) ∈ lw_all := lw_g (lw_at lw_m7 47 rfl) rfl
theorem q1606 : (Jvm.Cond.privateMethod ({ cls := "LadderLotsModel", name := "begin", desc := "(I)V" } : Jvm.MethodName)) ∈ lw_tbl := lw_at lw_m7 48 rfl
theorem q1607 : (Jvm.Cond.instanceMethod ({ cls := "LadderLotsModel", name := "begin", desc := "(I)V" } : Jvm.MethodName)) ∈ lw_all := lw_g (lw_at lw_m7 49 rfl) rfl
theorem q1608 : (Jvm.Cond.code ({ cls := "LadderLotsModel", name := "begin", desc := "(I)V" } : Jvm.MethodName) prog_14_method_34_code (2 : Nat) (Option.none : Option Jvm.ClassFile.FieldType)) ∈ lw_all := lw_g (lw_at lw_m7 50 rfl) rfl
theorem q1609 : (Jvm.Cond.methodLink "LadderLotsModel" (301 : Nat) ({ cls := "LadderLotsModel", name := "add", desc := "(IIII)V" } : Jvm.MethodName)) ∈ lw_all := lw_g (lw_at lw_m7 51 rfl) rfl
theorem q1610 : (Jvm.Cond.privateMethod ({ cls := "LadderLotsModel", name := "add", desc := "(IIII)V" } : Jvm.MethodName)) ∈ lw_tbl := lw_at lw_m7 52 rfl
theorem q1611 : (Jvm.Cond.instanceMethod ({ cls := "LadderLotsModel", name := "add", desc := "(IIII)V" } : Jvm.MethodName)) ∈ lw_all := lw_g (lw_at lw_m7 53 rfl) rfl
theorem q1612 : (Jvm.Cond.code ({ cls := "LadderLotsModel", name := "add", desc := "(IIII)V" } : Jvm.MethodName) prog_14_method_35_code (7 : Nat) (Option.none : Option Jvm.ClassFile.FieldType)) ∈ lw_all := lw_g (lw_at lw_m7 54 rfl) rfl
theorem q1614 : (Jvm.Cond.instanceMethod ({ cls := "LadderLotsModel", name := "place", desc := "()I" } : Jvm.MethodName)) ∈ lw_all := lw_g (lw_at lw_m7 56 rfl) rfl
theorem q1615 : (Jvm.Cond.selects "LadderLotsModel" ({ cls := "LadderLotsModel", name := "place", desc := "()I" } : Jvm.MethodName) ({ cls := "LadderLotsModel", name := "place", desc := "()I" } : Jvm.MethodName)) ∈ lw_all := lw_g (lw_at lw_m7 57 rfl) rfl
theorem q1616 : (Jvm.Cond.code ({ cls := "LadderLotsModel", name := "place", desc := "()I" } : Jvm.MethodName) prog_14_method_33_code (1 : Nat) (Option.some Jvm.ClassFile.FieldType.int)) ∈ lw_all := lw_g (lw_at lw_m7 58 rfl) rfl
theorem q1618 : (Jvm.Cond.instanceMethod ({ cls := "LadderLotsModel", name := "clear", desc := "()I" } : Jvm.MethodName)) ∈ lw_all := lw_g (lw_at lw_m7 60 rfl) rfl
theorem q1619 : (Jvm.Cond.selects "LadderLotsModel" ({ cls := "LadderLotsModel", name := "clear", desc := "()I" } : Jvm.MethodName) ({ cls := "LadderLotsModel", name := "clear", desc := "()I" } : Jvm.MethodName)) ∈ lw_all := lw_g (lw_at lw_m7 61 rfl) rfl
theorem q1620 : (Jvm.Cond.code ({ cls := "LadderLotsModel", name := "clear", desc := "()I" } : Jvm.MethodName) prog_14_method_39_code (2 : Nat) (Option.some Jvm.ClassFile.FieldType.int)) ∈ lw_all := lw_g (lw_at lw_m7 62 rfl) rfl
theorem q1622 : (Jvm.Cond.instanceMethod ({ cls := "LadderLotsModel", name := "copy", desc := "(IZZ)I" } : Jvm.MethodName)) ∈ lw_all := lw_g (lw_at lw_m7 64 rfl) rfl
theorem q1623 : (Jvm.Cond.selects "LadderLotsModel" ({ cls := "LadderLotsModel", name := "copy", desc := "(IZZ)I" } : Jvm.MethodName) ({ cls := "LadderLotsModel", name := "copy", desc := "(IZZ)I" } : Jvm.MethodName)) ∈ lw_all := lw_g (lw_at lw_m7 65 rfl) rfl
theorem q1624 : (Jvm.Cond.code ({ cls := "LadderLotsModel", name := "copy", desc := "(IZZ)I" } : Jvm.MethodName) prog_14_method_40_code (7 : Nat) (Option.some Jvm.ClassFile.FieldType.int)) ∈ lw_all := lw_g (lw_at lw_m7 66 rfl) rfl
theorem q1625 : (Jvm.Cond.methodLink "LadderLotsModel" (307 : Nat) ({ cls := "LadderLotsModel", name := "isLadder", desc := "(I)Z" } : Jvm.MethodName)) ∈ lw_all := lw_g (lw_at lw_m7 67 rfl) rfl
theorem q1626 : (Jvm.Cond.privateMethod ({ cls := "LadderLotsModel", name := "isLadder", desc := "(I)Z" } : Jvm.MethodName)) ∈ lw_tbl := lw_at lw_m7 68 rfl
theorem q1627 : (Jvm.Cond.instanceMethod ({ cls := "LadderLotsModel", name := "isLadder", desc := "(I)Z" } : Jvm.MethodName)) ∈ lw_all := lw_g (lw_at lw_m7 69 rfl) rfl
theorem q1628 : (Jvm.Cond.code ({ cls := "LadderLotsModel", name := "isLadder", desc := "(I)Z" } : Jvm.MethodName) prog_14_method_36_code (2 : Nat) (Option.some Jvm.ClassFile.FieldType.boolean)) ∈ lw_all := lw_g (lw_at lw_m7 70 rfl) rfl
theorem q1630 : (Jvm.Cond.instanceMethod ({ cls := "LadderLotsModel", name := "join", desc := "(II)I" } : Jvm.MethodName)) ∈ lw_all := lw_g (lw_at lw_m7 72 rfl) rfl
theorem q1631 : (Jvm.Cond.selects "LadderLotsModel" ({ cls := "LadderLotsModel", name := "join", desc := "(II)I" } : Jvm.MethodName) ({ cls := "LadderLotsModel", name := "join", desc := "(II)I" } : Jvm.MethodName)) ∈ lw_all := lw_g (lw_at lw_m7 73 rfl) rfl
theorem q1632 : (Jvm.Cond.code ({ cls := "LadderLotsModel", name := "join", desc := "(II)I" } : Jvm.MethodName) prog_14_method_41_code (4 : Nat) (Option.some Jvm.ClassFile.FieldType.int)) ∈ lw_all := lw_g (lw_at lw_m7 74 rfl) rfl
theorem q1633 : (Jvm.Cond.methodLink "LadderLotsModel" (310 : Nat) ({ cls := "LadderLotsModel", name := "maybesOf", desc := "(I)I" } : Jvm.MethodName)) ∈ lw_all := lw_g (lw_at lw_m7 75 rfl) rfl
theorem q1634 : (Jvm.Cond.privateMethod ({ cls := "LadderLotsModel", name := "maybesOf", desc := "(I)I" } : Jvm.MethodName)) ∈ lw_tbl := lw_at lw_m7 76 rfl
theorem q1635 : (Jvm.Cond.instanceMethod ({ cls := "LadderLotsModel", name := "maybesOf", desc := "(I)I" } : Jvm.MethodName)) ∈ lw_all := lw_g (lw_at lw_m7 77 rfl) rfl
theorem q1636 : (Jvm.Cond.code ({ cls := "LadderLotsModel", name := "maybesOf", desc := "(I)I" } : Jvm.MethodName) prog_14_method_37_code (4 : Nat) (Option.some Jvm.ClassFile.FieldType.int)) ∈ lw_all := lw_g (lw_at lw_m7 78 rfl) rfl
theorem q1638 : (Jvm.Cond.instanceMethod ({ cls := "LadderLotsModel", name := "lots", desc := "(IIIZ)I" } : Jvm.MethodName)) ∈ lw_all := lw_g (lw_at lw_m7 80 rfl) rfl
theorem q1639 : (Jvm.Cond.selects "LadderLotsModel" ({ cls := "LadderLotsModel", name := "lots", desc := "(IIIZ)I" } : Jvm.MethodName) ({ cls := "LadderLotsModel", name := "lots", desc := "(IIIZ)I" } : Jvm.MethodName)) ∈ lw_all := lw_g (lw_at lw_m7 81 rfl) rfl
theorem q1640 : (Jvm.Cond.code ({ cls := "LadderLotsModel", name := "lots", desc := "(IIIZ)I" } : Jvm.MethodName) prog_14_method_45_code (6 : Nat) (Option.some Jvm.ClassFile.FieldType.int)) ∈ lw_all := lw_g (lw_at lw_m7 82 rfl) rfl
theorem q1641 : (Jvm.Cond.methodLink "LadderLotsModel" (318 : Nat) ({ cls := "LadderLotsModel", name := "isLegs", desc := "(I)Z" } : Jvm.MethodName)) ∈ lw_all := lw_g (lw_at lw_m7 83 rfl) rfl
theorem q1642 : (Jvm.Cond.static ({ cls := "LadderLotsModel", name := "isLegs", desc := "(I)Z" } : Jvm.MethodName)) ∈ lw_all := lw_g (lw_at lw_m7 84 rfl) rfl
theorem q1643 : (Jvm.Cond.code ({ cls := "LadderLotsModel", name := "isLegs", desc := "(I)Z" } : Jvm.MethodName) prog_14_method_44_code (1 : Nat) (Option.some Jvm.ClassFile.FieldType.boolean)) ∈ lw_all := lw_g (lw_at lw_m7 85 rfl) rfl
theorem q1644 : (Jvm.Cond.methodLink "LadderLotsModel" (321 : Nat) ({ cls := "LadderLotsModel", name := "lot", desc := "(III)I" } : Jvm.MethodName)) ∈ lw_all := lw_g (lw_at lw_m7 86 rfl) rfl
theorem q1645 : (Jvm.Cond.static ({ cls := "LadderLotsModel", name := "lot", desc := "(III)I" } : Jvm.MethodName)) ∈ lw_all := lw_g (lw_at lw_m7 87 rfl) rfl
theorem q1646 : (Jvm.Cond.code ({ cls := "LadderLotsModel", name := "lot", desc := "(III)I" } : Jvm.MethodName) prog_14_method_43_code (3 : Nat) (Option.some Jvm.ClassFile.FieldType.int)) ∈ lw_all := lw_g (lw_at lw_m7 88 rfl) rfl
theorem q1647 : (Jvm.Cond.methodLink "LadderLotsModel" (314 : Nat) ({ cls := "LadderLotsModel", name := "mixed", desc := "(II)I" } : Jvm.MethodName)) ∈ lw_all := lw_g (lw_at lw_m7 89 rfl) rfl
theorem q1648 : (Jvm.Cond.static ({ cls := "LadderLotsModel", name := "mixed", desc := "(II)I" } : Jvm.MethodName)) ∈ lw_all := lw_g (lw_at lw_m7 90 rfl) rfl
theorem q1649 : (Jvm.Cond.code ({ cls := "LadderLotsModel", name := "mixed", desc := "(II)I" } : Jvm.MethodName) prog_14_method_42_code (3 : Nat) (Option.some Jvm.ClassFile.FieldType.int)) ∈ lw_all := lw_g (lw_at lw_m7 91 rfl) rfl
theorem q1650 : (Jvm.Cond.constant "LadderLotsModel" (313 : Nat) (1103515245 : Int32)) ∈ lw_all := lw_g (lw_at lw_m7 92 rfl) rfl
theorem q1652 : (Jvm.Cond.instanceMethod ({ cls := "LadderLotsModel", name := "ladder", desc := "(II)I" } : Jvm.MethodName)) ∈ lw_all := lw_g (lw_at lw_m7 94 rfl) rfl
theorem q1653 : (Jvm.Cond.selects "LadderLotsModel" ({ cls := "LadderLotsModel", name := "ladder", desc := "(II)I" } : Jvm.MethodName) ({ cls := "LadderLotsModel", name := "ladder", desc := "(II)I" } : Jvm.MethodName)) ∈ lw_all := lw_g (lw_at lw_m7 95 rfl) rfl
theorem q1654 : (Jvm.Cond.code ({ cls := "LadderLotsModel", name := "ladder", desc := "(II)I" } : Jvm.MethodName) prog_14_method_47_code (3 : Nat) (Option.some Jvm.ClassFile.FieldType.int)) ∈ lw_all := lw_g (lw_at lw_m7 96 rfl) rfl
theorem q1655 : (Jvm.Cond.methodLink "LadderLotsModel" (325 : Nat) ({ cls := "LadderLotsModel", name := "layer", desc := "(I)I" } : Jvm.MethodName)) ∈ lw_all := lw_g (lw_at lw_m7 97 rfl) rfl
theorem q1656 : (Jvm.Cond.privateMethod ({ cls := "LadderLotsModel", name := "layer", desc := "(I)I" } : Jvm.MethodName)) ∈ lw_tbl := lw_at lw_m7 98 rfl
theorem q1657 : (Jvm.Cond.instanceMethod ({ cls := "LadderLotsModel", name := "layer", desc := "(I)I" } : Jvm.MethodName)) ∈ lw_all := lw_g (lw_at lw_m7 99 rfl) rfl
theorem q1658 : (Jvm.Cond.code ({ cls := "LadderLotsModel", name := "layer", desc := "(I)I" } : Jvm.MethodName) prog_14_method_46_code (6 : Nat) (Option.some Jvm.ClassFile.FieldType.int)) ∈ lw_all := lw_g (lw_at lw_m7 100 rfl) rfl
theorem q1659 : (Jvm.Cond.methodLink "LadderLotsModel" (328 : Nat) ({ cls := "LadderLotsModel", name := "isPlain", desc := "(I)Z" } : Jvm.MethodName)) ∈ lw_all := lw_g (lw_at lw_m7 101 rfl) rfl
theorem q1660 : (Jvm.Cond.privateMethod ({ cls := "LadderLotsModel", name := "isPlain", desc := "(I)Z" } : Jvm.MethodName)) ∈ lw_tbl := lw_at lw_m7 102 rfl
theorem q1661 : (Jvm.Cond.instanceMethod ({ cls := "LadderLotsModel", name := "isPlain", desc := "(I)Z" } : Jvm.MethodName)) ∈ lw_all := lw_g (lw_at lw_m7 103 rfl) rfl
theorem q1662 : (Jvm.Cond.code ({ cls := "LadderLotsModel", name := "isPlain", desc := "(I)Z" } : Jvm.MethodName) prog_14_method_38_code (3 : Nat) (Option.some Jvm.ClassFile.FieldType.boolean)) ∈ lw_all := lw_g (lw_at lw_m7 104 rfl) rfl
theorem q1664 : (Jvm.Cond.instanceMethod ({ cls := "LadderLotsModel", name := "element", desc := "(III)I" } : Jvm.MethodName)) ∈ lw_all := lw_g (lw_at lw_m7 106 rfl) rfl
theorem q1665 : (Jvm.Cond.selects "LadderLotsModel" ({ cls := "LadderLotsModel", name := "element", desc := "(III)I" } : Jvm.MethodName) ({ cls := "LadderLotsModel", name := "element", desc := "(III)I" } : Jvm.MethodName)) ∈ lw_all := lw_g (lw_at lw_m7 107 rfl) rfl
theorem q1666 : (Jvm.Cond.code ({ cls := "LadderLotsModel", name := "element", desc := "(III)I" } : Jvm.MethodName) prog_14_method_48_code (6 : Nat) (Option.some Jvm.ClassFile.FieldType.int)) ∈ lw_all := lw_g (lw_at lw_m7 108 rfl) rfl
theorem q1668 : (Jvm.Cond.instanceMethod ({ cls := "LadderLotsModel", name := "digit", desc := "(III)I" } : Jvm.MethodName)) ∈ lw_all := lw_g (lw_at lw_m7 110 rfl) rfl
theorem q1669 : (Jvm.Cond.selects "LadderLotsModel" ({ cls := "LadderLotsModel", name := "digit", desc := "(III)I" } : Jvm.MethodName) ({ cls := "LadderLotsModel", name := "digit", desc := "(III)I" } : Jvm.MethodName)) ∈ lw_all := lw_g (lw_at lw_m7 111 rfl) rfl
theorem q1670 : (Jvm.Cond.code ({ cls := "LadderLotsModel", name := "digit", desc := "(III)I" } : Jvm.MethodName) prog_14_method_58_code (4 : Nat) (Option.some Jvm.ClassFile.FieldType.int)) ∈ lw_all := lw_g (lw_at lw_m7 112 rfl) rfl
theorem q1671 : (Jvm.Cond.methodLink "LadderLotsModel" (359 : Nat) ({ cls := "LadderLotsModel", name := "isOrder", desc := "(II)Z" } : Jvm.MethodName)) ∈ lw_all := lw_g (lw_at lw_m7 113 rfl) rfl
theorem q1672 : (Jvm.Cond.privateMethod ({ cls := "LadderLotsModel", name := "isOrder", desc := "(II)Z" } : Jvm.MethodName)) ∈ lw_tbl := lw_at lw_m7 114 rfl
theorem q1673 : (Jvm.Cond.instanceMethod ({ cls := "LadderLotsModel", name := "isOrder", desc := "(II)Z" } : Jvm.MethodName)) ∈ lw_all := lw_g (lw_at lw_m7 115 rfl) rfl
theorem q1674 : (Jvm.Cond.code ({ cls := "LadderLotsModel", name := "isOrder", desc := "(II)Z" } : Jvm.MethodName) prog_14_method_57_code (3 : Nat) (Option.some Jvm.ClassFile.FieldType.boolean)) ∈ lw_all := lw_g (lw_at lw_m7 116 rfl) rfl
theorem q1675 : (Jvm.Cond.methodLink "LadderLotsModel" (337 : Nat) ({ cls := "LadderLotsModel", name := "ordersOf", desc := "(I)I" } : Jvm.MethodName)) ∈ lw_all := lw_g (lw_at lw_m7 117 rfl) rfl
theorem q1676 : (Jvm.Cond.static ({ cls := "LadderLotsModel", name := "ordersOf", desc := "(I)I" } : Jvm.MethodName)) ∈ lw_all := lw_g (lw_at lw_m7 118 rfl) rfl
theorem q1677 : (Jvm.Cond.code ({ cls := "LadderLotsModel", name := "ordersOf", desc := "(I)I" } : Jvm.MethodName) prog_14_method_49_code (3 : Nat) (Option.some Jvm.ClassFile.FieldType.int)) ∈ lw_all := lw_g (lw_at lw_m7 119 rfl) rfl
theorem q1678 : (Jvm.Cond.methodLink "LadderLotsModel" (363 : Nat) ({ cls := "LadderLotsModel", name := "lay", desc := "(I)V" } : Jvm.MethodName)) ∈ lw_all := lw_g (lw_at lw_m7 120 rfl) rfl
theorem q1679 : (Jvm.Cond.privateMethod ({ cls := "LadderLotsModel", name := "lay", desc := "(I)V" } : Jvm.MethodName)) ∈ lw_tbl := lw_at lw_m7 121 rfl
theorem q1680 : (Jvm.Cond.instanceMethod ({ cls := "LadderLotsModel", name := "lay", desc := "(I)V" } : Jvm.MethodName)) ∈ lw_all := lw_g (lw_at lw_m7 122 rfl) rfl
theorem q1681 : (Jvm.Cond.code ({ cls := "LadderLotsModel", name := "lay", desc := "(I)V" } : Jvm.MethodName) prog_14_method_54_code (6 : Nat) (Option.none : Option Jvm.ClassFile.FieldType)) ∈ lw_all := lw_g (lw_at lw_m7 123 rfl) rfl
theorem q1682 : (Jvm.Cond.methodLink "LadderLotsModel" (343 : Nat) ({ cls := "LadderLotsModel", name := "goOn", desc := "(I)V" } : Jvm.MethodName)) ∈ lw_all := lw_g (lw_at lw_m7 124 rfl) rfl
theorem q1683 : (Jvm.Cond.privateMethod ({ cls := "LadderLotsModel", name := "goOn", desc := "(I)V" } : Jvm.MethodName)) ∈ lw_tbl := lw_at lw_m7 125 rfl
theorem q1684 : (Jvm.Cond.instanceMethod ({ cls := "LadderLotsModel", name := "goOn", desc := "(I)V" } : Jvm.MethodName)) ∈ lw_all := lw_g (lw_at lw_m7 126 rfl) rfl
theorem q1685 : (Jvm.Cond.code ({ cls := "LadderLotsModel", name := "goOn", desc := "(I)V" } : Jvm.MethodName) prog_14_method_51_code (6 : Nat) (Option.none : Option Jvm.ClassFile.FieldType)) ∈ lw_all := lw_g (lw_at lw_m7 127 rfl) rfl
theorem q1686 : (Jvm.Cond.methodLink "LadderLotsModel" (331 : Nat) ({ cls := "LadderLotsModel", name := "swapHand", desc := "(II)V" } : Jvm.MethodName)) ∈ lw_all := lw_g (lw_at lw_m7 128 rfl) rfl
theorem q1687 : (Jvm.Cond.privateMethod ({ cls := "LadderLotsModel", name := "swapHand", desc := "(II)V" } : Jvm.MethodName)) ∈ lw_tbl := lw_at lw_m7 129 rfl
theorem q1688 : (Jvm.Cond.instanceMethod ({ cls := "LadderLotsModel", name := "swapHand", desc := "(II)V" } : Jvm.MethodName)) ∈ lw_all := lw_g (lw_at lw_m7 130 rfl) rfl
theorem q1689 : (Jvm.Cond.code ({ cls := "LadderLotsModel", name := "swapHand", desc := "(II)V" } : Jvm.MethodName) prog_14_method_52_code (4 : Nat) (Option.none : Option Jvm.ClassFile.FieldType)) ∈ lw_all := lw_g (lw_at lw_m7 131 rfl) rfl
theorem q1690 : (Jvm.Cond.methodLink "LadderLotsModel" (346 : Nat) ({ cls := "LadderLotsModel", name := "takeOrder", desc := "(II)V" } : Jvm.MethodName)) ∈ lw_all := lw_g (lw_at lw_m7 132 rfl) rfl
theorem q1691 : (Jvm.Cond.privateMethod ({ cls := "LadderLotsModel", name := "takeOrder", desc := "(II)V" } : Jvm.MethodName)) ∈ lw_tbl := lw_at lw_m7 133 rfl
theorem q1692 : (Jvm.Cond.instanceMethod ({ cls := "LadderLotsModel", name := "takeOrder", desc := "(II)V" } : Jvm.MethodName)) ∈ lw_all := lw_g (lw_at lw_m7 134 rfl) rfl
theorem q1693 : (Jvm.Cond.code ({ cls := "LadderLotsModel", name := "takeOrder", desc := "(II)V" } : Jvm.MethodName) prog_14_method_53_code (4 : Nat) (Option.none : Option Jvm.ClassFile.FieldType)) ∈ lw_all := lw_g (lw_at lw_m7 135 rfl) rfl
theorem q1694 : (Jvm.Cond.methodLink "LadderLotsModel" (349 : Nat) ({ cls := "LadderLotsModel", name := "numberOf", desc := "(I)I" } : Jvm.MethodName)) ∈ lw_all := lw_g (lw_at lw_m7 136 rfl) rfl
theorem q1695 : (Jvm.Cond.privateMethod ({ cls := "LadderLotsModel", name := "numberOf", desc := "(I)I" } : Jvm.MethodName)) ∈ lw_tbl := lw_at lw_m7 137 rfl
theorem q1696 : (Jvm.Cond.instanceMethod ({ cls := "LadderLotsModel", name := "numberOf", desc := "(I)I" } : Jvm.MethodName)) ∈ lw_all := lw_g (lw_at lw_m7 138 rfl) rfl
theorem q1697 : (Jvm.Cond.code ({ cls := "LadderLotsModel", name := "numberOf", desc := "(I)I" } : Jvm.MethodName) prog_14_method_50_code (6 : Nat) (Option.some Jvm.ClassFile.FieldType.int)) ∈ lw_all := lw_g (lw_at lw_m7 139 rfl) rfl
theorem q1698 : (Jvm.Cond.methodLink "LadderLotsModel" (352 : Nat) ({ cls := "LadderLotsModel", name := "placeOf", desc := "(III)I" } : Jvm.MethodName)) ∈ lw_all := lw_g (lw_at lw_m7 140 rfl) rfl
theorem q1699 : (Jvm.Cond.privateMethod ({ cls := "LadderLotsModel", name := "placeOf", desc := "(III)I" } : Jvm.MethodName)) ∈ lw_tbl := lw_at lw_m7 141 rfl
theorem q1700 : (Jvm.Cond.instanceMethod ({ cls := "LadderLotsModel", name := "placeOf", desc := "(III)I" } : Jvm.MethodName)) ∈ lw_all := lw_g (lw_at lw_m7 142 rfl) rfl
theorem q1701 : (Jvm.Cond.code ({ cls := "LadderLotsModel", name := "placeOf", desc := "(III)I" } : Jvm.MethodName) prog_14_method_55_code (5 : Nat) (Option.some Jvm.ClassFile.FieldType.int)) ∈ lw_all := lw_g (lw_at lw_m7 143 rfl) rfl
theorem q1702 : (Jvm.Cond.methodLink "LadderLotsModel" (355 : Nat) ({ cls := "LadderLotsModel", name := "isNearer", desc := "(III)Z" } : Jvm.MethodName)) ∈ lw_all := lw_g (lw_at lw_m7 144 rfl) rfl
theorem q1703 : (Jvm.Cond.privateMethod ({ cls := "LadderLotsModel", name := "isNearer", desc := "(III)Z" } : Jvm.MethodName)) ∈ lw_tbl := lw_at lw_m7 145 rfl
theorem q1704 : (Jvm.Cond.instanceMethod ({ cls := "LadderLotsModel", name := "isNearer", desc := "(III)Z" } : Jvm.MethodName)) ∈ lw_all := lw_g (lw_at lw_m7 146 rfl) rfl
theorem q1705 : (Jvm.Cond.code ({ cls := "LadderLotsModel", name := "isNearer", desc := "(III)Z" } : Jvm.MethodName) prog_14_method_56_code (4 : Nat) (Option.some Jvm.ClassFile.FieldType.boolean)) ∈ lw_all := lw_g (lw_at lw_m7 147 rfl) rfl
theorem q1707 : (Jvm.Cond.instanceMethod ({ cls := "LadderLotsModel", name := "down", desc := "(III)I" } : Jvm.MethodName)) ∈ lw_all := lw_g (lw_at lw_m7 149 rfl) rfl
theorem q1708 : (Jvm.Cond.selects "LadderLotsModel" ({ cls := "LadderLotsModel", name := "down", desc := "(III)I" } : Jvm.MethodName) ({ cls := "LadderLotsModel", name := "down", desc := "(III)I" } : Jvm.MethodName)) ∈ lw_all := lw_g (lw_at lw_m7 150 rfl) rfl
theorem q1709 : (Jvm.Cond.code ({ cls := "LadderLotsModel", name := "down", desc := "(III)I" } : Jvm.MethodName) prog_14_method_62_code (4 : Nat) (Option.some Jvm.ClassFile.FieldType.int)) ∈ lw_all := lw_g (lw_at lw_m7 151 rfl) rfl
theorem q1710 : (Jvm.Cond.methodLink "LadderLotsModel" (370 : Nat) ({ cls := "LadderLotsModel", name := "isDown", desc := "(III)Z" } : Jvm.MethodName)) ∈ lw_all := lw_g (lw_at lw_m7 152 rfl) rfl
theorem q1711 : (Jvm.Cond.privateMethod ({ cls := "LadderLotsModel", name := "isDown", desc := "(III)Z" } : Jvm.MethodName)) ∈ lw_tbl := lw_at lw_m7 153 rfl
theorem q1712 : (Jvm.Cond.instanceMethod ({ cls := "LadderLotsModel", name := "isDown", desc := "(III)Z" } : Jvm.MethodName)) ∈ lw_all := lw_g (lw_at lw_m7 154 rfl) rfl
theorem q1713 : (Jvm.Cond.code ({ cls := "LadderLotsModel", name := "isDown", desc := "(III)Z" } : Jvm.MethodName) prog_14_method_61_code (4 : Nat) (Option.some Jvm.ClassFile.FieldType.boolean)) ∈ lw_all := lw_g (lw_at lw_m7 155 rfl) rfl
theorem q1714 : (Jvm.Cond.methodLink "LadderLotsModel" (373 : Nat) ({ cls := "LadderLotsModel", name := "endOf", desc := "(IIII)I" } : Jvm.MethodName)) ∈ lw_all := lw_g (lw_at lw_m7 156 rfl) rfl
theorem q1715 : (Jvm.Cond.privateMethod ({ cls := "LadderLotsModel", name := "endOf", desc := "(IIII)I" } : Jvm.MethodName)) ∈ lw_tbl := lw_at lw_m7 157 rfl
theorem q1716 : (Jvm.Cond.instanceMethod ({ cls := "LadderLotsModel", name := "endOf", desc := "(IIII)I" } : Jvm.MethodName)) ∈ lw_all := lw_g (lw_at lw_m7 158 rfl) rfl
theorem q1717 : (Jvm.Cond.code ({ cls := "LadderLotsModel", name := "endOf", desc := "(IIII)I" } : Jvm.MethodName) prog_14_method_60_code (10 : Nat) (Option.some Jvm.ClassFile.FieldType.int)) ∈ lw_all := lw_g (lw_at lw_m7 159 rfl) rfl
theorem q1718 : (Jvm.Cond.methodLink "LadderLotsModel" (366 : Nat) ({ cls := "LadderLotsModel", name := "passed", desc := "(IIIZ)I" } : Jvm.MethodName)) ∈ lw_all := lw_g (lw_at lw_m7 160 rfl) rfl
theorem q1719 : (Jvm.Cond.privateMethod ({ cls := "LadderLotsModel", name := "passed", desc := "(IIIZ)I" } : Jvm.MethodName)) ∈ lw_tbl := lw_at lw_m7 161 rfl
theorem q1720 : (Jvm.Cond.instanceMethod ({ cls := "LadderLotsModel", name := "passed", desc := "(IIIZ)I" } : Jvm.MethodName)) ∈ lw_all := lw_g (lw_at lw_m7 162 rfl) rfl
theorem q1721 : (Jvm.Cond.code ({ cls := "LadderLotsModel", name := "passed", desc := "(IIIZ)I" } : Jvm.MethodName) prog_14_method_59_code (8 : Nat) (Option.some Jvm.ClassFile.FieldType.int)) ∈ lw_all := lw_g (lw_at lw_m7 163 rfl) rfl
theorem q1723 : (Jvm.Cond.instanceMethod ({ cls := "LadderLotsModel", name := "ends", desc := "(IIII)I" } : Jvm.MethodName)) ∈ lw_all := lw_g (lw_at lw_m7 165 rfl) rfl
theorem q1724 : (Jvm.Cond.selects "LadderLotsModel" ({ cls := "LadderLotsModel", name := "ends", desc := "(IIII)I" } : Jvm.MethodName) ({ cls := "LadderLotsModel", name := "ends", desc := "(IIII)I" } : Jvm.MethodName)) ∈ lw_all := lw_g (lw_at lw_m7 166 rfl) rfl
theorem q1725 : (Jvm.Cond.code ({ cls := "LadderLotsModel", name := "ends", desc := "(IIII)I" } : Jvm.MethodName) prog_14_method_63_code (5 : Nat) (Option.some Jvm.ClassFile.FieldType.int)) ∈ lw_all := lw_g (lw_at lw_m7 167 rfl) rfl
theorem q1727 : (Jvm.Cond.instanceMethod ({ cls := "LadderLotsModel", name := "fewest", desc := "(II)I" } : Jvm.MethodName)) ∈ lw_all := lw_g (lw_at lw_m7 169 rfl) rfl
theorem q1728 : (Jvm.Cond.selects "LadderLotsModel" ({ cls := "LadderLotsModel", name := "fewest", desc := "(II)I" } : Jvm.MethodName) ({ cls := "LadderLotsModel", name := "fewest", desc := "(II)I" } : Jvm.MethodName)) ∈ lw_all := lw_g (lw_at lw_m7 170 rfl) rfl
theorem q1729 : (Jvm.Cond.code ({ cls := "LadderLotsModel", name := "fewest", desc := "(II)I" } : Jvm.MethodName) prog_14_method_64_code (3 : Nat) (Option.some Jvm.ClassFile.FieldType.int)) ∈ lw_all := lw_g (lw_at lw_m7 171 rfl) rfl
theorem q1731 : (Jvm.Cond.instanceMethod ({ cls := "LadderLotsModel", name := "ladders", desc := "(II)J" } : Jvm.MethodName)) ∈ lw_all := lw_g (lw_at lw_m7 173 rfl) rfl
theorem q1732 : (Jvm.Cond.selects "LadderLotsModel" ({ cls := "LadderLotsModel", name := "ladders", desc := "(II)J" } : Jvm.MethodName) ({ cls := "LadderLotsModel", name := "ladders", desc := "(II)J" } : Jvm.MethodName)) ∈ lw_all := lw_g (lw_at lw_m7 174 rfl) rfl
theorem q1733 : (Jvm.Cond.code ({ cls := "LadderLotsModel", name := "ladders", desc := "(II)J" } : Jvm.MethodName) prog_14_method_65_code (3 : Nat) (Option.some Jvm.ClassFile.FieldType.long)) ∈ lw_all := lw_g (lw_at lw_m7 175 rfl) rfl
theorem q1734 : (Jvm.Cond.constantLong "LadderLotsModel" (377 : Nat) (-1 : Int64)) ∈ lw_all := lw_g (lw_at lw_m7 176 rfl) rfl
theorem q1736 : (Jvm.Cond.instanceMethod ({ cls := "LadderLotsModel", name := "rung", desc := "(IIJI)I" } : Jvm.MethodName)) ∈ lw_all := lw_g (lw_at lw_m7 178 rfl) rfl
theorem q1737 : (Jvm.Cond.selects "LadderLotsModel" ({ cls := "LadderLotsModel", name := "rung", desc := "(IIJI)I" } : Jvm.MethodName) ({ cls := "LadderLotsModel", name := "rung", desc := "(IIJI)I" } : Jvm.MethodName)) ∈ lw_all := lw_g (lw_at lw_m7 179 rfl) rfl
theorem q1738 : (Jvm.Cond.code ({ cls := "LadderLotsModel", name := "rung", desc := "(IIJI)I" } : Jvm.MethodName) prog_14_method_68_code (6 : Nat) (Option.some Jvm.ClassFile.FieldType.int)) ∈ lw_all := lw_g (lw_at lw_m7 180 rfl) rfl
theorem q1739 : (Jvm.Cond.methodLink "LadderLotsModel" (379 : Nat) ({ cls := "LadderLotsModel", name := "unrank", desc := "(IIJ)V" } : Jvm.MethodName)) ∈ lw_all := lw_g (lw_at lw_m7 181 rfl) rfl
theorem q1740 : (Jvm.Cond.privateMethod ({ cls := "LadderLotsModel", name := "unrank", desc := "(IIJ)V" } : Jvm.MethodName)) ∈ lw_tbl := lw_at lw_m7 182 rfl
theorem q1741 : (Jvm.Cond.instanceMethod ({ cls := "LadderLotsModel", name := "unrank", desc := "(IIJ)V" } : Jvm.MethodName)) ∈ lw_all := lw_g (lw_at lw_m7 183 rfl) rfl
theorem q1742 : (Jvm.Cond.code ({ cls := "LadderLotsModel", name := "unrank", desc := "(IIJ)V" } : Jvm.MethodName) prog_14_method_66_code (14 : Nat) (Option.none : Option Jvm.ClassFile.FieldType)) ∈ lw_all := lw_g (lw_at lw_m7 184 rfl) rfl
theorem q1744 : (Jvm.Cond.instanceMethod ({ cls := "LadderLotsModel", name := "rank", desc := "(I)J" } : Jvm.MethodName)) ∈ lw_all := lw_g (lw_at lw_m7 186 rfl) rfl
theorem q1745 : (Jvm.Cond.selects "LadderLotsModel" ({ cls := "LadderLotsModel", name := "rank", desc := "(I)J" } : Jvm.MethodName) ({ cls := "LadderLotsModel", name := "rank", desc := "(I)J" } : Jvm.MethodName)) ∈ lw_all := lw_g (lw_at lw_m7 187 rfl) rfl
theorem q1746 : (Jvm.Cond.code ({ cls := "LadderLotsModel", name := "rank", desc := "(I)J" } : Jvm.MethodName) prog_14_method_69_code (4 : Nat) (Option.some Jvm.ClassFile.FieldType.long)) ∈ lw_all := lw_g (lw_at lw_m7 188 rfl) rfl
theorem q1747 : (Jvm.Cond.constantLong "LadderLotsModel" (383 : Nat) (-2 : Int64)) ∈ lw_all := lw_g (lw_at lw_m7 189 rfl) rfl
theorem q1748 : (Jvm.Cond.methodLink "LadderLotsModel" (385 : Nat) ({ cls := "LadderLotsModel", name := "rankOf", desc := "(II)J" } : Jvm.MethodName)) ∈ lw_all := lw_g (lw_at lw_m7 190 rfl) rfl
theorem q1749 : (Jvm.Cond.privateMethod ({ cls := "LadderLotsModel", name := "rankOf", desc := "(II)J" } : Jvm.MethodName)) ∈ lw_tbl := lw_at lw_m7 191 rfl
theorem q1750 : (Jvm.Cond.instanceMethod ({ cls := "LadderLotsModel", name := "rankOf", desc := "(II)J" } : Jvm.MethodName)) ∈ lw_all := lw_g (lw_at lw_m7 192 rfl) rfl
theorem q1751 : (Jvm.Cond.code ({ cls := "LadderLotsModel", name := "rankOf", desc := "(II)J" } : Jvm.MethodName) prog_14_method_67_code (9 : Nat) (Option.some Jvm.ClassFile.FieldType.long)) ∈ lw_all := lw_g (lw_at lw_m7 193 rfl) rfl
theorem q1753 : (Jvm.Cond.instanceMethod ({ cls := "LadderLotsModel", name := "cleared", desc := "(I)I" } : Jvm.MethodName)) ∈ lw_all := lw_g (lw_at lw_m7 195 rfl) rfl
theorem q1754 : (Jvm.Cond.selects "LadderLotsModel" ({ cls := "LadderLotsModel", name := "cleared", desc := "(I)I" } : Jvm.MethodName) ({ cls := "LadderLotsModel", name := "cleared", desc := "(I)I" } : Jvm.MethodName)) ∈ lw_all := lw_g (lw_at lw_m7 196 rfl) rfl
theorem q1755 : (Jvm.Cond.code ({ cls := "LadderLotsModel", name := "cleared", desc := "(I)I" } : Jvm.MethodName) prog_14_method_72_code (2 : Nat) (Option.some Jvm.ClassFile.FieldType.int)) ∈ lw_all := lw_g (lw_at lw_m7 197 rfl) rfl
theorem q1756 : (Jvm.Cond.methodLink "LadderLotsModel" (395 : Nat) ({ cls := "LadderLotsModel", name := "clears", desc := "(I)V" } : Jvm.MethodName)) ∈ lw_all := lw_g (lw_at lw_m7 198 rfl) rfl
theorem q1757 : (Jvm.Cond.privateMethod ({ cls := "LadderLotsModel", name := "clears", desc := "(I)V" } : Jvm.MethodName)) ∈ lw_tbl := lw_at lw_m7 199 rfl
theorem q1758 : (Jvm.Cond.instanceMethod ({ cls := "LadderLotsModel", name := "clears", desc := "(I)V" } : Jvm.MethodName)) ∈ lw_all := lw_g (lw_at lw_m7 200 rfl) rfl
theorem q1759 : (Jvm.Cond.code ({ cls := "LadderLotsModel", name := "clears", desc := "(I)V" } : Jvm.MethodName) prog_14_method_70_code (3 : Nat) (Option.none : Option Jvm.ClassFile.FieldType)) ∈ lw_all := lw_g (lw_at lw_m7 201 rfl) rfl
theorem q1760 : (Jvm.Cond.methodLink "LadderLotsModel" (392 : Nat) ({ cls := "LadderLotsModel", name := "clearsOne", desc := "(I)Z" } : Jvm.MethodName)) ∈ lw_all := lw_g (lw_at lw_m7 202 rfl) rfl
theorem q1761 : (Jvm.Cond.privateMethod ({ cls := "LadderLotsModel", name := "clearsOne", desc := "(I)Z" } : Jvm.MethodName)) ∈ lw_tbl := lw_at lw_m7 203 rfl
theorem q1762 : (Jvm.Cond.instanceMethod ({ cls := "LadderLotsModel", name := "clearsOne", desc := "(I)Z" } : Jvm.MethodName)) ∈ lw_all := lw_g (lw_at lw_m7 204 rfl) rfl
theorem q1763 : (Jvm.Cond.code ({ cls := "LadderLotsModel", name := "clearsOne", desc := "(I)Z" } : Jvm.MethodName) prog_14_method_71_code (9 : Nat) (Option.some Jvm.ClassFile.FieldType.boolean)) ∈ lw_all := lw_g (lw_at lw_m7 205 rfl) rfl
theorem q1765 : (Jvm.Cond.instanceMethod ({ cls := "LadderLotsModel", name := "kept", desc := "(II)I" } : Jvm.MethodName)) ∈ lw_all := lw_g (lw_at lw_m7 207 rfl) rfl
theorem q1766 : (Jvm.Cond.selects "LadderLotsModel" ({ cls := "LadderLotsModel", name := "kept", desc := "(II)I" } : Jvm.MethodName) ({ cls := "LadderLotsModel", name := "kept", desc := "(II)I" } : Jvm.MethodName)) ∈ lw_all := lw_g (lw_at lw_m7 208 rfl) rfl
theorem q1767 : (Jvm.Cond.code ({ cls := "LadderLotsModel", name := "kept", desc := "(II)I" } : Jvm.MethodName) prog_14_method_73_code (3 : Nat) (Option.some Jvm.ClassFile.FieldType.int)) ∈ lw_all := lw_g (lw_at lw_m7 209 rfl) rfl
theorem q1769 : (Jvm.Cond.instanceMethod ({ cls := "LadderLotsModel", name := "turns", desc := "(IIII)I" } : Jvm.MethodName)) ∈ lw_all := lw_g (lw_at lw_m7 211 rfl) rfl
theorem q1770 : (Jvm.Cond.selects "LadderLotsModel" ({ cls := "LadderLotsModel", name := "turns", desc := "(IIII)I" } : Jvm.MethodName) ({ cls := "LadderLotsModel", name := "turns", desc := "(IIII)I" } : Jvm.MethodName)) ∈ lw_all := lw_g (lw_at lw_m7 212 rfl) rfl
theorem q1771 : (Jvm.Cond.code ({ cls := "LadderLotsModel", name := "turns", desc := "(IIII)I" } : Jvm.MethodName) prog_14_method_78_code (5 : Nat) (Option.some Jvm.ClassFile.FieldType.int)) ∈ lw_all := lw_g (lw_at lw_m7 213 rfl) rfl
theorem q1772 : (Jvm.Cond.methodLink "LadderLotsModel" (409 : Nat) ({ cls := "LadderLotsModel", name := "steps", desc := "(IIIII)I" } : Jvm.MethodName)) ∈ lw_all := lw_g (lw_at lw_m7 214 rfl) rfl
theorem q1773 : (Jvm.Cond.privateMethod ({ cls := "LadderLotsModel", name := "steps", desc := "(IIIII)I" } : Jvm.MethodName)) ∈ lw_tbl := lw_at lw_m7 215 rfl
theorem q1774 : (Jvm.Cond.instanceMethod ({ cls := "LadderLotsModel", name := "steps", desc := "(IIIII)I" } : Jvm.MethodName)) ∈ lw_all := lw_g (lw_at lw_m7 216 rfl) rfl
theorem q1775 : (Jvm.Cond.code ({ cls := "LadderLotsModel", name := "steps", desc := "(IIIII)I" } : Jvm.MethodName) prog_14_method_77_code (6 : Nat) (Option.some Jvm.ClassFile.FieldType.int)) ∈ lw_all := lw_g (lw_at lw_m7 217 rfl) rfl
theorem q1776 : (Jvm.Cond.constantLong "LadderLotsModel" (401 : Nat) (800 : Int64)) ∈ lw_all := lw_g (lw_at lw_m7 218 rfl) rfl
theorem q1777 : (Jvm.Cond.methodLink "LadderLotsModel" (403 : Nat) ({ cls := "LadderLotsModel", name := "graph", desc := "(II)V" } : Jvm.MethodName)) ∈ lw_all := lw_g (lw_at lw_m7 219 rfl) rfl
theorem q1778 : (Jvm.Cond.privateMethod ({ cls := "LadderLotsModel", name := "graph", desc := "(II)V" } : Jvm.MethodName)) ∈ lw_tbl := lw_at lw_m7 220 rfl
theorem q1779 : (Jvm.Cond.instanceMethod ({ cls := "LadderLotsModel", name := "graph", desc := "(II)V" } : Jvm.MethodName)) ∈ lw_all := lw_g (lw_at lw_m7 221 rfl) rfl
theorem q1780 : (Jvm.Cond.code ({ cls := "LadderLotsModel", name := "graph", desc := "(II)V" } : Jvm.MethodName) prog_14_method_75_code (8 : Nat) (Option.none : Option Jvm.ClassFile.FieldType)) ∈ lw_all := lw_g (lw_at lw_m7 222 rfl) rfl
theorem q1781 : (Jvm.Cond.methodLink "LadderLotsModel" (398 : Nat) ({ cls := "LadderLotsModel", name := "apart", desc := "(II)I" } : Jvm.MethodName)) ∈ lw_all := lw_g (lw_at lw_m7 223 rfl) rfl
theorem q1782 : (Jvm.Cond.static ({ cls := "LadderLotsModel", name := "apart", desc := "(II)I" } : Jvm.MethodName)) ∈ lw_all := lw_g (lw_at lw_m7 224 rfl) rfl
theorem q1783 : (Jvm.Cond.code ({ cls := "LadderLotsModel", name := "apart", desc := "(II)I" } : Jvm.MethodName) prog_14_method_74_code (2 : Nat) (Option.some Jvm.ClassFile.FieldType.int)) ∈ lw_all := lw_g (lw_at lw_m7 225 rfl) rfl
theorem q1784 : (Jvm.Cond.methodLink "LadderLotsModel" (406 : Nat) ({ cls := "LadderLotsModel", name := "distances", desc := "(III)V" } : Jvm.MethodName)) ∈ lw_all := lw_g (lw_at lw_m7 226 rfl) rfl
theorem q1785 : (Jvm.Cond.privateMethod ({ cls := "LadderLotsModel", name := "distances", desc := "(III)V" } : Jvm.MethodName)) ∈ lw_tbl := lw_at lw_m7 227 rfl
theorem q1786 : (Jvm.Cond.instanceMethod ({ cls := "LadderLotsModel", name := "distances", desc := "(III)V" } : Jvm.MethodName)) ∈ lw_all := lw_g (lw_at lw_m7 228 rfl) rfl
theorem q1787 : (Jvm.Cond.code ({ cls := "LadderLotsModel", name := "distances", desc := "(III)V" } : Jvm.MethodName) prog_14_method_76_code (9 : Nat) (Option.none : Option Jvm.ClassFile.FieldType)) ∈ lw_all := lw_g (lw_at lw_m7 229 rfl) rfl
theorem q1789 : (Jvm.Cond.instanceMethod ({ cls := "LadderLotsModel", name := "moves", desc := "(IIII)I" } : Jvm.MethodName)) ∈ lw_all := lw_g (lw_at lw_m7 231 rfl) rfl
theorem q1790 : (Jvm.Cond.selects "LadderLotsModel" ({ cls := "LadderLotsModel", name := "moves", desc := "(IIII)I" } : Jvm.MethodName) ({ cls := "LadderLotsModel", name := "moves", desc := "(IIII)I" } : Jvm.MethodName)) ∈ lw_all := lw_g (lw_at lw_m7 232 rfl) rfl
theorem q1791 : (Jvm.Cond.code ({ cls := "LadderLotsModel", name := "moves", desc := "(IIII)I" } : Jvm.MethodName) prog_14_method_79_code (5 : Nat) (Option.some Jvm.ClassFile.FieldType.int)) ∈ lw_all := lw_g (lw_at lw_m7 233 rfl) rfl
theorem q1793 : (Jvm.Cond.instanceMethod ({ cls := "LadderLotsModel", name := "classes", desc := "(II)I" } : Jvm.MethodName)) ∈ lw_all := lw_g (lw_at lw_m7 235 rfl) rfl
theorem q1794 : (Jvm.Cond.selects "LadderLotsModel" ({ cls := "LadderLotsModel", name := "classes", desc := "(II)I" } : Jvm.MethodName) ({ cls := "LadderLotsModel", name := "classes", desc := "(II)I" } : Jvm.MethodName)) ∈ lw_all := lw_g (lw_at lw_m7 236 rfl) rfl
theorem q1795 : (Jvm.Cond.code ({ cls := "LadderLotsModel", name := "classes", desc := "(II)I" } : Jvm.MethodName) prog_14_method_80_code (7 : Nat) (Option.some Jvm.ClassFile.FieldType.int)) ∈ lw_all := lw_g (lw_at lw_m7 237 rfl) rfl
theorem q1797 : (Jvm.Cond.instanceMethod ({ cls := "LadderLotsModel", name := "ways", desc := "(I)J" } : Jvm.MethodName)) ∈ lw_all := lw_g (lw_at lw_m7 239 rfl) rfl
theorem q1798 : (Jvm.Cond.selects "LadderLotsModel" ({ cls := "LadderLotsModel", name := "ways", desc := "(I)J" } : Jvm.MethodName) ({ cls := "LadderLotsModel", name := "ways", desc := "(I)J" } : Jvm.MethodName)) ∈ lw_all := lw_g (lw_at lw_m8 0 rfl) rfl
theorem q1799 : (Jvm.Cond.code ({ cls := "LadderLotsModel", name := "ways", desc := "(I)J" } : Jvm.MethodName) prog_14_method_82_code (5 : Nat) (Option.some Jvm.ClassFile.FieldType.long)) ∈ lw_all := lw_g (lw_at lw_m8 1 rfl) rfl
theorem q1801 : (Jvm.Cond.instanceMethod ({ cls := "LadderLotsModel", name := "odds", desc := "(IIII)J" } : Jvm.MethodName)) ∈ lw_all := lw_g (lw_at lw_m8 3 rfl) rfl
theorem q1802 : (Jvm.Cond.selects "LadderLotsModel" ({ cls := "LadderLotsModel", name := "odds", desc := "(IIII)J" } : Jvm.MethodName) ({ cls := "LadderLotsModel", name := "odds", desc := "(IIII)J" } : Jvm.MethodName)) ∈ lw_all := lw_g (lw_at lw_m8 4 rfl) rfl
theorem q1803 : (Jvm.Cond.code ({ cls := "LadderLotsModel", name := "odds", desc := "(IIII)J" } : Jvm.MethodName) prog_14_method_84_code (8 : Nat) (Option.some Jvm.ClassFile.FieldType.long)) ∈ lw_all := lw_g (lw_at lw_m8 5 rfl) rfl
theorem q1804 : (Jvm.Cond.methodLink "LadderLotsModel" (413 : Nat) ({ cls := "LadderLotsModel", name := "isNumber", desc := "(II)Z" } : Jvm.MethodName)) ∈ lw_all := lw_g (lw_at lw_m8 6 rfl) rfl
theorem q1805 : (Jvm.Cond.privateMethod ({ cls := "LadderLotsModel", name := "isNumber", desc := "(II)Z" } : Jvm.MethodName)) ∈ lw_tbl := lw_at lw_m8 7 rfl
theorem q1806 : (Jvm.Cond.instanceMethod ({ cls := "LadderLotsModel", name := "isNumber", desc := "(II)Z" } : Jvm.MethodName)) ∈ lw_all := lw_g (lw_at lw_m8 8 rfl) rfl
theorem q1807 : (Jvm.Cond.code ({ cls := "LadderLotsModel", name := "isNumber", desc := "(II)Z" } : Jvm.MethodName) prog_14_method_83_code (3 : Nat) (Option.some Jvm.ClassFile.FieldType.boolean)) ∈ lw_all := lw_g (lw_at lw_m8 9 rfl) rfl
theorem q1808 : (Jvm.Cond.methodLink "LadderLotsModel" (416 : Nat) ({ cls := "LadderLotsModel", name := "spread", desc := "(II)V" } : Jvm.MethodName)) ∈ lw_all := lw_g (lw_at lw_m8 10 rfl) rfl
theorem q1809 : (Jvm.Cond.privateMethod ({ cls := "LadderLotsModel", name := "spread", desc := "(II)V" } : Jvm.MethodName)) ∈ lw_tbl := lw_at lw_m8 11 rfl
theorem q1810 : (Jvm.Cond.instanceMethod ({ cls := "LadderLotsModel", name := "spread", desc := "(II)V" } : Jvm.MethodName)) ∈ lw_all := lw_g (lw_at lw_m8 12 rfl) rfl
theorem q1811 : (Jvm.Cond.code ({ cls := "LadderLotsModel", name := "spread", desc := "(II)V" } : Jvm.MethodName) prog_14_method_81_code (6 : Nat) (Option.none : Option Jvm.ClassFile.FieldType)) ∈ lw_all := lw_g (lw_at lw_m8 13 rfl) rfl
theorem q1813 : (Jvm.Cond.instanceMethod ({ cls := "LadderLotsModel", name := "oddsOf", desc := "(III)J" } : Jvm.MethodName)) ∈ lw_all := lw_g (lw_at lw_m8 15 rfl) rfl
theorem q1814 : (Jvm.Cond.selects "LadderLotsModel" ({ cls := "LadderLotsModel", name := "oddsOf", desc := "(III)J" } : Jvm.MethodName) ({ cls := "LadderLotsModel", name := "oddsOf", desc := "(III)J" } : Jvm.MethodName)) ∈ lw_all := lw_g (lw_at lw_m8 16 rfl) rfl
theorem q1815 : (Jvm.Cond.code ({ cls := "LadderLotsModel", name := "oddsOf", desc := "(III)J" } : Jvm.MethodName) prog_14_method_85_code (4 : Nat) (Option.some Jvm.ClassFile.FieldType.long)) ∈ lw_all := lw_g (lw_at lw_m8 17 rfl) rfl
theorem q1817 : (Jvm.Cond.instanceMethod ({ cls := "LadderLotsModel", name := "possible", desc := "(II)I" } : Jvm.MethodName)) ∈ lw_all := lw_g (lw_at lw_m8 19 rfl) rfl
theorem q1818 : (Jvm.Cond.selects "LadderLotsModel" ({ cls := "LadderLotsModel", name := "possible", desc := "(II)I" } : Jvm.MethodName) ({ cls := "LadderLotsModel", name := "possible", desc := "(II)I" } : Jvm.MethodName)) ∈ lw_all := lw_g (lw_at lw_m8 20 rfl) rfl
theorem q1819 : (Jvm.Cond.code ({ cls := "LadderLotsModel", name := "possible", desc := "(II)I" } : Jvm.MethodName) prog_14_method_86_code (5 : Nat) (Option.some Jvm.ClassFile.FieldType.int)) ∈ lw_all := lw_g (lw_at lw_m8 21 rfl) rfl
theorem q1821 : (Jvm.Cond.instanceMethod ({ cls := "LadderLotsModel", name := "log", desc := "(III)I" } : Jvm.MethodName)) ∈ lw_all := lw_g (lw_at lw_m8 23 rfl) rfl
theorem q1822 : (Jvm.Cond.selects "LadderLotsModel" ({ cls := "LadderLotsModel", name := "log", desc := "(III)I" } : Jvm.MethodName) ({ cls := "LadderLotsModel", name := "log", desc := "(III)I" } : Jvm.MethodName)) ∈ lw_all := lw_g (lw_at lw_m8 24 rfl) rfl
theorem q1823 : (Jvm.Cond.code ({ cls := "LadderLotsModel", name := "log", desc := "(III)I" } : Jvm.MethodName) prog_14_method_87_code (4 : Nat) (Option.some Jvm.ClassFile.FieldType.int)) ∈ lw_all := lw_g (lw_at lw_m8 25 rfl) rfl
theorem q1825 : (Jvm.Cond.instanceMethod ({ cls := "LadderLotsModel", name := "annul", desc := "(I)I" } : Jvm.MethodName)) ∈ lw_all := lw_g (lw_at lw_m8 27 rfl) rfl
theorem q1826 : (Jvm.Cond.selects "LadderLotsModel" ({ cls := "LadderLotsModel", name := "annul", desc := "(I)I" } : Jvm.MethodName) ({ cls := "LadderLotsModel", name := "annul", desc := "(I)I" } : Jvm.MethodName)) ∈ lw_all := lw_g (lw_at lw_m8 28 rfl) rfl
theorem q1827 : (Jvm.Cond.code ({ cls := "LadderLotsModel", name := "annul", desc := "(I)I" } : Jvm.MethodName) prog_14_method_88_code (2 : Nat) (Option.some Jvm.ClassFile.FieldType.int)) ∈ lw_all := lw_g (lw_at lw_m8 29 rfl) rfl
theorem q1829 : (Jvm.Cond.instanceMethod ({ cls := "LadderLotsModel", name := "fitting", desc := "(II)J" } : Jvm.MethodName)) ∈ lw_all := lw_g (lw_at lw_m8 31 rfl) rfl
theorem q1830 : (Jvm.Cond.selects "LadderLotsModel" ({ cls := "LadderLotsModel", name := "fitting", desc := "(II)J" } : Jvm.MethodName) ({ cls := "LadderLotsModel", name := "fitting", desc := "(II)J" } : Jvm.MethodName)) ∈ lw_all := lw_g (lw_at lw_m8 32 rfl) rfl
theorem q1831 : (Jvm.Cond.code ({ cls := "LadderLotsModel", name := "fitting", desc := "(II)J" } : Jvm.MethodName) prog_14_method_93_code (3 : Nat) (Option.some Jvm.ClassFile.FieldType.long)) ∈ lw_all := lw_g (lw_at lw_m8 33 rfl) rfl
theorem q1832 : (Jvm.Cond.methodLink "LadderLotsModel" (425 : Nat) ({ cls := "LadderLotsModel", name := "isKnown", desc := "(II)Z" } : Jvm.MethodName)) ∈ lw_all := lw_g (lw_at lw_m8 34 rfl) rfl
theorem q1833 : (Jvm.Cond.privateMethod ({ cls := "LadderLotsModel", name := "isKnown", desc := "(II)Z" } : Jvm.MethodName)) ∈ lw_tbl := lw_at lw_m8 35 rfl
theorem q1834 : (Jvm.Cond.instanceMethod ({ cls := "LadderLotsModel", name := "isKnown", desc := "(II)Z" } : Jvm.MethodName)) ∈ lw_all := lw_g (lw_at lw_m8 36 rfl) rfl
theorem q1835 : (Jvm.Cond.code ({ cls := "LadderLotsModel", name := "isKnown", desc := "(II)Z" } : Jvm.MethodName) prog_14_method_92_code (3 : Nat) (Option.some Jvm.ClassFile.FieldType.boolean)) ∈ lw_all := lw_g (lw_at lw_m8 37 rfl) rfl
theorem q1836 : (Jvm.Cond.methodLink "LadderLotsModel" (428 : Nat) ({ cls := "LadderLotsModel", name := "fit", desc := "(II)J" } : Jvm.MethodName)) ∈ lw_all := lw_g (lw_at lw_m8 38 rfl) rfl
theorem q1837 : (Jvm.Cond.privateMethod ({ cls := "LadderLotsModel", name := "fit", desc := "(II)J" } : Jvm.MethodName)) ∈ lw_tbl := lw_at lw_m8 39 rfl
theorem q1838 : (Jvm.Cond.instanceMethod ({ cls := "LadderLotsModel", name := "fit", desc := "(II)J" } : Jvm.MethodName)) ∈ lw_all := lw_g (lw_at lw_m8 40 rfl) rfl
theorem q1839 : (Jvm.Cond.code ({ cls := "LadderLotsModel", name := "fit", desc := "(II)J" } : Jvm.MethodName) prog_14_method_91_code (6 : Nat) (Option.some Jvm.ClassFile.FieldType.long)) ∈ lw_all := lw_g (lw_at lw_m8 41 rfl) rfl
theorem q1840 : (Jvm.Cond.methodLink "LadderLotsModel" (422 : Nat) ({ cls := "LadderLotsModel", name := "isFit", desc := "(III)Z" } : Jvm.MethodName)) ∈ lw_all := lw_g (lw_at lw_m8 42 rfl) rfl
theorem q1841 : (Jvm.Cond.privateMethod ({ cls := "LadderLotsModel", name := "isFit", desc := "(III)Z" } : Jvm.MethodName)) ∈ lw_tbl := lw_at lw_m8 43 rfl
theorem q1842 : (Jvm.Cond.instanceMethod ({ cls := "LadderLotsModel", name := "isFit", desc := "(III)Z" } : Jvm.MethodName)) ∈ lw_all := lw_g (lw_at lw_m8 44 rfl) rfl
theorem q1843 : (Jvm.Cond.code ({ cls := "LadderLotsModel", name := "isFit", desc := "(III)Z" } : Jvm.MethodName) prog_14_method_90_code (5 : Nat) (Option.some Jvm.ClassFile.FieldType.boolean)) ∈ lw_all := lw_g (lw_at lw_m8 45 rfl) rfl
theorem q1844 : (Jvm.Cond.methodLink "LadderLotsModel" (419 : Nat) ({ cls := "LadderLotsModel", name := "isVoid", desc := "(II)Z" } : Jvm.MethodName)) ∈ lw_all := lw_g (lw_at lw_m8 46 rfl) rfl
theorem q1845 : (Jvm.Cond.privateMethod ({ cls := "LadderLotsModel", name := "isVoid", desc := "(II)Z" } : Jvm.MethodName)) ∈ lw_tbl := lw_at lw_m8 47 rfl
theorem q1846 : (Jvm.Cond.instanceMethod ({ cls := "LadderLotsModel", name := "isVoid", desc := "(II)Z" } : Jvm.MethodName)) ∈ lw_all := lw_g (lw_at lw_m8 48 rfl) rfl
theorem q1847 : (Jvm.Cond.code ({ cls := "LadderLotsModel", name := "isVoid", desc := "(II)Z" } : Jvm.MethodName) prog_14_method_89_code (4 : Nat) (Option.some Jvm.ClassFile.FieldType.boolean)) ∈ lw_all := lw_g (lw_at lw_m8 49 rfl) rfl
theorem q1849 : (Jvm.Cond.instanceMethod ({ cls := "LadderLotsModel", name := "likely", desc := "(IIII)J" } : Jvm.MethodName)) ∈ lw_all := lw_g (lw_at lw_m8 51 rfl) rfl
theorem q1850 : (Jvm.Cond.selects "LadderLotsModel" ({ cls := "LadderLotsModel", name := "likely", desc := "(IIII)J" } : Jvm.MethodName) ({ cls := "LadderLotsModel", name := "likely", desc := "(IIII)J" } : Jvm.MethodName)) ∈ lw_all := lw_g (lw_at lw_m8 52 rfl) rfl
theorem q1851 : (Jvm.Cond.code ({ cls := "LadderLotsModel", name := "likely", desc := "(IIII)J" } : Jvm.MethodName) prog_14_method_95_code (7 : Nat) (Option.some Jvm.ClassFile.FieldType.long)) ∈ lw_all := lw_g (lw_at lw_m8 53 rfl) rfl
theorem q1852 : (Jvm.Cond.methodLink "LadderLotsModel" (431 : Nat) ({ cls := "LadderLotsModel", name := "likelyOf", desc := "(II)J" } : Jvm.MethodName)) ∈ lw_all := lw_g (lw_at lw_m8 54 rfl) rfl
theorem q1853 : (Jvm.Cond.privateMethod ({ cls := "LadderLotsModel", name := "likelyOf", desc := "(II)J" } : Jvm.MethodName)) ∈ lw_tbl := lw_at lw_m8 55 rfl
theorem q1854 : (Jvm.Cond.instanceMethod ({ cls := "LadderLotsModel", name := "likelyOf", desc := "(II)J" } : Jvm.MethodName)) ∈ lw_all := lw_g (lw_at lw_m8 56 rfl) rfl
theorem q1855 : (Jvm.Cond.code ({ cls := "LadderLotsModel", name := "likelyOf", desc := "(II)J" } : Jvm.MethodName) prog_14_method_94_code (6 : Nat) (Option.some Jvm.ClassFile.FieldType.long)) ∈ lw_all := lw_g (lw_at lw_m8 57 rfl) rfl
theorem q1857 : (Jvm.Cond.instanceMethod ({ cls := "LadderLotsModel", name := "next", desc := "(II)I" } : Jvm.MethodName)) ∈ lw_all := lw_g (lw_at lw_m8 59 rfl) rfl
theorem q1858 : (Jvm.Cond.selects "LadderLotsModel" ({ cls := "LadderLotsModel", name := "next", desc := "(II)I" } : Jvm.MethodName) ({ cls := "LadderLotsModel", name := "next", desc := "(II)I" } : Jvm.MethodName)) ∈ lw_all := lw_g (lw_at lw_m8 60 rfl) rfl
theorem q1859 : (Jvm.Cond.code ({ cls := "LadderLotsModel", name := "next", desc := "(II)I" } : Jvm.MethodName) prog_14_method_96_code (12 : Nat) (Option.some Jvm.ClassFile.FieldType.int)) ∈ lw_all := lw_g (lw_at lw_m8 61 rfl) rfl
theorem q1861 : (Jvm.Cond.instanceMethod ({ cls := "LadderLotsModel", name := "drawn", desc := "(III)I" } : Jvm.MethodName)) ∈ lw_all := lw_g (lw_at lw_m8 63 rfl) rfl
theorem q1862 : (Jvm.Cond.selects "LadderLotsModel" ({ cls := "LadderLotsModel", name := "drawn", desc := "(III)I" } : Jvm.MethodName) ({ cls := "LadderLotsModel", name := "drawn", desc := "(III)I" } : Jvm.MethodName)) ∈ lw_all := lw_g (lw_at lw_m8 64 rfl) rfl
theorem q1863 : (Jvm.Cond.code ({ cls := "LadderLotsModel", name := "drawn", desc := "(III)I" } : Jvm.MethodName) prog_14_method_99_code (4 : Nat) (Option.some Jvm.ClassFile.FieldType.int)) ∈ lw_all := lw_g (lw_at lw_m8 65 rfl) rfl
theorem q1864 : (Jvm.Cond.methodLink "LadderLotsModel" (437 : Nat) ({ cls := "LadderLotsModel", name := "needs", desc := "(II)V" } : Jvm.MethodName)) ∈ lw_all := lw_g (lw_at lw_m8 66 rfl) rfl
theorem q1865 : (Jvm.Cond.privateMethod ({ cls := "LadderLotsModel", name := "needs", desc := "(II)V" } : Jvm.MethodName)) ∈ lw_tbl := lw_at lw_m8 67 rfl
theorem q1866 : (Jvm.Cond.instanceMethod ({ cls := "LadderLotsModel", name := "needs", desc := "(II)V" } : Jvm.MethodName)) ∈ lw_all := lw_g (lw_at lw_m8 68 rfl) rfl
theorem q1867 : (Jvm.Cond.code ({ cls := "LadderLotsModel", name := "needs", desc := "(II)V" } : Jvm.MethodName) prog_14_method_98_code (10 : Nat) (Option.none : Option Jvm.ClassFile.FieldType)) ∈ lw_all := lw_g (lw_at lw_m8 69 rfl) rfl
theorem q1868 : (Jvm.Cond.methodLink "LadderLotsModel" (434 : Nat) ({ cls := "LadderLotsModel", name := "beside", desc := "(II)I" } : Jvm.MethodName)) ∈ lw_all := lw_g (lw_at lw_m8 70 rfl) rfl
theorem q1869 : (Jvm.Cond.static ({ cls := "LadderLotsModel", name := "beside", desc := "(II)I" } : Jvm.MethodName)) ∈ lw_all := lw_g (lw_at lw_m8 71 rfl) rfl
theorem q1870 : (Jvm.Cond.code ({ cls := "LadderLotsModel", name := "beside", desc := "(II)I" } : Jvm.MethodName) prog_14_method_97_code (2 : Nat) (Option.some Jvm.ClassFile.FieldType.int)) ∈ lw_all := lw_g (lw_at lw_m8 72 rfl) rfl
theorem q1872 : (Jvm.Cond.instanceMethod ({ cls := "LadderLotsModel", name := "drawnAt", desc := "(IIII)I" } : Jvm.MethodName)) ∈ lw_all := lw_g (lw_at lw_m8 74 rfl) rfl
theorem q1873 : (Jvm.Cond.selects "LadderLotsModel" ({ cls := "LadderLotsModel", name := "drawnAt", desc := "(IIII)I" } : Jvm.MethodName) ({ cls := "LadderLotsModel", name := "drawnAt", desc := "(IIII)I" } : Jvm.MethodName)) ∈ lw_all := lw_g (lw_at lw_m8 75 rfl) rfl
theorem q1874 : (Jvm.Cond.code ({ cls := "LadderLotsModel", name := "drawnAt", desc := "(IIII)I" } : Jvm.MethodName) prog_14_method_100_code (12 : Nat) (Option.some Jvm.ClassFile.FieldType.int)) ∈ lw_all := lw_g (lw_at lw_m8 76 rfl) rfl
theorem q1875 : (Jvm.Cond.methodLink "LadderLotsModel" (440 : Nat) ({ cls := "LadderLotsModel", name := "drawn", desc := "(III)I" } : Jvm.MethodName)) ∈ lw_all := lw_g (lw_at lw_m8 77 rfl) rfl
theorem q1877 : (Jvm.Cond.instanceMethod ({ cls := "LadderLotsModel", name := "drawnAll", desc := "(II)I" } : Jvm.MethodName)) ∈ lw_all := lw_g (lw_at lw_m8 79 rfl) rfl
theorem q1878 : (Jvm.Cond.selects "LadderLotsModel" ({ cls := "LadderLotsModel", name := "drawnAll", desc := "(II)I" } : Jvm.MethodName) ({ cls := "LadderLotsModel", name := "drawnAll", desc := "(II)I" } : Jvm.MethodName)) ∈ lw_all := lw_g (lw_at lw_m8 80 rfl) rfl
theorem q1879 : (Jvm.Cond.code ({ cls := "LadderLotsModel", name := "drawnAll", desc := "(II)I" } : Jvm.MethodName) prog_14_method_102_code (5 : Nat) (Option.some Jvm.ClassFile.FieldType.int)) ∈ lw_all := lw_g (lw_at lw_m8 81 rfl) rfl
theorem q1880 : (Jvm.Cond.methodLink "LadderLotsModel" (443 : Nat) ({ cls := "LadderLotsModel", name := "relax", desc := "(I)V" } : Jvm.MethodName)) ∈ lw_all := lw_g (lw_at lw_m8 82 rfl) rfl
theorem q1881 : (Jvm.Cond.privateMethod ({ cls := "LadderLotsModel", name := "relax", desc := "(I)V" } : Jvm.MethodName)) ∈ lw_tbl := lw_at lw_m8 83 rfl
theorem q1882 : (Jvm.Cond.instanceMethod ({ cls := "LadderLotsModel", name := "relax", desc := "(I)V" } : Jvm.MethodName)) ∈ lw_all := lw_g (lw_at lw_m8 84 rfl) rfl
theorem q1883 : (Jvm.Cond.code ({ cls := "LadderLotsModel", name := "relax", desc := "(I)V" } : Jvm.MethodName) prog_14_method_101_code (6 : Nat) (Option.none : Option Jvm.ClassFile.FieldType)) ∈ lw_all := lw_g (lw_at lw_m8 85 rfl) rfl
theorem q1885 : (Jvm.Cond.instanceMethod ({ cls := "LadderLotsModel", name := "sorts", desc := "(I)I" } : Jvm.MethodName)) ∈ lw_all := lw_g (lw_at lw_m8 87 rfl) rfl
theorem q1886 : (Jvm.Cond.selects "LadderLotsModel" ({ cls := "LadderLotsModel", name := "sorts", desc := "(I)I" } : Jvm.MethodName) ({ cls := "LadderLotsModel", name := "sorts", desc := "(I)I" } : Jvm.MethodName)) ∈ lw_all := lw_g (lw_at lw_m8 88 rfl) rfl
theorem q1887 : (Jvm.Cond.code ({ cls := "LadderLotsModel", name := "sorts", desc := "(I)I" } : Jvm.MethodName) prog_14_method_104_code (2 : Nat) (Option.some Jvm.ClassFile.FieldType.int)) ∈ lw_all := lw_g (lw_at lw_m8 89 rfl) rfl
theorem q1888 : (Jvm.Cond.methodLink "LadderLotsModel" (446 : Nat) ({ cls := "LadderLotsModel", name := "unsortedBut", desc := "(II)I" } : Jvm.MethodName)) ∈ lw_all := lw_g (lw_at lw_m8 90 rfl) rfl
theorem q1889 : (Jvm.Cond.privateMethod ({ cls := "LadderLotsModel", name := "unsortedBut", desc := "(II)I" } : Jvm.MethodName)) ∈ lw_tbl := lw_at lw_m8 91 rfl
theorem q1890 : (Jvm.Cond.instanceMethod ({ cls := "LadderLotsModel", name := "unsortedBut", desc := "(II)I" } : Jvm.MethodName)) ∈ lw_all := lw_g (lw_at lw_m8 92 rfl) rfl
theorem q1891 : (Jvm.Cond.code ({ cls := "LadderLotsModel", name := "unsortedBut", desc := "(II)I" } : Jvm.MethodName) prog_14_method_103_code (5 : Nat) (Option.some Jvm.ClassFile.FieldType.int)) ∈ lw_all := lw_g (lw_at lw_m8 93 rfl) rfl
theorem q1893 : (Jvm.Cond.instanceMethod ({ cls := "LadderLotsModel", name := "unsorted", desc := "(I)I" } : Jvm.MethodName)) ∈ lw_all := lw_g (lw_at lw_m8 95 rfl) rfl
theorem q1894 : (Jvm.Cond.selects "LadderLotsModel" ({ cls := "LadderLotsModel", name := "unsorted", desc := "(I)I" } : Jvm.MethodName) ({ cls := "LadderLotsModel", name := "unsorted", desc := "(I)I" } : Jvm.MethodName)) ∈ lw_all := lw_g (lw_at lw_m8 96 rfl) rfl
theorem q1895 : (Jvm.Cond.code ({ cls := "LadderLotsModel", name := "unsorted", desc := "(I)I" } : Jvm.MethodName) prog_14_method_105_code (2 : Nat) (Option.some Jvm.ClassFile.FieldType.int)) ∈ lw_all := lw_g (lw_at lw_m8 97 rfl) rfl
theorem q1897 : (Jvm.Cond.instanceMethod ({ cls := "LadderLotsModel", name := "fails", desc := "(I)I" } : Jvm.MethodName)) ∈ lw_all := lw_g (lw_at lw_m8 99 rfl) rfl
theorem q1898 : (Jvm.Cond.selects "LadderLotsModel" ({ cls := "LadderLotsModel", name := "fails", desc := "(I)I" } : Jvm.MethodName) ({ cls := "LadderLotsModel", name := "fails", desc := "(I)I" } : Jvm.MethodName)) ∈ lw_all := lw_g (lw_at lw_m8 100 rfl) rfl
theorem q1899 : (Jvm.Cond.code ({ cls := "LadderLotsModel", name := "fails", desc := "(I)I" } : Jvm.MethodName) prog_14_method_109_code (4 : Nat) (Option.some Jvm.ClassFile.FieldType.int)) ∈ lw_all := lw_g (lw_at lw_m8 101 rfl) rfl
theorem q1900 : (Jvm.Cond.methodLink "LadderLotsModel" (452 : Nat) ({ cls := "LadderLotsModel", name := "bitsEnd", desc := "(II)I" } : Jvm.MethodName)) ∈ lw_all := lw_g (lw_at lw_m8 102 rfl) rfl
theorem q1901 : (Jvm.Cond.privateMethod ({ cls := "LadderLotsModel", name := "bitsEnd", desc := "(II)I" } : Jvm.MethodName)) ∈ lw_tbl := lw_at lw_m8 103 rfl
theorem q1902 : (Jvm.Cond.instanceMethod ({ cls := "LadderLotsModel", name := "bitsEnd", desc := "(II)I" } : Jvm.MethodName)) ∈ lw_all := lw_g (lw_at lw_m8 104 rfl) rfl
theorem q1903 : (Jvm.Cond.code ({ cls := "LadderLotsModel", name := "bitsEnd", desc := "(II)I" } : Jvm.MethodName) prog_14_method_107_code (5 : Nat) (Option.some Jvm.ClassFile.FieldType.int)) ∈ lw_all := lw_g (lw_at lw_m8 105 rfl) rfl
theorem q1904 : (Jvm.Cond.methodLink "LadderLotsModel" (449 : Nat) ({ cls := "LadderLotsModel", name := "bitsPassed", desc := "(III)I" } : Jvm.MethodName)) ∈ lw_all := lw_g (lw_at lw_m8 106 rfl) rfl
theorem q1905 : (Jvm.Cond.static ({ cls := "LadderLotsModel", name := "bitsPassed", desc := "(III)I" } : Jvm.MethodName)) ∈ lw_all := lw_g (lw_at lw_m8 107 rfl) rfl
theorem q1906 : (Jvm.Cond.code ({ cls := "LadderLotsModel", name := "bitsPassed", desc := "(III)I" } : Jvm.MethodName) prog_14_method_106_code (6 : Nat) (Option.some Jvm.ClassFile.FieldType.int)) ∈ lw_all := lw_g (lw_at lw_m8 108 rfl) rfl
theorem q1907 : (Jvm.Cond.methodLink "LadderLotsModel" (455 : Nat) ({ cls := "LadderLotsModel", name := "isSorted", desc := "(II)Z" } : Jvm.MethodName)) ∈ lw_all := lw_g (lw_at lw_m8 109 rfl) rfl
theorem q1908 : (Jvm.Cond.static ({ cls := "LadderLotsModel", name := "isSorted", desc := "(II)Z" } : Jvm.MethodName)) ∈ lw_all := lw_g (lw_at lw_m8 110 rfl) rfl
theorem q1909 : (Jvm.Cond.code ({ cls := "LadderLotsModel", name := "isSorted", desc := "(II)Z" } : Jvm.MethodName) prog_14_method_108_code (3 : Nat) (Option.some Jvm.ClassFile.FieldType.boolean)) ∈ lw_all := lw_g (lw_at lw_m8 111 rfl) rfl
theorem q1911 : (Jvm.Cond.instanceMethod ({ cls := "LadderLotsModel", name := "firstFail", desc := "(I)I" } : Jvm.MethodName)) ∈ lw_all := lw_g (lw_at lw_m8 113 rfl) rfl
theorem q1912 : (Jvm.Cond.selects "LadderLotsModel" ({ cls := "LadderLotsModel", name := "firstFail", desc := "(I)I" } : Jvm.MethodName) ({ cls := "LadderLotsModel", name := "firstFail", desc := "(I)I" } : Jvm.MethodName)) ∈ lw_all := lw_g (lw_at lw_m8 114 rfl) rfl
theorem q1913 : (Jvm.Cond.code ({ cls := "LadderLotsModel", name := "firstFail", desc := "(I)I" } : Jvm.MethodName) prog_14_method_110_code (3 : Nat) (Option.some Jvm.ClassFile.FieldType.int)) ∈ lw_all := lw_g (lw_at lw_m8 115 rfl) rfl
theorem q1915 : (Jvm.Cond.instanceMethod ({ cls := "LadderLotsModel", name := "idle", desc := "(II)I" } : Jvm.MethodName)) ∈ lw_all := lw_g (lw_at lw_m8 117 rfl) rfl
theorem q1916 : (Jvm.Cond.selects "LadderLotsModel" ({ cls := "LadderLotsModel", name := "idle", desc := "(II)I" } : Jvm.MethodName) ({ cls := "LadderLotsModel", name := "idle", desc := "(II)I" } : Jvm.MethodName)) ∈ lw_all := lw_g (lw_at lw_m8 118 rfl) rfl
theorem q1917 : (Jvm.Cond.code ({ cls := "LadderLotsModel", name := "idle", desc := "(II)I" } : Jvm.MethodName) prog_14_method_111_code (6 : Nat) (Option.some Jvm.ClassFile.FieldType.int)) ∈ lw_all := lw_g (lw_at lw_m8 119 rfl) rfl
theorem q1919 : (Jvm.Cond.instanceMethod ({ cls := "LadderLotsModel", name := "needed", desc := "(II)I" } : Jvm.MethodName)) ∈ lw_all := lw_g (lw_at lw_m8 121 rfl) rfl
theorem q1920 : (Jvm.Cond.selects "LadderLotsModel" ({ cls := "LadderLotsModel", name := "needed", desc := "(II)I" } : Jvm.MethodName) ({ cls := "LadderLotsModel", name := "needed", desc := "(II)I" } : Jvm.MethodName)) ∈ lw_all := lw_g (lw_at lw_m8 122 rfl) rfl
theorem q1921 : (Jvm.Cond.code ({ cls := "LadderLotsModel", name := "needed", desc := "(II)I" } : Jvm.MethodName) prog_14_method_112_code (3 : Nat) (Option.some Jvm.ClassFile.FieldType.int)) ∈ lw_all := lw_g (lw_at lw_m8 123 rfl) rfl
theorem q1923 : (Jvm.Cond.instanceMethod ({ cls := "LadderLotsModel", name := "mend", desc := "(I)I" } : Jvm.MethodName)) ∈ lw_all := lw_g (lw_at lw_m8 125 rfl) rfl
theorem q1924 : (Jvm.Cond.selects "LadderLotsModel" ({ cls := "LadderLotsModel", name := "mend", desc := "(I)I" } : Jvm.MethodName) ({ cls := "LadderLotsModel", name := "mend", desc := "(I)I" } : Jvm.MethodName)) ∈ lw_all := lw_g (lw_at lw_m8 126 rfl) rfl
theorem q1925 : (Jvm.Cond.code ({ cls := "LadderLotsModel", name := "mend", desc := "(I)I" } : Jvm.MethodName) prog_14_method_117_code (2 : Nat) (Option.some Jvm.ClassFile.FieldType.int)) ∈ lw_all := lw_g (lw_at lw_m8 127 rfl) rfl
theorem q1926 : (Jvm.Cond.methodLink "LadderLotsModel" (467 : Nat) ({ cls := "LadderLotsModel", name := "mending", desc := "(I)I" } : Jvm.MethodName)) ∈ lw_all := lw_g (lw_at lw_m8 128 rfl) rfl
theorem q1927 : (Jvm.Cond.privateMethod ({ cls := "LadderLotsModel", name := "mending", desc := "(I)I" } : Jvm.MethodName)) ∈ lw_tbl := lw_at lw_m8 129 rfl
theorem q1928 : (Jvm.Cond.instanceMethod ({ cls := "LadderLotsModel", name := "mending", desc := "(I)I" } : Jvm.MethodName)) ∈ lw_all := lw_g (lw_at lw_m8 130 rfl) rfl
theorem q1929 : (Jvm.Cond.code ({ cls := "LadderLotsModel", name := "mending", desc := "(I)I" } : Jvm.MethodName) prog_14_method_116_code (3 : Nat) (Option.some Jvm.ClassFile.FieldType.int)) ∈ lw_all := lw_g (lw_at lw_m8 131 rfl) rfl
theorem q1930 : (Jvm.Cond.methodLink "LadderLotsModel" (464 : Nat) ({ cls := "LadderLotsModel", name := "mends", desc := "(II)Z" } : Jvm.MethodName)) ∈ lw_all := lw_g (lw_at lw_m8 132 rfl) rfl
theorem q1931 : (Jvm.Cond.privateMethod ({ cls := "LadderLotsModel", name := "mends", desc := "(II)Z" } : Jvm.MethodName)) ∈ lw_tbl := lw_at lw_m8 133 rfl
theorem q1932 : (Jvm.Cond.instanceMethod ({ cls := "LadderLotsModel", name := "mends", desc := "(II)Z" } : Jvm.MethodName)) ∈ lw_all := lw_g (lw_at lw_m8 134 rfl) rfl
theorem q1933 : (Jvm.Cond.code ({ cls := "LadderLotsModel", name := "mends", desc := "(II)Z" } : Jvm.MethodName) prog_14_method_115_code (4 : Nat) (Option.some Jvm.ClassFile.FieldType.boolean)) ∈ lw_all := lw_g (lw_at lw_m8 135 rfl) rfl
theorem q1934 : (Jvm.Cond.methodLink "LadderLotsModel" (458 : Nat) ({ cls := "LadderLotsModel", name := "isAllSorted", desc := "(II)Z" } : Jvm.MethodName)) ∈ lw_all := lw_g (lw_at lw_m8 136 rfl) rfl
theorem q1935 : (Jvm.Cond.static ({ cls := "LadderLotsModel", name := "isAllSorted", desc := "(II)Z" } : Jvm.MethodName)) ∈ lw_all := lw_g (lw_at lw_m8 137 rfl) rfl
theorem q1936 : (Jvm.Cond.code ({ cls := "LadderLotsModel", name := "isAllSorted", desc := "(II)Z" } : Jvm.MethodName) prog_14_method_114_code (3 : Nat) (Option.some Jvm.ClassFile.FieldType.boolean)) ∈ lw_all := lw_g (lw_at lw_m8 138 rfl) rfl
theorem q1937 : (Jvm.Cond.methodLink "LadderLotsModel" (461 : Nat) ({ cls := "LadderLotsModel", name := "gated", desc := "(III)I" } : Jvm.MethodName)) ∈ lw_all := lw_g (lw_at lw_m8 139 rfl) rfl
theorem q1938 : (Jvm.Cond.static ({ cls := "LadderLotsModel", name := "gated", desc := "(III)I" } : Jvm.MethodName)) ∈ lw_all := lw_g (lw_at lw_m8 140 rfl) rfl
theorem q1939 : (Jvm.Cond.code ({ cls := "LadderLotsModel", name := "gated", desc := "(III)I" } : Jvm.MethodName) prog_14_method_113_code (5 : Nat) (Option.some Jvm.ClassFile.FieldType.int)) ∈ lw_all := lw_g (lw_at lw_m8 141 rfl) rfl
theorem q1941 : (Jvm.Cond.instanceMethod ({ cls := "LadderLotsModel", name := "mendAt", desc := "(II)I" } : Jvm.MethodName)) ∈ lw_all := lw_g (lw_at lw_m8 143 rfl) rfl
theorem q1942 : (Jvm.Cond.selects "LadderLotsModel" ({ cls := "LadderLotsModel", name := "mendAt", desc := "(II)I" } : Jvm.MethodName) ({ cls := "LadderLotsModel", name := "mendAt", desc := "(II)I" } : Jvm.MethodName)) ∈ lw_all := lw_g (lw_at lw_m8 144 rfl) rfl
theorem q1943 : (Jvm.Cond.code ({ cls := "LadderLotsModel", name := "mendAt", desc := "(II)I" } : Jvm.MethodName) prog_14_method_118_code (4 : Nat) (Option.some Jvm.ClassFile.FieldType.int)) ∈ lw_all := lw_g (lw_at lw_m8 145 rfl) rfl
theorem q1945 : (Jvm.Cond.instanceMethod ({ cls := "LadderLotsModel", name := "unlike", desc := "(II)I" } : Jvm.MethodName)) ∈ lw_all := lw_g (lw_at lw_m8 147 rfl) rfl
theorem q1946 : (Jvm.Cond.selects "LadderLotsModel" ({ cls := "LadderLotsModel", name := "unlike", desc := "(II)I" } : Jvm.MethodName) ({ cls := "LadderLotsModel", name := "unlike", desc := "(II)I" } : Jvm.MethodName)) ∈ lw_all := lw_g (lw_at lw_m8 148 rfl) rfl
theorem q1947 : (Jvm.Cond.code ({ cls := "LadderLotsModel", name := "unlike", desc := "(II)I" } : Jvm.MethodName) prog_14_method_119_code (5 : Nat) (Option.some Jvm.ClassFile.FieldType.int)) ∈ lw_all := lw_g (lw_at lw_m8 149 rfl) rfl
theorem q1949 : (Jvm.Cond.instanceMethod ({ cls := "LadderLotsModel", name := "count", desc := "(I)I" } : Jvm.MethodName)) ∈ lw_all := lw_g (lw_at lw_m8 151 rfl) rfl
theorem q1950 : (Jvm.Cond.selects "LadderLotsModel" ({ cls := "LadderLotsModel", name := "count", desc := "(I)I" } : Jvm.MethodName) ({ cls := "LadderLotsModel", name := "count", desc := "(I)I" } : Jvm.MethodName)) ∈ lw_all := lw_g (lw_at lw_m8 152 rfl) rfl
theorem q1951 : (Jvm.Cond.code ({ cls := "LadderLotsModel", name := "count", desc := "(I)I" } : Jvm.MethodName) prog_14_method_120_code (2 : Nat) (Option.some Jvm.ClassFile.FieldType.int)) ∈ lw_all := lw_g (lw_at lw_m8 153 rfl) rfl
theorem q1969 : (Jvm.Cond.castable "LadderLotsModel" "java/lang/Object") ∈ lw_tbl := lw_at lw_m8 171 rfl
theorem in_X6 : ∀ w ∈ wsX60, w ∈ lw_all := lw_in wsX60 [1349, 1351, 1353, 1355, 1357, 1359, 1361, 1363, 1365, 1367, 1369, 1371, 1373, 1375, 1377, 1379, 1381, 1383, 1385, 1387, 1389, 1391, 1393, 1395, 1397, 1399, 1401, 1403, 1405, 1407, 1409, 1411, 1413, 1415, 1417, 1419, 1421, 1423, 1425, 1427, 1429, 1431, 1433, 1435, 1437, 1439, 1441, 1443, 1445, 1447, 1449, 1451, 1453, 1455, 1457, 1459, 1461, 1463, 1465, 1467] (by decide +kernel) (by decide +kernel)
