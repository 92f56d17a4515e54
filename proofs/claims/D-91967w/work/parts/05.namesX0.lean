/-! LadderLots -/
set_option maxRecDepth 100000
def RX0 : String := "LadderLots"
def TX0 : u_T := fun k => match k with
  | 0 => ("LadderLots", "orders", "LLadderLots$Orders;", true)
  | 1 => ("LadderLots", "leasts", "[J", true)
  | 2 => ("LadderLots", "leastsOf", "I", false)
  | 3 => ("LadderLots", "word", "[B", true)
  | 4 => ("LadderLots", "words", "[B", true)
  | 5 => ("LadderLots", "far", "[I", true)
  | 6 => ("LadderLots", "wait", "[I", true)
  | 7 => ("LadderLots", "isDone", "[Z", true)
  | 8 => ("LadderLots", "scanner", "LLadderLots$Scanner;", true)
  | 9 => ("LadderLots", "reader", "LLadderLots$Reader;", true)
  | 10 => ("LadderLots", "place", "I", false)
  | 11 => ("LadderLots", "ladders", "Ljava/util/ArrayList;", true)
  | 12 => ("LadderLots", "isOut", "[Z", true)
  | 13 => ("LadderLots", "row", "[B", true)
  | 14 => ("LadderLots", "changedAt", "[I", true)
  | 15 => ("LadderLots", "nowWays", "[J", false)
  | 16 => ("LadderLots", "nextWays", "[J", false)
  | 17 => ("LadderLots", "logs", "I", false)
  | 18 => ("LadderLots", "logOf", "[B", true)
  | 19 => ("LadderLots", "logNumber", "[B", true)
  | 20 => ("LadderLots", "logLeg", "[B", true)
  | 21 => ("LadderLots", "isVoid", "[Z", true)
  | 22 => ("LadderLots", "needs", "[[I", true)
  | 23 => ("LadderLots", "costs", "[I", true)
  | 24 => ("LadderLots", "after", "[I", true)
  | 25 => ("LadderLots", "found", "I", false)
  | 26 => ("LadderLots", "sets", "[I", true)
  | 27 => ("LadderLots", "from", "[I", true)
  | 28 => ("LadderLots", "by", "[B", true)
  | _ => ("LadderLots", "gates", "[LLadderLots$Step;", true)
def tyX0 : Nat → FieldType := fun k => match k with
  | 0 => .object "LadderLots$Orders"
  | 1 => .array .long
  | 2 => .int
  | 3 => .array .byte
  | 4 => .array .byte
  | 5 => .array .int
  | 6 => .array .int
  | 7 => .array .boolean
  | 8 => .object "LadderLots$Scanner"
  | 9 => .object "LadderLots$Reader"
  | 10 => .int
  | 11 => .object "java/util/ArrayList"
  | 12 => .array .boolean
  | 13 => .array .byte
  | 14 => .array .int
  | 15 => .array .long
  | 16 => .array .long
  | 17 => .int
  | 18 => .array .byte
  | 19 => .array .byte
  | 20 => .array .byte
  | 21 => .array .boolean
  | 22 => .array (.array .int)
  | 23 => .array .int
  | 24 => .array .int
  | 25 => .int
  | 26 => .array .int
  | 27 => .array .int
  | 28 => .array .byte
  | _ => .array (.object "LadderLots$Step")
abbrev wsX00 : List Cond := u_ws RX0 TX0 30
set_option maxRecDepth 100000 in
theorem nmX0 : ∀ a, a < 30 → ∀ b, b < 30 → a ≠ b → (TX0 a).2.1 ≠ (TX0 b).2.1 := by decide +kernel
set_option maxRecDepth 100000 in
theorem tyX0_ok : ∀ k, k < 30 → parseFieldDescriptor (TX0 k).2.2.1 = some (tyX0 k) := by decide +kernel
abbrev cX0_digit : ByteArray := prog_1_method_4_code
def yX0_digit : MethodName := ⟨RX0, "digit", "(III)I"⟩
def dkwX0_digit_1 : List UInt8 := [42, 180, 0, 7, 28, 29, 182, 0, 46, 172]
abbrev dktX0_digit_1 : List UInt8 := dkwX0_digit_1 ++ []
def dkwX0_digit_0 : List UInt8 := [42, 27, 28, 182, 0, 43, 153, 0, 14, 29, 3, 27, 4, 100, 184, 0, 3, 154, 0, 7, 2, 167, 0, 12]
abbrev dktX0_digit_0 : List UInt8 := dkwX0_digit_0 ++ dktX0_digit_1
theorem dksX0_digit_0 : cX0_digit.data.toList.drop 0 = dktX0_digit_0 := by decide +kernel
theorem dksX0_digit_1 : cX0_digit.data.toList.drop 24 = dktX0_digit_1 := dk_seg dksX0_digit_0 24 rfl rfl
theorem dX0_digit_0 : decode cX0_digit 0 = .ok (.aload_n 0, 1) := dk_42 (dk_at dksX0_digit_0 0 rfl rfl)
theorem dX0_digit_1 : decode cX0_digit 1 = .ok (.iload_n 1, 1) := dk_27 (dk_at dksX0_digit_0 1 rfl rfl)
theorem dX0_digit_2 : decode cX0_digit 2 = .ok (.iload_n 2, 1) := dk_28 (dk_at dksX0_digit_0 2 rfl rfl)
theorem dX0_digit_3 : decode cX0_digit 3 = .ok (.invokevirtual 43, 3) := dk_182 0 43 (dk_at dksX0_digit_0 3 rfl rfl)
theorem dX0_digit_6 : decode cX0_digit 6 = .ok (.ifCond .eq 14, 3) := dk_153 0 14 (dk_at dksX0_digit_0 6 rfl rfl)
theorem dX0_digit_9 : decode cX0_digit 9 = .ok (.iload_n 3, 1) := dk_29 (dk_at dksX0_digit_0 9 rfl rfl)
theorem dX0_digit_10 : decode cX0_digit 10 = .ok (.iconst 0, 1) := dk_3 (dk_at dksX0_digit_0 10 rfl rfl)
theorem dX0_digit_11 : decode cX0_digit 11 = .ok (.iload_n 1, 1) := dk_27 (dk_at dksX0_digit_0 11 rfl rfl)
theorem dX0_digit_12 : decode cX0_digit 12 = .ok (.iconst 1, 1) := dk_4 (dk_at dksX0_digit_0 12 rfl rfl)
theorem dX0_digit_13 : decode cX0_digit 13 = .ok (.isub, 1) := dk_100 (dk_at dksX0_digit_0 13 rfl rfl)
theorem dX0_digit_14 : decode cX0_digit 14 = .ok (.invokestatic 3, 3) := dk_184 0 3 (dk_at dksX0_digit_0 14 rfl rfl)
theorem dX0_digit_17 : decode cX0_digit 17 = .ok (.ifCond .ne 7, 3) := dk_154 0 7 (dk_at dksX0_digit_0 17 rfl rfl)
theorem dX0_digit_20 : decode cX0_digit 20 = .ok (.iconst (-1), 1) := dk_2 (dk_at dksX0_digit_0 20 rfl rfl)
theorem dX0_digit_21 : decode cX0_digit 21 = .ok (.goto 12, 3) := dk_167 0 12 (dk_at dksX0_digit_0 21 rfl rfl)
theorem dX0_digit_24 : decode cX0_digit 24 = .ok (.aload_n 0, 1) := dk_42 (dk_at dksX0_digit_1 0 rfl rfl)
theorem dX0_digit_25 : decode cX0_digit 25 = .ok (.getfield 7, 3) := dk_180 0 7 (dk_at dksX0_digit_1 1 rfl rfl)
theorem dX0_digit_28 : decode cX0_digit 28 = .ok (.iload_n 2, 1) := dk_28 (dk_at dksX0_digit_1 4 rfl rfl)
theorem dX0_digit_29 : decode cX0_digit 29 = .ok (.iload_n 3, 1) := dk_29 (dk_at dksX0_digit_1 5 rfl rfl)
theorem dX0_digit_30 : decode cX0_digit 30 = .ok (.invokevirtual 46, 3) := dk_182 0 46 (dk_at dksX0_digit_1 6 rfl rfl)
theorem dX0_digit_33 : decode cX0_digit 33 = .ok (.ireturn, 1) := dk_172 (dk_at dksX0_digit_1 9 rfl rfl)
abbrev cX0_isOrder : ByteArray := prog_1_method_2_code
def yX0_isOrder : MethodName := ⟨RX0, "isOrder", "(II)Z"⟩
def dkwX0_isOrder_1 : List UInt8 := [180, 0, 7, 180, 0, 17, 4, 100, 184, 0, 3, 172]
abbrev dktX0_isOrder_1 : List UInt8 := dkwX0_isOrder_1 ++ []
def dkwX0_isOrder_0 : List UInt8 := [27, 5, 16, 7, 184, 0, 3, 154, 0, 5, 3, 172, 42, 180, 0, 7, 27, 182, 0, 11, 28, 3, 42]
abbrev dktX0_isOrder_0 : List UInt8 := dkwX0_isOrder_0 ++ dktX0_isOrder_1
theorem dksX0_isOrder_0 : cX0_isOrder.data.toList.drop 0 = dktX0_isOrder_0 := by decide +kernel
theorem dksX0_isOrder_1 : cX0_isOrder.data.toList.drop 23 = dktX0_isOrder_1 := dk_seg dksX0_isOrder_0 23 rfl rfl
theorem dX0_isOrder_0 : decode cX0_isOrder 0 = .ok (.iload_n 1, 1) := dk_27 (dk_at dksX0_isOrder_0 0 rfl rfl)
theorem dX0_isOrder_1 : decode cX0_isOrder 1 = .ok (.iconst 2, 1) := dk_5 (dk_at dksX0_isOrder_0 1 rfl rfl)
theorem dX0_isOrder_2 : decode cX0_isOrder 2 = .ok (.bipush 7, 2) := dk_16 7 (dk_at dksX0_isOrder_0 2 rfl rfl)
theorem dX0_isOrder_4 : decode cX0_isOrder 4 = .ok (.invokestatic 3, 3) := dk_184 0 3 (dk_at dksX0_isOrder_0 4 rfl rfl)
theorem dX0_isOrder_7 : decode cX0_isOrder 7 = .ok (.ifCond .ne 5, 3) := dk_154 0 5 (dk_at dksX0_isOrder_0 7 rfl rfl)
theorem dX0_isOrder_10 : decode cX0_isOrder 10 = .ok (.iconst 0, 1) := dk_3 (dk_at dksX0_isOrder_0 10 rfl rfl)
theorem dX0_isOrder_11 : decode cX0_isOrder 11 = .ok (.ireturn, 1) := dk_172 (dk_at dksX0_isOrder_0 11 rfl rfl)
theorem dX0_isOrder_12 : decode cX0_isOrder 12 = .ok (.aload_n 0, 1) := dk_42 (dk_at dksX0_isOrder_0 12 rfl rfl)
theorem dX0_isOrder_13 : decode cX0_isOrder 13 = .ok (.getfield 7, 3) := dk_180 0 7 (dk_at dksX0_isOrder_0 13 rfl rfl)
theorem dX0_isOrder_16 : decode cX0_isOrder 16 = .ok (.iload_n 1, 1) := dk_27 (dk_at dksX0_isOrder_0 16 rfl rfl)
theorem dX0_isOrder_17 : decode cX0_isOrder 17 = .ok (.invokevirtual 11, 3) := dk_182 0 11 (dk_at dksX0_isOrder_0 17 rfl rfl)
theorem dX0_isOrder_20 : decode cX0_isOrder 20 = .ok (.iload_n 2, 1) := dk_28 (dk_at dksX0_isOrder_0 20 rfl rfl)
theorem dX0_isOrder_21 : decode cX0_isOrder 21 = .ok (.iconst 0, 1) := dk_3 (dk_at dksX0_isOrder_0 21 rfl rfl)
theorem dX0_isOrder_22 : decode cX0_isOrder 22 = .ok (.aload_n 0, 1) := dk_42 (dk_at dksX0_isOrder_0 22 rfl rfl)
theorem dX0_isOrder_23 : decode cX0_isOrder 23 = .ok (.getfield 7, 3) := dk_180 0 7 (dk_at dksX0_isOrder_1 0 rfl rfl)
theorem dX0_isOrder_26 : decode cX0_isOrder 26 = .ok (.getfield 17, 3) := dk_180 0 17 (dk_at dksX0_isOrder_1 3 rfl rfl)
theorem dX0_isOrder_29 : decode cX0_isOrder 29 = .ok (.iconst 1, 1) := dk_4 (dk_at dksX0_isOrder_1 6 rfl rfl)
theorem dX0_isOrder_30 : decode cX0_isOrder 30 = .ok (.isub, 1) := dk_100 (dk_at dksX0_isOrder_1 7 rfl rfl)
theorem dX0_isOrder_31 : decode cX0_isOrder 31 = .ok (.invokestatic 3, 3) := dk_184 0 3 (dk_at dksX0_isOrder_1 8 rfl rfl)
theorem dX0_isOrder_34 : decode cX0_isOrder 34 = .ok (.ireturn, 1) := dk_172 (dk_at dksX0_isOrder_1 11 rfl rfl)
abbrev cX0_within : ByteArray := prog_1_method_1_code
def yX0_within : MethodName := ⟨RX0, "within", "(III)Z"⟩
def dkwX0_within_0 : List UInt8 := [26, 27, 161, 0, 12, 26, 28, 163, 0, 7, 4, 167, 0, 4, 3, 172]
abbrev dktX0_within_0 : List UInt8 := dkwX0_within_0 ++ []
theorem dksX0_within_0 : cX0_within.data.toList.drop 0 = dktX0_within_0 := by decide +kernel
theorem dX0_within_0 : decode cX0_within 0 = .ok (.iload_n 0, 1) := dk_26 (dk_at dksX0_within_0 0 rfl rfl)
theorem dX0_within_1 : decode cX0_within 1 = .ok (.iload_n 1, 1) := dk_27 (dk_at dksX0_within_0 1 rfl rfl)
theorem dX0_within_2 : decode cX0_within 2 = .ok (.if_icmp .lt 12, 3) := dk_161 0 12 (dk_at dksX0_within_0 2 rfl rfl)
theorem dX0_within_5 : decode cX0_within 5 = .ok (.iload_n 0, 1) := dk_26 (dk_at dksX0_within_0 5 rfl rfl)
theorem dX0_within_6 : decode cX0_within 6 = .ok (.iload_n 2, 1) := dk_28 (dk_at dksX0_within_0 6 rfl rfl)
theorem dX0_within_7 : decode cX0_within 7 = .ok (.if_icmp .gt 7, 3) := dk_163 0 7 (dk_at dksX0_within_0 7 rfl rfl)
theorem dX0_within_10 : decode cX0_within 10 = .ok (.iconst 1, 1) := dk_4 (dk_at dksX0_within_0 10 rfl rfl)
theorem dX0_within_11 : decode cX0_within 11 = .ok (.goto 4, 3) := dk_167 0 4 (dk_at dksX0_within_0 11 rfl rfl)
theorem dX0_within_14 : decode cX0_within 14 = .ok (.iconst 0, 1) := dk_3 (dk_at dksX0_within_0 14 rfl rfl)
theorem dX0_within_15 : decode cX0_within 15 = .ok (.ireturn, 1) := dk_172 (dk_at dksX0_within_0 15 rfl rfl)
abbrev cX0_fewest : ByteArray := prog_1_method_5_code
def yX0_fewest : MethodName := ⟨RX0, "fewest", "(II)I"⟩
def dkwX0_fewest_0 : List UInt8 := [42, 27, 28, 182, 0, 43, 153, 0, 14, 42, 180, 0, 7, 28, 182, 0, 49, 167, 0, 4, 2, 172]
abbrev dktX0_fewest_0 : List UInt8 := dkwX0_fewest_0 ++ []
theorem dksX0_fewest_0 : cX0_fewest.data.toList.drop 0 = dktX0_fewest_0 := by decide +kernel
theorem dX0_fewest_0 : decode cX0_fewest 0 = .ok (.aload_n 0, 1) := dk_42 (dk_at dksX0_fewest_0 0 rfl rfl)
theorem dX0_fewest_1 : decode cX0_fewest 1 = .ok (.iload_n 1, 1) := dk_27 (dk_at dksX0_fewest_0 1 rfl rfl)
theorem dX0_fewest_2 : decode cX0_fewest 2 = .ok (.iload_n 2, 1) := dk_28 (dk_at dksX0_fewest_0 2 rfl rfl)
theorem dX0_fewest_3 : decode cX0_fewest 3 = .ok (.invokevirtual 43, 3) := dk_182 0 43 (dk_at dksX0_fewest_0 3 rfl rfl)
theorem dX0_fewest_6 : decode cX0_fewest 6 = .ok (.ifCond .eq 14, 3) := dk_153 0 14 (dk_at dksX0_fewest_0 6 rfl rfl)
theorem dX0_fewest_9 : decode cX0_fewest 9 = .ok (.aload_n 0, 1) := dk_42 (dk_at dksX0_fewest_0 9 rfl rfl)
theorem dX0_fewest_10 : decode cX0_fewest 10 = .ok (.getfield 7, 3) := dk_180 0 7 (dk_at dksX0_fewest_0 10 rfl rfl)
theorem dX0_fewest_13 : decode cX0_fewest 13 = .ok (.iload_n 2, 1) := dk_28 (dk_at dksX0_fewest_0 13 rfl rfl)
theorem dX0_fewest_14 : decode cX0_fewest 14 = .ok (.invokevirtual 49, 3) := dk_182 0 49 (dk_at dksX0_fewest_0 14 rfl rfl)
theorem dX0_fewest_17 : decode cX0_fewest 17 = .ok (.goto 4, 3) := dk_167 0 4 (dk_at dksX0_fewest_0 17 rfl rfl)
theorem dX0_fewest_20 : decode cX0_fewest 20 = .ok (.iconst (-1), 1) := dk_2 (dk_at dksX0_fewest_0 20 rfl rfl)
theorem dX0_fewest_21 : decode cX0_fewest 21 = .ok (.ireturn, 1) := dk_172 (dk_at dksX0_fewest_0 21 rfl rfl)
abbrev cX0_ladders : ByteArray := prog_1_method_6_code
def yX0_ladders : MethodName := ⟨RX0, "ladders", "(II)J"⟩
def dkwX0_ladders_0 : List UInt8 := [42, 27, 28, 182, 0, 43, 153, 0, 11, 42, 28, 182, 0, 39, 167, 0, 6, 20, 0, 53, 173]
abbrev dktX0_ladders_0 : List UInt8 := dkwX0_ladders_0 ++ []
theorem dksX0_ladders_0 : cX0_ladders.data.toList.drop 0 = dktX0_ladders_0 := by decide +kernel
theorem dX0_ladders_0 : decode cX0_ladders 0 = .ok (.aload_n 0, 1) := dk_42 (dk_at dksX0_ladders_0 0 rfl rfl)
theorem dX0_ladders_1 : decode cX0_ladders 1 = .ok (.iload_n 1, 1) := dk_27 (dk_at dksX0_ladders_0 1 rfl rfl)
theorem dX0_ladders_2 : decode cX0_ladders 2 = .ok (.iload_n 2, 1) := dk_28 (dk_at dksX0_ladders_0 2 rfl rfl)
theorem dX0_ladders_3 : decode cX0_ladders 3 = .ok (.invokevirtual 43, 3) := dk_182 0 43 (dk_at dksX0_ladders_0 3 rfl rfl)
theorem dX0_ladders_6 : decode cX0_ladders 6 = .ok (.ifCond .eq 11, 3) := dk_153 0 11 (dk_at dksX0_ladders_0 6 rfl rfl)
theorem dX0_ladders_9 : decode cX0_ladders 9 = .ok (.aload_n 0, 1) := dk_42 (dk_at dksX0_ladders_0 9 rfl rfl)
theorem dX0_ladders_10 : decode cX0_ladders 10 = .ok (.iload_n 2, 1) := dk_28 (dk_at dksX0_ladders_0 10 rfl rfl)
theorem dX0_ladders_11 : decode cX0_ladders 11 = .ok (.invokevirtual 39, 3) := dk_182 0 39 (dk_at dksX0_ladders_0 11 rfl rfl)
theorem dX0_ladders_14 : decode cX0_ladders 14 = .ok (.goto 6, 3) := dk_167 0 6 (dk_at dksX0_ladders_0 14 rfl rfl)
theorem dX0_ladders_17 : decode cX0_ladders 17 = .ok (.ldc2_w 53, 3) := dk_20 0 53 (dk_at dksX0_ladders_0 17 rfl rfl)
theorem dX0_ladders_20 : decode cX0_ladders 20 = .ok (.lreturn, 1) := dk_173 (dk_at dksX0_ladders_0 20 rfl rfl)
abbrev cX0_leastsFrom : ByteArray := prog_1_method_3_code
def yX0_leastsFrom : MethodName := ⟨RX0, "leastsFrom", "(I)J"⟩
def dkwX0_leastsFrom_5 : List UInt8 := [132, 4, 1, 167, 255, 209, 42, 180, 0, 27, 27, 32, 80, 42, 180, 0, 27, 27, 47, 173]
abbrev dktX0_leastsFrom_5 : List UInt8 := dkwX0_leastsFrom_5 ++ []
def dkwX0_leastsFrom_4 : List UInt8 := [182, 0, 31, 153, 0, 20, 32, 42, 42, 180, 0, 7, 27, 21, 4, 182, 0, 35, 182, 0, 39, 97, 65]
abbrev dktX0_leastsFrom_4 : List UInt8 := dkwX0_leastsFrom_4 ++ dktX0_leastsFrom_5
def dkwX0_leastsFrom_3 : List UInt8 := [54, 4, 21, 4, 4, 96, 42, 180, 0, 7, 180, 0, 24, 162, 0, 39, 42, 180, 0, 7, 27, 21, 4]
abbrev dktX0_leastsFrom_3 : List UInt8 := dkwX0_leastsFrom_3 ++ dktX0_leastsFrom_4
def dkwX0_leastsFrom_2 : List UInt8 := [167, 255, 239, 42, 180, 0, 27, 3, 10, 80, 42, 180, 0, 27, 27, 47, 9, 148, 154, 0, 65, 9, 65, 3]
abbrev dktX0_leastsFrom_2 : List UInt8 := dkwX0_leastsFrom_2 ++ dktX0_leastsFrom_3
def dkwX0_leastsFrom_1 : List UInt8 := [181, 0, 21, 3, 61, 28, 17, 19, 176, 162, 0, 16, 42, 180, 0, 27, 28, 9, 80, 132, 2, 1]
abbrev dktX0_leastsFrom_1 : List UInt8 := dkwX0_leastsFrom_1 ++ dktX0_leastsFrom_2
def dkwX0_leastsFrom_0 : List UInt8 := [42, 180, 0, 21, 42, 180, 0, 7, 180, 0, 24, 159, 0, 43, 42, 42, 180, 0, 7, 180, 0, 24]
abbrev dktX0_leastsFrom_0 : List UInt8 := dkwX0_leastsFrom_0 ++ dktX0_leastsFrom_1
theorem dksX0_leastsFrom_0 : cX0_leastsFrom.data.toList.drop 0 = dktX0_leastsFrom_0 := by decide +kernel
theorem dksX0_leastsFrom_1 : cX0_leastsFrom.data.toList.drop 22 = dktX0_leastsFrom_1 := dk_seg dksX0_leastsFrom_0 22 rfl rfl
theorem dksX0_leastsFrom_2 : cX0_leastsFrom.data.toList.drop 44 = dktX0_leastsFrom_2 := dk_seg dksX0_leastsFrom_1 22 rfl rfl
theorem dksX0_leastsFrom_3 : cX0_leastsFrom.data.toList.drop 68 = dktX0_leastsFrom_3 := dk_seg dksX0_leastsFrom_2 24 rfl rfl
theorem dksX0_leastsFrom_4 : cX0_leastsFrom.data.toList.drop 91 = dktX0_leastsFrom_4 := dk_seg dksX0_leastsFrom_3 23 rfl rfl
theorem dksX0_leastsFrom_5 : cX0_leastsFrom.data.toList.drop 114 = dktX0_leastsFrom_5 := dk_seg dksX0_leastsFrom_4 23 rfl rfl
theorem dX0_leastsFrom_0 : decode cX0_leastsFrom 0 = .ok (.aload_n 0, 1) := dk_42 (dk_at dksX0_leastsFrom_0 0 rfl rfl)
theorem dX0_leastsFrom_1 : decode cX0_leastsFrom 1 = .ok (.getfield 21, 3) := dk_180 0 21 (dk_at dksX0_leastsFrom_0 1 rfl rfl)
theorem dX0_leastsFrom_4 : decode cX0_leastsFrom 4 = .ok (.aload_n 0, 1) := dk_42 (dk_at dksX0_leastsFrom_0 4 rfl rfl)
theorem dX0_leastsFrom_5 : decode cX0_leastsFrom 5 = .ok (.getfield 7, 3) := dk_180 0 7 (dk_at dksX0_leastsFrom_0 5 rfl rfl)
theorem dX0_leastsFrom_8 : decode cX0_leastsFrom 8 = .ok (.getfield 24, 3) := dk_180 0 24 (dk_at dksX0_leastsFrom_0 8 rfl rfl)
theorem dX0_leastsFrom_11 : decode cX0_leastsFrom 11 = .ok (.if_icmp .eq 43, 3) := dk_159 0 43 (dk_at dksX0_leastsFrom_0 11 rfl rfl)
theorem dX0_leastsFrom_14 : decode cX0_leastsFrom 14 = .ok (.aload_n 0, 1) := dk_42 (dk_at dksX0_leastsFrom_0 14 rfl rfl)
theorem dX0_leastsFrom_15 : decode cX0_leastsFrom 15 = .ok (.aload_n 0, 1) := dk_42 (dk_at dksX0_leastsFrom_0 15 rfl rfl)
theorem dX0_leastsFrom_16 : decode cX0_leastsFrom 16 = .ok (.getfield 7, 3) := dk_180 0 7 (dk_at dksX0_leastsFrom_0 16 rfl rfl)
theorem dX0_leastsFrom_19 : decode cX0_leastsFrom 19 = .ok (.getfield 24, 3) := dk_180 0 24 (dk_at dksX0_leastsFrom_0 19 rfl rfl)
theorem dX0_leastsFrom_22 : decode cX0_leastsFrom 22 = .ok (.putfield 21, 3) := dk_181 0 21 (dk_at dksX0_leastsFrom_1 0 rfl rfl)
theorem dX0_leastsFrom_25 : decode cX0_leastsFrom 25 = .ok (.iconst 0, 1) := dk_3 (dk_at dksX0_leastsFrom_1 3 rfl rfl)
theorem dX0_leastsFrom_26 : decode cX0_leastsFrom 26 = .ok (.istore_n 2, 1) := dk_61 (dk_at dksX0_leastsFrom_1 4 rfl rfl)
theorem dX0_leastsFrom_27 : decode cX0_leastsFrom 27 = .ok (.iload_n 2, 1) := dk_28 (dk_at dksX0_leastsFrom_1 5 rfl rfl)
theorem dX0_leastsFrom_28 : decode cX0_leastsFrom 28 = .ok (.sipush 5040, 3) := dk_17 19 176 (dk_at dksX0_leastsFrom_1 6 rfl rfl)
theorem dX0_leastsFrom_31 : decode cX0_leastsFrom 31 = .ok (.if_icmp .ge 16, 3) := dk_162 0 16 (dk_at dksX0_leastsFrom_1 9 rfl rfl)
theorem dX0_leastsFrom_34 : decode cX0_leastsFrom 34 = .ok (.aload_n 0, 1) := dk_42 (dk_at dksX0_leastsFrom_1 12 rfl rfl)
theorem dX0_leastsFrom_35 : decode cX0_leastsFrom 35 = .ok (.getfield 27, 3) := dk_180 0 27 (dk_at dksX0_leastsFrom_1 13 rfl rfl)
theorem dX0_leastsFrom_38 : decode cX0_leastsFrom 38 = .ok (.iload_n 2, 1) := dk_28 (dk_at dksX0_leastsFrom_1 16 rfl rfl)
theorem dX0_leastsFrom_39 : decode cX0_leastsFrom 39 = .ok (.lconst 0, 1) := dk_9 (dk_at dksX0_leastsFrom_1 17 rfl rfl)
theorem dX0_leastsFrom_40 : decode cX0_leastsFrom 40 = .ok (.lastore, 1) := dk_80 (dk_at dksX0_leastsFrom_1 18 rfl rfl)
theorem dX0_leastsFrom_41 : decode cX0_leastsFrom 41 = .ok (.iinc 2 1, 3) := dk_132 2 1 (dk_at dksX0_leastsFrom_1 19 rfl rfl)
theorem dX0_leastsFrom_44 : decode cX0_leastsFrom 44 = .ok (.goto (-17), 3) := dk_167 255 239 (dk_at dksX0_leastsFrom_2 0 rfl rfl)
theorem dX0_leastsFrom_47 : decode cX0_leastsFrom 47 = .ok (.aload_n 0, 1) := dk_42 (dk_at dksX0_leastsFrom_2 3 rfl rfl)
theorem dX0_leastsFrom_48 : decode cX0_leastsFrom 48 = .ok (.getfield 27, 3) := dk_180 0 27 (dk_at dksX0_leastsFrom_2 4 rfl rfl)
theorem dX0_leastsFrom_51 : decode cX0_leastsFrom 51 = .ok (.iconst 0, 1) := dk_3 (dk_at dksX0_leastsFrom_2 7 rfl rfl)
theorem dX0_leastsFrom_52 : decode cX0_leastsFrom 52 = .ok (.lconst 1, 1) := dk_10 (dk_at dksX0_leastsFrom_2 8 rfl rfl)
theorem dX0_leastsFrom_53 : decode cX0_leastsFrom 53 = .ok (.lastore, 1) := dk_80 (dk_at dksX0_leastsFrom_2 9 rfl rfl)
theorem dX0_leastsFrom_54 : decode cX0_leastsFrom 54 = .ok (.aload_n 0, 1) := dk_42 (dk_at dksX0_leastsFrom_2 10 rfl rfl)
theorem dX0_leastsFrom_55 : decode cX0_leastsFrom 55 = .ok (.getfield 27, 3) := dk_180 0 27 (dk_at dksX0_leastsFrom_2 11 rfl rfl)
theorem dX0_leastsFrom_58 : decode cX0_leastsFrom 58 = .ok (.iload_n 1, 1) := dk_27 (dk_at dksX0_leastsFrom_2 14 rfl rfl)
theorem dX0_leastsFrom_59 : decode cX0_leastsFrom 59 = .ok (.laload, 1) := dk_47 (dk_at dksX0_leastsFrom_2 15 rfl rfl)
theorem dX0_leastsFrom_60 : decode cX0_leastsFrom 60 = .ok (.lconst 0, 1) := dk_9 (dk_at dksX0_leastsFrom_2 16 rfl rfl)
theorem dX0_leastsFrom_61 : decode cX0_leastsFrom 61 = .ok (.lcmp, 1) := dk_148 (dk_at dksX0_leastsFrom_2 17 rfl rfl)
theorem dX0_leastsFrom_62 : decode cX0_leastsFrom 62 = .ok (.ifCond .ne 65, 3) := dk_154 0 65 (dk_at dksX0_leastsFrom_2 18 rfl rfl)
theorem dX0_leastsFrom_65 : decode cX0_leastsFrom 65 = .ok (.lconst 0, 1) := dk_9 (dk_at dksX0_leastsFrom_2 21 rfl rfl)
theorem dX0_leastsFrom_66 : decode cX0_leastsFrom 66 = .ok (.lstore_n 2, 1) := dk_65 (dk_at dksX0_leastsFrom_2 22 rfl rfl)
theorem dX0_leastsFrom_67 : decode cX0_leastsFrom 67 = .ok (.iconst 0, 1) := dk_3 (dk_at dksX0_leastsFrom_2 23 rfl rfl)
theorem dX0_leastsFrom_68 : decode cX0_leastsFrom 68 = .ok (.istore 4, 2) := dk_54 4 (dk_at dksX0_leastsFrom_3 0 rfl rfl)
theorem dX0_leastsFrom_70 : decode cX0_leastsFrom 70 = .ok (.iload 4, 2) := dk_21 4 (dk_at dksX0_leastsFrom_3 2 rfl rfl)
theorem dX0_leastsFrom_72 : decode cX0_leastsFrom 72 = .ok (.iconst 1, 1) := dk_4 (dk_at dksX0_leastsFrom_3 4 rfl rfl)
theorem dX0_leastsFrom_73 : decode cX0_leastsFrom 73 = .ok (.iadd, 1) := dk_96 (dk_at dksX0_leastsFrom_3 5 rfl rfl)
theorem dX0_leastsFrom_74 : decode cX0_leastsFrom 74 = .ok (.aload_n 0, 1) := dk_42 (dk_at dksX0_leastsFrom_3 6 rfl rfl)
theorem dX0_leastsFrom_75 : decode cX0_leastsFrom 75 = .ok (.getfield 7, 3) := dk_180 0 7 (dk_at dksX0_leastsFrom_3 7 rfl rfl)
theorem dX0_leastsFrom_78 : decode cX0_leastsFrom 78 = .ok (.getfield 24, 3) := dk_180 0 24 (dk_at dksX0_leastsFrom_3 10 rfl rfl)
theorem dX0_leastsFrom_81 : decode cX0_leastsFrom 81 = .ok (.if_icmp .ge 39, 3) := dk_162 0 39 (dk_at dksX0_leastsFrom_3 13 rfl rfl)
theorem dX0_leastsFrom_84 : decode cX0_leastsFrom 84 = .ok (.aload_n 0, 1) := dk_42 (dk_at dksX0_leastsFrom_3 16 rfl rfl)
theorem dX0_leastsFrom_85 : decode cX0_leastsFrom 85 = .ok (.getfield 7, 3) := dk_180 0 7 (dk_at dksX0_leastsFrom_3 17 rfl rfl)
theorem dX0_leastsFrom_88 : decode cX0_leastsFrom 88 = .ok (.iload_n 1, 1) := dk_27 (dk_at dksX0_leastsFrom_3 20 rfl rfl)
theorem dX0_leastsFrom_89 : decode cX0_leastsFrom 89 = .ok (.iload 4, 2) := dk_21 4 (dk_at dksX0_leastsFrom_3 21 rfl rfl)
theorem dX0_leastsFrom_91 : decode cX0_leastsFrom 91 = .ok (.invokevirtual 31, 3) := dk_182 0 31 (dk_at dksX0_leastsFrom_4 0 rfl rfl)
theorem dX0_leastsFrom_94 : decode cX0_leastsFrom 94 = .ok (.ifCond .eq 20, 3) := dk_153 0 20 (dk_at dksX0_leastsFrom_4 3 rfl rfl)
theorem dX0_leastsFrom_97 : decode cX0_leastsFrom 97 = .ok (.lload_n 2, 1) := dk_32 (dk_at dksX0_leastsFrom_4 6 rfl rfl)
theorem dX0_leastsFrom_98 : decode cX0_leastsFrom 98 = .ok (.aload_n 0, 1) := dk_42 (dk_at dksX0_leastsFrom_4 7 rfl rfl)
theorem dX0_leastsFrom_99 : decode cX0_leastsFrom 99 = .ok (.aload_n 0, 1) := dk_42 (dk_at dksX0_leastsFrom_4 8 rfl rfl)
theorem dX0_leastsFrom_100 : decode cX0_leastsFrom 100 = .ok (.getfield 7, 3) := dk_180 0 7 (dk_at dksX0_leastsFrom_4 9 rfl rfl)
theorem dX0_leastsFrom_103 : decode cX0_leastsFrom 103 = .ok (.iload_n 1, 1) := dk_27 (dk_at dksX0_leastsFrom_4 12 rfl rfl)
theorem dX0_leastsFrom_104 : decode cX0_leastsFrom 104 = .ok (.iload 4, 2) := dk_21 4 (dk_at dksX0_leastsFrom_4 13 rfl rfl)
theorem dX0_leastsFrom_106 : decode cX0_leastsFrom 106 = .ok (.invokevirtual 35, 3) := dk_182 0 35 (dk_at dksX0_leastsFrom_4 15 rfl rfl)
theorem dX0_leastsFrom_109 : decode cX0_leastsFrom 109 = .ok (.invokevirtual 39, 3) := dk_182 0 39 (dk_at dksX0_leastsFrom_4 18 rfl rfl)
theorem dX0_leastsFrom_112 : decode cX0_leastsFrom 112 = .ok (.ladd, 1) := dk_97 (dk_at dksX0_leastsFrom_4 21 rfl rfl)
theorem dX0_leastsFrom_113 : decode cX0_leastsFrom 113 = .ok (.lstore_n 2, 1) := dk_65 (dk_at dksX0_leastsFrom_4 22 rfl rfl)
theorem dX0_leastsFrom_114 : decode cX0_leastsFrom 114 = .ok (.iinc 4 1, 3) := dk_132 4 1 (dk_at dksX0_leastsFrom_5 0 rfl rfl)
theorem dX0_leastsFrom_117 : decode cX0_leastsFrom 117 = .ok (.goto (-47), 3) := dk_167 255 209 (dk_at dksX0_leastsFrom_5 3 rfl rfl)
theorem dX0_leastsFrom_120 : decode cX0_leastsFrom 120 = .ok (.aload_n 0, 1) := dk_42 (dk_at dksX0_leastsFrom_5 6 rfl rfl)
theorem dX0_leastsFrom_121 : decode cX0_leastsFrom 121 = .ok (.getfield 27, 3) := dk_180 0 27 (dk_at dksX0_leastsFrom_5 7 rfl rfl)
theorem dX0_leastsFrom_124 : decode cX0_leastsFrom 124 = .ok (.iload_n 1, 1) := dk_27 (dk_at dksX0_leastsFrom_5 10 rfl rfl)
theorem dX0_leastsFrom_125 : decode cX0_leastsFrom 125 = .ok (.lload_n 2, 1) := dk_32 (dk_at dksX0_leastsFrom_5 11 rfl rfl)
theorem dX0_leastsFrom_126 : decode cX0_leastsFrom 126 = .ok (.lastore, 1) := dk_80 (dk_at dksX0_leastsFrom_5 12 rfl rfl)
theorem dX0_leastsFrom_127 : decode cX0_leastsFrom 127 = .ok (.aload_n 0, 1) := dk_42 (dk_at dksX0_leastsFrom_5 13 rfl rfl)
theorem dX0_leastsFrom_128 : decode cX0_leastsFrom 128 = .ok (.getfield 27, 3) := dk_180 0 27 (dk_at dksX0_leastsFrom_5 14 rfl rfl)
theorem dX0_leastsFrom_131 : decode cX0_leastsFrom 131 = .ok (.iload_n 1, 1) := dk_27 (dk_at dksX0_leastsFrom_5 17 rfl rfl)
theorem dX0_leastsFrom_132 : decode cX0_leastsFrom 132 = .ok (.laload, 1) := dk_47 (dk_at dksX0_leastsFrom_5 18 rfl rfl)
theorem dX0_leastsFrom_133 : decode cX0_leastsFrom 133 = .ok (.lreturn, 1) := dk_173 (dk_at dksX0_leastsFrom_5 19 rfl rfl)
abbrev cX0_rung : ByteArray := prog_1_method_9_code
def yX0_rung : MethodName := ⟨RX0, "rung", "(IIJI)I"⟩
def dkwX0_rung_2 : List UInt8 := [42, 28, 33, 182, 0, 59, 42, 180, 0, 55, 21, 5, 51, 172]
abbrev dktX0_rung_2 : List UInt8 := dkwX0_rung_2 ++ []
def dkwX0_rung_1 : List UInt8 := [156, 0, 22, 21, 5, 3, 42, 180, 0, 7, 28, 182, 0, 49, 4, 100, 184, 0, 3, 154, 0, 5, 2, 172]
abbrev dktX0_rung_1 : List UInt8 := dkwX0_rung_1 ++ dktX0_rung_2
def dkwX0_rung_0 : List UInt8 := [42, 27, 28, 182, 0, 43, 153, 0, 38, 33, 9, 148, 155, 0, 32, 33, 42, 28, 182, 0, 39, 148]
abbrev dktX0_rung_0 : List UInt8 := dkwX0_rung_0 ++ dktX0_rung_1
theorem dksX0_rung_0 : cX0_rung.data.toList.drop 0 = dktX0_rung_0 := by decide +kernel
theorem dksX0_rung_1 : cX0_rung.data.toList.drop 22 = dktX0_rung_1 := dk_seg dksX0_rung_0 22 rfl rfl
theorem dksX0_rung_2 : cX0_rung.data.toList.drop 46 = dktX0_rung_2 := dk_seg dksX0_rung_1 24 rfl rfl
theorem dX0_rung_0 : decode cX0_rung 0 = .ok (.aload_n 0, 1) := dk_42 (dk_at dksX0_rung_0 0 rfl rfl)
theorem dX0_rung_1 : decode cX0_rung 1 = .ok (.iload_n 1, 1) := dk_27 (dk_at dksX0_rung_0 1 rfl rfl)
theorem dX0_rung_2 : decode cX0_rung 2 = .ok (.iload_n 2, 1) := dk_28 (dk_at dksX0_rung_0 2 rfl rfl)
theorem dX0_rung_3 : decode cX0_rung 3 = .ok (.invokevirtual 43, 3) := dk_182 0 43 (dk_at dksX0_rung_0 3 rfl rfl)
theorem dX0_rung_6 : decode cX0_rung 6 = .ok (.ifCond .eq 38, 3) := dk_153 0 38 (dk_at dksX0_rung_0 6 rfl rfl)
theorem dX0_rung_9 : decode cX0_rung 9 = .ok (.lload_n 3, 1) := dk_33 (dk_at dksX0_rung_0 9 rfl rfl)
theorem dX0_rung_10 : decode cX0_rung 10 = .ok (.lconst 0, 1) := dk_9 (dk_at dksX0_rung_0 10 rfl rfl)
theorem dX0_rung_11 : decode cX0_rung 11 = .ok (.lcmp, 1) := dk_148 (dk_at dksX0_rung_0 11 rfl rfl)
theorem dX0_rung_12 : decode cX0_rung 12 = .ok (.ifCond .lt 32, 3) := dk_155 0 32 (dk_at dksX0_rung_0 12 rfl rfl)
theorem dX0_rung_15 : decode cX0_rung 15 = .ok (.lload_n 3, 1) := dk_33 (dk_at dksX0_rung_0 15 rfl rfl)
theorem dX0_rung_16 : decode cX0_rung 16 = .ok (.aload_n 0, 1) := dk_42 (dk_at dksX0_rung_0 16 rfl rfl)
theorem dX0_rung_17 : decode cX0_rung 17 = .ok (.iload_n 2, 1) := dk_28 (dk_at dksX0_rung_0 17 rfl rfl)
theorem dX0_rung_18 : decode cX0_rung 18 = .ok (.invokevirtual 39, 3) := dk_182 0 39 (dk_at dksX0_rung_0 18 rfl rfl)
theorem dX0_rung_21 : decode cX0_rung 21 = .ok (.lcmp, 1) := dk_148 (dk_at dksX0_rung_0 21 rfl rfl)
theorem dX0_rung_22 : decode cX0_rung 22 = .ok (.ifCond .ge 22, 3) := dk_156 0 22 (dk_at dksX0_rung_1 0 rfl rfl)
theorem dX0_rung_25 : decode cX0_rung 25 = .ok (.iload 5, 2) := dk_21 5 (dk_at dksX0_rung_1 3 rfl rfl)
theorem dX0_rung_27 : decode cX0_rung 27 = .ok (.iconst 0, 1) := dk_3 (dk_at dksX0_rung_1 5 rfl rfl)
theorem dX0_rung_28 : decode cX0_rung 28 = .ok (.aload_n 0, 1) := dk_42 (dk_at dksX0_rung_1 6 rfl rfl)
theorem dX0_rung_29 : decode cX0_rung 29 = .ok (.getfield 7, 3) := dk_180 0 7 (dk_at dksX0_rung_1 7 rfl rfl)
theorem dX0_rung_32 : decode cX0_rung 32 = .ok (.iload_n 2, 1) := dk_28 (dk_at dksX0_rung_1 10 rfl rfl)
theorem dX0_rung_33 : decode cX0_rung 33 = .ok (.invokevirtual 49, 3) := dk_182 0 49 (dk_at dksX0_rung_1 11 rfl rfl)
theorem dX0_rung_36 : decode cX0_rung 36 = .ok (.iconst 1, 1) := dk_4 (dk_at dksX0_rung_1 14 rfl rfl)
theorem dX0_rung_37 : decode cX0_rung 37 = .ok (.isub, 1) := dk_100 (dk_at dksX0_rung_1 15 rfl rfl)
theorem dX0_rung_38 : decode cX0_rung 38 = .ok (.invokestatic 3, 3) := dk_184 0 3 (dk_at dksX0_rung_1 16 rfl rfl)
theorem dX0_rung_41 : decode cX0_rung 41 = .ok (.ifCond .ne 5, 3) := dk_154 0 5 (dk_at dksX0_rung_1 19 rfl rfl)
theorem dX0_rung_44 : decode cX0_rung 44 = .ok (.iconst (-1), 1) := dk_2 (dk_at dksX0_rung_1 22 rfl rfl)
theorem dX0_rung_45 : decode cX0_rung 45 = .ok (.ireturn, 1) := dk_172 (dk_at dksX0_rung_1 23 rfl rfl)
theorem dX0_rung_46 : decode cX0_rung 46 = .ok (.aload_n 0, 1) := dk_42 (dk_at dksX0_rung_2 0 rfl rfl)
theorem dX0_rung_47 : decode cX0_rung 47 = .ok (.iload_n 2, 1) := dk_28 (dk_at dksX0_rung_2 1 rfl rfl)
theorem dX0_rung_48 : decode cX0_rung 48 = .ok (.lload_n 3, 1) := dk_33 (dk_at dksX0_rung_2 2 rfl rfl)
theorem dX0_rung_49 : decode cX0_rung 49 = .ok (.invokevirtual 59, 3) := dk_182 0 59 (dk_at dksX0_rung_2 3 rfl rfl)
theorem dX0_rung_52 : decode cX0_rung 52 = .ok (.aload_n 0, 1) := dk_42 (dk_at dksX0_rung_2 6 rfl rfl)
theorem dX0_rung_53 : decode cX0_rung 53 = .ok (.getfield 55, 3) := dk_180 0 55 (dk_at dksX0_rung_2 7 rfl rfl)
theorem dX0_rung_56 : decode cX0_rung 56 = .ok (.iload 5, 2) := dk_21 5 (dk_at dksX0_rung_2 10 rfl rfl)
theorem dX0_rung_58 : decode cX0_rung 58 = .ok (.baload, 1) := dk_51 (dk_at dksX0_rung_2 12 rfl rfl)
theorem dX0_rung_59 : decode cX0_rung 59 = .ok (.ireturn, 1) := dk_172 (dk_at dksX0_rung_2 13 rfl rfl)
abbrev cX0_unranks : ByteArray := prog_1_method_7_code
def yX0_unranks : MethodName := ⟨RX0, "unranks", "(IJ)V"⟩
def dkwX0_unranks_4 : List UInt8 := [182, 0, 35, 54, 6, 132, 7, 1, 167, 255, 163, 177]
abbrev dktX0_unranks_4 : List UInt8 := dkwX0_unranks_4 ++ []
def dkwX0_unranks_3 : List UInt8 := [132, 8, 1, 167, 255, 200, 42, 180, 0, 55, 21, 7, 21, 8, 145, 84, 42, 180, 0, 7, 21, 6, 21, 8]
abbrev dktX0_unranks_3 : List UInt8 := dkwX0_unranks_3 ++ dktX0_unranks_4
def dkwX0_unranks_2 : List UInt8 := [167, 0, 4, 9, 55, 9, 22, 4, 22, 9, 148, 156, 0, 6, 167, 0, 16, 22, 4, 22, 9, 101, 55, 4]
abbrev dktX0_unranks_2 : List UInt8 := dkwX0_unranks_2 ++ dktX0_unranks_3
def dkwX0_unranks_1 : List UInt8 := [21, 8, 182, 0, 31, 153, 0, 21, 42, 42, 180, 0, 7, 21, 6, 21, 8, 182, 0, 35, 182, 0, 39]
abbrev dktX0_unranks_1 : List UInt8 := dkwX0_unranks_1 ++ dktX0_unranks_2
def dkwX0_unranks_0 : List UInt8 := [32, 55, 4, 27, 54, 6, 3, 54, 7, 21, 6, 153, 0, 94, 3, 54, 8, 42, 180, 0, 7, 21, 6]
abbrev dktX0_unranks_0 : List UInt8 := dkwX0_unranks_0 ++ dktX0_unranks_1
theorem dksX0_unranks_0 : cX0_unranks.data.toList.drop 0 = dktX0_unranks_0 := by decide +kernel
theorem dksX0_unranks_1 : cX0_unranks.data.toList.drop 23 = dktX0_unranks_1 := dk_seg dksX0_unranks_0 23 rfl rfl
theorem dksX0_unranks_2 : cX0_unranks.data.toList.drop 46 = dktX0_unranks_2 := dk_seg dksX0_unranks_1 23 rfl rfl
theorem dksX0_unranks_3 : cX0_unranks.data.toList.drop 70 = dktX0_unranks_3 := dk_seg dksX0_unranks_2 24 rfl rfl
theorem dksX0_unranks_4 : cX0_unranks.data.toList.drop 94 = dktX0_unranks_4 := dk_seg dksX0_unranks_3 24 rfl rfl
theorem dX0_unranks_0 : decode cX0_unranks 0 = .ok (.lload_n 2, 1) := dk_32 (dk_at dksX0_unranks_0 0 rfl rfl)
theorem dX0_unranks_1 : decode cX0_unranks 1 = .ok (.lstore 4, 2) := dk_55 4 (dk_at dksX0_unranks_0 1 rfl rfl)
theorem dX0_unranks_3 : decode cX0_unranks 3 = .ok (.iload_n 1, 1) := dk_27 (dk_at dksX0_unranks_0 3 rfl rfl)
theorem dX0_unranks_4 : decode cX0_unranks 4 = .ok (.istore 6, 2) := dk_54 6 (dk_at dksX0_unranks_0 4 rfl rfl)
theorem dX0_unranks_6 : decode cX0_unranks 6 = .ok (.iconst 0, 1) := dk_3 (dk_at dksX0_unranks_0 6 rfl rfl)
theorem dX0_unranks_7 : decode cX0_unranks 7 = .ok (.istore 7, 2) := dk_54 7 (dk_at dksX0_unranks_0 7 rfl rfl)
theorem dX0_unranks_9 : decode cX0_unranks 9 = .ok (.iload 6, 2) := dk_21 6 (dk_at dksX0_unranks_0 9 rfl rfl)
theorem dX0_unranks_11 : decode cX0_unranks 11 = .ok (.ifCond .eq 94, 3) := dk_153 0 94 (dk_at dksX0_unranks_0 11 rfl rfl)
theorem dX0_unranks_14 : decode cX0_unranks 14 = .ok (.iconst 0, 1) := dk_3 (dk_at dksX0_unranks_0 14 rfl rfl)
theorem dX0_unranks_15 : decode cX0_unranks 15 = .ok (.istore 8, 2) := dk_54 8 (dk_at dksX0_unranks_0 15 rfl rfl)
theorem dX0_unranks_17 : decode cX0_unranks 17 = .ok (.aload_n 0, 1) := dk_42 (dk_at dksX0_unranks_0 17 rfl rfl)
theorem dX0_unranks_18 : decode cX0_unranks 18 = .ok (.getfield 7, 3) := dk_180 0 7 (dk_at dksX0_unranks_0 18 rfl rfl)
theorem dX0_unranks_21 : decode cX0_unranks 21 = .ok (.iload 6, 2) := dk_21 6 (dk_at dksX0_unranks_0 21 rfl rfl)
theorem dX0_unranks_23 : decode cX0_unranks 23 = .ok (.iload 8, 2) := dk_21 8 (dk_at dksX0_unranks_1 0 rfl rfl)
theorem dX0_unranks_25 : decode cX0_unranks 25 = .ok (.invokevirtual 31, 3) := dk_182 0 31 (dk_at dksX0_unranks_1 2 rfl rfl)
theorem dX0_unranks_28 : decode cX0_unranks 28 = .ok (.ifCond .eq 21, 3) := dk_153 0 21 (dk_at dksX0_unranks_1 5 rfl rfl)
theorem dX0_unranks_31 : decode cX0_unranks 31 = .ok (.aload_n 0, 1) := dk_42 (dk_at dksX0_unranks_1 8 rfl rfl)
theorem dX0_unranks_32 : decode cX0_unranks 32 = .ok (.aload_n 0, 1) := dk_42 (dk_at dksX0_unranks_1 9 rfl rfl)
theorem dX0_unranks_33 : decode cX0_unranks 33 = .ok (.getfield 7, 3) := dk_180 0 7 (dk_at dksX0_unranks_1 10 rfl rfl)
theorem dX0_unranks_36 : decode cX0_unranks 36 = .ok (.iload 6, 2) := dk_21 6 (dk_at dksX0_unranks_1 13 rfl rfl)
theorem dX0_unranks_38 : decode cX0_unranks 38 = .ok (.iload 8, 2) := dk_21 8 (dk_at dksX0_unranks_1 15 rfl rfl)
theorem dX0_unranks_40 : decode cX0_unranks 40 = .ok (.invokevirtual 35, 3) := dk_182 0 35 (dk_at dksX0_unranks_1 17 rfl rfl)
theorem dX0_unranks_43 : decode cX0_unranks 43 = .ok (.invokevirtual 39, 3) := dk_182 0 39 (dk_at dksX0_unranks_1 20 rfl rfl)
theorem dX0_unranks_46 : decode cX0_unranks 46 = .ok (.goto 4, 3) := dk_167 0 4 (dk_at dksX0_unranks_2 0 rfl rfl)
theorem dX0_unranks_49 : decode cX0_unranks 49 = .ok (.lconst 0, 1) := dk_9 (dk_at dksX0_unranks_2 3 rfl rfl)
theorem dX0_unranks_50 : decode cX0_unranks 50 = .ok (.lstore 9, 2) := dk_55 9 (dk_at dksX0_unranks_2 4 rfl rfl)
theorem dX0_unranks_52 : decode cX0_unranks 52 = .ok (.lload 4, 2) := dk_22 4 (dk_at dksX0_unranks_2 6 rfl rfl)
theorem dX0_unranks_54 : decode cX0_unranks 54 = .ok (.lload 9, 2) := dk_22 9 (dk_at dksX0_unranks_2 8 rfl rfl)
theorem dX0_unranks_56 : decode cX0_unranks 56 = .ok (.lcmp, 1) := dk_148 (dk_at dksX0_unranks_2 10 rfl rfl)
theorem dX0_unranks_57 : decode cX0_unranks 57 = .ok (.ifCond .ge 6, 3) := dk_156 0 6 (dk_at dksX0_unranks_2 11 rfl rfl)
theorem dX0_unranks_60 : decode cX0_unranks 60 = .ok (.goto 16, 3) := dk_167 0 16 (dk_at dksX0_unranks_2 14 rfl rfl)
theorem dX0_unranks_63 : decode cX0_unranks 63 = .ok (.lload 4, 2) := dk_22 4 (dk_at dksX0_unranks_2 17 rfl rfl)
theorem dX0_unranks_65 : decode cX0_unranks 65 = .ok (.lload 9, 2) := dk_22 9 (dk_at dksX0_unranks_2 19 rfl rfl)
theorem dX0_unranks_67 : decode cX0_unranks 67 = .ok (.lsub, 1) := dk_101 (dk_at dksX0_unranks_2 21 rfl rfl)
theorem dX0_unranks_68 : decode cX0_unranks 68 = .ok (.lstore 4, 2) := dk_55 4 (dk_at dksX0_unranks_2 22 rfl rfl)
theorem dX0_unranks_70 : decode cX0_unranks 70 = .ok (.iinc 8 1, 3) := dk_132 8 1 (dk_at dksX0_unranks_3 0 rfl rfl)
theorem dX0_unranks_73 : decode cX0_unranks 73 = .ok (.goto (-56), 3) := dk_167 255 200 (dk_at dksX0_unranks_3 3 rfl rfl)
theorem dX0_unranks_76 : decode cX0_unranks 76 = .ok (.aload_n 0, 1) := dk_42 (dk_at dksX0_unranks_3 6 rfl rfl)
theorem dX0_unranks_77 : decode cX0_unranks 77 = .ok (.getfield 55, 3) := dk_180 0 55 (dk_at dksX0_unranks_3 7 rfl rfl)
theorem dX0_unranks_80 : decode cX0_unranks 80 = .ok (.iload 7, 2) := dk_21 7 (dk_at dksX0_unranks_3 10 rfl rfl)
theorem dX0_unranks_82 : decode cX0_unranks 82 = .ok (.iload 8, 2) := dk_21 8 (dk_at dksX0_unranks_3 12 rfl rfl)
theorem dX0_unranks_84 : decode cX0_unranks 84 = .ok (.i2b, 1) := dk_145 (dk_at dksX0_unranks_3 14 rfl rfl)
theorem dX0_unranks_85 : decode cX0_unranks 85 = .ok (.bastore, 1) := dk_84 (dk_at dksX0_unranks_3 15 rfl rfl)
theorem dX0_unranks_86 : decode cX0_unranks 86 = .ok (.aload_n 0, 1) := dk_42 (dk_at dksX0_unranks_3 16 rfl rfl)
theorem dX0_unranks_87 : decode cX0_unranks 87 = .ok (.getfield 7, 3) := dk_180 0 7 (dk_at dksX0_unranks_3 17 rfl rfl)
theorem dX0_unranks_90 : decode cX0_unranks 90 = .ok (.iload 6, 2) := dk_21 6 (dk_at dksX0_unranks_3 20 rfl rfl)
theorem dX0_unranks_92 : decode cX0_unranks 92 = .ok (.iload 8, 2) := dk_21 8 (dk_at dksX0_unranks_3 22 rfl rfl)
theorem dX0_unranks_94 : decode cX0_unranks 94 = .ok (.invokevirtual 35, 3) := dk_182 0 35 (dk_at dksX0_unranks_4 0 rfl rfl)
theorem dX0_unranks_97 : decode cX0_unranks 97 = .ok (.istore 6, 2) := dk_54 6 (dk_at dksX0_unranks_4 3 rfl rfl)
theorem dX0_unranks_99 : decode cX0_unranks 99 = .ok (.iinc 7 1, 3) := dk_132 7 1 (dk_at dksX0_unranks_4 5 rfl rfl)
theorem dX0_unranks_102 : decode cX0_unranks 102 = .ok (.goto (-93), 3) := dk_167 255 163 (dk_at dksX0_unranks_4 8 rfl rfl)
theorem dX0_unranks_105 : decode cX0_unranks 105 = .ok (.return_, 1) := dk_177 (dk_at dksX0_unranks_4 11 rfl rfl)
abbrev cX0_turns : ByteArray := prog_1_method_15_code
def yX0_turns : MethodName := ⟨RX0, "turns", "(IIII)I"⟩
def dkwX0_turns_0 : List UInt8 := [42, 27, 28, 29, 21, 4, 3, 182, 0, 112, 172]
abbrev dktX0_turns_0 : List UInt8 := dkwX0_turns_0 ++ []
theorem dksX0_turns_0 : cX0_turns.data.toList.drop 0 = dktX0_turns_0 := by decide +kernel
theorem dX0_turns_0 : decode cX0_turns 0 = .ok (.aload_n 0, 1) := dk_42 (dk_at dksX0_turns_0 0 rfl rfl)
theorem dX0_turns_1 : decode cX0_turns 1 = .ok (.iload_n 1, 1) := dk_27 (dk_at dksX0_turns_0 1 rfl rfl)
theorem dX0_turns_2 : decode cX0_turns 2 = .ok (.iload_n 2, 1) := dk_28 (dk_at dksX0_turns_0 2 rfl rfl)
theorem dX0_turns_3 : decode cX0_turns 3 = .ok (.iload_n 3, 1) := dk_29 (dk_at dksX0_turns_0 3 rfl rfl)
theorem dX0_turns_4 : decode cX0_turns 4 = .ok (.iload 4, 2) := dk_21 4 (dk_at dksX0_turns_0 4 rfl rfl)
theorem dX0_turns_6 : decode cX0_turns 6 = .ok (.iconst 0, 1) := dk_3 (dk_at dksX0_turns_0 6 rfl rfl)
theorem dX0_turns_7 : decode cX0_turns 7 = .ok (.invokevirtual 112, 3) := dk_182 0 112 (dk_at dksX0_turns_0 7 rfl rfl)
theorem dX0_turns_10 : decode cX0_turns 10 = .ok (.ireturn, 1) := dk_172 (dk_at dksX0_turns_0 10 rfl rfl)
abbrev cX0_led : ByteArray := prog_1_method_14_code
def yX0_led : MethodName := ⟨RX0, "led", "(IIIII)I"⟩
def dkwX0_led_3 : List UInt8 := [172]
abbrev dktX0_led_3 : List UInt8 := dkwX0_led_3 ++ []
def dkwX0_led_2 : List UInt8 := [182, 0, 104, 154, 0, 6, 16, 254, 172, 42, 28, 29, 21, 5, 182, 0, 108, 42, 180, 0, 82, 21, 4, 46]
abbrev dktX0_led_2 : List UInt8 := dkwX0_led_2 ++ dktX0_led_3
def dkwX0_led_1 : List UInt8 := [182, 0, 39, 148, 156, 0, 15, 21, 4, 133, 42, 28, 182, 0, 39, 148, 155, 0, 5, 2, 172, 42, 28]
abbrev dktX0_led_1 : List UInt8 := dkwX0_led_1 ++ dktX0_led_2
def dkwX0_led_0 : List UInt8 := [42, 27, 28, 182, 0, 43, 153, 0, 35, 29, 155, 0, 31, 21, 4, 155, 0, 26, 29, 133, 42, 28]
abbrev dktX0_led_0 : List UInt8 := dkwX0_led_0 ++ dktX0_led_1
theorem dksX0_led_0 : cX0_led.data.toList.drop 0 = dktX0_led_0 := by decide +kernel
theorem dksX0_led_1 : cX0_led.data.toList.drop 22 = dktX0_led_1 := dk_seg dksX0_led_0 22 rfl rfl
theorem dksX0_led_2 : cX0_led.data.toList.drop 45 = dktX0_led_2 := dk_seg dksX0_led_1 23 rfl rfl
theorem dksX0_led_3 : cX0_led.data.toList.drop 69 = dktX0_led_3 := dk_seg dksX0_led_2 24 rfl rfl
theorem dX0_led_0 : decode cX0_led 0 = .ok (.aload_n 0, 1) := dk_42 (dk_at dksX0_led_0 0 rfl rfl)
theorem dX0_led_1 : decode cX0_led 1 = .ok (.iload_n 1, 1) := dk_27 (dk_at dksX0_led_0 1 rfl rfl)
theorem dX0_led_2 : decode cX0_led 2 = .ok (.iload_n 2, 1) := dk_28 (dk_at dksX0_led_0 2 rfl rfl)
theorem dX0_led_3 : decode cX0_led 3 = .ok (.invokevirtual 43, 3) := dk_182 0 43 (dk_at dksX0_led_0 3 rfl rfl)
theorem dX0_led_6 : decode cX0_led 6 = .ok (.ifCond .eq 35, 3) := dk_153 0 35 (dk_at dksX0_led_0 6 rfl rfl)
theorem dX0_led_9 : decode cX0_led 9 = .ok (.iload_n 3, 1) := dk_29 (dk_at dksX0_led_0 9 rfl rfl)
theorem dX0_led_10 : decode cX0_led 10 = .ok (.ifCond .lt 31, 3) := dk_155 0 31 (dk_at dksX0_led_0 10 rfl rfl)
theorem dX0_led_13 : decode cX0_led 13 = .ok (.iload 4, 2) := dk_21 4 (dk_at dksX0_led_0 13 rfl rfl)
theorem dX0_led_15 : decode cX0_led 15 = .ok (.ifCond .lt 26, 3) := dk_155 0 26 (dk_at dksX0_led_0 15 rfl rfl)
theorem dX0_led_18 : decode cX0_led 18 = .ok (.iload_n 3, 1) := dk_29 (dk_at dksX0_led_0 18 rfl rfl)
theorem dX0_led_19 : decode cX0_led 19 = .ok (.i2l, 1) := dk_133 (dk_at dksX0_led_0 19 rfl rfl)
theorem dX0_led_20 : decode cX0_led 20 = .ok (.aload_n 0, 1) := dk_42 (dk_at dksX0_led_0 20 rfl rfl)
theorem dX0_led_21 : decode cX0_led 21 = .ok (.iload_n 2, 1) := dk_28 (dk_at dksX0_led_0 21 rfl rfl)
theorem dX0_led_22 : decode cX0_led 22 = .ok (.invokevirtual 39, 3) := dk_182 0 39 (dk_at dksX0_led_1 0 rfl rfl)
theorem dX0_led_25 : decode cX0_led 25 = .ok (.lcmp, 1) := dk_148 (dk_at dksX0_led_1 3 rfl rfl)
theorem dX0_led_26 : decode cX0_led 26 = .ok (.ifCond .ge 15, 3) := dk_156 0 15 (dk_at dksX0_led_1 4 rfl rfl)
theorem dX0_led_29 : decode cX0_led 29 = .ok (.iload 4, 2) := dk_21 4 (dk_at dksX0_led_1 7 rfl rfl)
theorem dX0_led_31 : decode cX0_led 31 = .ok (.i2l, 1) := dk_133 (dk_at dksX0_led_1 9 rfl rfl)
theorem dX0_led_32 : decode cX0_led 32 = .ok (.aload_n 0, 1) := dk_42 (dk_at dksX0_led_1 10 rfl rfl)
theorem dX0_led_33 : decode cX0_led 33 = .ok (.iload_n 2, 1) := dk_28 (dk_at dksX0_led_1 11 rfl rfl)
theorem dX0_led_34 : decode cX0_led 34 = .ok (.invokevirtual 39, 3) := dk_182 0 39 (dk_at dksX0_led_1 12 rfl rfl)
theorem dX0_led_37 : decode cX0_led 37 = .ok (.lcmp, 1) := dk_148 (dk_at dksX0_led_1 15 rfl rfl)
theorem dX0_led_38 : decode cX0_led 38 = .ok (.ifCond .lt 5, 3) := dk_155 0 5 (dk_at dksX0_led_1 16 rfl rfl)
theorem dX0_led_41 : decode cX0_led 41 = .ok (.iconst (-1), 1) := dk_2 (dk_at dksX0_led_1 19 rfl rfl)
theorem dX0_led_42 : decode cX0_led 42 = .ok (.ireturn, 1) := dk_172 (dk_at dksX0_led_1 20 rfl rfl)
theorem dX0_led_43 : decode cX0_led 43 = .ok (.aload_n 0, 1) := dk_42 (dk_at dksX0_led_1 21 rfl rfl)
theorem dX0_led_44 : decode cX0_led 44 = .ok (.iload_n 2, 1) := dk_28 (dk_at dksX0_led_1 22 rfl rfl)
theorem dX0_led_45 : decode cX0_led 45 = .ok (.invokevirtual 104, 3) := dk_182 0 104 (dk_at dksX0_led_2 0 rfl rfl)
theorem dX0_led_48 : decode cX0_led 48 = .ok (.ifCond .ne 6, 3) := dk_154 0 6 (dk_at dksX0_led_2 3 rfl rfl)
theorem dX0_led_51 : decode cX0_led 51 = .ok (.bipush (-2), 2) := dk_16 254 (dk_at dksX0_led_2 6 rfl rfl)
theorem dX0_led_53 : decode cX0_led 53 = .ok (.ireturn, 1) := dk_172 (dk_at dksX0_led_2 8 rfl rfl)
theorem dX0_led_54 : decode cX0_led 54 = .ok (.aload_n 0, 1) := dk_42 (dk_at dksX0_led_2 9 rfl rfl)
theorem dX0_led_55 : decode cX0_led 55 = .ok (.iload_n 2, 1) := dk_28 (dk_at dksX0_led_2 10 rfl rfl)
theorem dX0_led_56 : decode cX0_led 56 = .ok (.iload_n 3, 1) := dk_29 (dk_at dksX0_led_2 11 rfl rfl)
theorem dX0_led_57 : decode cX0_led 57 = .ok (.iload 5, 2) := dk_21 5 (dk_at dksX0_led_2 12 rfl rfl)
theorem dX0_led_59 : decode cX0_led 59 = .ok (.invokevirtual 108, 3) := dk_182 0 108 (dk_at dksX0_led_2 14 rfl rfl)
theorem dX0_led_62 : decode cX0_led 62 = .ok (.aload_n 0, 1) := dk_42 (dk_at dksX0_led_2 17 rfl rfl)
theorem dX0_led_63 : decode cX0_led 63 = .ok (.getfield 82, 3) := dk_180 0 82 (dk_at dksX0_led_2 18 rfl rfl)
theorem dX0_led_66 : decode cX0_led 66 = .ok (.iload 4, 2) := dk_21 4 (dk_at dksX0_led_2 21 rfl rfl)
theorem dX0_led_68 : decode cX0_led 68 = .ok (.iaload, 1) := dk_46 (dk_at dksX0_led_2 23 rfl rfl)
theorem dX0_led_69 : decode cX0_led 69 = .ok (.ireturn, 1) := dk_172 (dk_at dksX0_led_3 0 rfl rfl)
abbrev cX0_laysWords : ByteArray := prog_1_method_10_code
def yX0_laysWords : MethodName := ⟨RX0, "laysWords", "(I)Z"⟩
def dkwX0_laysWords_2 : List UInt8 := [16, 21, 184, 0, 68, 132, 3, 1, 167, 255, 223, 4, 172]
abbrev dktX0_laysWords_2 : List UInt8 := dkwX0_laysWords_2 ++ []
def dkwX0_laysWords_1 : List UInt8 := [28, 162, 0, 34, 42, 27, 29, 133, 182, 0, 59, 42, 180, 0, 55, 3, 42, 180, 0, 65, 16, 21, 29, 104]
abbrev dktX0_laysWords_1 : List UInt8 := dkwX0_laysWords_1 ++ dktX0_laysWords_2
def dkwX0_laysWords_0 : List UInt8 := [42, 27, 182, 0, 39, 20, 0, 63, 148, 158, 0, 5, 3, 172, 42, 27, 182, 0, 39, 136, 61, 3, 62, 29]
abbrev dktX0_laysWords_0 : List UInt8 := dkwX0_laysWords_0 ++ dktX0_laysWords_1
theorem dksX0_laysWords_0 : cX0_laysWords.data.toList.drop 0 = dktX0_laysWords_0 := by decide +kernel
theorem dksX0_laysWords_1 : cX0_laysWords.data.toList.drop 24 = dktX0_laysWords_1 := dk_seg dksX0_laysWords_0 24 rfl rfl
theorem dksX0_laysWords_2 : cX0_laysWords.data.toList.drop 48 = dktX0_laysWords_2 := dk_seg dksX0_laysWords_1 24 rfl rfl
theorem dX0_laysWords_0 : decode cX0_laysWords 0 = .ok (.aload_n 0, 1) := dk_42 (dk_at dksX0_laysWords_0 0 rfl rfl)
theorem dX0_laysWords_1 : decode cX0_laysWords 1 = .ok (.iload_n 1, 1) := dk_27 (dk_at dksX0_laysWords_0 1 rfl rfl)
theorem dX0_laysWords_2 : decode cX0_laysWords 2 = .ok (.invokevirtual 39, 3) := dk_182 0 39 (dk_at dksX0_laysWords_0 2 rfl rfl)
theorem dX0_laysWords_5 : decode cX0_laysWords 5 = .ok (.ldc2_w 63, 3) := dk_20 0 63 (dk_at dksX0_laysWords_0 5 rfl rfl)
theorem dX0_laysWords_8 : decode cX0_laysWords 8 = .ok (.lcmp, 1) := dk_148 (dk_at dksX0_laysWords_0 8 rfl rfl)
theorem dX0_laysWords_9 : decode cX0_laysWords 9 = .ok (.ifCond .le 5, 3) := dk_158 0 5 (dk_at dksX0_laysWords_0 9 rfl rfl)
theorem dX0_laysWords_12 : decode cX0_laysWords 12 = .ok (.iconst 0, 1) := dk_3 (dk_at dksX0_laysWords_0 12 rfl rfl)
theorem dX0_laysWords_13 : decode cX0_laysWords 13 = .ok (.ireturn, 1) := dk_172 (dk_at dksX0_laysWords_0 13 rfl rfl)
theorem dX0_laysWords_14 : decode cX0_laysWords 14 = .ok (.aload_n 0, 1) := dk_42 (dk_at dksX0_laysWords_0 14 rfl rfl)
theorem dX0_laysWords_15 : decode cX0_laysWords 15 = .ok (.iload_n 1, 1) := dk_27 (dk_at dksX0_laysWords_0 15 rfl rfl)
theorem dX0_laysWords_16 : decode cX0_laysWords 16 = .ok (.invokevirtual 39, 3) := dk_182 0 39 (dk_at dksX0_laysWords_0 16 rfl rfl)
theorem dX0_laysWords_19 : decode cX0_laysWords 19 = .ok (.l2i, 1) := dk_136 (dk_at dksX0_laysWords_0 19 rfl rfl)
theorem dX0_laysWords_20 : decode cX0_laysWords 20 = .ok (.istore_n 2, 1) := dk_61 (dk_at dksX0_laysWords_0 20 rfl rfl)
theorem dX0_laysWords_21 : decode cX0_laysWords 21 = .ok (.iconst 0, 1) := dk_3 (dk_at dksX0_laysWords_0 21 rfl rfl)
theorem dX0_laysWords_22 : decode cX0_laysWords 22 = .ok (.istore_n 3, 1) := dk_62 (dk_at dksX0_laysWords_0 22 rfl rfl)
theorem dX0_laysWords_23 : decode cX0_laysWords 23 = .ok (.iload_n 3, 1) := dk_29 (dk_at dksX0_laysWords_0 23 rfl rfl)
theorem dX0_laysWords_24 : decode cX0_laysWords 24 = .ok (.iload_n 2, 1) := dk_28 (dk_at dksX0_laysWords_1 0 rfl rfl)
theorem dX0_laysWords_25 : decode cX0_laysWords 25 = .ok (.if_icmp .ge 34, 3) := dk_162 0 34 (dk_at dksX0_laysWords_1 1 rfl rfl)
theorem dX0_laysWords_28 : decode cX0_laysWords 28 = .ok (.aload_n 0, 1) := dk_42 (dk_at dksX0_laysWords_1 4 rfl rfl)
theorem dX0_laysWords_29 : decode cX0_laysWords 29 = .ok (.iload_n 1, 1) := dk_27 (dk_at dksX0_laysWords_1 5 rfl rfl)
theorem dX0_laysWords_30 : decode cX0_laysWords 30 = .ok (.iload_n 3, 1) := dk_29 (dk_at dksX0_laysWords_1 6 rfl rfl)
theorem dX0_laysWords_31 : decode cX0_laysWords 31 = .ok (.i2l, 1) := dk_133 (dk_at dksX0_laysWords_1 7 rfl rfl)
theorem dX0_laysWords_32 : decode cX0_laysWords 32 = .ok (.invokevirtual 59, 3) := dk_182 0 59 (dk_at dksX0_laysWords_1 8 rfl rfl)
theorem dX0_laysWords_35 : decode cX0_laysWords 35 = .ok (.aload_n 0, 1) := dk_42 (dk_at dksX0_laysWords_1 11 rfl rfl)
theorem dX0_laysWords_36 : decode cX0_laysWords 36 = .ok (.getfield 55, 3) := dk_180 0 55 (dk_at dksX0_laysWords_1 12 rfl rfl)
theorem dX0_laysWords_39 : decode cX0_laysWords 39 = .ok (.iconst 0, 1) := dk_3 (dk_at dksX0_laysWords_1 15 rfl rfl)
theorem dX0_laysWords_40 : decode cX0_laysWords 40 = .ok (.aload_n 0, 1) := dk_42 (dk_at dksX0_laysWords_1 16 rfl rfl)
theorem dX0_laysWords_41 : decode cX0_laysWords 41 = .ok (.getfield 65, 3) := dk_180 0 65 (dk_at dksX0_laysWords_1 17 rfl rfl)
theorem dX0_laysWords_44 : decode cX0_laysWords 44 = .ok (.bipush 21, 2) := dk_16 21 (dk_at dksX0_laysWords_1 20 rfl rfl)
theorem dX0_laysWords_46 : decode cX0_laysWords 46 = .ok (.iload_n 3, 1) := dk_29 (dk_at dksX0_laysWords_1 22 rfl rfl)
theorem dX0_laysWords_47 : decode cX0_laysWords 47 = .ok (.imul, 1) := dk_104 (dk_at dksX0_laysWords_1 23 rfl rfl)
theorem dX0_laysWords_48 : decode cX0_laysWords 48 = .ok (.bipush 21, 2) := dk_16 21 (dk_at dksX0_laysWords_2 0 rfl rfl)
theorem dX0_laysWords_50 : decode cX0_laysWords 50 = .ok (.invokestatic 68, 3) := dk_184 0 68 (dk_at dksX0_laysWords_2 2 rfl rfl)
theorem dX0_laysWords_53 : decode cX0_laysWords 53 = .ok (.iinc 3 1, 3) := dk_132 3 1 (dk_at dksX0_laysWords_2 5 rfl rfl)
theorem dX0_laysWords_56 : decode cX0_laysWords 56 = .ok (.goto (-33), 3) := dk_167 255 223 (dk_at dksX0_laysWords_2 8 rfl rfl)
theorem dX0_laysWords_59 : decode cX0_laysWords 59 = .ok (.iconst 1, 1) := dk_4 (dk_at dksX0_laysWords_2 11 rfl rfl)
theorem dX0_laysWords_60 : decode cX0_laysWords 60 = .ok (.ireturn, 1) := dk_172 (dk_at dksX0_laysWords_2 12 rfl rfl)
abbrev cX0_goesFrom : ByteArray := prog_1_method_12_code
def yX0_goesFrom : MethodName := ⟨RX0, "goesFrom", "(III)V"⟩
def dkwX0_goesFrom_9 : List UInt8 := [167, 255, 197, 167, 255, 106, 177]
abbrev dktX0_goesFrom_9 : List UInt8 := dkwX0_goesFrom_9 ++ []
def dkwX0_goesFrom_8 : List UInt8 := [42, 180, 0, 82, 21, 7, 46, 42, 180, 0, 82, 21, 6, 46, 162, 0, 7, 21, 7, 54, 6, 132, 7, 1]
abbrev dktX0_goesFrom_8 : List UInt8 := dkwX0_goesFrom_8 ++ dktX0_goesFrom_9
def dkwX0_goesFrom_7 : List UInt8 := [21, 7, 51, 154, 0, 42, 42, 180, 0, 82, 21, 7, 46, 18, 88, 159, 0, 30, 21, 6, 2, 159, 0, 20]
abbrev dktX0_goesFrom_7 : List UInt8 := dkwX0_goesFrom_7 ++ dktX0_goesFrom_8
def dkwX0_goesFrom_6 : List UInt8 := [132, 7, 1, 167, 255, 194, 2, 54, 6, 3, 54, 7, 21, 7, 21, 4, 162, 0, 58, 42, 180, 0, 89]
abbrev dktX0_goesFrom_6 : List UInt8 := dkwX0_goesFrom_6 ++ dktX0_goesFrom_7
def dkwX0_goesFrom_5 : List UInt8 := [21, 6, 21, 7, 21, 5, 4, 182, 0, 93, 42, 180, 0, 82, 21, 6, 46, 4, 96, 182, 0, 97]
abbrev dktX0_goesFrom_5 : List UInt8 := dkwX0_goesFrom_5 ++ dktX0_goesFrom_6
def dkwX0_goesFrom_4 : List UInt8 := [21, 7, 21, 5, 3, 182, 0, 93, 42, 180, 0, 82, 21, 6, 46, 29, 96, 182, 0, 97, 42, 42, 27]
abbrev dktX0_goesFrom_4 : List UInt8 := dkwX0_goesFrom_4 ++ dktX0_goesFrom_5
def dkwX0_goesFrom_3 : List UInt8 := [180, 0, 89, 21, 6, 4, 84, 3, 54, 7, 21, 7, 4, 96, 21, 5, 162, 0, 59, 42, 42, 27, 21, 6]
abbrev dktX0_goesFrom_3 : List UInt8 := dkwX0_goesFrom_3 ++ dktX0_goesFrom_4
def dkwX0_goesFrom_2 : List UInt8 := [132, 6, 1, 167, 255, 229, 42, 180, 0, 82, 28, 3, 79, 28, 54, 6, 21, 6, 2, 159, 0, 150, 42]
abbrev dktX0_goesFrom_2 : List UInt8 := dkwX0_goesFrom_2 ++ dktX0_goesFrom_3
def dkwX0_goesFrom_1 : List UInt8 := [21, 4, 162, 0, 26, 42, 180, 0, 82, 21, 6, 18, 88, 79, 42, 180, 0, 89, 21, 6, 3, 84]
abbrev dktX0_goesFrom_1 : List UInt8 := dkwX0_goesFrom_1 ++ dktX0_goesFrom_2
def dkwX0_goesFrom_0 : List UInt8 := [42, 27, 182, 0, 39, 136, 54, 4, 42, 180, 0, 7, 27, 182, 0, 49, 54, 5, 3, 54, 6, 21, 6]
abbrev dktX0_goesFrom_0 : List UInt8 := dkwX0_goesFrom_0 ++ dktX0_goesFrom_1
theorem dksX0_goesFrom_0 : cX0_goesFrom.data.toList.drop 0 = dktX0_goesFrom_0 := by decide +kernel
theorem dksX0_goesFrom_1 : cX0_goesFrom.data.toList.drop 23 = dktX0_goesFrom_1 := dk_seg dksX0_goesFrom_0 23 rfl rfl
theorem dksX0_goesFrom_2 : cX0_goesFrom.data.toList.drop 45 = dktX0_goesFrom_2 := dk_seg dksX0_goesFrom_1 22 rfl rfl
theorem dksX0_goesFrom_3 : cX0_goesFrom.data.toList.drop 68 = dktX0_goesFrom_3 := dk_seg dksX0_goesFrom_2 23 rfl rfl
theorem dksX0_goesFrom_4 : cX0_goesFrom.data.toList.drop 92 = dktX0_goesFrom_4 := dk_seg dksX0_goesFrom_3 24 rfl rfl
theorem dksX0_goesFrom_5 : cX0_goesFrom.data.toList.drop 115 = dktX0_goesFrom_5 := dk_seg dksX0_goesFrom_4 23 rfl rfl
theorem dksX0_goesFrom_6 : cX0_goesFrom.data.toList.drop 137 = dktX0_goesFrom_6 := dk_seg dksX0_goesFrom_5 22 rfl rfl
theorem dksX0_goesFrom_7 : cX0_goesFrom.data.toList.drop 160 = dktX0_goesFrom_7 := dk_seg dksX0_goesFrom_6 23 rfl rfl
theorem dksX0_goesFrom_8 : cX0_goesFrom.data.toList.drop 184 = dktX0_goesFrom_8 := dk_seg dksX0_goesFrom_7 24 rfl rfl
theorem dksX0_goesFrom_9 : cX0_goesFrom.data.toList.drop 208 = dktX0_goesFrom_9 := dk_seg dksX0_goesFrom_8 24 rfl rfl
theorem dX0_goesFrom_0 : decode cX0_goesFrom 0 = .ok (.aload_n 0, 1) := dk_42 (dk_at dksX0_goesFrom_0 0 rfl rfl)
theorem dX0_goesFrom_1 : decode cX0_goesFrom 1 = .ok (.iload_n 1, 1) := dk_27 (dk_at dksX0_goesFrom_0 1 rfl rfl)
theorem dX0_goesFrom_2 : decode cX0_goesFrom 2 = .ok (.invokevirtual 39, 3) := dk_182 0 39 (dk_at dksX0_goesFrom_0 2 rfl rfl)
theorem dX0_goesFrom_5 : decode cX0_goesFrom 5 = .ok (.l2i, 1) := dk_136 (dk_at dksX0_goesFrom_0 5 rfl rfl)
theorem dX0_goesFrom_6 : decode cX0_goesFrom 6 = .ok (.istore 4, 2) := dk_54 4 (dk_at dksX0_goesFrom_0 6 rfl rfl)
theorem dX0_goesFrom_8 : decode cX0_goesFrom 8 = .ok (.aload_n 0, 1) := dk_42 (dk_at dksX0_goesFrom_0 8 rfl rfl)
theorem dX0_goesFrom_9 : decode cX0_goesFrom 9 = .ok (.getfield 7, 3) := dk_180 0 7 (dk_at dksX0_goesFrom_0 9 rfl rfl)
theorem dX0_goesFrom_12 : decode cX0_goesFrom 12 = .ok (.iload_n 1, 1) := dk_27 (dk_at dksX0_goesFrom_0 12 rfl rfl)
theorem dX0_goesFrom_13 : decode cX0_goesFrom 13 = .ok (.invokevirtual 49, 3) := dk_182 0 49 (dk_at dksX0_goesFrom_0 13 rfl rfl)
theorem dX0_goesFrom_16 : decode cX0_goesFrom 16 = .ok (.istore 5, 2) := dk_54 5 (dk_at dksX0_goesFrom_0 16 rfl rfl)
theorem dX0_goesFrom_18 : decode cX0_goesFrom 18 = .ok (.iconst 0, 1) := dk_3 (dk_at dksX0_goesFrom_0 18 rfl rfl)
theorem dX0_goesFrom_19 : decode cX0_goesFrom 19 = .ok (.istore 6, 2) := dk_54 6 (dk_at dksX0_goesFrom_0 19 rfl rfl)
theorem dX0_goesFrom_21 : decode cX0_goesFrom 21 = .ok (.iload 6, 2) := dk_21 6 (dk_at dksX0_goesFrom_0 21 rfl rfl)
theorem dX0_goesFrom_23 : decode cX0_goesFrom 23 = .ok (.iload 4, 2) := dk_21 4 (dk_at dksX0_goesFrom_1 0 rfl rfl)
theorem dX0_goesFrom_25 : decode cX0_goesFrom 25 = .ok (.if_icmp .ge 26, 3) := dk_162 0 26 (dk_at dksX0_goesFrom_1 2 rfl rfl)
theorem dX0_goesFrom_28 : decode cX0_goesFrom 28 = .ok (.aload_n 0, 1) := dk_42 (dk_at dksX0_goesFrom_1 5 rfl rfl)
theorem dX0_goesFrom_29 : decode cX0_goesFrom 29 = .ok (.getfield 82, 3) := dk_180 0 82 (dk_at dksX0_goesFrom_1 6 rfl rfl)
theorem dX0_goesFrom_32 : decode cX0_goesFrom 32 = .ok (.iload 6, 2) := dk_21 6 (dk_at dksX0_goesFrom_1 9 rfl rfl)
theorem dX0_goesFrom_34 : decode cX0_goesFrom 34 = .ok (.ldc 88, 2) := dk_18 88 (dk_at dksX0_goesFrom_1 11 rfl rfl)
theorem dX0_goesFrom_36 : decode cX0_goesFrom 36 = .ok (.iastore, 1) := dk_79 (dk_at dksX0_goesFrom_1 13 rfl rfl)
theorem dX0_goesFrom_37 : decode cX0_goesFrom 37 = .ok (.aload_n 0, 1) := dk_42 (dk_at dksX0_goesFrom_1 14 rfl rfl)
theorem dX0_goesFrom_38 : decode cX0_goesFrom 38 = .ok (.getfield 89, 3) := dk_180 0 89 (dk_at dksX0_goesFrom_1 15 rfl rfl)
theorem dX0_goesFrom_41 : decode cX0_goesFrom 41 = .ok (.iload 6, 2) := dk_21 6 (dk_at dksX0_goesFrom_1 18 rfl rfl)
theorem dX0_goesFrom_43 : decode cX0_goesFrom 43 = .ok (.iconst 0, 1) := dk_3 (dk_at dksX0_goesFrom_1 20 rfl rfl)
theorem dX0_goesFrom_44 : decode cX0_goesFrom 44 = .ok (.bastore, 1) := dk_84 (dk_at dksX0_goesFrom_1 21 rfl rfl)
theorem dX0_goesFrom_45 : decode cX0_goesFrom 45 = .ok (.iinc 6 1, 3) := dk_132 6 1 (dk_at dksX0_goesFrom_2 0 rfl rfl)
theorem dX0_goesFrom_48 : decode cX0_goesFrom 48 = .ok (.goto (-27), 3) := dk_167 255 229 (dk_at dksX0_goesFrom_2 3 rfl rfl)
theorem dX0_goesFrom_51 : decode cX0_goesFrom 51 = .ok (.aload_n 0, 1) := dk_42 (dk_at dksX0_goesFrom_2 6 rfl rfl)
theorem dX0_goesFrom_52 : decode cX0_goesFrom 52 = .ok (.getfield 82, 3) := dk_180 0 82 (dk_at dksX0_goesFrom_2 7 rfl rfl)
theorem dX0_goesFrom_55 : decode cX0_goesFrom 55 = .ok (.iload_n 2, 1) := dk_28 (dk_at dksX0_goesFrom_2 10 rfl rfl)
theorem dX0_goesFrom_56 : decode cX0_goesFrom 56 = .ok (.iconst 0, 1) := dk_3 (dk_at dksX0_goesFrom_2 11 rfl rfl)
theorem dX0_goesFrom_57 : decode cX0_goesFrom 57 = .ok (.iastore, 1) := dk_79 (dk_at dksX0_goesFrom_2 12 rfl rfl)
theorem dX0_goesFrom_58 : decode cX0_goesFrom 58 = .ok (.iload_n 2, 1) := dk_28 (dk_at dksX0_goesFrom_2 13 rfl rfl)
theorem dX0_goesFrom_59 : decode cX0_goesFrom 59 = .ok (.istore 6, 2) := dk_54 6 (dk_at dksX0_goesFrom_2 14 rfl rfl)
theorem dX0_goesFrom_61 : decode cX0_goesFrom 61 = .ok (.iload 6, 2) := dk_21 6 (dk_at dksX0_goesFrom_2 16 rfl rfl)
theorem dX0_goesFrom_63 : decode cX0_goesFrom 63 = .ok (.iconst (-1), 1) := dk_2 (dk_at dksX0_goesFrom_2 18 rfl rfl)
theorem dX0_goesFrom_64 : decode cX0_goesFrom 64 = .ok (.if_icmp .eq 150, 3) := dk_159 0 150 (dk_at dksX0_goesFrom_2 19 rfl rfl)
theorem dX0_goesFrom_67 : decode cX0_goesFrom 67 = .ok (.aload_n 0, 1) := dk_42 (dk_at dksX0_goesFrom_2 22 rfl rfl)
theorem dX0_goesFrom_68 : decode cX0_goesFrom 68 = .ok (.getfield 89, 3) := dk_180 0 89 (dk_at dksX0_goesFrom_3 0 rfl rfl)
theorem dX0_goesFrom_71 : decode cX0_goesFrom 71 = .ok (.iload 6, 2) := dk_21 6 (dk_at dksX0_goesFrom_3 3 rfl rfl)
theorem dX0_goesFrom_73 : decode cX0_goesFrom 73 = .ok (.iconst 1, 1) := dk_4 (dk_at dksX0_goesFrom_3 5 rfl rfl)
theorem dX0_goesFrom_74 : decode cX0_goesFrom 74 = .ok (.bastore, 1) := dk_84 (dk_at dksX0_goesFrom_3 6 rfl rfl)
theorem dX0_goesFrom_75 : decode cX0_goesFrom 75 = .ok (.iconst 0, 1) := dk_3 (dk_at dksX0_goesFrom_3 7 rfl rfl)
theorem dX0_goesFrom_76 : decode cX0_goesFrom 76 = .ok (.istore 7, 2) := dk_54 7 (dk_at dksX0_goesFrom_3 8 rfl rfl)
theorem dX0_goesFrom_78 : decode cX0_goesFrom 78 = .ok (.iload 7, 2) := dk_21 7 (dk_at dksX0_goesFrom_3 10 rfl rfl)
theorem dX0_goesFrom_80 : decode cX0_goesFrom 80 = .ok (.iconst 1, 1) := dk_4 (dk_at dksX0_goesFrom_3 12 rfl rfl)
theorem dX0_goesFrom_81 : decode cX0_goesFrom 81 = .ok (.iadd, 1) := dk_96 (dk_at dksX0_goesFrom_3 13 rfl rfl)
theorem dX0_goesFrom_82 : decode cX0_goesFrom 82 = .ok (.iload 5, 2) := dk_21 5 (dk_at dksX0_goesFrom_3 14 rfl rfl)
theorem dX0_goesFrom_84 : decode cX0_goesFrom 84 = .ok (.if_icmp .ge 59, 3) := dk_162 0 59 (dk_at dksX0_goesFrom_3 16 rfl rfl)
theorem dX0_goesFrom_87 : decode cX0_goesFrom 87 = .ok (.aload_n 0, 1) := dk_42 (dk_at dksX0_goesFrom_3 19 rfl rfl)
theorem dX0_goesFrom_88 : decode cX0_goesFrom 88 = .ok (.aload_n 0, 1) := dk_42 (dk_at dksX0_goesFrom_3 20 rfl rfl)
theorem dX0_goesFrom_89 : decode cX0_goesFrom 89 = .ok (.iload_n 1, 1) := dk_27 (dk_at dksX0_goesFrom_3 21 rfl rfl)
theorem dX0_goesFrom_90 : decode cX0_goesFrom 90 = .ok (.iload 6, 2) := dk_21 6 (dk_at dksX0_goesFrom_3 22 rfl rfl)
theorem dX0_goesFrom_92 : decode cX0_goesFrom 92 = .ok (.iload 7, 2) := dk_21 7 (dk_at dksX0_goesFrom_4 0 rfl rfl)
theorem dX0_goesFrom_94 : decode cX0_goesFrom 94 = .ok (.iload 5, 2) := dk_21 5 (dk_at dksX0_goesFrom_4 2 rfl rfl)
theorem dX0_goesFrom_96 : decode cX0_goesFrom 96 = .ok (.iconst 0, 1) := dk_3 (dk_at dksX0_goesFrom_4 4 rfl rfl)
theorem dX0_goesFrom_97 : decode cX0_goesFrom 97 = .ok (.invokevirtual 93, 3) := dk_182 0 93 (dk_at dksX0_goesFrom_4 5 rfl rfl)
theorem dX0_goesFrom_100 : decode cX0_goesFrom 100 = .ok (.aload_n 0, 1) := dk_42 (dk_at dksX0_goesFrom_4 8 rfl rfl)
theorem dX0_goesFrom_101 : decode cX0_goesFrom 101 = .ok (.getfield 82, 3) := dk_180 0 82 (dk_at dksX0_goesFrom_4 9 rfl rfl)
theorem dX0_goesFrom_104 : decode cX0_goesFrom 104 = .ok (.iload 6, 2) := dk_21 6 (dk_at dksX0_goesFrom_4 12 rfl rfl)
theorem dX0_goesFrom_106 : decode cX0_goesFrom 106 = .ok (.iaload, 1) := dk_46 (dk_at dksX0_goesFrom_4 14 rfl rfl)
theorem dX0_goesFrom_107 : decode cX0_goesFrom 107 = .ok (.iload_n 3, 1) := dk_29 (dk_at dksX0_goesFrom_4 15 rfl rfl)
theorem dX0_goesFrom_108 : decode cX0_goesFrom 108 = .ok (.iadd, 1) := dk_96 (dk_at dksX0_goesFrom_4 16 rfl rfl)
theorem dX0_goesFrom_109 : decode cX0_goesFrom 109 = .ok (.invokevirtual 97, 3) := dk_182 0 97 (dk_at dksX0_goesFrom_4 17 rfl rfl)
theorem dX0_goesFrom_112 : decode cX0_goesFrom 112 = .ok (.aload_n 0, 1) := dk_42 (dk_at dksX0_goesFrom_4 20 rfl rfl)
theorem dX0_goesFrom_113 : decode cX0_goesFrom 113 = .ok (.aload_n 0, 1) := dk_42 (dk_at dksX0_goesFrom_4 21 rfl rfl)
theorem dX0_goesFrom_114 : decode cX0_goesFrom 114 = .ok (.iload_n 1, 1) := dk_27 (dk_at dksX0_goesFrom_4 22 rfl rfl)
theorem dX0_goesFrom_115 : decode cX0_goesFrom 115 = .ok (.iload 6, 2) := dk_21 6 (dk_at dksX0_goesFrom_5 0 rfl rfl)
theorem dX0_goesFrom_117 : decode cX0_goesFrom 117 = .ok (.iload 7, 2) := dk_21 7 (dk_at dksX0_goesFrom_5 2 rfl rfl)
theorem dX0_goesFrom_119 : decode cX0_goesFrom 119 = .ok (.iload 5, 2) := dk_21 5 (dk_at dksX0_goesFrom_5 4 rfl rfl)
theorem dX0_goesFrom_121 : decode cX0_goesFrom 121 = .ok (.iconst 1, 1) := dk_4 (dk_at dksX0_goesFrom_5 6 rfl rfl)
theorem dX0_goesFrom_122 : decode cX0_goesFrom 122 = .ok (.invokevirtual 93, 3) := dk_182 0 93 (dk_at dksX0_goesFrom_5 7 rfl rfl)
theorem dX0_goesFrom_125 : decode cX0_goesFrom 125 = .ok (.aload_n 0, 1) := dk_42 (dk_at dksX0_goesFrom_5 10 rfl rfl)
theorem dX0_goesFrom_126 : decode cX0_goesFrom 126 = .ok (.getfield 82, 3) := dk_180 0 82 (dk_at dksX0_goesFrom_5 11 rfl rfl)
theorem dX0_goesFrom_129 : decode cX0_goesFrom 129 = .ok (.iload 6, 2) := dk_21 6 (dk_at dksX0_goesFrom_5 14 rfl rfl)
theorem dX0_goesFrom_131 : decode cX0_goesFrom 131 = .ok (.iaload, 1) := dk_46 (dk_at dksX0_goesFrom_5 16 rfl rfl)
theorem dX0_goesFrom_132 : decode cX0_goesFrom 132 = .ok (.iconst 1, 1) := dk_4 (dk_at dksX0_goesFrom_5 17 rfl rfl)
theorem dX0_goesFrom_133 : decode cX0_goesFrom 133 = .ok (.iadd, 1) := dk_96 (dk_at dksX0_goesFrom_5 18 rfl rfl)
theorem dX0_goesFrom_134 : decode cX0_goesFrom 134 = .ok (.invokevirtual 97, 3) := dk_182 0 97 (dk_at dksX0_goesFrom_5 19 rfl rfl)
theorem dX0_goesFrom_137 : decode cX0_goesFrom 137 = .ok (.iinc 7 1, 3) := dk_132 7 1 (dk_at dksX0_goesFrom_6 0 rfl rfl)
theorem dX0_goesFrom_140 : decode cX0_goesFrom 140 = .ok (.goto (-62), 3) := dk_167 255 194 (dk_at dksX0_goesFrom_6 3 rfl rfl)
theorem dX0_goesFrom_143 : decode cX0_goesFrom 143 = .ok (.iconst (-1), 1) := dk_2 (dk_at dksX0_goesFrom_6 6 rfl rfl)
theorem dX0_goesFrom_144 : decode cX0_goesFrom 144 = .ok (.istore 6, 2) := dk_54 6 (dk_at dksX0_goesFrom_6 7 rfl rfl)
theorem dX0_goesFrom_146 : decode cX0_goesFrom 146 = .ok (.iconst 0, 1) := dk_3 (dk_at dksX0_goesFrom_6 9 rfl rfl)
theorem dX0_goesFrom_147 : decode cX0_goesFrom 147 = .ok (.istore 7, 2) := dk_54 7 (dk_at dksX0_goesFrom_6 10 rfl rfl)
theorem dX0_goesFrom_149 : decode cX0_goesFrom 149 = .ok (.iload 7, 2) := dk_21 7 (dk_at dksX0_goesFrom_6 12 rfl rfl)
theorem dX0_goesFrom_151 : decode cX0_goesFrom 151 = .ok (.iload 4, 2) := dk_21 4 (dk_at dksX0_goesFrom_6 14 rfl rfl)
theorem dX0_goesFrom_153 : decode cX0_goesFrom 153 = .ok (.if_icmp .ge 58, 3) := dk_162 0 58 (dk_at dksX0_goesFrom_6 16 rfl rfl)
theorem dX0_goesFrom_156 : decode cX0_goesFrom 156 = .ok (.aload_n 0, 1) := dk_42 (dk_at dksX0_goesFrom_6 19 rfl rfl)
theorem dX0_goesFrom_157 : decode cX0_goesFrom 157 = .ok (.getfield 89, 3) := dk_180 0 89 (dk_at dksX0_goesFrom_6 20 rfl rfl)
theorem dX0_goesFrom_160 : decode cX0_goesFrom 160 = .ok (.iload 7, 2) := dk_21 7 (dk_at dksX0_goesFrom_7 0 rfl rfl)
theorem dX0_goesFrom_162 : decode cX0_goesFrom 162 = .ok (.baload, 1) := dk_51 (dk_at dksX0_goesFrom_7 2 rfl rfl)
theorem dX0_goesFrom_163 : decode cX0_goesFrom 163 = .ok (.ifCond .ne 42, 3) := dk_154 0 42 (dk_at dksX0_goesFrom_7 3 rfl rfl)
theorem dX0_goesFrom_166 : decode cX0_goesFrom 166 = .ok (.aload_n 0, 1) := dk_42 (dk_at dksX0_goesFrom_7 6 rfl rfl)
theorem dX0_goesFrom_167 : decode cX0_goesFrom 167 = .ok (.getfield 82, 3) := dk_180 0 82 (dk_at dksX0_goesFrom_7 7 rfl rfl)
theorem dX0_goesFrom_170 : decode cX0_goesFrom 170 = .ok (.iload 7, 2) := dk_21 7 (dk_at dksX0_goesFrom_7 10 rfl rfl)
theorem dX0_goesFrom_172 : decode cX0_goesFrom 172 = .ok (.iaload, 1) := dk_46 (dk_at dksX0_goesFrom_7 12 rfl rfl)
theorem dX0_goesFrom_173 : decode cX0_goesFrom 173 = .ok (.ldc 88, 2) := dk_18 88 (dk_at dksX0_goesFrom_7 13 rfl rfl)
theorem dX0_goesFrom_175 : decode cX0_goesFrom 175 = .ok (.if_icmp .eq 30, 3) := dk_159 0 30 (dk_at dksX0_goesFrom_7 15 rfl rfl)
theorem dX0_goesFrom_178 : decode cX0_goesFrom 178 = .ok (.iload 6, 2) := dk_21 6 (dk_at dksX0_goesFrom_7 18 rfl rfl)
theorem dX0_goesFrom_180 : decode cX0_goesFrom 180 = .ok (.iconst (-1), 1) := dk_2 (dk_at dksX0_goesFrom_7 20 rfl rfl)
theorem dX0_goesFrom_181 : decode cX0_goesFrom 181 = .ok (.if_icmp .eq 20, 3) := dk_159 0 20 (dk_at dksX0_goesFrom_7 21 rfl rfl)
theorem dX0_goesFrom_184 : decode cX0_goesFrom 184 = .ok (.aload_n 0, 1) := dk_42 (dk_at dksX0_goesFrom_8 0 rfl rfl)
theorem dX0_goesFrom_185 : decode cX0_goesFrom 185 = .ok (.getfield 82, 3) := dk_180 0 82 (dk_at dksX0_goesFrom_8 1 rfl rfl)
theorem dX0_goesFrom_188 : decode cX0_goesFrom 188 = .ok (.iload 7, 2) := dk_21 7 (dk_at dksX0_goesFrom_8 4 rfl rfl)
theorem dX0_goesFrom_190 : decode cX0_goesFrom 190 = .ok (.iaload, 1) := dk_46 (dk_at dksX0_goesFrom_8 6 rfl rfl)
theorem dX0_goesFrom_191 : decode cX0_goesFrom 191 = .ok (.aload_n 0, 1) := dk_42 (dk_at dksX0_goesFrom_8 7 rfl rfl)
theorem dX0_goesFrom_192 : decode cX0_goesFrom 192 = .ok (.getfield 82, 3) := dk_180 0 82 (dk_at dksX0_goesFrom_8 8 rfl rfl)
theorem dX0_goesFrom_195 : decode cX0_goesFrom 195 = .ok (.iload 6, 2) := dk_21 6 (dk_at dksX0_goesFrom_8 11 rfl rfl)
theorem dX0_goesFrom_197 : decode cX0_goesFrom 197 = .ok (.iaload, 1) := dk_46 (dk_at dksX0_goesFrom_8 13 rfl rfl)
theorem dX0_goesFrom_198 : decode cX0_goesFrom 198 = .ok (.if_icmp .ge 7, 3) := dk_162 0 7 (dk_at dksX0_goesFrom_8 14 rfl rfl)
theorem dX0_goesFrom_201 : decode cX0_goesFrom 201 = .ok (.iload 7, 2) := dk_21 7 (dk_at dksX0_goesFrom_8 17 rfl rfl)
theorem dX0_goesFrom_203 : decode cX0_goesFrom 203 = .ok (.istore 6, 2) := dk_54 6 (dk_at dksX0_goesFrom_8 19 rfl rfl)
theorem dX0_goesFrom_205 : decode cX0_goesFrom 205 = .ok (.iinc 7 1, 3) := dk_132 7 1 (dk_at dksX0_goesFrom_8 21 rfl rfl)
theorem dX0_goesFrom_208 : decode cX0_goesFrom 208 = .ok (.goto (-59), 3) := dk_167 255 197 (dk_at dksX0_goesFrom_9 0 rfl rfl)
theorem dX0_goesFrom_211 : decode cX0_goesFrom 211 = .ok (.goto (-150), 3) := dk_167 255 106 (dk_at dksX0_goesFrom_9 3 rfl rfl)
theorem dX0_goesFrom_214 : decode cX0_goesFrom 214 = .ok (.return_, 1) := dk_177 (dk_at dksX0_goesFrom_9 6 rfl rfl)
abbrev cX0_ledAt : ByteArray := prog_1_method_11_code
def yX0_ledAt : MethodName := ⟨RX0, "ledAt", "(IIIIZ)I"⟩
def dkwX0_ledAt_8 : List UInt8 := [136, 172]
abbrev dktX0_ledAt_8 : List UInt8 := dkwX0_ledAt_8 ++ []
def dkwX0_ledAt_7 : List UInt8 := [42, 180, 0, 55, 29, 4, 96, 51, 84, 42, 180, 0, 55, 29, 4, 96, 21, 6, 84, 42, 27, 182, 0, 79]
abbrev dktX0_ledAt_7 : List UInt8 := dkwX0_ledAt_7 ++ dktX0_ledAt_8
def dkwX0_ledAt_6 : List UInt8 := [51, 100, 184, 0, 74, 5, 162, 0, 5, 2, 172, 42, 180, 0, 55, 29, 51, 54, 6, 42, 180, 0, 55, 29]
abbrev dktX0_ledAt_6 : List UInt8 := dkwX0_ledAt_6 ++ dktX0_ledAt_7
def dkwX0_ledAt_5 : List UInt8 := [167, 0, 67, 29, 4, 96, 21, 4, 162, 0, 25, 42, 180, 0, 55, 29, 51, 42, 180, 0, 55, 29, 4, 96]
abbrev dktX0_ledAt_5 : List UInt8 := dkwX0_ledAt_5 ++ dktX0_ledAt_6
def dkwX0_ledAt_4 : List UInt8 := [180, 0, 55, 29, 4, 96, 21, 6, 84, 42, 180, 0, 55, 29, 5, 96, 42, 180, 0, 55, 29, 51, 84]
abbrev dktX0_ledAt_4 : List UInt8 := dkwX0_ledAt_4 ++ dktX0_ledAt_5
def dkwX0_ledAt_3 : List UInt8 := [42, 180, 0, 55, 29, 51, 54, 6, 42, 180, 0, 55, 29, 42, 180, 0, 55, 29, 4, 96, 51, 84, 42]
abbrev dktX0_ledAt_3 : List UInt8 := dkwX0_ledAt_3 ++ dktX0_ledAt_4
def dkwX0_ledAt_2 : List UInt8 := [42, 180, 0, 55, 29, 51, 42, 180, 0, 55, 29, 4, 96, 51, 100, 184, 0, 74, 4, 159, 0, 5, 2, 172]
abbrev dktX0_ledAt_2 : List UInt8 := dkwX0_ledAt_2 ++ dktX0_ledAt_3
def dkwX0_ledAt_1 : List UInt8 := [5, 96, 21, 4, 162, 0, 42, 42, 180, 0, 55, 29, 51, 42, 180, 0, 55, 29, 5, 96, 51, 160, 0, 25]
abbrev dktX0_ledAt_1 : List UInt8 := dkwX0_ledAt_1 ++ dktX0_ledAt_2
def dkwX0_ledAt_0 : List UInt8 := [42, 180, 0, 65, 16, 21, 28, 104, 42, 180, 0, 55, 3, 16, 21, 184, 0, 68, 21, 5, 153, 0, 101, 29]
abbrev dktX0_ledAt_0 : List UInt8 := dkwX0_ledAt_0 ++ dktX0_ledAt_1
theorem dksX0_ledAt_0 : cX0_ledAt.data.toList.drop 0 = dktX0_ledAt_0 := by decide +kernel
theorem dksX0_ledAt_1 : cX0_ledAt.data.toList.drop 24 = dktX0_ledAt_1 := dk_seg dksX0_ledAt_0 24 rfl rfl
theorem dksX0_ledAt_2 : cX0_ledAt.data.toList.drop 48 = dktX0_ledAt_2 := dk_seg dksX0_ledAt_1 24 rfl rfl
theorem dksX0_ledAt_3 : cX0_ledAt.data.toList.drop 72 = dktX0_ledAt_3 := dk_seg dksX0_ledAt_2 24 rfl rfl
theorem dksX0_ledAt_4 : cX0_ledAt.data.toList.drop 95 = dktX0_ledAt_4 := dk_seg dksX0_ledAt_3 23 rfl rfl
theorem dksX0_ledAt_5 : cX0_ledAt.data.toList.drop 118 = dktX0_ledAt_5 := dk_seg dksX0_ledAt_4 23 rfl rfl
theorem dksX0_ledAt_6 : cX0_ledAt.data.toList.drop 142 = dktX0_ledAt_6 := dk_seg dksX0_ledAt_5 24 rfl rfl
theorem dksX0_ledAt_7 : cX0_ledAt.data.toList.drop 166 = dktX0_ledAt_7 := dk_seg dksX0_ledAt_6 24 rfl rfl
theorem dksX0_ledAt_8 : cX0_ledAt.data.toList.drop 190 = dktX0_ledAt_8 := dk_seg dksX0_ledAt_7 24 rfl rfl
theorem dX0_ledAt_0 : decode cX0_ledAt 0 = .ok (.aload_n 0, 1) := dk_42 (dk_at dksX0_ledAt_0 0 rfl rfl)
theorem dX0_ledAt_1 : decode cX0_ledAt 1 = .ok (.getfield 65, 3) := dk_180 0 65 (dk_at dksX0_ledAt_0 1 rfl rfl)
theorem dX0_ledAt_4 : decode cX0_ledAt 4 = .ok (.bipush 21, 2) := dk_16 21 (dk_at dksX0_ledAt_0 4 rfl rfl)
theorem dX0_ledAt_6 : decode cX0_ledAt 6 = .ok (.iload_n 2, 1) := dk_28 (dk_at dksX0_ledAt_0 6 rfl rfl)
theorem dX0_ledAt_7 : decode cX0_ledAt 7 = .ok (.imul, 1) := dk_104 (dk_at dksX0_ledAt_0 7 rfl rfl)
theorem dX0_ledAt_8 : decode cX0_ledAt 8 = .ok (.aload_n 0, 1) := dk_42 (dk_at dksX0_ledAt_0 8 rfl rfl)
theorem dX0_ledAt_9 : decode cX0_ledAt 9 = .ok (.getfield 55, 3) := dk_180 0 55 (dk_at dksX0_ledAt_0 9 rfl rfl)
theorem dX0_ledAt_12 : decode cX0_ledAt 12 = .ok (.iconst 0, 1) := dk_3 (dk_at dksX0_ledAt_0 12 rfl rfl)
theorem dX0_ledAt_13 : decode cX0_ledAt 13 = .ok (.bipush 21, 2) := dk_16 21 (dk_at dksX0_ledAt_0 13 rfl rfl)
theorem dX0_ledAt_15 : decode cX0_ledAt 15 = .ok (.invokestatic 68, 3) := dk_184 0 68 (dk_at dksX0_ledAt_0 15 rfl rfl)
theorem dX0_ledAt_18 : decode cX0_ledAt 18 = .ok (.iload 5, 2) := dk_21 5 (dk_at dksX0_ledAt_0 18 rfl rfl)
theorem dX0_ledAt_20 : decode cX0_ledAt 20 = .ok (.ifCond .eq 101, 3) := dk_153 0 101 (dk_at dksX0_ledAt_0 20 rfl rfl)
theorem dX0_ledAt_23 : decode cX0_ledAt 23 = .ok (.iload_n 3, 1) := dk_29 (dk_at dksX0_ledAt_0 23 rfl rfl)
theorem dX0_ledAt_24 : decode cX0_ledAt 24 = .ok (.iconst 2, 1) := dk_5 (dk_at dksX0_ledAt_1 0 rfl rfl)
theorem dX0_ledAt_25 : decode cX0_ledAt 25 = .ok (.iadd, 1) := dk_96 (dk_at dksX0_ledAt_1 1 rfl rfl)
theorem dX0_ledAt_26 : decode cX0_ledAt 26 = .ok (.iload 4, 2) := dk_21 4 (dk_at dksX0_ledAt_1 2 rfl rfl)
theorem dX0_ledAt_28 : decode cX0_ledAt 28 = .ok (.if_icmp .ge 42, 3) := dk_162 0 42 (dk_at dksX0_ledAt_1 4 rfl rfl)
theorem dX0_ledAt_31 : decode cX0_ledAt 31 = .ok (.aload_n 0, 1) := dk_42 (dk_at dksX0_ledAt_1 7 rfl rfl)
theorem dX0_ledAt_32 : decode cX0_ledAt 32 = .ok (.getfield 55, 3) := dk_180 0 55 (dk_at dksX0_ledAt_1 8 rfl rfl)
theorem dX0_ledAt_35 : decode cX0_ledAt 35 = .ok (.iload_n 3, 1) := dk_29 (dk_at dksX0_ledAt_1 11 rfl rfl)
theorem dX0_ledAt_36 : decode cX0_ledAt 36 = .ok (.baload, 1) := dk_51 (dk_at dksX0_ledAt_1 12 rfl rfl)
theorem dX0_ledAt_37 : decode cX0_ledAt 37 = .ok (.aload_n 0, 1) := dk_42 (dk_at dksX0_ledAt_1 13 rfl rfl)
theorem dX0_ledAt_38 : decode cX0_ledAt 38 = .ok (.getfield 55, 3) := dk_180 0 55 (dk_at dksX0_ledAt_1 14 rfl rfl)
theorem dX0_ledAt_41 : decode cX0_ledAt 41 = .ok (.iload_n 3, 1) := dk_29 (dk_at dksX0_ledAt_1 17 rfl rfl)
theorem dX0_ledAt_42 : decode cX0_ledAt 42 = .ok (.iconst 2, 1) := dk_5 (dk_at dksX0_ledAt_1 18 rfl rfl)
theorem dX0_ledAt_43 : decode cX0_ledAt 43 = .ok (.iadd, 1) := dk_96 (dk_at dksX0_ledAt_1 19 rfl rfl)
theorem dX0_ledAt_44 : decode cX0_ledAt 44 = .ok (.baload, 1) := dk_51 (dk_at dksX0_ledAt_1 20 rfl rfl)
theorem dX0_ledAt_45 : decode cX0_ledAt 45 = .ok (.if_icmp .ne 25, 3) := dk_160 0 25 (dk_at dksX0_ledAt_1 21 rfl rfl)
theorem dX0_ledAt_48 : decode cX0_ledAt 48 = .ok (.aload_n 0, 1) := dk_42 (dk_at dksX0_ledAt_2 0 rfl rfl)
theorem dX0_ledAt_49 : decode cX0_ledAt 49 = .ok (.getfield 55, 3) := dk_180 0 55 (dk_at dksX0_ledAt_2 1 rfl rfl)
theorem dX0_ledAt_52 : decode cX0_ledAt 52 = .ok (.iload_n 3, 1) := dk_29 (dk_at dksX0_ledAt_2 4 rfl rfl)
theorem dX0_ledAt_53 : decode cX0_ledAt 53 = .ok (.baload, 1) := dk_51 (dk_at dksX0_ledAt_2 5 rfl rfl)
theorem dX0_ledAt_54 : decode cX0_ledAt 54 = .ok (.aload_n 0, 1) := dk_42 (dk_at dksX0_ledAt_2 6 rfl rfl)
theorem dX0_ledAt_55 : decode cX0_ledAt 55 = .ok (.getfield 55, 3) := dk_180 0 55 (dk_at dksX0_ledAt_2 7 rfl rfl)
theorem dX0_ledAt_58 : decode cX0_ledAt 58 = .ok (.iload_n 3, 1) := dk_29 (dk_at dksX0_ledAt_2 10 rfl rfl)
theorem dX0_ledAt_59 : decode cX0_ledAt 59 = .ok (.iconst 1, 1) := dk_4 (dk_at dksX0_ledAt_2 11 rfl rfl)
theorem dX0_ledAt_60 : decode cX0_ledAt 60 = .ok (.iadd, 1) := dk_96 (dk_at dksX0_ledAt_2 12 rfl rfl)
theorem dX0_ledAt_61 : decode cX0_ledAt 61 = .ok (.baload, 1) := dk_51 (dk_at dksX0_ledAt_2 13 rfl rfl)
theorem dX0_ledAt_62 : decode cX0_ledAt 62 = .ok (.isub, 1) := dk_100 (dk_at dksX0_ledAt_2 14 rfl rfl)
theorem dX0_ledAt_63 : decode cX0_ledAt 63 = .ok (.invokestatic 74, 3) := dk_184 0 74 (dk_at dksX0_ledAt_2 15 rfl rfl)
theorem dX0_ledAt_66 : decode cX0_ledAt 66 = .ok (.iconst 1, 1) := dk_4 (dk_at dksX0_ledAt_2 18 rfl rfl)
theorem dX0_ledAt_67 : decode cX0_ledAt 67 = .ok (.if_icmp .eq 5, 3) := dk_159 0 5 (dk_at dksX0_ledAt_2 19 rfl rfl)
theorem dX0_ledAt_70 : decode cX0_ledAt 70 = .ok (.iconst (-1), 1) := dk_2 (dk_at dksX0_ledAt_2 22 rfl rfl)
theorem dX0_ledAt_71 : decode cX0_ledAt 71 = .ok (.ireturn, 1) := dk_172 (dk_at dksX0_ledAt_2 23 rfl rfl)
theorem dX0_ledAt_72 : decode cX0_ledAt 72 = .ok (.aload_n 0, 1) := dk_42 (dk_at dksX0_ledAt_3 0 rfl rfl)
theorem dX0_ledAt_73 : decode cX0_ledAt 73 = .ok (.getfield 55, 3) := dk_180 0 55 (dk_at dksX0_ledAt_3 1 rfl rfl)
theorem dX0_ledAt_76 : decode cX0_ledAt 76 = .ok (.iload_n 3, 1) := dk_29 (dk_at dksX0_ledAt_3 4 rfl rfl)
theorem dX0_ledAt_77 : decode cX0_ledAt 77 = .ok (.baload, 1) := dk_51 (dk_at dksX0_ledAt_3 5 rfl rfl)
theorem dX0_ledAt_78 : decode cX0_ledAt 78 = .ok (.istore 6, 2) := dk_54 6 (dk_at dksX0_ledAt_3 6 rfl rfl)
theorem dX0_ledAt_80 : decode cX0_ledAt 80 = .ok (.aload_n 0, 1) := dk_42 (dk_at dksX0_ledAt_3 8 rfl rfl)
theorem dX0_ledAt_81 : decode cX0_ledAt 81 = .ok (.getfield 55, 3) := dk_180 0 55 (dk_at dksX0_ledAt_3 9 rfl rfl)
theorem dX0_ledAt_84 : decode cX0_ledAt 84 = .ok (.iload_n 3, 1) := dk_29 (dk_at dksX0_ledAt_3 12 rfl rfl)
theorem dX0_ledAt_85 : decode cX0_ledAt 85 = .ok (.aload_n 0, 1) := dk_42 (dk_at dksX0_ledAt_3 13 rfl rfl)
theorem dX0_ledAt_86 : decode cX0_ledAt 86 = .ok (.getfield 55, 3) := dk_180 0 55 (dk_at dksX0_ledAt_3 14 rfl rfl)
theorem dX0_ledAt_89 : decode cX0_ledAt 89 = .ok (.iload_n 3, 1) := dk_29 (dk_at dksX0_ledAt_3 17 rfl rfl)
theorem dX0_ledAt_90 : decode cX0_ledAt 90 = .ok (.iconst 1, 1) := dk_4 (dk_at dksX0_ledAt_3 18 rfl rfl)
theorem dX0_ledAt_91 : decode cX0_ledAt 91 = .ok (.iadd, 1) := dk_96 (dk_at dksX0_ledAt_3 19 rfl rfl)
theorem dX0_ledAt_92 : decode cX0_ledAt 92 = .ok (.baload, 1) := dk_51 (dk_at dksX0_ledAt_3 20 rfl rfl)
theorem dX0_ledAt_93 : decode cX0_ledAt 93 = .ok (.bastore, 1) := dk_84 (dk_at dksX0_ledAt_3 21 rfl rfl)
theorem dX0_ledAt_94 : decode cX0_ledAt 94 = .ok (.aload_n 0, 1) := dk_42 (dk_at dksX0_ledAt_3 22 rfl rfl)
theorem dX0_ledAt_95 : decode cX0_ledAt 95 = .ok (.getfield 55, 3) := dk_180 0 55 (dk_at dksX0_ledAt_4 0 rfl rfl)
theorem dX0_ledAt_98 : decode cX0_ledAt 98 = .ok (.iload_n 3, 1) := dk_29 (dk_at dksX0_ledAt_4 3 rfl rfl)
theorem dX0_ledAt_99 : decode cX0_ledAt 99 = .ok (.iconst 1, 1) := dk_4 (dk_at dksX0_ledAt_4 4 rfl rfl)
theorem dX0_ledAt_100 : decode cX0_ledAt 100 = .ok (.iadd, 1) := dk_96 (dk_at dksX0_ledAt_4 5 rfl rfl)
theorem dX0_ledAt_101 : decode cX0_ledAt 101 = .ok (.iload 6, 2) := dk_21 6 (dk_at dksX0_ledAt_4 6 rfl rfl)
theorem dX0_ledAt_103 : decode cX0_ledAt 103 = .ok (.bastore, 1) := dk_84 (dk_at dksX0_ledAt_4 8 rfl rfl)
theorem dX0_ledAt_104 : decode cX0_ledAt 104 = .ok (.aload_n 0, 1) := dk_42 (dk_at dksX0_ledAt_4 9 rfl rfl)
theorem dX0_ledAt_105 : decode cX0_ledAt 105 = .ok (.getfield 55, 3) := dk_180 0 55 (dk_at dksX0_ledAt_4 10 rfl rfl)
theorem dX0_ledAt_108 : decode cX0_ledAt 108 = .ok (.iload_n 3, 1) := dk_29 (dk_at dksX0_ledAt_4 13 rfl rfl)
theorem dX0_ledAt_109 : decode cX0_ledAt 109 = .ok (.iconst 2, 1) := dk_5 (dk_at dksX0_ledAt_4 14 rfl rfl)
theorem dX0_ledAt_110 : decode cX0_ledAt 110 = .ok (.iadd, 1) := dk_96 (dk_at dksX0_ledAt_4 15 rfl rfl)
theorem dX0_ledAt_111 : decode cX0_ledAt 111 = .ok (.aload_n 0, 1) := dk_42 (dk_at dksX0_ledAt_4 16 rfl rfl)
theorem dX0_ledAt_112 : decode cX0_ledAt 112 = .ok (.getfield 55, 3) := dk_180 0 55 (dk_at dksX0_ledAt_4 17 rfl rfl)
theorem dX0_ledAt_115 : decode cX0_ledAt 115 = .ok (.iload_n 3, 1) := dk_29 (dk_at dksX0_ledAt_4 20 rfl rfl)
theorem dX0_ledAt_116 : decode cX0_ledAt 116 = .ok (.baload, 1) := dk_51 (dk_at dksX0_ledAt_4 21 rfl rfl)
theorem dX0_ledAt_117 : decode cX0_ledAt 117 = .ok (.bastore, 1) := dk_84 (dk_at dksX0_ledAt_4 22 rfl rfl)
theorem dX0_ledAt_118 : decode cX0_ledAt 118 = .ok (.goto 67, 3) := dk_167 0 67 (dk_at dksX0_ledAt_5 0 rfl rfl)
theorem dX0_ledAt_121 : decode cX0_ledAt 121 = .ok (.iload_n 3, 1) := dk_29 (dk_at dksX0_ledAt_5 3 rfl rfl)
theorem dX0_ledAt_122 : decode cX0_ledAt 122 = .ok (.iconst 1, 1) := dk_4 (dk_at dksX0_ledAt_5 4 rfl rfl)
theorem dX0_ledAt_123 : decode cX0_ledAt 123 = .ok (.iadd, 1) := dk_96 (dk_at dksX0_ledAt_5 5 rfl rfl)
theorem dX0_ledAt_124 : decode cX0_ledAt 124 = .ok (.iload 4, 2) := dk_21 4 (dk_at dksX0_ledAt_5 6 rfl rfl)
theorem dX0_ledAt_126 : decode cX0_ledAt 126 = .ok (.if_icmp .ge 25, 3) := dk_162 0 25 (dk_at dksX0_ledAt_5 8 rfl rfl)
theorem dX0_ledAt_129 : decode cX0_ledAt 129 = .ok (.aload_n 0, 1) := dk_42 (dk_at dksX0_ledAt_5 11 rfl rfl)
theorem dX0_ledAt_130 : decode cX0_ledAt 130 = .ok (.getfield 55, 3) := dk_180 0 55 (dk_at dksX0_ledAt_5 12 rfl rfl)
theorem dX0_ledAt_133 : decode cX0_ledAt 133 = .ok (.iload_n 3, 1) := dk_29 (dk_at dksX0_ledAt_5 15 rfl rfl)
theorem dX0_ledAt_134 : decode cX0_ledAt 134 = .ok (.baload, 1) := dk_51 (dk_at dksX0_ledAt_5 16 rfl rfl)
theorem dX0_ledAt_135 : decode cX0_ledAt 135 = .ok (.aload_n 0, 1) := dk_42 (dk_at dksX0_ledAt_5 17 rfl rfl)
theorem dX0_ledAt_136 : decode cX0_ledAt 136 = .ok (.getfield 55, 3) := dk_180 0 55 (dk_at dksX0_ledAt_5 18 rfl rfl)
theorem dX0_ledAt_139 : decode cX0_ledAt 139 = .ok (.iload_n 3, 1) := dk_29 (dk_at dksX0_ledAt_5 21 rfl rfl)
theorem dX0_ledAt_140 : decode cX0_ledAt 140 = .ok (.iconst 1, 1) := dk_4 (dk_at dksX0_ledAt_5 22 rfl rfl)
theorem dX0_ledAt_141 : decode cX0_ledAt 141 = .ok (.iadd, 1) := dk_96 (dk_at dksX0_ledAt_5 23 rfl rfl)
theorem dX0_ledAt_142 : decode cX0_ledAt 142 = .ok (.baload, 1) := dk_51 (dk_at dksX0_ledAt_6 0 rfl rfl)
theorem dX0_ledAt_143 : decode cX0_ledAt 143 = .ok (.isub, 1) := dk_100 (dk_at dksX0_ledAt_6 1 rfl rfl)
theorem dX0_ledAt_144 : decode cX0_ledAt 144 = .ok (.invokestatic 74, 3) := dk_184 0 74 (dk_at dksX0_ledAt_6 2 rfl rfl)
theorem dX0_ledAt_147 : decode cX0_ledAt 147 = .ok (.iconst 2, 1) := dk_5 (dk_at dksX0_ledAt_6 5 rfl rfl)
theorem dX0_ledAt_148 : decode cX0_ledAt 148 = .ok (.if_icmp .ge 5, 3) := dk_162 0 5 (dk_at dksX0_ledAt_6 6 rfl rfl)
theorem dX0_ledAt_151 : decode cX0_ledAt 151 = .ok (.iconst (-1), 1) := dk_2 (dk_at dksX0_ledAt_6 9 rfl rfl)
theorem dX0_ledAt_152 : decode cX0_ledAt 152 = .ok (.ireturn, 1) := dk_172 (dk_at dksX0_ledAt_6 10 rfl rfl)
theorem dX0_ledAt_153 : decode cX0_ledAt 153 = .ok (.aload_n 0, 1) := dk_42 (dk_at dksX0_ledAt_6 11 rfl rfl)
theorem dX0_ledAt_154 : decode cX0_ledAt 154 = .ok (.getfield 55, 3) := dk_180 0 55 (dk_at dksX0_ledAt_6 12 rfl rfl)
theorem dX0_ledAt_157 : decode cX0_ledAt 157 = .ok (.iload_n 3, 1) := dk_29 (dk_at dksX0_ledAt_6 15 rfl rfl)
theorem dX0_ledAt_158 : decode cX0_ledAt 158 = .ok (.baload, 1) := dk_51 (dk_at dksX0_ledAt_6 16 rfl rfl)
theorem dX0_ledAt_159 : decode cX0_ledAt 159 = .ok (.istore 6, 2) := dk_54 6 (dk_at dksX0_ledAt_6 17 rfl rfl)
theorem dX0_ledAt_161 : decode cX0_ledAt 161 = .ok (.aload_n 0, 1) := dk_42 (dk_at dksX0_ledAt_6 19 rfl rfl)
theorem dX0_ledAt_162 : decode cX0_ledAt 162 = .ok (.getfield 55, 3) := dk_180 0 55 (dk_at dksX0_ledAt_6 20 rfl rfl)
theorem dX0_ledAt_165 : decode cX0_ledAt 165 = .ok (.iload_n 3, 1) := dk_29 (dk_at dksX0_ledAt_6 23 rfl rfl)
theorem dX0_ledAt_166 : decode cX0_ledAt 166 = .ok (.aload_n 0, 1) := dk_42 (dk_at dksX0_ledAt_7 0 rfl rfl)
theorem dX0_ledAt_167 : decode cX0_ledAt 167 = .ok (.getfield 55, 3) := dk_180 0 55 (dk_at dksX0_ledAt_7 1 rfl rfl)
theorem dX0_ledAt_170 : decode cX0_ledAt 170 = .ok (.iload_n 3, 1) := dk_29 (dk_at dksX0_ledAt_7 4 rfl rfl)
theorem dX0_ledAt_171 : decode cX0_ledAt 171 = .ok (.iconst 1, 1) := dk_4 (dk_at dksX0_ledAt_7 5 rfl rfl)
theorem dX0_ledAt_172 : decode cX0_ledAt 172 = .ok (.iadd, 1) := dk_96 (dk_at dksX0_ledAt_7 6 rfl rfl)
theorem dX0_ledAt_173 : decode cX0_ledAt 173 = .ok (.baload, 1) := dk_51 (dk_at dksX0_ledAt_7 7 rfl rfl)
theorem dX0_ledAt_174 : decode cX0_ledAt 174 = .ok (.bastore, 1) := dk_84 (dk_at dksX0_ledAt_7 8 rfl rfl)
theorem dX0_ledAt_175 : decode cX0_ledAt 175 = .ok (.aload_n 0, 1) := dk_42 (dk_at dksX0_ledAt_7 9 rfl rfl)
theorem dX0_ledAt_176 : decode cX0_ledAt 176 = .ok (.getfield 55, 3) := dk_180 0 55 (dk_at dksX0_ledAt_7 10 rfl rfl)
theorem dX0_ledAt_179 : decode cX0_ledAt 179 = .ok (.iload_n 3, 1) := dk_29 (dk_at dksX0_ledAt_7 13 rfl rfl)
theorem dX0_ledAt_180 : decode cX0_ledAt 180 = .ok (.iconst 1, 1) := dk_4 (dk_at dksX0_ledAt_7 14 rfl rfl)
theorem dX0_ledAt_181 : decode cX0_ledAt 181 = .ok (.iadd, 1) := dk_96 (dk_at dksX0_ledAt_7 15 rfl rfl)
theorem dX0_ledAt_182 : decode cX0_ledAt 182 = .ok (.iload 6, 2) := dk_21 6 (dk_at dksX0_ledAt_7 16 rfl rfl)
theorem dX0_ledAt_184 : decode cX0_ledAt 184 = .ok (.bastore, 1) := dk_84 (dk_at dksX0_ledAt_7 18 rfl rfl)
theorem dX0_ledAt_185 : decode cX0_ledAt 185 = .ok (.aload_n 0, 1) := dk_42 (dk_at dksX0_ledAt_7 19 rfl rfl)
theorem dX0_ledAt_186 : decode cX0_ledAt 186 = .ok (.iload_n 1, 1) := dk_27 (dk_at dksX0_ledAt_7 20 rfl rfl)
theorem dX0_ledAt_187 : decode cX0_ledAt 187 = .ok (.invokevirtual 79, 3) := dk_182 0 79 (dk_at dksX0_ledAt_7 21 rfl rfl)
theorem dX0_ledAt_190 : decode cX0_ledAt 190 = .ok (.l2i, 1) := dk_136 (dk_at dksX0_ledAt_8 0 rfl rfl)
theorem dX0_ledAt_191 : decode cX0_ledAt 191 = .ok (.ireturn, 1) := dk_172 (dk_at dksX0_ledAt_8 1 rfl rfl)
abbrev cX0_ranked : ByteArray := prog_1_method_8_code
def yX0_ranked : MethodName := ⟨RX0, "ranked", "(I)J"⟩
def dkwX0_ranked_3 : List UInt8 := [42, 180, 0, 55, 21, 5, 51, 182, 0, 35, 54, 4, 132, 5, 1, 167, 255, 177, 32, 173]
abbrev dktX0_ranked_3 : List UInt8 := dkwX0_ranked_3 ++ []
def dkwX0_ranked_2 : List UInt8 := [21, 4, 21, 6, 182, 0, 35, 182, 0, 39, 97, 65, 132, 6, 1, 167, 255, 209, 42, 180, 0, 7, 21, 4]
abbrev dktX0_ranked_2 : List UInt8 := dkwX0_ranked_2 ++ dktX0_ranked_3
def dkwX0_ranked_1 : List UInt8 := [51, 162, 0, 41, 42, 180, 0, 7, 21, 4, 21, 6, 182, 0, 31, 153, 0, 21, 32, 42, 42, 180, 0, 7]
abbrev dktX0_ranked_1 : List UInt8 := dkwX0_ranked_1 ++ dktX0_ranked_2
def dkwX0_ranked_0 : List UInt8 := [9, 65, 27, 54, 4, 3, 54, 5, 21, 4, 153, 0, 80, 3, 54, 6, 21, 6, 42, 180, 0, 55, 21, 5]
abbrev dktX0_ranked_0 : List UInt8 := dkwX0_ranked_0 ++ dktX0_ranked_1
theorem dksX0_ranked_0 : cX0_ranked.data.toList.drop 0 = dktX0_ranked_0 := by decide +kernel
theorem dksX0_ranked_1 : cX0_ranked.data.toList.drop 24 = dktX0_ranked_1 := dk_seg dksX0_ranked_0 24 rfl rfl
theorem dksX0_ranked_2 : cX0_ranked.data.toList.drop 48 = dktX0_ranked_2 := dk_seg dksX0_ranked_1 24 rfl rfl
theorem dksX0_ranked_3 : cX0_ranked.data.toList.drop 72 = dktX0_ranked_3 := dk_seg dksX0_ranked_2 24 rfl rfl
theorem dX0_ranked_0 : decode cX0_ranked 0 = .ok (.lconst 0, 1) := dk_9 (dk_at dksX0_ranked_0 0 rfl rfl)
theorem dX0_ranked_1 : decode cX0_ranked 1 = .ok (.lstore_n 2, 1) := dk_65 (dk_at dksX0_ranked_0 1 rfl rfl)
theorem dX0_ranked_2 : decode cX0_ranked 2 = .ok (.iload_n 1, 1) := dk_27 (dk_at dksX0_ranked_0 2 rfl rfl)
theorem dX0_ranked_3 : decode cX0_ranked 3 = .ok (.istore 4, 2) := dk_54 4 (dk_at dksX0_ranked_0 3 rfl rfl)
theorem dX0_ranked_5 : decode cX0_ranked 5 = .ok (.iconst 0, 1) := dk_3 (dk_at dksX0_ranked_0 5 rfl rfl)
theorem dX0_ranked_6 : decode cX0_ranked 6 = .ok (.istore 5, 2) := dk_54 5 (dk_at dksX0_ranked_0 6 rfl rfl)
theorem dX0_ranked_8 : decode cX0_ranked 8 = .ok (.iload 4, 2) := dk_21 4 (dk_at dksX0_ranked_0 8 rfl rfl)
theorem dX0_ranked_10 : decode cX0_ranked 10 = .ok (.ifCond .eq 80, 3) := dk_153 0 80 (dk_at dksX0_ranked_0 10 rfl rfl)
theorem dX0_ranked_13 : decode cX0_ranked 13 = .ok (.iconst 0, 1) := dk_3 (dk_at dksX0_ranked_0 13 rfl rfl)
theorem dX0_ranked_14 : decode cX0_ranked 14 = .ok (.istore 6, 2) := dk_54 6 (dk_at dksX0_ranked_0 14 rfl rfl)
theorem dX0_ranked_16 : decode cX0_ranked 16 = .ok (.iload 6, 2) := dk_21 6 (dk_at dksX0_ranked_0 16 rfl rfl)
theorem dX0_ranked_18 : decode cX0_ranked 18 = .ok (.aload_n 0, 1) := dk_42 (dk_at dksX0_ranked_0 18 rfl rfl)
theorem dX0_ranked_19 : decode cX0_ranked 19 = .ok (.getfield 55, 3) := dk_180 0 55 (dk_at dksX0_ranked_0 19 rfl rfl)
theorem dX0_ranked_22 : decode cX0_ranked 22 = .ok (.iload 5, 2) := dk_21 5 (dk_at dksX0_ranked_0 22 rfl rfl)
theorem dX0_ranked_24 : decode cX0_ranked 24 = .ok (.baload, 1) := dk_51 (dk_at dksX0_ranked_1 0 rfl rfl)
theorem dX0_ranked_25 : decode cX0_ranked 25 = .ok (.if_icmp .ge 41, 3) := dk_162 0 41 (dk_at dksX0_ranked_1 1 rfl rfl)
theorem dX0_ranked_28 : decode cX0_ranked 28 = .ok (.aload_n 0, 1) := dk_42 (dk_at dksX0_ranked_1 4 rfl rfl)
theorem dX0_ranked_29 : decode cX0_ranked 29 = .ok (.getfield 7, 3) := dk_180 0 7 (dk_at dksX0_ranked_1 5 rfl rfl)
theorem dX0_ranked_32 : decode cX0_ranked 32 = .ok (.iload 4, 2) := dk_21 4 (dk_at dksX0_ranked_1 8 rfl rfl)
theorem dX0_ranked_34 : decode cX0_ranked 34 = .ok (.iload 6, 2) := dk_21 6 (dk_at dksX0_ranked_1 10 rfl rfl)
theorem dX0_ranked_36 : decode cX0_ranked 36 = .ok (.invokevirtual 31, 3) := dk_182 0 31 (dk_at dksX0_ranked_1 12 rfl rfl)
theorem dX0_ranked_39 : decode cX0_ranked 39 = .ok (.ifCond .eq 21, 3) := dk_153 0 21 (dk_at dksX0_ranked_1 15 rfl rfl)
theorem dX0_ranked_42 : decode cX0_ranked 42 = .ok (.lload_n 2, 1) := dk_32 (dk_at dksX0_ranked_1 18 rfl rfl)
theorem dX0_ranked_43 : decode cX0_ranked 43 = .ok (.aload_n 0, 1) := dk_42 (dk_at dksX0_ranked_1 19 rfl rfl)
theorem dX0_ranked_44 : decode cX0_ranked 44 = .ok (.aload_n 0, 1) := dk_42 (dk_at dksX0_ranked_1 20 rfl rfl)
theorem dX0_ranked_45 : decode cX0_ranked 45 = .ok (.getfield 7, 3) := dk_180 0 7 (dk_at dksX0_ranked_1 21 rfl rfl)
theorem dX0_ranked_48 : decode cX0_ranked 48 = .ok (.iload 4, 2) := dk_21 4 (dk_at dksX0_ranked_2 0 rfl rfl)
theorem dX0_ranked_50 : decode cX0_ranked 50 = .ok (.iload 6, 2) := dk_21 6 (dk_at dksX0_ranked_2 2 rfl rfl)
theorem dX0_ranked_52 : decode cX0_ranked 52 = .ok (.invokevirtual 35, 3) := dk_182 0 35 (dk_at dksX0_ranked_2 4 rfl rfl)
theorem dX0_ranked_55 : decode cX0_ranked 55 = .ok (.invokevirtual 39, 3) := dk_182 0 39 (dk_at dksX0_ranked_2 7 rfl rfl)
theorem dX0_ranked_58 : decode cX0_ranked 58 = .ok (.ladd, 1) := dk_97 (dk_at dksX0_ranked_2 10 rfl rfl)
theorem dX0_ranked_59 : decode cX0_ranked 59 = .ok (.lstore_n 2, 1) := dk_65 (dk_at dksX0_ranked_2 11 rfl rfl)
theorem dX0_ranked_60 : decode cX0_ranked 60 = .ok (.iinc 6 1, 3) := dk_132 6 1 (dk_at dksX0_ranked_2 12 rfl rfl)
theorem dX0_ranked_63 : decode cX0_ranked 63 = .ok (.goto (-47), 3) := dk_167 255 209 (dk_at dksX0_ranked_2 15 rfl rfl)
theorem dX0_ranked_66 : decode cX0_ranked 66 = .ok (.aload_n 0, 1) := dk_42 (dk_at dksX0_ranked_2 18 rfl rfl)
theorem dX0_ranked_67 : decode cX0_ranked 67 = .ok (.getfield 7, 3) := dk_180 0 7 (dk_at dksX0_ranked_2 19 rfl rfl)
theorem dX0_ranked_70 : decode cX0_ranked 70 = .ok (.iload 4, 2) := dk_21 4 (dk_at dksX0_ranked_2 22 rfl rfl)
theorem dX0_ranked_72 : decode cX0_ranked 72 = .ok (.aload_n 0, 1) := dk_42 (dk_at dksX0_ranked_3 0 rfl rfl)
theorem dX0_ranked_73 : decode cX0_ranked 73 = .ok (.getfield 55, 3) := dk_180 0 55 (dk_at dksX0_ranked_3 1 rfl rfl)
theorem dX0_ranked_76 : decode cX0_ranked 76 = .ok (.iload 5, 2) := dk_21 5 (dk_at dksX0_ranked_3 4 rfl rfl)
theorem dX0_ranked_78 : decode cX0_ranked 78 = .ok (.baload, 1) := dk_51 (dk_at dksX0_ranked_3 6 rfl rfl)
theorem dX0_ranked_79 : decode cX0_ranked 79 = .ok (.invokevirtual 35, 3) := dk_182 0 35 (dk_at dksX0_ranked_3 7 rfl rfl)
theorem dX0_ranked_82 : decode cX0_ranked 82 = .ok (.istore 4, 2) := dk_54 4 (dk_at dksX0_ranked_3 10 rfl rfl)
theorem dX0_ranked_84 : decode cX0_ranked 84 = .ok (.iinc 5 1, 3) := dk_132 5 1 (dk_at dksX0_ranked_3 12 rfl rfl)
theorem dX0_ranked_87 : decode cX0_ranked 87 = .ok (.goto (-79), 3) := dk_167 255 177 (dk_at dksX0_ranked_3 15 rfl rfl)
theorem dX0_ranked_90 : decode cX0_ranked 90 = .ok (.lload_n 2, 1) := dk_32 (dk_at dksX0_ranked_3 18 rfl rfl)
theorem dX0_ranked_91 : decode cX0_ranked 91 = .ok (.lreturn, 1) := dk_173 (dk_at dksX0_ranked_3 19 rfl rfl)
abbrev cX0_comesBy : ByteArray := prog_1_method_13_code
def yX0_comesBy : MethodName := ⟨RX0, "comesBy", "(II)V"⟩
def dkwX0_comesBy_0 : List UInt8 := [27, 2, 159, 0, 19, 42, 180, 0, 82, 27, 42, 180, 0, 82, 27, 46, 28, 184, 0, 101, 79, 177]
abbrev dktX0_comesBy_0 : List UInt8 := dkwX0_comesBy_0 ++ []
theorem dksX0_comesBy_0 : cX0_comesBy.data.toList.drop 0 = dktX0_comesBy_0 := by decide +kernel
theorem dX0_comesBy_0 : decode cX0_comesBy 0 = .ok (.iload_n 1, 1) := dk_27 (dk_at dksX0_comesBy_0 0 rfl rfl)
theorem dX0_comesBy_1 : decode cX0_comesBy 1 = .ok (.iconst (-1), 1) := dk_2 (dk_at dksX0_comesBy_0 1 rfl rfl)
theorem dX0_comesBy_2 : decode cX0_comesBy 2 = .ok (.if_icmp .eq 19, 3) := dk_159 0 19 (dk_at dksX0_comesBy_0 2 rfl rfl)
theorem dX0_comesBy_5 : decode cX0_comesBy 5 = .ok (.aload_n 0, 1) := dk_42 (dk_at dksX0_comesBy_0 5 rfl rfl)
theorem dX0_comesBy_6 : decode cX0_comesBy 6 = .ok (.getfield 82, 3) := dk_180 0 82 (dk_at dksX0_comesBy_0 6 rfl rfl)
theorem dX0_comesBy_9 : decode cX0_comesBy 9 = .ok (.iload_n 1, 1) := dk_27 (dk_at dksX0_comesBy_0 9 rfl rfl)
theorem dX0_comesBy_10 : decode cX0_comesBy 10 = .ok (.aload_n 0, 1) := dk_42 (dk_at dksX0_comesBy_0 10 rfl rfl)
theorem dX0_comesBy_11 : decode cX0_comesBy 11 = .ok (.getfield 82, 3) := dk_180 0 82 (dk_at dksX0_comesBy_0 11 rfl rfl)
theorem dX0_comesBy_14 : decode cX0_comesBy 14 = .ok (.iload_n 1, 1) := dk_27 (dk_at dksX0_comesBy_0 14 rfl rfl)
theorem dX0_comesBy_15 : decode cX0_comesBy 15 = .ok (.iaload, 1) := dk_46 (dk_at dksX0_comesBy_0 15 rfl rfl)
theorem dX0_comesBy_16 : decode cX0_comesBy 16 = .ok (.iload_n 2, 1) := dk_28 (dk_at dksX0_comesBy_0 16 rfl rfl)
theorem dX0_comesBy_17 : decode cX0_comesBy 17 = .ok (.invokestatic 101, 3) := dk_184 0 101 (dk_at dksX0_comesBy_0 17 rfl rfl)
theorem dX0_comesBy_20 : decode cX0_comesBy 20 = .ok (.iastore, 1) := dk_79 (dk_at dksX0_comesBy_0 20 rfl rfl)
theorem dX0_comesBy_21 : decode cX0_comesBy 21 = .ok (.return_, 1) := dk_177 (dk_at dksX0_comesBy_0 21 rfl rfl)
abbrev cX0_moves : ByteArray := prog_1_method_16_code
def yX0_moves : MethodName := ⟨RX0, "moves", "(IIII)I"⟩
def dkwX0_moves_0 : List UInt8 := [42, 27, 28, 29, 21, 4, 4, 182, 0, 112, 172]
abbrev dktX0_moves_0 : List UInt8 := dkwX0_moves_0 ++ []
theorem dksX0_moves_0 : cX0_moves.data.toList.drop 0 = dktX0_moves_0 := by decide +kernel
theorem dX0_moves_0 : decode cX0_moves 0 = .ok (.aload_n 0, 1) := dk_42 (dk_at dksX0_moves_0 0 rfl rfl)
theorem dX0_moves_1 : decode cX0_moves 1 = .ok (.iload_n 1, 1) := dk_27 (dk_at dksX0_moves_0 1 rfl rfl)
theorem dX0_moves_2 : decode cX0_moves 2 = .ok (.iload_n 2, 1) := dk_28 (dk_at dksX0_moves_0 2 rfl rfl)
theorem dX0_moves_3 : decode cX0_moves 3 = .ok (.iload_n 3, 1) := dk_29 (dk_at dksX0_moves_0 3 rfl rfl)
theorem dX0_moves_4 : decode cX0_moves 4 = .ok (.iload 4, 2) := dk_21 4 (dk_at dksX0_moves_0 4 rfl rfl)
theorem dX0_moves_6 : decode cX0_moves 6 = .ok (.iconst 1, 1) := dk_4 (dk_at dksX0_moves_0 6 rfl rfl)
theorem dX0_moves_7 : decode cX0_moves 7 = .ok (.invokevirtual 112, 3) := dk_182 0 112 (dk_at dksX0_moves_0 7 rfl rfl)
theorem dX0_moves_10 : decode cX0_moves 10 = .ok (.ireturn, 1) := dk_172 (dk_at dksX0_moves_0 10 rfl rfl)
abbrev cX0_classes : ByteArray := prog_1_method_17_code
def yX0_classes : MethodName := ⟨RX0, "classes", "(II)I"⟩
def dkwX0_classes_9 : List UInt8 := [21, 5, 172]
abbrev dktX0_classes_9 : List UInt8 := dkwX0_classes_9 ++ []
def dkwX0_classes_8 : List UInt8 := [132, 7, 1, 132, 9, 1, 167, 255, 184, 132, 8, 1, 167, 255, 168, 132, 5, 1, 132, 6, 1, 167, 255, 116]
abbrev dktX0_classes_8 : List UInt8 := dkwX0_classes_8 ++ dktX0_classes_9
def dkwX0_classes_7 : List UInt8 := [159, 0, 6, 167, 0, 24, 42, 180, 0, 82, 21, 10, 21, 5, 79, 42, 180, 0, 116, 21, 7, 21, 10, 79]
abbrev dktX0_classes_7 : List UInt8 := dkwX0_classes_7 ++ dktX0_classes_8
def dkwX0_classes_6 : List UInt8 := [21, 4, 3, 182, 0, 93, 54, 10, 21, 10, 2, 159, 0, 38, 42, 180, 0, 82, 21, 10, 46, 2]
abbrev dktX0_classes_6 : List UInt8 := dkwX0_classes_6 ++ dktX0_classes_7
def dkwX0_classes_5 : List UInt8 := [3, 54, 9, 21, 9, 4, 96, 21, 4, 162, 0, 69, 42, 28, 42, 180, 0, 116, 21, 8, 46, 21, 9]
abbrev dktX0_classes_5 : List UInt8 := dkwX0_classes_5 ++ dktX0_classes_6
def dkwX0_classes_4 : List UInt8 := [21, 5, 79, 42, 180, 0, 116, 3, 21, 6, 79, 4, 54, 7, 3, 54, 8, 21, 8, 21, 7, 162, 0, 87]
abbrev dktX0_classes_4 : List UInt8 := dkwX0_classes_4 ++ dktX0_classes_5
def dkwX0_classes_3 : List UInt8 := [162, 0, 140, 42, 180, 0, 82, 21, 6, 46, 2, 159, 0, 6, 167, 0, 120, 42, 180, 0, 82, 21, 6]
abbrev dktX0_classes_3 : List UInt8 := dkwX0_classes_3 ++ dktX0_classes_4
def dkwX0_classes_2 : List UInt8 := [42, 180, 0, 82, 21, 5, 2, 79, 132, 5, 1, 167, 255, 239, 3, 54, 5, 3, 54, 6, 21, 6, 29]
abbrev dktX0_classes_2 : List UInt8 := dkwX0_classes_2 ++ dktX0_classes_3
def dkwX0_classes_1 : List UInt8 := [182, 0, 39, 136, 62, 42, 180, 0, 7, 28, 182, 0, 49, 54, 4, 3, 54, 5, 21, 5, 29, 162, 0, 17]
abbrev dktX0_classes_1 : List UInt8 := dkwX0_classes_1 ++ dktX0_classes_2
def dkwX0_classes_0 : List UInt8 := [42, 27, 28, 182, 0, 43, 154, 0, 5, 2, 172, 42, 28, 182, 0, 104, 154, 0, 6, 16, 254, 172, 42, 28]
abbrev dktX0_classes_0 : List UInt8 := dkwX0_classes_0 ++ dktX0_classes_1
theorem dksX0_classes_0 : cX0_classes.data.toList.drop 0 = dktX0_classes_0 := by decide +kernel
theorem dksX0_classes_1 : cX0_classes.data.toList.drop 24 = dktX0_classes_1 := dk_seg dksX0_classes_0 24 rfl rfl
theorem dksX0_classes_2 : cX0_classes.data.toList.drop 48 = dktX0_classes_2 := dk_seg dksX0_classes_1 24 rfl rfl
theorem dksX0_classes_3 : cX0_classes.data.toList.drop 71 = dktX0_classes_3 := dk_seg dksX0_classes_2 23 rfl rfl
theorem dksX0_classes_4 : cX0_classes.data.toList.drop 94 = dktX0_classes_4 := dk_seg dksX0_classes_3 23 rfl rfl
theorem dksX0_classes_5 : cX0_classes.data.toList.drop 118 = dktX0_classes_5 := dk_seg dksX0_classes_4 24 rfl rfl
theorem dksX0_classes_6 : cX0_classes.data.toList.drop 141 = dktX0_classes_6 := dk_seg dksX0_classes_5 23 rfl rfl
theorem dksX0_classes_7 : cX0_classes.data.toList.drop 163 = dktX0_classes_7 := dk_seg dksX0_classes_6 22 rfl rfl
theorem dksX0_classes_8 : cX0_classes.data.toList.drop 187 = dktX0_classes_8 := dk_seg dksX0_classes_7 24 rfl rfl
theorem dksX0_classes_9 : cX0_classes.data.toList.drop 211 = dktX0_classes_9 := dk_seg dksX0_classes_8 24 rfl rfl
theorem dX0_classes_0 : decode cX0_classes 0 = .ok (.aload_n 0, 1) := dk_42 (dk_at dksX0_classes_0 0 rfl rfl)
theorem dX0_classes_1 : decode cX0_classes 1 = .ok (.iload_n 1, 1) := dk_27 (dk_at dksX0_classes_0 1 rfl rfl)
theorem dX0_classes_2 : decode cX0_classes 2 = .ok (.iload_n 2, 1) := dk_28 (dk_at dksX0_classes_0 2 rfl rfl)
theorem dX0_classes_3 : decode cX0_classes 3 = .ok (.invokevirtual 43, 3) := dk_182 0 43 (dk_at dksX0_classes_0 3 rfl rfl)
theorem dX0_classes_6 : decode cX0_classes 6 = .ok (.ifCond .ne 5, 3) := dk_154 0 5 (dk_at dksX0_classes_0 6 rfl rfl)
theorem dX0_classes_9 : decode cX0_classes 9 = .ok (.iconst (-1), 1) := dk_2 (dk_at dksX0_classes_0 9 rfl rfl)
theorem dX0_classes_10 : decode cX0_classes 10 = .ok (.ireturn, 1) := dk_172 (dk_at dksX0_classes_0 10 rfl rfl)
theorem dX0_classes_11 : decode cX0_classes 11 = .ok (.aload_n 0, 1) := dk_42 (dk_at dksX0_classes_0 11 rfl rfl)
theorem dX0_classes_12 : decode cX0_classes 12 = .ok (.iload_n 2, 1) := dk_28 (dk_at dksX0_classes_0 12 rfl rfl)
theorem dX0_classes_13 : decode cX0_classes 13 = .ok (.invokevirtual 104, 3) := dk_182 0 104 (dk_at dksX0_classes_0 13 rfl rfl)
theorem dX0_classes_16 : decode cX0_classes 16 = .ok (.ifCond .ne 6, 3) := dk_154 0 6 (dk_at dksX0_classes_0 16 rfl rfl)
theorem dX0_classes_19 : decode cX0_classes 19 = .ok (.bipush (-2), 2) := dk_16 254 (dk_at dksX0_classes_0 19 rfl rfl)
theorem dX0_classes_21 : decode cX0_classes 21 = .ok (.ireturn, 1) := dk_172 (dk_at dksX0_classes_0 21 rfl rfl)
theorem dX0_classes_22 : decode cX0_classes 22 = .ok (.aload_n 0, 1) := dk_42 (dk_at dksX0_classes_0 22 rfl rfl)
theorem dX0_classes_23 : decode cX0_classes 23 = .ok (.iload_n 2, 1) := dk_28 (dk_at dksX0_classes_0 23 rfl rfl)
theorem dX0_classes_24 : decode cX0_classes 24 = .ok (.invokevirtual 39, 3) := dk_182 0 39 (dk_at dksX0_classes_1 0 rfl rfl)
theorem dX0_classes_27 : decode cX0_classes 27 = .ok (.l2i, 1) := dk_136 (dk_at dksX0_classes_1 3 rfl rfl)
theorem dX0_classes_28 : decode cX0_classes 28 = .ok (.istore_n 3, 1) := dk_62 (dk_at dksX0_classes_1 4 rfl rfl)
theorem dX0_classes_29 : decode cX0_classes 29 = .ok (.aload_n 0, 1) := dk_42 (dk_at dksX0_classes_1 5 rfl rfl)
theorem dX0_classes_30 : decode cX0_classes 30 = .ok (.getfield 7, 3) := dk_180 0 7 (dk_at dksX0_classes_1 6 rfl rfl)
theorem dX0_classes_33 : decode cX0_classes 33 = .ok (.iload_n 2, 1) := dk_28 (dk_at dksX0_classes_1 9 rfl rfl)
theorem dX0_classes_34 : decode cX0_classes 34 = .ok (.invokevirtual 49, 3) := dk_182 0 49 (dk_at dksX0_classes_1 10 rfl rfl)
theorem dX0_classes_37 : decode cX0_classes 37 = .ok (.istore 4, 2) := dk_54 4 (dk_at dksX0_classes_1 13 rfl rfl)
theorem dX0_classes_39 : decode cX0_classes 39 = .ok (.iconst 0, 1) := dk_3 (dk_at dksX0_classes_1 15 rfl rfl)
theorem dX0_classes_40 : decode cX0_classes 40 = .ok (.istore 5, 2) := dk_54 5 (dk_at dksX0_classes_1 16 rfl rfl)
theorem dX0_classes_42 : decode cX0_classes 42 = .ok (.iload 5, 2) := dk_21 5 (dk_at dksX0_classes_1 18 rfl rfl)
theorem dX0_classes_44 : decode cX0_classes 44 = .ok (.iload_n 3, 1) := dk_29 (dk_at dksX0_classes_1 20 rfl rfl)
theorem dX0_classes_45 : decode cX0_classes 45 = .ok (.if_icmp .ge 17, 3) := dk_162 0 17 (dk_at dksX0_classes_1 21 rfl rfl)
theorem dX0_classes_48 : decode cX0_classes 48 = .ok (.aload_n 0, 1) := dk_42 (dk_at dksX0_classes_2 0 rfl rfl)
theorem dX0_classes_49 : decode cX0_classes 49 = .ok (.getfield 82, 3) := dk_180 0 82 (dk_at dksX0_classes_2 1 rfl rfl)
theorem dX0_classes_52 : decode cX0_classes 52 = .ok (.iload 5, 2) := dk_21 5 (dk_at dksX0_classes_2 4 rfl rfl)
theorem dX0_classes_54 : decode cX0_classes 54 = .ok (.iconst (-1), 1) := dk_2 (dk_at dksX0_classes_2 6 rfl rfl)
theorem dX0_classes_55 : decode cX0_classes 55 = .ok (.iastore, 1) := dk_79 (dk_at dksX0_classes_2 7 rfl rfl)
theorem dX0_classes_56 : decode cX0_classes 56 = .ok (.iinc 5 1, 3) := dk_132 5 1 (dk_at dksX0_classes_2 8 rfl rfl)
theorem dX0_classes_59 : decode cX0_classes 59 = .ok (.goto (-17), 3) := dk_167 255 239 (dk_at dksX0_classes_2 11 rfl rfl)
theorem dX0_classes_62 : decode cX0_classes 62 = .ok (.iconst 0, 1) := dk_3 (dk_at dksX0_classes_2 14 rfl rfl)
theorem dX0_classes_63 : decode cX0_classes 63 = .ok (.istore 5, 2) := dk_54 5 (dk_at dksX0_classes_2 15 rfl rfl)
theorem dX0_classes_65 : decode cX0_classes 65 = .ok (.iconst 0, 1) := dk_3 (dk_at dksX0_classes_2 17 rfl rfl)
theorem dX0_classes_66 : decode cX0_classes 66 = .ok (.istore 6, 2) := dk_54 6 (dk_at dksX0_classes_2 18 rfl rfl)
theorem dX0_classes_68 : decode cX0_classes 68 = .ok (.iload 6, 2) := dk_21 6 (dk_at dksX0_classes_2 20 rfl rfl)
theorem dX0_classes_70 : decode cX0_classes 70 = .ok (.iload_n 3, 1) := dk_29 (dk_at dksX0_classes_2 22 rfl rfl)
theorem dX0_classes_71 : decode cX0_classes 71 = .ok (.if_icmp .ge 140, 3) := dk_162 0 140 (dk_at dksX0_classes_3 0 rfl rfl)
theorem dX0_classes_74 : decode cX0_classes 74 = .ok (.aload_n 0, 1) := dk_42 (dk_at dksX0_classes_3 3 rfl rfl)
theorem dX0_classes_75 : decode cX0_classes 75 = .ok (.getfield 82, 3) := dk_180 0 82 (dk_at dksX0_classes_3 4 rfl rfl)
theorem dX0_classes_78 : decode cX0_classes 78 = .ok (.iload 6, 2) := dk_21 6 (dk_at dksX0_classes_3 7 rfl rfl)
theorem dX0_classes_80 : decode cX0_classes 80 = .ok (.iaload, 1) := dk_46 (dk_at dksX0_classes_3 9 rfl rfl)
theorem dX0_classes_81 : decode cX0_classes 81 = .ok (.iconst (-1), 1) := dk_2 (dk_at dksX0_classes_3 10 rfl rfl)
theorem dX0_classes_82 : decode cX0_classes 82 = .ok (.if_icmp .eq 6, 3) := dk_159 0 6 (dk_at dksX0_classes_3 11 rfl rfl)
theorem dX0_classes_85 : decode cX0_classes 85 = .ok (.goto 120, 3) := dk_167 0 120 (dk_at dksX0_classes_3 14 rfl rfl)
theorem dX0_classes_88 : decode cX0_classes 88 = .ok (.aload_n 0, 1) := dk_42 (dk_at dksX0_classes_3 17 rfl rfl)
theorem dX0_classes_89 : decode cX0_classes 89 = .ok (.getfield 82, 3) := dk_180 0 82 (dk_at dksX0_classes_3 18 rfl rfl)
theorem dX0_classes_92 : decode cX0_classes 92 = .ok (.iload 6, 2) := dk_21 6 (dk_at dksX0_classes_3 21 rfl rfl)
theorem dX0_classes_94 : decode cX0_classes 94 = .ok (.iload 5, 2) := dk_21 5 (dk_at dksX0_classes_4 0 rfl rfl)
theorem dX0_classes_96 : decode cX0_classes 96 = .ok (.iastore, 1) := dk_79 (dk_at dksX0_classes_4 2 rfl rfl)
theorem dX0_classes_97 : decode cX0_classes 97 = .ok (.aload_n 0, 1) := dk_42 (dk_at dksX0_classes_4 3 rfl rfl)
theorem dX0_classes_98 : decode cX0_classes 98 = .ok (.getfield 116, 3) := dk_180 0 116 (dk_at dksX0_classes_4 4 rfl rfl)
theorem dX0_classes_101 : decode cX0_classes 101 = .ok (.iconst 0, 1) := dk_3 (dk_at dksX0_classes_4 7 rfl rfl)
theorem dX0_classes_102 : decode cX0_classes 102 = .ok (.iload 6, 2) := dk_21 6 (dk_at dksX0_classes_4 8 rfl rfl)
theorem dX0_classes_104 : decode cX0_classes 104 = .ok (.iastore, 1) := dk_79 (dk_at dksX0_classes_4 10 rfl rfl)
theorem dX0_classes_105 : decode cX0_classes 105 = .ok (.iconst 1, 1) := dk_4 (dk_at dksX0_classes_4 11 rfl rfl)
theorem dX0_classes_106 : decode cX0_classes 106 = .ok (.istore 7, 2) := dk_54 7 (dk_at dksX0_classes_4 12 rfl rfl)
theorem dX0_classes_108 : decode cX0_classes 108 = .ok (.iconst 0, 1) := dk_3 (dk_at dksX0_classes_4 14 rfl rfl)
theorem dX0_classes_109 : decode cX0_classes 109 = .ok (.istore 8, 2) := dk_54 8 (dk_at dksX0_classes_4 15 rfl rfl)
theorem dX0_classes_111 : decode cX0_classes 111 = .ok (.iload 8, 2) := dk_21 8 (dk_at dksX0_classes_4 17 rfl rfl)
theorem dX0_classes_113 : decode cX0_classes 113 = .ok (.iload 7, 2) := dk_21 7 (dk_at dksX0_classes_4 19 rfl rfl)
theorem dX0_classes_115 : decode cX0_classes 115 = .ok (.if_icmp .ge 87, 3) := dk_162 0 87 (dk_at dksX0_classes_4 21 rfl rfl)
theorem dX0_classes_118 : decode cX0_classes 118 = .ok (.iconst 0, 1) := dk_3 (dk_at dksX0_classes_5 0 rfl rfl)
theorem dX0_classes_119 : decode cX0_classes 119 = .ok (.istore 9, 2) := dk_54 9 (dk_at dksX0_classes_5 1 rfl rfl)
theorem dX0_classes_121 : decode cX0_classes 121 = .ok (.iload 9, 2) := dk_21 9 (dk_at dksX0_classes_5 3 rfl rfl)
theorem dX0_classes_123 : decode cX0_classes 123 = .ok (.iconst 1, 1) := dk_4 (dk_at dksX0_classes_5 5 rfl rfl)
theorem dX0_classes_124 : decode cX0_classes 124 = .ok (.iadd, 1) := dk_96 (dk_at dksX0_classes_5 6 rfl rfl)
theorem dX0_classes_125 : decode cX0_classes 125 = .ok (.iload 4, 2) := dk_21 4 (dk_at dksX0_classes_5 7 rfl rfl)
theorem dX0_classes_127 : decode cX0_classes 127 = .ok (.if_icmp .ge 69, 3) := dk_162 0 69 (dk_at dksX0_classes_5 9 rfl rfl)
theorem dX0_classes_130 : decode cX0_classes 130 = .ok (.aload_n 0, 1) := dk_42 (dk_at dksX0_classes_5 12 rfl rfl)
theorem dX0_classes_131 : decode cX0_classes 131 = .ok (.iload_n 2, 1) := dk_28 (dk_at dksX0_classes_5 13 rfl rfl)
theorem dX0_classes_132 : decode cX0_classes 132 = .ok (.aload_n 0, 1) := dk_42 (dk_at dksX0_classes_5 14 rfl rfl)
theorem dX0_classes_133 : decode cX0_classes 133 = .ok (.getfield 116, 3) := dk_180 0 116 (dk_at dksX0_classes_5 15 rfl rfl)
theorem dX0_classes_136 : decode cX0_classes 136 = .ok (.iload 8, 2) := dk_21 8 (dk_at dksX0_classes_5 18 rfl rfl)
theorem dX0_classes_138 : decode cX0_classes 138 = .ok (.iaload, 1) := dk_46 (dk_at dksX0_classes_5 20 rfl rfl)
theorem dX0_classes_139 : decode cX0_classes 139 = .ok (.iload 9, 2) := dk_21 9 (dk_at dksX0_classes_5 21 rfl rfl)
theorem dX0_classes_141 : decode cX0_classes 141 = .ok (.iload 4, 2) := dk_21 4 (dk_at dksX0_classes_6 0 rfl rfl)
theorem dX0_classes_143 : decode cX0_classes 143 = .ok (.iconst 0, 1) := dk_3 (dk_at dksX0_classes_6 2 rfl rfl)
theorem dX0_classes_144 : decode cX0_classes 144 = .ok (.invokevirtual 93, 3) := dk_182 0 93 (dk_at dksX0_classes_6 3 rfl rfl)
theorem dX0_classes_147 : decode cX0_classes 147 = .ok (.istore 10, 2) := dk_54 10 (dk_at dksX0_classes_6 6 rfl rfl)
theorem dX0_classes_149 : decode cX0_classes 149 = .ok (.iload 10, 2) := dk_21 10 (dk_at dksX0_classes_6 8 rfl rfl)
theorem dX0_classes_151 : decode cX0_classes 151 = .ok (.iconst (-1), 1) := dk_2 (dk_at dksX0_classes_6 10 rfl rfl)
theorem dX0_classes_152 : decode cX0_classes 152 = .ok (.if_icmp .eq 38, 3) := dk_159 0 38 (dk_at dksX0_classes_6 11 rfl rfl)
theorem dX0_classes_155 : decode cX0_classes 155 = .ok (.aload_n 0, 1) := dk_42 (dk_at dksX0_classes_6 14 rfl rfl)
theorem dX0_classes_156 : decode cX0_classes 156 = .ok (.getfield 82, 3) := dk_180 0 82 (dk_at dksX0_classes_6 15 rfl rfl)
theorem dX0_classes_159 : decode cX0_classes 159 = .ok (.iload 10, 2) := dk_21 10 (dk_at dksX0_classes_6 18 rfl rfl)
theorem dX0_classes_161 : decode cX0_classes 161 = .ok (.iaload, 1) := dk_46 (dk_at dksX0_classes_6 20 rfl rfl)
theorem dX0_classes_162 : decode cX0_classes 162 = .ok (.iconst (-1), 1) := dk_2 (dk_at dksX0_classes_6 21 rfl rfl)
theorem dX0_classes_163 : decode cX0_classes 163 = .ok (.if_icmp .eq 6, 3) := dk_159 0 6 (dk_at dksX0_classes_7 0 rfl rfl)
theorem dX0_classes_166 : decode cX0_classes 166 = .ok (.goto 24, 3) := dk_167 0 24 (dk_at dksX0_classes_7 3 rfl rfl)
theorem dX0_classes_169 : decode cX0_classes 169 = .ok (.aload_n 0, 1) := dk_42 (dk_at dksX0_classes_7 6 rfl rfl)
theorem dX0_classes_170 : decode cX0_classes 170 = .ok (.getfield 82, 3) := dk_180 0 82 (dk_at dksX0_classes_7 7 rfl rfl)
theorem dX0_classes_173 : decode cX0_classes 173 = .ok (.iload 10, 2) := dk_21 10 (dk_at dksX0_classes_7 10 rfl rfl)
theorem dX0_classes_175 : decode cX0_classes 175 = .ok (.iload 5, 2) := dk_21 5 (dk_at dksX0_classes_7 12 rfl rfl)
theorem dX0_classes_177 : decode cX0_classes 177 = .ok (.iastore, 1) := dk_79 (dk_at dksX0_classes_7 14 rfl rfl)
theorem dX0_classes_178 : decode cX0_classes 178 = .ok (.aload_n 0, 1) := dk_42 (dk_at dksX0_classes_7 15 rfl rfl)
theorem dX0_classes_179 : decode cX0_classes 179 = .ok (.getfield 116, 3) := dk_180 0 116 (dk_at dksX0_classes_7 16 rfl rfl)
theorem dX0_classes_182 : decode cX0_classes 182 = .ok (.iload 7, 2) := dk_21 7 (dk_at dksX0_classes_7 19 rfl rfl)
theorem dX0_classes_184 : decode cX0_classes 184 = .ok (.iload 10, 2) := dk_21 10 (dk_at dksX0_classes_7 21 rfl rfl)
theorem dX0_classes_186 : decode cX0_classes 186 = .ok (.iastore, 1) := dk_79 (dk_at dksX0_classes_7 23 rfl rfl)
theorem dX0_classes_187 : decode cX0_classes 187 = .ok (.iinc 7 1, 3) := dk_132 7 1 (dk_at dksX0_classes_8 0 rfl rfl)
theorem dX0_classes_190 : decode cX0_classes 190 = .ok (.iinc 9 1, 3) := dk_132 9 1 (dk_at dksX0_classes_8 3 rfl rfl)
theorem dX0_classes_193 : decode cX0_classes 193 = .ok (.goto (-72), 3) := dk_167 255 184 (dk_at dksX0_classes_8 6 rfl rfl)
theorem dX0_classes_196 : decode cX0_classes 196 = .ok (.iinc 8 1, 3) := dk_132 8 1 (dk_at dksX0_classes_8 9 rfl rfl)
theorem dX0_classes_199 : decode cX0_classes 199 = .ok (.goto (-88), 3) := dk_167 255 168 (dk_at dksX0_classes_8 12 rfl rfl)
theorem dX0_classes_202 : decode cX0_classes 202 = .ok (.iinc 5 1, 3) := dk_132 5 1 (dk_at dksX0_classes_8 15 rfl rfl)
theorem dX0_classes_205 : decode cX0_classes 205 = .ok (.iinc 6 1, 3) := dk_132 6 1 (dk_at dksX0_classes_8 18 rfl rfl)
theorem dX0_classes_208 : decode cX0_classes 208 = .ok (.goto (-140), 3) := dk_167 255 116 (dk_at dksX0_classes_8 21 rfl rfl)
theorem dX0_classes_211 : decode cX0_classes 211 = .ok (.iload 5, 2) := dk_21 5 (dk_at dksX0_classes_9 0 rfl rfl)
theorem dX0_classes_213 : decode cX0_classes 213 = .ok (.ireturn, 1) := dk_172 (dk_at dksX0_classes_9 2 rfl rfl)
abbrev cX0_init : ByteArray := prog_1_method_18_code
def yX0_init : MethodName := ⟨RX0, "<init>", "()V"⟩
def dkwX0_init_12 : List UInt8 := [183, 0, 203, 83, 89, 6, 187, 0, 201, 89, 6, 183, 0, 203, 83, 181, 0, 205, 177]
abbrev dktX0_init_12 : List UInt8 := dkwX0_init_12 ++ []
def dkwX0_init_11 : List UInt8 := [183, 0, 203, 83, 89, 4, 187, 0, 201, 89, 4, 183, 0, 203, 83, 89, 5, 187, 0, 201, 89, 5]
abbrev dktX0_init_11 : List UInt8 := dkwX0_init_11 ++ dktX0_init_12
def dkwX0_init_10 : List UInt8 := [181, 0, 193, 42, 17, 15, 160, 188, 8, 181, 0, 196, 42, 7, 189, 0, 199, 89, 3, 187, 0, 201, 89, 3]
abbrev dktX0_init_10 : List UInt8 := dkwX0_init_10 ++ dktX0_init_11
def dkwX0_init_9 : List UInt8 := [42, 16, 120, 188, 10, 181, 0, 187, 42, 17, 15, 160, 188, 10, 181, 0, 190, 42, 17, 15, 160, 188, 10]
abbrev dktX0_init_9 : List UInt8 := dkwX0_init_9 ++ dktX0_init_10
def dkwX0_init_8 : List UInt8 := [181, 0, 176, 42, 17, 0, 201, 16, 7, 197, 0, 179, 2, 181, 0, 181, 42, 16, 120, 188, 10, 181, 0, 184]
abbrev dktX0_init_8 : List UInt8 := dkwX0_init_8 ++ dktX0_init_9
def dkwX0_init_7 : List UInt8 := [181, 0, 167, 42, 16, 40, 188, 8, 181, 0, 170, 42, 16, 40, 188, 8, 181, 0, 173, 42, 16, 40, 188, 4]
abbrev dktX0_init_7 : List UInt8 := dkwX0_init_7 ++ dktX0_init_8
def dkwX0_init_6 : List UInt8 := [17, 19, 176, 188, 11, 181, 0, 161, 42, 17, 19, 176, 188, 11, 181, 0, 164, 42, 16, 40, 188, 8]
abbrev dktX0_init_6 : List UInt8 := dkwX0_init_6 ++ dktX0_init_7
def dkwX0_init_5 : List UInt8 := [188, 4, 181, 0, 152, 42, 16, 7, 188, 8, 181, 0, 155, 42, 16, 49, 188, 10, 181, 0, 158, 42]
abbrev dktX0_init_5 : List UInt8 := dkwX0_init_5 ++ dktX0_init_6
def dkwX0_init_4 : List UInt8 := [181, 0, 138, 42, 2, 181, 0, 142, 42, 187, 0, 145, 89, 183, 0, 147, 181, 0, 148, 42, 17, 0, 200]
abbrev dktX0_init_4 : List UInt8 := dkwX0_init_4 ++ dktX0_init_5
def dkwX0_init_3 : List UInt8 := [187, 0, 126, 89, 183, 0, 128, 181, 0, 129, 42, 187, 0, 133, 89, 42, 180, 0, 129, 183, 0, 135]
abbrev dktX0_init_3 : List UInt8 := dkwX0_init_3 ++ dktX0_init_4
def dkwX0_init_2 : List UInt8 := [181, 0, 82, 42, 17, 3, 32, 188, 10, 181, 0, 116, 42, 17, 3, 32, 188, 4, 181, 0, 89, 42]
abbrev dktX0_init_2 : List UInt8 := dkwX0_init_2 ++ dktX0_init_3
def dkwX0_init_1 : List UInt8 := [42, 16, 21, 188, 8, 181, 0, 55, 42, 17, 65, 160, 188, 8, 181, 0, 65, 42, 17, 3, 32, 188, 10]
abbrev dktX0_init_1 : List UInt8 := dkwX0_init_1 ++ dktX0_init_2
def dkwX0_init_0 : List UInt8 := [42, 183, 0, 119, 42, 187, 0, 12, 89, 183, 0, 125, 181, 0, 7, 42, 17, 19, 176, 188, 11, 181, 0, 27]
abbrev dktX0_init_0 : List UInt8 := dkwX0_init_0 ++ dktX0_init_1
theorem dksX0_init_0 : cX0_init.data.toList.drop 0 = dktX0_init_0 := by decide +kernel
theorem dksX0_init_1 : cX0_init.data.toList.drop 24 = dktX0_init_1 := dk_seg dksX0_init_0 24 rfl rfl
theorem dksX0_init_2 : cX0_init.data.toList.drop 47 = dktX0_init_2 := dk_seg dksX0_init_1 23 rfl rfl
theorem dksX0_init_3 : cX0_init.data.toList.drop 69 = dktX0_init_3 := dk_seg dksX0_init_2 22 rfl rfl
theorem dksX0_init_4 : cX0_init.data.toList.drop 91 = dktX0_init_4 := dk_seg dksX0_init_3 22 rfl rfl
theorem dksX0_init_5 : cX0_init.data.toList.drop 114 = dktX0_init_5 := dk_seg dksX0_init_4 23 rfl rfl
theorem dksX0_init_6 : cX0_init.data.toList.drop 136 = dktX0_init_6 := dk_seg dksX0_init_5 22 rfl rfl
theorem dksX0_init_7 : cX0_init.data.toList.drop 158 = dktX0_init_7 := dk_seg dksX0_init_6 22 rfl rfl
theorem dksX0_init_8 : cX0_init.data.toList.drop 182 = dktX0_init_8 := dk_seg dksX0_init_7 24 rfl rfl
theorem dksX0_init_9 : cX0_init.data.toList.drop 206 = dktX0_init_9 := dk_seg dksX0_init_8 24 rfl rfl
theorem dksX0_init_10 : cX0_init.data.toList.drop 229 = dktX0_init_10 := dk_seg dksX0_init_9 23 rfl rfl
theorem dksX0_init_11 : cX0_init.data.toList.drop 253 = dktX0_init_11 := dk_seg dksX0_init_10 24 rfl rfl
theorem dksX0_init_12 : cX0_init.data.toList.drop 275 = dktX0_init_12 := dk_seg dksX0_init_11 22 rfl rfl
theorem dX0_init_0 : decode cX0_init 0 = .ok (.aload_n 0, 1) := dk_42 (dk_at dksX0_init_0 0 rfl rfl)
theorem dX0_init_1 : decode cX0_init 1 = .ok (.invokespecial 119, 3) := dk_183 0 119 (dk_at dksX0_init_0 1 rfl rfl)
theorem dX0_init_4 : decode cX0_init 4 = .ok (.aload_n 0, 1) := dk_42 (dk_at dksX0_init_0 4 rfl rfl)
theorem dX0_init_5 : decode cX0_init 5 = .ok (.new 12, 3) := dk_187 0 12 (dk_at dksX0_init_0 5 rfl rfl)
theorem dX0_init_8 : decode cX0_init 8 = .ok (.dup, 1) := dk_89 (dk_at dksX0_init_0 8 rfl rfl)
theorem dX0_init_9 : decode cX0_init 9 = .ok (.invokespecial 125, 3) := dk_183 0 125 (dk_at dksX0_init_0 9 rfl rfl)
theorem dX0_init_12 : decode cX0_init 12 = .ok (.putfield 7, 3) := dk_181 0 7 (dk_at dksX0_init_0 12 rfl rfl)
theorem dX0_init_15 : decode cX0_init 15 = .ok (.aload_n 0, 1) := dk_42 (dk_at dksX0_init_0 15 rfl rfl)
theorem dX0_init_16 : decode cX0_init 16 = .ok (.sipush 5040, 3) := dk_17 19 176 (dk_at dksX0_init_0 16 rfl rfl)
theorem dX0_init_19 : decode cX0_init 19 = .ok (.newarray .long, 2) := dk_188_11 (dk_at dksX0_init_0 19 rfl rfl)
theorem dX0_init_21 : decode cX0_init 21 = .ok (.putfield 27, 3) := dk_181 0 27 (dk_at dksX0_init_0 21 rfl rfl)
theorem dX0_init_24 : decode cX0_init 24 = .ok (.aload_n 0, 1) := dk_42 (dk_at dksX0_init_1 0 rfl rfl)
theorem dX0_init_25 : decode cX0_init 25 = .ok (.bipush 21, 2) := dk_16 21 (dk_at dksX0_init_1 1 rfl rfl)
theorem dX0_init_27 : decode cX0_init 27 = .ok (.newarray .byte, 2) := dk_188_8 (dk_at dksX0_init_1 3 rfl rfl)
theorem dX0_init_29 : decode cX0_init 29 = .ok (.putfield 55, 3) := dk_181 0 55 (dk_at dksX0_init_1 5 rfl rfl)
theorem dX0_init_32 : decode cX0_init 32 = .ok (.aload_n 0, 1) := dk_42 (dk_at dksX0_init_1 8 rfl rfl)
theorem dX0_init_33 : decode cX0_init 33 = .ok (.sipush 16800, 3) := dk_17 65 160 (dk_at dksX0_init_1 9 rfl rfl)
theorem dX0_init_36 : decode cX0_init 36 = .ok (.newarray .byte, 2) := dk_188_8 (dk_at dksX0_init_1 12 rfl rfl)
theorem dX0_init_38 : decode cX0_init 38 = .ok (.putfield 65, 3) := dk_181 0 65 (dk_at dksX0_init_1 14 rfl rfl)
theorem dX0_init_41 : decode cX0_init 41 = .ok (.aload_n 0, 1) := dk_42 (dk_at dksX0_init_1 17 rfl rfl)
theorem dX0_init_42 : decode cX0_init 42 = .ok (.sipush 800, 3) := dk_17 3 32 (dk_at dksX0_init_1 18 rfl rfl)
theorem dX0_init_45 : decode cX0_init 45 = .ok (.newarray .int, 2) := dk_188_10 (dk_at dksX0_init_1 21 rfl rfl)
theorem dX0_init_47 : decode cX0_init 47 = .ok (.putfield 82, 3) := dk_181 0 82 (dk_at dksX0_init_2 0 rfl rfl)
theorem dX0_init_50 : decode cX0_init 50 = .ok (.aload_n 0, 1) := dk_42 (dk_at dksX0_init_2 3 rfl rfl)
theorem dX0_init_51 : decode cX0_init 51 = .ok (.sipush 800, 3) := dk_17 3 32 (dk_at dksX0_init_2 4 rfl rfl)
theorem dX0_init_54 : decode cX0_init 54 = .ok (.newarray .int, 2) := dk_188_10 (dk_at dksX0_init_2 7 rfl rfl)
theorem dX0_init_56 : decode cX0_init 56 = .ok (.putfield 116, 3) := dk_181 0 116 (dk_at dksX0_init_2 9 rfl rfl)
theorem dX0_init_59 : decode cX0_init 59 = .ok (.aload_n 0, 1) := dk_42 (dk_at dksX0_init_2 12 rfl rfl)
theorem dX0_init_60 : decode cX0_init 60 = .ok (.sipush 800, 3) := dk_17 3 32 (dk_at dksX0_init_2 13 rfl rfl)
theorem dX0_init_63 : decode cX0_init 63 = .ok (.newarray .boolean, 2) := dk_188_4 (dk_at dksX0_init_2 16 rfl rfl)
theorem dX0_init_65 : decode cX0_init 65 = .ok (.putfield 89, 3) := dk_181 0 89 (dk_at dksX0_init_2 18 rfl rfl)
theorem dX0_init_68 : decode cX0_init 68 = .ok (.aload_n 0, 1) := dk_42 (dk_at dksX0_init_2 21 rfl rfl)
theorem dX0_init_69 : decode cX0_init 69 = .ok (.new 126, 3) := dk_187 0 126 (dk_at dksX0_init_3 0 rfl rfl)
theorem dX0_init_72 : decode cX0_init 72 = .ok (.dup, 1) := dk_89 (dk_at dksX0_init_3 3 rfl rfl)
theorem dX0_init_73 : decode cX0_init 73 = .ok (.invokespecial 128, 3) := dk_183 0 128 (dk_at dksX0_init_3 4 rfl rfl)
theorem dX0_init_76 : decode cX0_init 76 = .ok (.putfield 129, 3) := dk_181 0 129 (dk_at dksX0_init_3 7 rfl rfl)
theorem dX0_init_79 : decode cX0_init 79 = .ok (.aload_n 0, 1) := dk_42 (dk_at dksX0_init_3 10 rfl rfl)
theorem dX0_init_80 : decode cX0_init 80 = .ok (.new 133, 3) := dk_187 0 133 (dk_at dksX0_init_3 11 rfl rfl)
theorem dX0_init_83 : decode cX0_init 83 = .ok (.dup, 1) := dk_89 (dk_at dksX0_init_3 14 rfl rfl)
theorem dX0_init_84 : decode cX0_init 84 = .ok (.aload_n 0, 1) := dk_42 (dk_at dksX0_init_3 15 rfl rfl)
theorem dX0_init_85 : decode cX0_init 85 = .ok (.getfield 129, 3) := dk_180 0 129 (dk_at dksX0_init_3 16 rfl rfl)
theorem dX0_init_88 : decode cX0_init 88 = .ok (.invokespecial 135, 3) := dk_183 0 135 (dk_at dksX0_init_3 19 rfl rfl)
theorem dX0_init_91 : decode cX0_init 91 = .ok (.putfield 138, 3) := dk_181 0 138 (dk_at dksX0_init_4 0 rfl rfl)
theorem dX0_init_94 : decode cX0_init 94 = .ok (.aload_n 0, 1) := dk_42 (dk_at dksX0_init_4 3 rfl rfl)
theorem dX0_init_95 : decode cX0_init 95 = .ok (.iconst (-1), 1) := dk_2 (dk_at dksX0_init_4 4 rfl rfl)
theorem dX0_init_96 : decode cX0_init 96 = .ok (.putfield 142, 3) := dk_181 0 142 (dk_at dksX0_init_4 5 rfl rfl)
theorem dX0_init_99 : decode cX0_init 99 = .ok (.aload_n 0, 1) := dk_42 (dk_at dksX0_init_4 8 rfl rfl)
theorem dX0_init_100 : decode cX0_init 100 = .ok (.new 145, 3) := dk_187 0 145 (dk_at dksX0_init_4 9 rfl rfl)
theorem dX0_init_103 : decode cX0_init 103 = .ok (.dup, 1) := dk_89 (dk_at dksX0_init_4 12 rfl rfl)
theorem dX0_init_104 : decode cX0_init 104 = .ok (.invokespecial 147, 3) := dk_183 0 147 (dk_at dksX0_init_4 13 rfl rfl)
theorem dX0_init_107 : decode cX0_init 107 = .ok (.putfield 148, 3) := dk_181 0 148 (dk_at dksX0_init_4 16 rfl rfl)
theorem dX0_init_110 : decode cX0_init 110 = .ok (.aload_n 0, 1) := dk_42 (dk_at dksX0_init_4 19 rfl rfl)
theorem dX0_init_111 : decode cX0_init 111 = .ok (.sipush 200, 3) := dk_17 0 200 (dk_at dksX0_init_4 20 rfl rfl)
theorem dX0_init_114 : decode cX0_init 114 = .ok (.newarray .boolean, 2) := dk_188_4 (dk_at dksX0_init_5 0 rfl rfl)
theorem dX0_init_116 : decode cX0_init 116 = .ok (.putfield 152, 3) := dk_181 0 152 (dk_at dksX0_init_5 2 rfl rfl)
theorem dX0_init_119 : decode cX0_init 119 = .ok (.aload_n 0, 1) := dk_42 (dk_at dksX0_init_5 5 rfl rfl)
theorem dX0_init_120 : decode cX0_init 120 = .ok (.bipush 7, 2) := dk_16 7 (dk_at dksX0_init_5 6 rfl rfl)
theorem dX0_init_122 : decode cX0_init 122 = .ok (.newarray .byte, 2) := dk_188_8 (dk_at dksX0_init_5 8 rfl rfl)
theorem dX0_init_124 : decode cX0_init 124 = .ok (.putfield 155, 3) := dk_181 0 155 (dk_at dksX0_init_5 10 rfl rfl)
theorem dX0_init_127 : decode cX0_init 127 = .ok (.aload_n 0, 1) := dk_42 (dk_at dksX0_init_5 13 rfl rfl)
theorem dX0_init_128 : decode cX0_init 128 = .ok (.bipush 49, 2) := dk_16 49 (dk_at dksX0_init_5 14 rfl rfl)
theorem dX0_init_130 : decode cX0_init 130 = .ok (.newarray .int, 2) := dk_188_10 (dk_at dksX0_init_5 16 rfl rfl)
theorem dX0_init_132 : decode cX0_init 132 = .ok (.putfield 158, 3) := dk_181 0 158 (dk_at dksX0_init_5 18 rfl rfl)
theorem dX0_init_135 : decode cX0_init 135 = .ok (.aload_n 0, 1) := dk_42 (dk_at dksX0_init_5 21 rfl rfl)
theorem dX0_init_136 : decode cX0_init 136 = .ok (.sipush 5040, 3) := dk_17 19 176 (dk_at dksX0_init_6 0 rfl rfl)
theorem dX0_init_139 : decode cX0_init 139 = .ok (.newarray .long, 2) := dk_188_11 (dk_at dksX0_init_6 3 rfl rfl)
theorem dX0_init_141 : decode cX0_init 141 = .ok (.putfield 161, 3) := dk_181 0 161 (dk_at dksX0_init_6 5 rfl rfl)
theorem dX0_init_144 : decode cX0_init 144 = .ok (.aload_n 0, 1) := dk_42 (dk_at dksX0_init_6 8 rfl rfl)
theorem dX0_init_145 : decode cX0_init 145 = .ok (.sipush 5040, 3) := dk_17 19 176 (dk_at dksX0_init_6 9 rfl rfl)
theorem dX0_init_148 : decode cX0_init 148 = .ok (.newarray .long, 2) := dk_188_11 (dk_at dksX0_init_6 12 rfl rfl)
theorem dX0_init_150 : decode cX0_init 150 = .ok (.putfield 164, 3) := dk_181 0 164 (dk_at dksX0_init_6 14 rfl rfl)
theorem dX0_init_153 : decode cX0_init 153 = .ok (.aload_n 0, 1) := dk_42 (dk_at dksX0_init_6 17 rfl rfl)
theorem dX0_init_154 : decode cX0_init 154 = .ok (.bipush 40, 2) := dk_16 40 (dk_at dksX0_init_6 18 rfl rfl)
theorem dX0_init_156 : decode cX0_init 156 = .ok (.newarray .byte, 2) := dk_188_8 (dk_at dksX0_init_6 20 rfl rfl)
theorem dX0_init_158 : decode cX0_init 158 = .ok (.putfield 167, 3) := dk_181 0 167 (dk_at dksX0_init_7 0 rfl rfl)
theorem dX0_init_161 : decode cX0_init 161 = .ok (.aload_n 0, 1) := dk_42 (dk_at dksX0_init_7 3 rfl rfl)
theorem dX0_init_162 : decode cX0_init 162 = .ok (.bipush 40, 2) := dk_16 40 (dk_at dksX0_init_7 4 rfl rfl)
theorem dX0_init_164 : decode cX0_init 164 = .ok (.newarray .byte, 2) := dk_188_8 (dk_at dksX0_init_7 6 rfl rfl)
theorem dX0_init_166 : decode cX0_init 166 = .ok (.putfield 170, 3) := dk_181 0 170 (dk_at dksX0_init_7 8 rfl rfl)
theorem dX0_init_169 : decode cX0_init 169 = .ok (.aload_n 0, 1) := dk_42 (dk_at dksX0_init_7 11 rfl rfl)
theorem dX0_init_170 : decode cX0_init 170 = .ok (.bipush 40, 2) := dk_16 40 (dk_at dksX0_init_7 12 rfl rfl)
theorem dX0_init_172 : decode cX0_init 172 = .ok (.newarray .byte, 2) := dk_188_8 (dk_at dksX0_init_7 14 rfl rfl)
theorem dX0_init_174 : decode cX0_init 174 = .ok (.putfield 173, 3) := dk_181 0 173 (dk_at dksX0_init_7 16 rfl rfl)
theorem dX0_init_177 : decode cX0_init 177 = .ok (.aload_n 0, 1) := dk_42 (dk_at dksX0_init_7 19 rfl rfl)
theorem dX0_init_178 : decode cX0_init 178 = .ok (.bipush 40, 2) := dk_16 40 (dk_at dksX0_init_7 20 rfl rfl)
theorem dX0_init_180 : decode cX0_init 180 = .ok (.newarray .boolean, 2) := dk_188_4 (dk_at dksX0_init_7 22 rfl rfl)
theorem dX0_init_182 : decode cX0_init 182 = .ok (.putfield 176, 3) := dk_181 0 176 (dk_at dksX0_init_8 0 rfl rfl)
theorem dX0_init_185 : decode cX0_init 185 = .ok (.aload_n 0, 1) := dk_42 (dk_at dksX0_init_8 3 rfl rfl)
theorem dX0_init_186 : decode cX0_init 186 = .ok (.sipush 201, 3) := dk_17 0 201 (dk_at dksX0_init_8 4 rfl rfl)
theorem dX0_init_189 : decode cX0_init 189 = .ok (.bipush 7, 2) := dk_16 7 (dk_at dksX0_init_8 7 rfl rfl)
theorem dX0_init_191 : decode cX0_init 191 = .ok (.multianewarray 179 2, 4) := by decide +kernel
theorem dX0_init_195 : decode cX0_init 195 = .ok (.putfield 181, 3) := dk_181 0 181 (dk_at dksX0_init_8 13 rfl rfl)
theorem dX0_init_198 : decode cX0_init 198 = .ok (.aload_n 0, 1) := dk_42 (dk_at dksX0_init_8 16 rfl rfl)
theorem dX0_init_199 : decode cX0_init 199 = .ok (.bipush 120, 2) := dk_16 120 (dk_at dksX0_init_8 17 rfl rfl)
theorem dX0_init_201 : decode cX0_init 201 = .ok (.newarray .int, 2) := dk_188_10 (dk_at dksX0_init_8 19 rfl rfl)
theorem dX0_init_203 : decode cX0_init 203 = .ok (.putfield 184, 3) := dk_181 0 184 (dk_at dksX0_init_8 21 rfl rfl)
theorem dX0_init_206 : decode cX0_init 206 = .ok (.aload_n 0, 1) := dk_42 (dk_at dksX0_init_9 0 rfl rfl)
theorem dX0_init_207 : decode cX0_init 207 = .ok (.bipush 120, 2) := dk_16 120 (dk_at dksX0_init_9 1 rfl rfl)
theorem dX0_init_209 : decode cX0_init 209 = .ok (.newarray .int, 2) := dk_188_10 (dk_at dksX0_init_9 3 rfl rfl)
theorem dX0_init_211 : decode cX0_init 211 = .ok (.putfield 187, 3) := dk_181 0 187 (dk_at dksX0_init_9 5 rfl rfl)
theorem dX0_init_214 : decode cX0_init 214 = .ok (.aload_n 0, 1) := dk_42 (dk_at dksX0_init_9 8 rfl rfl)
theorem dX0_init_215 : decode cX0_init 215 = .ok (.sipush 4000, 3) := dk_17 15 160 (dk_at dksX0_init_9 9 rfl rfl)
theorem dX0_init_218 : decode cX0_init 218 = .ok (.newarray .int, 2) := dk_188_10 (dk_at dksX0_init_9 12 rfl rfl)
theorem dX0_init_220 : decode cX0_init 220 = .ok (.putfield 190, 3) := dk_181 0 190 (dk_at dksX0_init_9 14 rfl rfl)
theorem dX0_init_223 : decode cX0_init 223 = .ok (.aload_n 0, 1) := dk_42 (dk_at dksX0_init_9 17 rfl rfl)
theorem dX0_init_224 : decode cX0_init 224 = .ok (.sipush 4000, 3) := dk_17 15 160 (dk_at dksX0_init_9 18 rfl rfl)
theorem dX0_init_227 : decode cX0_init 227 = .ok (.newarray .int, 2) := dk_188_10 (dk_at dksX0_init_9 21 rfl rfl)
theorem dX0_init_229 : decode cX0_init 229 = .ok (.putfield 193, 3) := dk_181 0 193 (dk_at dksX0_init_10 0 rfl rfl)
theorem dX0_init_232 : decode cX0_init 232 = .ok (.aload_n 0, 1) := dk_42 (dk_at dksX0_init_10 3 rfl rfl)
theorem dX0_init_233 : decode cX0_init 233 = .ok (.sipush 4000, 3) := dk_17 15 160 (dk_at dksX0_init_10 4 rfl rfl)
theorem dX0_init_236 : decode cX0_init 236 = .ok (.newarray .byte, 2) := dk_188_8 (dk_at dksX0_init_10 7 rfl rfl)
theorem dX0_init_238 : decode cX0_init 238 = .ok (.putfield 196, 3) := dk_181 0 196 (dk_at dksX0_init_10 9 rfl rfl)
theorem dX0_init_241 : decode cX0_init 241 = .ok (.aload_n 0, 1) := dk_42 (dk_at dksX0_init_10 12 rfl rfl)
theorem dX0_init_242 : decode cX0_init 242 = .ok (.iconst 4, 1) := dk_7 (dk_at dksX0_init_10 13 rfl rfl)
theorem dX0_init_243 : decode cX0_init 243 = .ok (.anewarray 199, 3) := dk_189 0 199 (dk_at dksX0_init_10 14 rfl rfl)
theorem dX0_init_246 : decode cX0_init 246 = .ok (.dup, 1) := dk_89 (dk_at dksX0_init_10 17 rfl rfl)
theorem dX0_init_247 : decode cX0_init 247 = .ok (.iconst 0, 1) := dk_3 (dk_at dksX0_init_10 18 rfl rfl)
theorem dX0_init_248 : decode cX0_init 248 = .ok (.new 201, 3) := dk_187 0 201 (dk_at dksX0_init_10 19 rfl rfl)
theorem dX0_init_251 : decode cX0_init 251 = .ok (.dup, 1) := dk_89 (dk_at dksX0_init_10 22 rfl rfl)
theorem dX0_init_252 : decode cX0_init 252 = .ok (.iconst 0, 1) := dk_3 (dk_at dksX0_init_10 23 rfl rfl)
theorem dX0_init_253 : decode cX0_init 253 = .ok (.invokespecial 203, 3) := dk_183 0 203 (dk_at dksX0_init_11 0 rfl rfl)
theorem dX0_init_256 : decode cX0_init 256 = .ok (.aastore, 1) := dk_83 (dk_at dksX0_init_11 3 rfl rfl)
theorem dX0_init_257 : decode cX0_init 257 = .ok (.dup, 1) := dk_89 (dk_at dksX0_init_11 4 rfl rfl)
theorem dX0_init_258 : decode cX0_init 258 = .ok (.iconst 1, 1) := dk_4 (dk_at dksX0_init_11 5 rfl rfl)
theorem dX0_init_259 : decode cX0_init 259 = .ok (.new 201, 3) := dk_187 0 201 (dk_at dksX0_init_11 6 rfl rfl)
theorem dX0_init_262 : decode cX0_init 262 = .ok (.dup, 1) := dk_89 (dk_at dksX0_init_11 9 rfl rfl)
theorem dX0_init_263 : decode cX0_init 263 = .ok (.iconst 1, 1) := dk_4 (dk_at dksX0_init_11 10 rfl rfl)
theorem dX0_init_264 : decode cX0_init 264 = .ok (.invokespecial 203, 3) := dk_183 0 203 (dk_at dksX0_init_11 11 rfl rfl)
theorem dX0_init_267 : decode cX0_init 267 = .ok (.aastore, 1) := dk_83 (dk_at dksX0_init_11 14 rfl rfl)
theorem dX0_init_268 : decode cX0_init 268 = .ok (.dup, 1) := dk_89 (dk_at dksX0_init_11 15 rfl rfl)
theorem dX0_init_269 : decode cX0_init 269 = .ok (.iconst 2, 1) := dk_5 (dk_at dksX0_init_11 16 rfl rfl)
theorem dX0_init_270 : decode cX0_init 270 = .ok (.new 201, 3) := dk_187 0 201 (dk_at dksX0_init_11 17 rfl rfl)
theorem dX0_init_273 : decode cX0_init 273 = .ok (.dup, 1) := dk_89 (dk_at dksX0_init_11 20 rfl rfl)
theorem dX0_init_274 : decode cX0_init 274 = .ok (.iconst 2, 1) := dk_5 (dk_at dksX0_init_11 21 rfl rfl)
theorem dX0_init_275 : decode cX0_init 275 = .ok (.invokespecial 203, 3) := dk_183 0 203 (dk_at dksX0_init_12 0 rfl rfl)
theorem dX0_init_278 : decode cX0_init 278 = .ok (.aastore, 1) := dk_83 (dk_at dksX0_init_12 3 rfl rfl)
theorem dX0_init_279 : decode cX0_init 279 = .ok (.dup, 1) := dk_89 (dk_at dksX0_init_12 4 rfl rfl)
theorem dX0_init_280 : decode cX0_init 280 = .ok (.iconst 3, 1) := dk_6 (dk_at dksX0_init_12 5 rfl rfl)
theorem dX0_init_281 : decode cX0_init 281 = .ok (.new 201, 3) := dk_187 0 201 (dk_at dksX0_init_12 6 rfl rfl)
theorem dX0_init_284 : decode cX0_init 284 = .ok (.dup, 1) := dk_89 (dk_at dksX0_init_12 9 rfl rfl)
theorem dX0_init_285 : decode cX0_init 285 = .ok (.iconst 3, 1) := dk_6 (dk_at dksX0_init_12 10 rfl rfl)
theorem dX0_init_286 : decode cX0_init 286 = .ok (.invokespecial 203, 3) := dk_183 0 203 (dk_at dksX0_init_12 11 rfl rfl)
theorem dX0_init_289 : decode cX0_init 289 = .ok (.aastore, 1) := dk_83 (dk_at dksX0_init_12 14 rfl rfl)
theorem dX0_init_290 : decode cX0_init 290 = .ok (.putfield 205, 3) := dk_181 0 205 (dk_at dksX0_init_12 15 rfl rfl)
theorem dX0_init_293 : decode cX0_init 293 = .ok (.return_, 1) := dk_177 (dk_at dksX0_init_12 18 rfl rfl)
abbrev cX0_feed : ByteArray := prog_1_method_19_code
def yX0_feed : MethodName := ⟨RX0, "feed", "(IIIII)I"⟩
def dkwX0_feed_0 : List UInt8 := [42, 180, 0, 129, 27, 28, 29, 21, 4, 21, 5, 182, 0, 209, 172]
abbrev dktX0_feed_0 : List UInt8 := dkwX0_feed_0 ++ []
theorem dksX0_feed_0 : cX0_feed.data.toList.drop 0 = dktX0_feed_0 := by decide +kernel
theorem dX0_feed_0 : decode cX0_feed 0 = .ok (.aload_n 0, 1) := dk_42 (dk_at dksX0_feed_0 0 rfl rfl)
theorem dX0_feed_1 : decode cX0_feed 1 = .ok (.getfield 129, 3) := dk_180 0 129 (dk_at dksX0_feed_0 1 rfl rfl)
theorem dX0_feed_4 : decode cX0_feed 4 = .ok (.iload_n 1, 1) := dk_27 (dk_at dksX0_feed_0 4 rfl rfl)
theorem dX0_feed_5 : decode cX0_feed 5 = .ok (.iload_n 2, 1) := dk_28 (dk_at dksX0_feed_0 5 rfl rfl)
theorem dX0_feed_6 : decode cX0_feed 6 = .ok (.iload_n 3, 1) := dk_29 (dk_at dksX0_feed_0 6 rfl rfl)
theorem dX0_feed_7 : decode cX0_feed 7 = .ok (.iload 4, 2) := dk_21 4 (dk_at dksX0_feed_0 7 rfl rfl)
theorem dX0_feed_9 : decode cX0_feed 9 = .ok (.iload 5, 2) := dk_21 5 (dk_at dksX0_feed_0 9 rfl rfl)
theorem dX0_feed_11 : decode cX0_feed 11 = .ok (.invokevirtual 209, 3) := dk_182 0 209 (dk_at dksX0_feed_0 11 rfl rfl)
theorem dX0_feed_14 : decode cX0_feed 14 = .ok (.ireturn, 1) := dk_172 (dk_at dksX0_feed_0 14 rfl rfl)
abbrev cX0_back : ByteArray := prog_1_method_20_code
def yX0_back : MethodName := ⟨RX0, "back", "(I)I"⟩
def dkwX0_back_0 : List UInt8 := [42, 180, 0, 129, 27, 182, 0, 212, 172]
abbrev dktX0_back_0 : List UInt8 := dkwX0_back_0 ++ []
theorem dksX0_back_0 : cX0_back.data.toList.drop 0 = dktX0_back_0 := by decide +kernel
theorem dX0_back_0 : decode cX0_back 0 = .ok (.aload_n 0, 1) := dk_42 (dk_at dksX0_back_0 0 rfl rfl)
theorem dX0_back_1 : decode cX0_back 1 = .ok (.getfield 129, 3) := dk_180 0 129 (dk_at dksX0_back_0 1 rfl rfl)
theorem dX0_back_4 : decode cX0_back 4 = .ok (.iload_n 1, 1) := dk_27 (dk_at dksX0_back_0 4 rfl rfl)
theorem dX0_back_5 : decode cX0_back 5 = .ok (.invokevirtual 212, 3) := dk_182 0 212 (dk_at dksX0_back_0 5 rfl rfl)
theorem dX0_back_8 : decode cX0_back 8 = .ok (.ireturn, 1) := dk_172 (dk_at dksX0_back_0 8 rfl rfl)
abbrev cX0_read : ByteArray := prog_1_method_21_code
def yX0_read : MethodName := ⟨RX0, "read", "()I"⟩
def dkwX0_read_2 : List UInt8 := [180, 0, 232, 181, 0, 142, 43, 180, 0, 233, 172, 3, 172]
abbrev dktX0_read_2 : List UInt8 := dkwX0_read_2 ++ []
def dkwX0_read_1 : List UInt8 := [181, 0, 142, 42, 180, 0, 148, 42, 180, 0, 138, 182, 0, 222, 182, 0, 226, 87, 167, 0, 17, 76, 42, 43]
abbrev dktX0_read_1 : List UInt8 := dkwX0_read_1 ++ dktX0_read_2
def dkwX0_read_0 : List UInt8 := [42, 180, 0, 148, 182, 0, 215, 16, 6, 160, 0, 6, 16, 254, 172, 42, 180, 0, 129, 182, 0, 219, 42, 2]
abbrev dktX0_read_0 : List UInt8 := dkwX0_read_0 ++ dktX0_read_1
theorem dksX0_read_0 : cX0_read.data.toList.drop 0 = dktX0_read_0 := by decide +kernel
theorem dksX0_read_1 : cX0_read.data.toList.drop 24 = dktX0_read_1 := dk_seg dksX0_read_0 24 rfl rfl
theorem dksX0_read_2 : cX0_read.data.toList.drop 48 = dktX0_read_2 := dk_seg dksX0_read_1 24 rfl rfl
theorem dX0_read_0 : decode cX0_read 0 = .ok (.aload_n 0, 1) := dk_42 (dk_at dksX0_read_0 0 rfl rfl)
theorem dX0_read_1 : decode cX0_read 1 = .ok (.getfield 148, 3) := dk_180 0 148 (dk_at dksX0_read_0 1 rfl rfl)
theorem dX0_read_4 : decode cX0_read 4 = .ok (.invokevirtual 215, 3) := dk_182 0 215 (dk_at dksX0_read_0 4 rfl rfl)
theorem dX0_read_7 : decode cX0_read 7 = .ok (.bipush 6, 2) := dk_16 6 (dk_at dksX0_read_0 7 rfl rfl)
theorem dX0_read_9 : decode cX0_read 9 = .ok (.if_icmp .ne 6, 3) := dk_160 0 6 (dk_at dksX0_read_0 9 rfl rfl)
theorem dX0_read_12 : decode cX0_read 12 = .ok (.bipush (-2), 2) := dk_16 254 (dk_at dksX0_read_0 12 rfl rfl)
theorem dX0_read_14 : decode cX0_read 14 = .ok (.ireturn, 1) := dk_172 (dk_at dksX0_read_0 14 rfl rfl)
theorem dX0_read_15 : decode cX0_read 15 = .ok (.aload_n 0, 1) := dk_42 (dk_at dksX0_read_0 15 rfl rfl)
theorem dX0_read_16 : decode cX0_read 16 = .ok (.getfield 129, 3) := dk_180 0 129 (dk_at dksX0_read_0 16 rfl rfl)
theorem dX0_read_19 : decode cX0_read 19 = .ok (.invokevirtual 219, 3) := dk_182 0 219 (dk_at dksX0_read_0 19 rfl rfl)
theorem dX0_read_22 : decode cX0_read 22 = .ok (.aload_n 0, 1) := dk_42 (dk_at dksX0_read_0 22 rfl rfl)
theorem dX0_read_23 : decode cX0_read 23 = .ok (.iconst (-1), 1) := dk_2 (dk_at dksX0_read_0 23 rfl rfl)
theorem dX0_read_24 : decode cX0_read 24 = .ok (.putfield 142, 3) := dk_181 0 142 (dk_at dksX0_read_1 0 rfl rfl)
theorem dX0_read_27 : decode cX0_read 27 = .ok (.aload_n 0, 1) := dk_42 (dk_at dksX0_read_1 3 rfl rfl)
theorem dX0_read_28 : decode cX0_read 28 = .ok (.getfield 148, 3) := dk_180 0 148 (dk_at dksX0_read_1 4 rfl rfl)
theorem dX0_read_31 : decode cX0_read 31 = .ok (.aload_n 0, 1) := dk_42 (dk_at dksX0_read_1 7 rfl rfl)
theorem dX0_read_32 : decode cX0_read 32 = .ok (.getfield 138, 3) := dk_180 0 138 (dk_at dksX0_read_1 8 rfl rfl)
theorem dX0_read_35 : decode cX0_read 35 = .ok (.invokevirtual 222, 3) := dk_182 0 222 (dk_at dksX0_read_1 11 rfl rfl)
theorem dX0_read_38 : decode cX0_read 38 = .ok (.invokevirtual 226, 3) := dk_182 0 226 (dk_at dksX0_read_1 14 rfl rfl)
theorem dX0_read_41 : decode cX0_read 41 = .ok (.pop, 1) := dk_87 (dk_at dksX0_read_1 17 rfl rfl)
theorem dX0_read_42 : decode cX0_read 42 = .ok (.goto 17, 3) := dk_167 0 17 (dk_at dksX0_read_1 18 rfl rfl)
theorem dX0_read_45 : decode cX0_read 45 = .ok (.astore_n 1, 1) := dk_76 (dk_at dksX0_read_1 21 rfl rfl)
theorem dX0_read_46 : decode cX0_read 46 = .ok (.aload_n 0, 1) := dk_42 (dk_at dksX0_read_1 22 rfl rfl)
theorem dX0_read_47 : decode cX0_read 47 = .ok (.aload_n 1, 1) := dk_43 (dk_at dksX0_read_1 23 rfl rfl)
theorem dX0_read_48 : decode cX0_read 48 = .ok (.getfield 232, 3) := dk_180 0 232 (dk_at dksX0_read_2 0 rfl rfl)
theorem dX0_read_51 : decode cX0_read 51 = .ok (.putfield 142, 3) := dk_181 0 142 (dk_at dksX0_read_2 3 rfl rfl)
theorem dX0_read_54 : decode cX0_read 54 = .ok (.aload_n 1, 1) := dk_43 (dk_at dksX0_read_2 6 rfl rfl)
theorem dX0_read_55 : decode cX0_read 55 = .ok (.getfield 233, 3) := dk_180 0 233 (dk_at dksX0_read_2 7 rfl rfl)
theorem dX0_read_58 : decode cX0_read 58 = .ok (.ireturn, 1) := dk_172 (dk_at dksX0_read_2 10 rfl rfl)
theorem dX0_read_59 : decode cX0_read 59 = .ok (.iconst 0, 1) := dk_3 (dk_at dksX0_read_2 11 rfl rfl)
theorem dX0_read_60 : decode cX0_read 60 = .ok (.ireturn, 1) := dk_172 (dk_at dksX0_read_2 12 rfl rfl)
abbrev cX0_place : ByteArray := prog_1_method_22_code
def yX0_place : MethodName := ⟨RX0, "place", "()I"⟩
theorem dX0_place_0 : decode cX0_place 0 = .ok (.aload_n 0, 1) := by decide +kernel
theorem dX0_place_1 : decode cX0_place 1 = .ok (.getfield 142, 3) := by decide +kernel
theorem dX0_place_4 : decode cX0_place 4 = .ok (.ireturn, 1) := by decide +kernel
abbrev cX0_clear : ByteArray := prog_1_method_23_code
def yX0_clear : MethodName := ⟨RX0, "clear", "()I"⟩
def dkwX0_clear_0 : List UInt8 := [42, 180, 0, 148, 182, 0, 215, 60, 42, 180, 0, 148, 182, 0, 236, 42, 3, 181, 0, 239, 27, 172]
abbrev dktX0_clear_0 : List UInt8 := dkwX0_clear_0 ++ []
theorem dksX0_clear_0 : cX0_clear.data.toList.drop 0 = dktX0_clear_0 := by decide +kernel
theorem dX0_clear_0 : decode cX0_clear 0 = .ok (.aload_n 0, 1) := dk_42 (dk_at dksX0_clear_0 0 rfl rfl)
theorem dX0_clear_1 : decode cX0_clear 1 = .ok (.getfield 148, 3) := dk_180 0 148 (dk_at dksX0_clear_0 1 rfl rfl)
theorem dX0_clear_4 : decode cX0_clear 4 = .ok (.invokevirtual 215, 3) := dk_182 0 215 (dk_at dksX0_clear_0 4 rfl rfl)
theorem dX0_clear_7 : decode cX0_clear 7 = .ok (.istore_n 1, 1) := dk_60 (dk_at dksX0_clear_0 7 rfl rfl)
theorem dX0_clear_8 : decode cX0_clear 8 = .ok (.aload_n 0, 1) := dk_42 (dk_at dksX0_clear_0 8 rfl rfl)
theorem dX0_clear_9 : decode cX0_clear 9 = .ok (.getfield 148, 3) := dk_180 0 148 (dk_at dksX0_clear_0 9 rfl rfl)
theorem dX0_clear_12 : decode cX0_clear 12 = .ok (.invokevirtual 236, 3) := dk_182 0 236 (dk_at dksX0_clear_0 12 rfl rfl)
theorem dX0_clear_15 : decode cX0_clear 15 = .ok (.aload_n 0, 1) := dk_42 (dk_at dksX0_clear_0 15 rfl rfl)
theorem dX0_clear_16 : decode cX0_clear 16 = .ok (.iconst 0, 1) := dk_3 (dk_at dksX0_clear_0 16 rfl rfl)
theorem dX0_clear_17 : decode cX0_clear 17 = .ok (.putfield 239, 3) := dk_181 0 239 (dk_at dksX0_clear_0 17 rfl rfl)
theorem dX0_clear_20 : decode cX0_clear 20 = .ok (.iload_n 1, 1) := dk_27 (dk_at dksX0_clear_0 20 rfl rfl)
theorem dX0_clear_21 : decode cX0_clear 21 = .ok (.ireturn, 1) := dk_172 (dk_at dksX0_clear_0 21 rfl rfl)
abbrev cX0_copy : ByteArray := prog_1_method_26_code
def yX0_copy : MethodName := ⟨RX0, "copy", "(IZZ)I"⟩
def dkwX0_copy_2 : List UInt8 := [29, 25, 4, 180, 0, 254, 182, 1, 5, 182, 1, 11, 172]
abbrev dktX0_copy_2 : List UInt8 := dkwX0_copy_2 ++ []
def dkwX0_copy_1 : List UInt8 := [180, 0, 148, 27, 182, 0, 250, 192, 0, 242, 58, 4, 42, 25, 4, 180, 0, 254, 25, 4, 180, 1, 1, 28]
abbrev dktX0_copy_1 : List UInt8 := dkwX0_copy_1 ++ dktX0_copy_2
def dkwX0_copy_0 : List UInt8 := [42, 180, 0, 148, 182, 0, 215, 16, 6, 159, 0, 11, 42, 27, 182, 0, 247, 154, 0, 5, 2, 172, 42]
abbrev dktX0_copy_0 : List UInt8 := dkwX0_copy_0 ++ dktX0_copy_1
theorem dksX0_copy_0 : cX0_copy.data.toList.drop 0 = dktX0_copy_0 := by decide +kernel
theorem dksX0_copy_1 : cX0_copy.data.toList.drop 23 = dktX0_copy_1 := dk_seg dksX0_copy_0 23 rfl rfl
theorem dksX0_copy_2 : cX0_copy.data.toList.drop 47 = dktX0_copy_2 := dk_seg dksX0_copy_1 24 rfl rfl
theorem dX0_copy_0 : decode cX0_copy 0 = .ok (.aload_n 0, 1) := dk_42 (dk_at dksX0_copy_0 0 rfl rfl)
theorem dX0_copy_1 : decode cX0_copy 1 = .ok (.getfield 148, 3) := dk_180 0 148 (dk_at dksX0_copy_0 1 rfl rfl)
theorem dX0_copy_4 : decode cX0_copy 4 = .ok (.invokevirtual 215, 3) := dk_182 0 215 (dk_at dksX0_copy_0 4 rfl rfl)
theorem dX0_copy_7 : decode cX0_copy 7 = .ok (.bipush 6, 2) := dk_16 6 (dk_at dksX0_copy_0 7 rfl rfl)
theorem dX0_copy_9 : decode cX0_copy 9 = .ok (.if_icmp .eq 11, 3) := dk_159 0 11 (dk_at dksX0_copy_0 9 rfl rfl)
theorem dX0_copy_12 : decode cX0_copy 12 = .ok (.aload_n 0, 1) := dk_42 (dk_at dksX0_copy_0 12 rfl rfl)
theorem dX0_copy_13 : decode cX0_copy 13 = .ok (.iload_n 1, 1) := dk_27 (dk_at dksX0_copy_0 13 rfl rfl)
theorem dX0_copy_14 : decode cX0_copy 14 = .ok (.invokevirtual 247, 3) := dk_182 0 247 (dk_at dksX0_copy_0 14 rfl rfl)
theorem dX0_copy_17 : decode cX0_copy 17 = .ok (.ifCond .ne 5, 3) := dk_154 0 5 (dk_at dksX0_copy_0 17 rfl rfl)
theorem dX0_copy_20 : decode cX0_copy 20 = .ok (.iconst (-1), 1) := dk_2 (dk_at dksX0_copy_0 20 rfl rfl)
theorem dX0_copy_21 : decode cX0_copy 21 = .ok (.ireturn, 1) := dk_172 (dk_at dksX0_copy_0 21 rfl rfl)
theorem dX0_copy_22 : decode cX0_copy 22 = .ok (.aload_n 0, 1) := dk_42 (dk_at dksX0_copy_0 22 rfl rfl)
theorem dX0_copy_23 : decode cX0_copy 23 = .ok (.getfield 148, 3) := dk_180 0 148 (dk_at dksX0_copy_1 0 rfl rfl)
theorem dX0_copy_26 : decode cX0_copy 26 = .ok (.iload_n 1, 1) := dk_27 (dk_at dksX0_copy_1 3 rfl rfl)
theorem dX0_copy_27 : decode cX0_copy 27 = .ok (.invokevirtual 250, 3) := dk_182 0 250 (dk_at dksX0_copy_1 4 rfl rfl)
theorem dX0_copy_30 : decode cX0_copy 30 = .ok (.checkcast 242, 3) := dk_192 0 242 (dk_at dksX0_copy_1 7 rfl rfl)
theorem dX0_copy_33 : decode cX0_copy 33 = .ok (.astore 4, 2) := dk_58 4 (dk_at dksX0_copy_1 10 rfl rfl)
theorem dX0_copy_35 : decode cX0_copy 35 = .ok (.aload_n 0, 1) := dk_42 (dk_at dksX0_copy_1 12 rfl rfl)
theorem dX0_copy_36 : decode cX0_copy 36 = .ok (.aload 4, 2) := dk_25 4 (dk_at dksX0_copy_1 13 rfl rfl)
theorem dX0_copy_38 : decode cX0_copy 38 = .ok (.getfield 254, 3) := dk_180 0 254 (dk_at dksX0_copy_1 15 rfl rfl)
theorem dX0_copy_41 : decode cX0_copy 41 = .ok (.aload 4, 2) := dk_25 4 (dk_at dksX0_copy_1 18 rfl rfl)
theorem dX0_copy_43 : decode cX0_copy 43 = .ok (.getfield 257, 3) := dk_180 1 1 (dk_at dksX0_copy_1 20 rfl rfl)
theorem dX0_copy_46 : decode cX0_copy 46 = .ok (.iload_n 2, 1) := dk_28 (dk_at dksX0_copy_1 23 rfl rfl)
theorem dX0_copy_47 : decode cX0_copy 47 = .ok (.iload_n 3, 1) := dk_29 (dk_at dksX0_copy_2 0 rfl rfl)
theorem dX0_copy_48 : decode cX0_copy 48 = .ok (.aload 4, 2) := dk_25 4 (dk_at dksX0_copy_2 1 rfl rfl)
theorem dX0_copy_50 : decode cX0_copy 50 = .ok (.getfield 254, 3) := dk_180 0 254 (dk_at dksX0_copy_2 3 rfl rfl)
theorem dX0_copy_53 : decode cX0_copy 53 = .ok (.invokevirtual 261, 3) := dk_182 1 5 (dk_at dksX0_copy_2 6 rfl rfl)
theorem dX0_copy_56 : decode cX0_copy 56 = .ok (.invokevirtual 267, 3) := dk_182 1 11 (dk_at dksX0_copy_2 9 rfl rfl)
theorem dX0_copy_59 : decode cX0_copy 59 = .ok (.ireturn, 1) := dk_172 (dk_at dksX0_copy_2 12 rfl rfl)
abbrev cX0_isLadder : ByteArray := prog_1_method_24_code
def yX0_isLadder : MethodName := ⟨RX0, "isLadder", "(I)Z"⟩
def dkwX0_isLadder_0 : List UInt8 := [27, 3, 42, 180, 0, 148, 182, 0, 215, 4, 100, 184, 0, 3, 172]
abbrev dktX0_isLadder_0 : List UInt8 := dkwX0_isLadder_0 ++ []
theorem dksX0_isLadder_0 : cX0_isLadder.data.toList.drop 0 = dktX0_isLadder_0 := by decide +kernel
theorem dX0_isLadder_0 : decode cX0_isLadder 0 = .ok (.iload_n 1, 1) := dk_27 (dk_at dksX0_isLadder_0 0 rfl rfl)
theorem dX0_isLadder_1 : decode cX0_isLadder 1 = .ok (.iconst 0, 1) := dk_3 (dk_at dksX0_isLadder_0 1 rfl rfl)
theorem dX0_isLadder_2 : decode cX0_isLadder 2 = .ok (.aload_n 0, 1) := dk_42 (dk_at dksX0_isLadder_0 2 rfl rfl)
theorem dX0_isLadder_3 : decode cX0_isLadder 3 = .ok (.getfield 148, 3) := dk_180 0 148 (dk_at dksX0_isLadder_0 3 rfl rfl)
theorem dX0_isLadder_6 : decode cX0_isLadder 6 = .ok (.invokevirtual 215, 3) := dk_182 0 215 (dk_at dksX0_isLadder_0 6 rfl rfl)
theorem dX0_isLadder_9 : decode cX0_isLadder 9 = .ok (.iconst 1, 1) := dk_4 (dk_at dksX0_isLadder_0 9 rfl rfl)
theorem dX0_isLadder_10 : decode cX0_isLadder 10 = .ok (.isub, 1) := dk_100 (dk_at dksX0_isLadder_0 10 rfl rfl)
theorem dX0_isLadder_11 : decode cX0_isLadder 11 = .ok (.invokestatic 3, 3) := dk_184 0 3 (dk_at dksX0_isLadder_0 11 rfl rfl)
theorem dX0_isLadder_14 : decode cX0_isLadder 14 = .ok (.ireturn, 1) := dk_172 (dk_at dksX0_isLadder_0 14 rfl rfl)
abbrev cX0_comes : ByteArray := prog_1_method_25_code
def yX0_comes : MethodName := ⟨RX0, "comes", "(ILLadderLots$Steps;)I"⟩
def dkwX0_comes_1 : List UInt8 := [4, 100, 172]
abbrev dktX0_comes_1 : List UInt8 := dkwX0_comes_1 ++ []
def dkwX0_comes_0 : List UInt8 := [42, 180, 0, 148, 187, 0, 242, 89, 27, 44, 183, 0, 244, 182, 0, 226, 87, 42, 180, 0, 148, 182, 0, 215]
abbrev dktX0_comes_0 : List UInt8 := dkwX0_comes_0 ++ dktX0_comes_1
theorem dksX0_comes_0 : cX0_comes.data.toList.drop 0 = dktX0_comes_0 := by decide +kernel
theorem dksX0_comes_1 : cX0_comes.data.toList.drop 24 = dktX0_comes_1 := dk_seg dksX0_comes_0 24 rfl rfl
theorem dX0_comes_0 : decode cX0_comes 0 = .ok (.aload_n 0, 1) := dk_42 (dk_at dksX0_comes_0 0 rfl rfl)
theorem dX0_comes_1 : decode cX0_comes 1 = .ok (.getfield 148, 3) := dk_180 0 148 (dk_at dksX0_comes_0 1 rfl rfl)
theorem dX0_comes_4 : decode cX0_comes 4 = .ok (.new 242, 3) := dk_187 0 242 (dk_at dksX0_comes_0 4 rfl rfl)
theorem dX0_comes_7 : decode cX0_comes 7 = .ok (.dup, 1) := dk_89 (dk_at dksX0_comes_0 7 rfl rfl)
theorem dX0_comes_8 : decode cX0_comes 8 = .ok (.iload_n 1, 1) := dk_27 (dk_at dksX0_comes_0 8 rfl rfl)
theorem dX0_comes_9 : decode cX0_comes 9 = .ok (.aload_n 2, 1) := dk_44 (dk_at dksX0_comes_0 9 rfl rfl)
theorem dX0_comes_10 : decode cX0_comes 10 = .ok (.invokespecial 244, 3) := dk_183 0 244 (dk_at dksX0_comes_0 10 rfl rfl)
theorem dX0_comes_13 : decode cX0_comes 13 = .ok (.invokevirtual 226, 3) := dk_182 0 226 (dk_at dksX0_comes_0 13 rfl rfl)
theorem dX0_comes_16 : decode cX0_comes 16 = .ok (.pop, 1) := dk_87 (dk_at dksX0_comes_0 16 rfl rfl)
theorem dX0_comes_17 : decode cX0_comes 17 = .ok (.aload_n 0, 1) := dk_42 (dk_at dksX0_comes_0 17 rfl rfl)
theorem dX0_comes_18 : decode cX0_comes 18 = .ok (.getfield 148, 3) := dk_180 0 148 (dk_at dksX0_comes_0 18 rfl rfl)
theorem dX0_comes_21 : decode cX0_comes 21 = .ok (.invokevirtual 215, 3) := dk_182 0 215 (dk_at dksX0_comes_0 21 rfl rfl)
theorem dX0_comes_24 : decode cX0_comes 24 = .ok (.iconst 1, 1) := dk_4 (dk_at dksX0_comes_1 0 rfl rfl)
theorem dX0_comes_25 : decode cX0_comes 25 = .ok (.isub, 1) := dk_100 (dk_at dksX0_comes_1 1 rfl rfl)
theorem dX0_comes_26 : decode cX0_comes 26 = .ok (.ireturn, 1) := dk_172 (dk_at dksX0_comes_1 2 rfl rfl)
abbrev cX0_join : ByteArray := prog_1_method_27_code
def yX0_join : MethodName := ⟨RX0, "join", "(II)I"⟩
def dkwX0_join_5 : List UInt8 := [42, 42, 180, 0, 148, 27, 182, 0, 250, 192, 0, 242, 180, 0, 254, 45, 182, 1, 11, 172]
abbrev dktX0_join_5 : List UInt8 := dkwX0_join_5 ++ []
def dkwX0_join_4 : List UInt8 := [182, 0, 250, 192, 0, 242, 180, 1, 1, 4, 182, 1, 16, 45, 182, 1, 20, 153, 0, 7, 2, 167, 0, 22]
abbrev dktX0_join_4 : List UInt8 := dkwX0_join_4 ++ dktX0_join_5
def dkwX0_join_3 : List UInt8 := [42, 180, 0, 148, 27, 182, 0, 250, 192, 0, 242, 180, 1, 1, 4, 182, 1, 16, 45, 42, 180, 0, 148, 28]
abbrev dktX0_join_3 : List UInt8 := dkwX0_join_3 ++ dktX0_join_4
def dkwX0_join_2 : List UInt8 := [28, 182, 0, 250, 192, 0, 242, 180, 0, 254, 159, 0, 5, 2, 172, 187, 1, 6, 89, 183, 1, 15, 78, 45]
abbrev dktX0_join_2 : List UInt8 := dkwX0_join_2 ++ dktX0_join_3
def dkwX0_join_1 : List UInt8 := [182, 0, 247, 153, 0, 34, 42, 180, 0, 148, 27, 182, 0, 250, 192, 0, 242, 180, 0, 254, 42, 180, 0, 148]
abbrev dktX0_join_1 : List UInt8 := dkwX0_join_1 ++ dktX0_join_2
def dkwX0_join_0 : List UInt8 := [42, 180, 0, 148, 182, 0, 215, 16, 6, 159, 0, 50, 42, 27, 182, 0, 247, 153, 0, 42, 42, 28]
abbrev dktX0_join_0 : List UInt8 := dkwX0_join_0 ++ dktX0_join_1
theorem dksX0_join_0 : cX0_join.data.toList.drop 0 = dktX0_join_0 := by decide +kernel
theorem dksX0_join_1 : cX0_join.data.toList.drop 22 = dktX0_join_1 := dk_seg dksX0_join_0 22 rfl rfl
theorem dksX0_join_2 : cX0_join.data.toList.drop 46 = dktX0_join_2 := dk_seg dksX0_join_1 24 rfl rfl
theorem dksX0_join_3 : cX0_join.data.toList.drop 70 = dktX0_join_3 := dk_seg dksX0_join_2 24 rfl rfl
theorem dksX0_join_4 : cX0_join.data.toList.drop 94 = dktX0_join_4 := dk_seg dksX0_join_3 24 rfl rfl
theorem dksX0_join_5 : cX0_join.data.toList.drop 118 = dktX0_join_5 := dk_seg dksX0_join_4 24 rfl rfl
theorem dX0_join_0 : decode cX0_join 0 = .ok (.aload_n 0, 1) := dk_42 (dk_at dksX0_join_0 0 rfl rfl)
theorem dX0_join_1 : decode cX0_join 1 = .ok (.getfield 148, 3) := dk_180 0 148 (dk_at dksX0_join_0 1 rfl rfl)
theorem dX0_join_4 : decode cX0_join 4 = .ok (.invokevirtual 215, 3) := dk_182 0 215 (dk_at dksX0_join_0 4 rfl rfl)
theorem dX0_join_7 : decode cX0_join 7 = .ok (.bipush 6, 2) := dk_16 6 (dk_at dksX0_join_0 7 rfl rfl)
theorem dX0_join_9 : decode cX0_join 9 = .ok (.if_icmp .eq 50, 3) := dk_159 0 50 (dk_at dksX0_join_0 9 rfl rfl)
theorem dX0_join_12 : decode cX0_join 12 = .ok (.aload_n 0, 1) := dk_42 (dk_at dksX0_join_0 12 rfl rfl)
theorem dX0_join_13 : decode cX0_join 13 = .ok (.iload_n 1, 1) := dk_27 (dk_at dksX0_join_0 13 rfl rfl)
theorem dX0_join_14 : decode cX0_join 14 = .ok (.invokevirtual 247, 3) := dk_182 0 247 (dk_at dksX0_join_0 14 rfl rfl)
theorem dX0_join_17 : decode cX0_join 17 = .ok (.ifCond .eq 42, 3) := dk_153 0 42 (dk_at dksX0_join_0 17 rfl rfl)
theorem dX0_join_20 : decode cX0_join 20 = .ok (.aload_n 0, 1) := dk_42 (dk_at dksX0_join_0 20 rfl rfl)
theorem dX0_join_21 : decode cX0_join 21 = .ok (.iload_n 2, 1) := dk_28 (dk_at dksX0_join_0 21 rfl rfl)
theorem dX0_join_22 : decode cX0_join 22 = .ok (.invokevirtual 247, 3) := dk_182 0 247 (dk_at dksX0_join_1 0 rfl rfl)
theorem dX0_join_25 : decode cX0_join 25 = .ok (.ifCond .eq 34, 3) := dk_153 0 34 (dk_at dksX0_join_1 3 rfl rfl)
theorem dX0_join_28 : decode cX0_join 28 = .ok (.aload_n 0, 1) := dk_42 (dk_at dksX0_join_1 6 rfl rfl)
theorem dX0_join_29 : decode cX0_join 29 = .ok (.getfield 148, 3) := dk_180 0 148 (dk_at dksX0_join_1 7 rfl rfl)
theorem dX0_join_32 : decode cX0_join 32 = .ok (.iload_n 1, 1) := dk_27 (dk_at dksX0_join_1 10 rfl rfl)
theorem dX0_join_33 : decode cX0_join 33 = .ok (.invokevirtual 250, 3) := dk_182 0 250 (dk_at dksX0_join_1 11 rfl rfl)
theorem dX0_join_36 : decode cX0_join 36 = .ok (.checkcast 242, 3) := dk_192 0 242 (dk_at dksX0_join_1 14 rfl rfl)
theorem dX0_join_39 : decode cX0_join 39 = .ok (.getfield 254, 3) := dk_180 0 254 (dk_at dksX0_join_1 17 rfl rfl)
theorem dX0_join_42 : decode cX0_join 42 = .ok (.aload_n 0, 1) := dk_42 (dk_at dksX0_join_1 20 rfl rfl)
theorem dX0_join_43 : decode cX0_join 43 = .ok (.getfield 148, 3) := dk_180 0 148 (dk_at dksX0_join_1 21 rfl rfl)
theorem dX0_join_46 : decode cX0_join 46 = .ok (.iload_n 2, 1) := dk_28 (dk_at dksX0_join_2 0 rfl rfl)
theorem dX0_join_47 : decode cX0_join 47 = .ok (.invokevirtual 250, 3) := dk_182 0 250 (dk_at dksX0_join_2 1 rfl rfl)
theorem dX0_join_50 : decode cX0_join 50 = .ok (.checkcast 242, 3) := dk_192 0 242 (dk_at dksX0_join_2 4 rfl rfl)
theorem dX0_join_53 : decode cX0_join 53 = .ok (.getfield 254, 3) := dk_180 0 254 (dk_at dksX0_join_2 7 rfl rfl)
theorem dX0_join_56 : decode cX0_join 56 = .ok (.if_icmp .eq 5, 3) := dk_159 0 5 (dk_at dksX0_join_2 10 rfl rfl)
theorem dX0_join_59 : decode cX0_join 59 = .ok (.iconst (-1), 1) := dk_2 (dk_at dksX0_join_2 13 rfl rfl)
theorem dX0_join_60 : decode cX0_join 60 = .ok (.ireturn, 1) := dk_172 (dk_at dksX0_join_2 14 rfl rfl)
theorem dX0_join_61 : decode cX0_join 61 = .ok (.new 262, 3) := dk_187 1 6 (dk_at dksX0_join_2 15 rfl rfl)
theorem dX0_join_64 : decode cX0_join 64 = .ok (.dup, 1) := dk_89 (dk_at dksX0_join_2 18 rfl rfl)
theorem dX0_join_65 : decode cX0_join 65 = .ok (.invokespecial 271, 3) := dk_183 1 15 (dk_at dksX0_join_2 19 rfl rfl)
theorem dX0_join_68 : decode cX0_join 68 = .ok (.astore_n 3, 1) := dk_78 (dk_at dksX0_join_2 22 rfl rfl)
theorem dX0_join_69 : decode cX0_join 69 = .ok (.aload_n 3, 1) := dk_45 (dk_at dksX0_join_2 23 rfl rfl)
theorem dX0_join_70 : decode cX0_join 70 = .ok (.aload_n 0, 1) := dk_42 (dk_at dksX0_join_3 0 rfl rfl)
theorem dX0_join_71 : decode cX0_join 71 = .ok (.getfield 148, 3) := dk_180 0 148 (dk_at dksX0_join_3 1 rfl rfl)
theorem dX0_join_74 : decode cX0_join 74 = .ok (.iload_n 1, 1) := dk_27 (dk_at dksX0_join_3 4 rfl rfl)
theorem dX0_join_75 : decode cX0_join 75 = .ok (.invokevirtual 250, 3) := dk_182 0 250 (dk_at dksX0_join_3 5 rfl rfl)
theorem dX0_join_78 : decode cX0_join 78 = .ok (.checkcast 242, 3) := dk_192 0 242 (dk_at dksX0_join_3 8 rfl rfl)
theorem dX0_join_81 : decode cX0_join 81 = .ok (.getfield 257, 3) := dk_180 1 1 (dk_at dksX0_join_3 11 rfl rfl)
theorem dX0_join_84 : decode cX0_join 84 = .ok (.iconst 1, 1) := dk_4 (dk_at dksX0_join_3 14 rfl rfl)
theorem dX0_join_85 : decode cX0_join 85 = .ok (.invokevirtual 272, 3) := dk_182 1 16 (dk_at dksX0_join_3 15 rfl rfl)
theorem dX0_join_88 : decode cX0_join 88 = .ok (.aload_n 3, 1) := dk_45 (dk_at dksX0_join_3 18 rfl rfl)
theorem dX0_join_89 : decode cX0_join 89 = .ok (.aload_n 0, 1) := dk_42 (dk_at dksX0_join_3 19 rfl rfl)
theorem dX0_join_90 : decode cX0_join 90 = .ok (.getfield 148, 3) := dk_180 0 148 (dk_at dksX0_join_3 20 rfl rfl)
theorem dX0_join_93 : decode cX0_join 93 = .ok (.iload_n 2, 1) := dk_28 (dk_at dksX0_join_3 23 rfl rfl)
theorem dX0_join_94 : decode cX0_join 94 = .ok (.invokevirtual 250, 3) := dk_182 0 250 (dk_at dksX0_join_4 0 rfl rfl)
theorem dX0_join_97 : decode cX0_join 97 = .ok (.checkcast 242, 3) := dk_192 0 242 (dk_at dksX0_join_4 3 rfl rfl)
theorem dX0_join_100 : decode cX0_join 100 = .ok (.getfield 257, 3) := dk_180 1 1 (dk_at dksX0_join_4 6 rfl rfl)
theorem dX0_join_103 : decode cX0_join 103 = .ok (.iconst 1, 1) := dk_4 (dk_at dksX0_join_4 9 rfl rfl)
theorem dX0_join_104 : decode cX0_join 104 = .ok (.invokevirtual 272, 3) := dk_182 1 16 (dk_at dksX0_join_4 10 rfl rfl)
theorem dX0_join_107 : decode cX0_join 107 = .ok (.aload_n 3, 1) := dk_45 (dk_at dksX0_join_4 13 rfl rfl)
theorem dX0_join_108 : decode cX0_join 108 = .ok (.invokevirtual 276, 3) := dk_182 1 20 (dk_at dksX0_join_4 14 rfl rfl)
theorem dX0_join_111 : decode cX0_join 111 = .ok (.ifCond .eq 7, 3) := dk_153 0 7 (dk_at dksX0_join_4 17 rfl rfl)
theorem dX0_join_114 : decode cX0_join 114 = .ok (.iconst (-1), 1) := dk_2 (dk_at dksX0_join_4 20 rfl rfl)
theorem dX0_join_115 : decode cX0_join 115 = .ok (.goto 22, 3) := dk_167 0 22 (dk_at dksX0_join_4 21 rfl rfl)
theorem dX0_join_118 : decode cX0_join 118 = .ok (.aload_n 0, 1) := dk_42 (dk_at dksX0_join_5 0 rfl rfl)
theorem dX0_join_119 : decode cX0_join 119 = .ok (.aload_n 0, 1) := dk_42 (dk_at dksX0_join_5 1 rfl rfl)
theorem dX0_join_120 : decode cX0_join 120 = .ok (.getfield 148, 3) := dk_180 0 148 (dk_at dksX0_join_5 2 rfl rfl)
theorem dX0_join_123 : decode cX0_join 123 = .ok (.iload_n 1, 1) := dk_27 (dk_at dksX0_join_5 5 rfl rfl)
theorem dX0_join_124 : decode cX0_join 124 = .ok (.invokevirtual 250, 3) := dk_182 0 250 (dk_at dksX0_join_5 6 rfl rfl)
theorem dX0_join_127 : decode cX0_join 127 = .ok (.checkcast 242, 3) := dk_192 0 242 (dk_at dksX0_join_5 9 rfl rfl)
theorem dX0_join_130 : decode cX0_join 130 = .ok (.getfield 254, 3) := dk_180 0 254 (dk_at dksX0_join_5 12 rfl rfl)
theorem dX0_join_133 : decode cX0_join 133 = .ok (.aload_n 3, 1) := dk_45 (dk_at dksX0_join_5 15 rfl rfl)
theorem dX0_join_134 : decode cX0_join 134 = .ok (.invokevirtual 267, 3) := dk_182 1 11 (dk_at dksX0_join_5 16 rfl rfl)
theorem dX0_join_137 : decode cX0_join 137 = .ok (.ireturn, 1) := dk_172 (dk_at dksX0_join_5 19 rfl rfl)
abbrev cX0_lots : ByteArray := prog_1_method_30_code
def yX0_lots : MethodName := ⟨RX0, "lots", "(IIIZ)I"⟩
def dkwX0_lots_5 : List UInt8 := [42, 28, 25, 5, 182, 1, 11, 172]
abbrev dktX0_lots_5 : List UInt8 := dkwX0_lots_5 ++ []
def dkwX0_lots_4 : List UInt8 := [183, 0, 203, 167, 0, 12, 187, 1, 32, 89, 21, 7, 183, 1, 34, 182, 1, 35, 132, 6, 1, 167, 255, 188]
abbrev dktX0_lots_4 : List UInt8 := dkwX0_lots_4 ++ dktX0_lots_5
def dkwX0_lots_3 : List UInt8 := [153, 0, 30, 27, 5, 21, 6, 104, 4, 96, 5, 184, 1, 28, 4, 160, 0, 15, 187, 0, 201, 89, 21, 7]
abbrev dktX0_lots_3 : List UInt8 := dkwX0_lots_3 ++ dktX0_lots_4
def dkwX0_lots_2 : List UInt8 := [21, 6, 29, 162, 0, 68, 27, 5, 21, 6, 104, 28, 4, 100, 184, 1, 28, 54, 7, 25, 5, 21, 4]
abbrev dktX0_lots_2 : List UInt8 := dkwX0_lots_2 ++ dktX0_lots_3
def dkwX0_lots_1 : List UInt8 := [17, 0, 200, 184, 0, 3, 154, 0, 5, 2, 172, 187, 1, 6, 89, 183, 1, 15, 58, 5, 3, 54, 6]
abbrev dktX0_lots_1 : List UInt8 := dkwX0_lots_1 ++ dktX0_lots_2
def dkwX0_lots_0 : List UInt8 := [42, 180, 0, 148, 182, 0, 215, 16, 6, 159, 0, 24, 28, 5, 16, 7, 184, 0, 3, 153, 0, 14, 29, 3]
abbrev dktX0_lots_0 : List UInt8 := dkwX0_lots_0 ++ dktX0_lots_1
theorem dksX0_lots_0 : cX0_lots.data.toList.drop 0 = dktX0_lots_0 := by decide +kernel
theorem dksX0_lots_1 : cX0_lots.data.toList.drop 24 = dktX0_lots_1 := dk_seg dksX0_lots_0 24 rfl rfl
theorem dksX0_lots_2 : cX0_lots.data.toList.drop 47 = dktX0_lots_2 := dk_seg dksX0_lots_1 23 rfl rfl
theorem dksX0_lots_3 : cX0_lots.data.toList.drop 70 = dktX0_lots_3 := dk_seg dksX0_lots_2 23 rfl rfl
theorem dksX0_lots_4 : cX0_lots.data.toList.drop 94 = dktX0_lots_4 := dk_seg dksX0_lots_3 24 rfl rfl
theorem dksX0_lots_5 : cX0_lots.data.toList.drop 118 = dktX0_lots_5 := dk_seg dksX0_lots_4 24 rfl rfl
theorem dX0_lots_0 : decode cX0_lots 0 = .ok (.aload_n 0, 1) := dk_42 (dk_at dksX0_lots_0 0 rfl rfl)
theorem dX0_lots_1 : decode cX0_lots 1 = .ok (.getfield 148, 3) := dk_180 0 148 (dk_at dksX0_lots_0 1 rfl rfl)
theorem dX0_lots_4 : decode cX0_lots 4 = .ok (.invokevirtual 215, 3) := dk_182 0 215 (dk_at dksX0_lots_0 4 rfl rfl)
theorem dX0_lots_7 : decode cX0_lots 7 = .ok (.bipush 6, 2) := dk_16 6 (dk_at dksX0_lots_0 7 rfl rfl)
theorem dX0_lots_9 : decode cX0_lots 9 = .ok (.if_icmp .eq 24, 3) := dk_159 0 24 (dk_at dksX0_lots_0 9 rfl rfl)
theorem dX0_lots_12 : decode cX0_lots 12 = .ok (.iload_n 2, 1) := dk_28 (dk_at dksX0_lots_0 12 rfl rfl)
theorem dX0_lots_13 : decode cX0_lots 13 = .ok (.iconst 2, 1) := dk_5 (dk_at dksX0_lots_0 13 rfl rfl)
theorem dX0_lots_14 : decode cX0_lots 14 = .ok (.bipush 7, 2) := dk_16 7 (dk_at dksX0_lots_0 14 rfl rfl)
theorem dX0_lots_16 : decode cX0_lots 16 = .ok (.invokestatic 3, 3) := dk_184 0 3 (dk_at dksX0_lots_0 16 rfl rfl)
theorem dX0_lots_19 : decode cX0_lots 19 = .ok (.ifCond .eq 14, 3) := dk_153 0 14 (dk_at dksX0_lots_0 19 rfl rfl)
theorem dX0_lots_22 : decode cX0_lots 22 = .ok (.iload_n 3, 1) := dk_29 (dk_at dksX0_lots_0 22 rfl rfl)
theorem dX0_lots_23 : decode cX0_lots 23 = .ok (.iconst 0, 1) := dk_3 (dk_at dksX0_lots_0 23 rfl rfl)
theorem dX0_lots_24 : decode cX0_lots 24 = .ok (.sipush 200, 3) := dk_17 0 200 (dk_at dksX0_lots_1 0 rfl rfl)
theorem dX0_lots_27 : decode cX0_lots 27 = .ok (.invokestatic 3, 3) := dk_184 0 3 (dk_at dksX0_lots_1 3 rfl rfl)
theorem dX0_lots_30 : decode cX0_lots 30 = .ok (.ifCond .ne 5, 3) := dk_154 0 5 (dk_at dksX0_lots_1 6 rfl rfl)
theorem dX0_lots_33 : decode cX0_lots 33 = .ok (.iconst (-1), 1) := dk_2 (dk_at dksX0_lots_1 9 rfl rfl)
theorem dX0_lots_34 : decode cX0_lots 34 = .ok (.ireturn, 1) := dk_172 (dk_at dksX0_lots_1 10 rfl rfl)
theorem dX0_lots_35 : decode cX0_lots 35 = .ok (.new 262, 3) := dk_187 1 6 (dk_at dksX0_lots_1 11 rfl rfl)
theorem dX0_lots_38 : decode cX0_lots 38 = .ok (.dup, 1) := dk_89 (dk_at dksX0_lots_1 14 rfl rfl)
theorem dX0_lots_39 : decode cX0_lots 39 = .ok (.invokespecial 271, 3) := dk_183 1 15 (dk_at dksX0_lots_1 15 rfl rfl)
theorem dX0_lots_42 : decode cX0_lots 42 = .ok (.astore 5, 2) := dk_58 5 (dk_at dksX0_lots_1 18 rfl rfl)
theorem dX0_lots_44 : decode cX0_lots 44 = .ok (.iconst 0, 1) := dk_3 (dk_at dksX0_lots_1 20 rfl rfl)
theorem dX0_lots_45 : decode cX0_lots 45 = .ok (.istore 6, 2) := dk_54 6 (dk_at dksX0_lots_1 21 rfl rfl)
theorem dX0_lots_47 : decode cX0_lots 47 = .ok (.iload 6, 2) := dk_21 6 (dk_at dksX0_lots_2 0 rfl rfl)
theorem dX0_lots_49 : decode cX0_lots 49 = .ok (.iload_n 3, 1) := dk_29 (dk_at dksX0_lots_2 2 rfl rfl)
theorem dX0_lots_50 : decode cX0_lots 50 = .ok (.if_icmp .ge 68, 3) := dk_162 0 68 (dk_at dksX0_lots_2 3 rfl rfl)
theorem dX0_lots_53 : decode cX0_lots 53 = .ok (.iload_n 1, 1) := dk_27 (dk_at dksX0_lots_2 6 rfl rfl)
theorem dX0_lots_54 : decode cX0_lots 54 = .ok (.iconst 2, 1) := dk_5 (dk_at dksX0_lots_2 7 rfl rfl)
theorem dX0_lots_55 : decode cX0_lots 55 = .ok (.iload 6, 2) := dk_21 6 (dk_at dksX0_lots_2 8 rfl rfl)
theorem dX0_lots_57 : decode cX0_lots 57 = .ok (.imul, 1) := dk_104 (dk_at dksX0_lots_2 10 rfl rfl)
theorem dX0_lots_58 : decode cX0_lots 58 = .ok (.iload_n 2, 1) := dk_28 (dk_at dksX0_lots_2 11 rfl rfl)
theorem dX0_lots_59 : decode cX0_lots 59 = .ok (.iconst 1, 1) := dk_4 (dk_at dksX0_lots_2 12 rfl rfl)
theorem dX0_lots_60 : decode cX0_lots 60 = .ok (.isub, 1) := dk_100 (dk_at dksX0_lots_2 13 rfl rfl)
theorem dX0_lots_61 : decode cX0_lots 61 = .ok (.invokestatic 284, 3) := dk_184 1 28 (dk_at dksX0_lots_2 14 rfl rfl)
theorem dX0_lots_64 : decode cX0_lots 64 = .ok (.istore 7, 2) := dk_54 7 (dk_at dksX0_lots_2 17 rfl rfl)
theorem dX0_lots_66 : decode cX0_lots 66 = .ok (.aload 5, 2) := dk_25 5 (dk_at dksX0_lots_2 19 rfl rfl)
theorem dX0_lots_68 : decode cX0_lots 68 = .ok (.iload 4, 2) := dk_21 4 (dk_at dksX0_lots_2 21 rfl rfl)
theorem dX0_lots_70 : decode cX0_lots 70 = .ok (.ifCond .eq 30, 3) := dk_153 0 30 (dk_at dksX0_lots_3 0 rfl rfl)
theorem dX0_lots_73 : decode cX0_lots 73 = .ok (.iload_n 1, 1) := dk_27 (dk_at dksX0_lots_3 3 rfl rfl)
theorem dX0_lots_74 : decode cX0_lots 74 = .ok (.iconst 2, 1) := dk_5 (dk_at dksX0_lots_3 4 rfl rfl)
theorem dX0_lots_75 : decode cX0_lots 75 = .ok (.iload 6, 2) := dk_21 6 (dk_at dksX0_lots_3 5 rfl rfl)
theorem dX0_lots_77 : decode cX0_lots 77 = .ok (.imul, 1) := dk_104 (dk_at dksX0_lots_3 7 rfl rfl)
theorem dX0_lots_78 : decode cX0_lots 78 = .ok (.iconst 1, 1) := dk_4 (dk_at dksX0_lots_3 8 rfl rfl)
theorem dX0_lots_79 : decode cX0_lots 79 = .ok (.iadd, 1) := dk_96 (dk_at dksX0_lots_3 9 rfl rfl)
theorem dX0_lots_80 : decode cX0_lots 80 = .ok (.iconst 2, 1) := dk_5 (dk_at dksX0_lots_3 10 rfl rfl)
theorem dX0_lots_81 : decode cX0_lots 81 = .ok (.invokestatic 284, 3) := dk_184 1 28 (dk_at dksX0_lots_3 11 rfl rfl)
theorem dX0_lots_84 : decode cX0_lots 84 = .ok (.iconst 1, 1) := dk_4 (dk_at dksX0_lots_3 14 rfl rfl)
theorem dX0_lots_85 : decode cX0_lots 85 = .ok (.if_icmp .ne 15, 3) := dk_160 0 15 (dk_at dksX0_lots_3 15 rfl rfl)
theorem dX0_lots_88 : decode cX0_lots 88 = .ok (.new 201, 3) := dk_187 0 201 (dk_at dksX0_lots_3 18 rfl rfl)
theorem dX0_lots_91 : decode cX0_lots 91 = .ok (.dup, 1) := dk_89 (dk_at dksX0_lots_3 21 rfl rfl)
theorem dX0_lots_92 : decode cX0_lots 92 = .ok (.iload 7, 2) := dk_21 7 (dk_at dksX0_lots_3 22 rfl rfl)
theorem dX0_lots_94 : decode cX0_lots 94 = .ok (.invokespecial 203, 3) := dk_183 0 203 (dk_at dksX0_lots_4 0 rfl rfl)
theorem dX0_lots_97 : decode cX0_lots 97 = .ok (.goto 12, 3) := dk_167 0 12 (dk_at dksX0_lots_4 3 rfl rfl)
theorem dX0_lots_100 : decode cX0_lots 100 = .ok (.new 288, 3) := dk_187 1 32 (dk_at dksX0_lots_4 6 rfl rfl)
theorem dX0_lots_103 : decode cX0_lots 103 = .ok (.dup, 1) := dk_89 (dk_at dksX0_lots_4 9 rfl rfl)
theorem dX0_lots_104 : decode cX0_lots 104 = .ok (.iload 7, 2) := dk_21 7 (dk_at dksX0_lots_4 10 rfl rfl)
theorem dX0_lots_106 : decode cX0_lots 106 = .ok (.invokespecial 290, 3) := dk_183 1 34 (dk_at dksX0_lots_4 12 rfl rfl)
theorem dX0_lots_109 : decode cX0_lots 109 = .ok (.invokevirtual 291, 3) := dk_182 1 35 (dk_at dksX0_lots_4 15 rfl rfl)
theorem dX0_lots_112 : decode cX0_lots 112 = .ok (.iinc 6 1, 3) := dk_132 6 1 (dk_at dksX0_lots_4 18 rfl rfl)
theorem dX0_lots_115 : decode cX0_lots 115 = .ok (.goto (-68), 3) := dk_167 255 188 (dk_at dksX0_lots_4 21 rfl rfl)
theorem dX0_lots_118 : decode cX0_lots 118 = .ok (.aload_n 0, 1) := dk_42 (dk_at dksX0_lots_5 0 rfl rfl)
theorem dX0_lots_119 : decode cX0_lots 119 = .ok (.iload_n 2, 1) := dk_28 (dk_at dksX0_lots_5 1 rfl rfl)
theorem dX0_lots_120 : decode cX0_lots 120 = .ok (.aload 5, 2) := dk_25 5 (dk_at dksX0_lots_5 2 rfl rfl)
theorem dX0_lots_122 : decode cX0_lots 122 = .ok (.invokevirtual 267, 3) := dk_182 1 11 (dk_at dksX0_lots_5 4 rfl rfl)
theorem dX0_lots_125 : decode cX0_lots 125 = .ok (.ireturn, 1) := dk_172 (dk_at dksX0_lots_5 7 rfl rfl)
abbrev cX0_lot : ByteArray := prog_1_method_29_code
def yX0_lot : MethodName := ⟨RX0, "lot", "(III)I"⟩
def dkwX0_lot_0 : List UInt8 := [26, 16, 9, 184, 1, 25, 27, 184, 1, 25, 4, 124, 28, 112, 172]
abbrev dktX0_lot_0 : List UInt8 := dkwX0_lot_0 ++ []
theorem dksX0_lot_0 : cX0_lot.data.toList.drop 0 = dktX0_lot_0 := by decide +kernel
theorem dX0_lot_0 : decode cX0_lot 0 = .ok (.iload_n 0, 1) := dk_26 (dk_at dksX0_lot_0 0 rfl rfl)
theorem dX0_lot_1 : decode cX0_lot 1 = .ok (.bipush 9, 2) := dk_16 9 (dk_at dksX0_lot_0 1 rfl rfl)
theorem dX0_lot_3 : decode cX0_lot 3 = .ok (.invokestatic 281, 3) := dk_184 1 25 (dk_at dksX0_lot_0 3 rfl rfl)
theorem dX0_lot_6 : decode cX0_lot 6 = .ok (.iload_n 1, 1) := dk_27 (dk_at dksX0_lot_0 6 rfl rfl)
theorem dX0_lot_7 : decode cX0_lot 7 = .ok (.invokestatic 281, 3) := dk_184 1 25 (dk_at dksX0_lot_0 7 rfl rfl)
theorem dX0_lot_10 : decode cX0_lot 10 = .ok (.iconst 1, 1) := dk_4 (dk_at dksX0_lot_0 10 rfl rfl)
theorem dX0_lot_11 : decode cX0_lot 11 = .ok (.iushr, 1) := dk_124 (dk_at dksX0_lot_0 11 rfl rfl)
theorem dX0_lot_12 : decode cX0_lot 12 = .ok (.iload_n 2, 1) := dk_28 (dk_at dksX0_lot_0 12 rfl rfl)
theorem dX0_lot_13 : decode cX0_lot 13 = .ok (.irem, 1) := dk_112 (dk_at dksX0_lot_0 13 rfl rfl)
theorem dX0_lot_14 : decode cX0_lot 14 = .ok (.ireturn, 1) := dk_172 (dk_at dksX0_lot_0 14 rfl rfl)
abbrev cX0_mixed : ByteArray := prog_1_method_28_code
def yX0_mixed : MethodName := ⟨RX0, "mixed", "(II)I"⟩
def dkwX0_mixed_0 : List UInt8 := [26, 27, 130, 19, 1, 24, 104, 17, 48, 57, 96, 61, 28, 28, 16, 15, 124, 130, 172]
abbrev dktX0_mixed_0 : List UInt8 := dkwX0_mixed_0 ++ []
theorem dksX0_mixed_0 : cX0_mixed.data.toList.drop 0 = dktX0_mixed_0 := by decide +kernel
theorem dX0_mixed_0 : decode cX0_mixed 0 = .ok (.iload_n 0, 1) := dk_26 (dk_at dksX0_mixed_0 0 rfl rfl)
theorem dX0_mixed_1 : decode cX0_mixed 1 = .ok (.iload_n 1, 1) := dk_27 (dk_at dksX0_mixed_0 1 rfl rfl)
theorem dX0_mixed_2 : decode cX0_mixed 2 = .ok (.ixor, 1) := dk_130 (dk_at dksX0_mixed_0 2 rfl rfl)
theorem dX0_mixed_3 : decode cX0_mixed 3 = .ok (.ldc_w 280, 3) := dk_19 1 24 (dk_at dksX0_mixed_0 3 rfl rfl)
theorem dX0_mixed_6 : decode cX0_mixed 6 = .ok (.imul, 1) := dk_104 (dk_at dksX0_mixed_0 6 rfl rfl)
theorem dX0_mixed_7 : decode cX0_mixed 7 = .ok (.sipush 12345, 3) := dk_17 48 57 (dk_at dksX0_mixed_0 7 rfl rfl)
theorem dX0_mixed_10 : decode cX0_mixed 10 = .ok (.iadd, 1) := dk_96 (dk_at dksX0_mixed_0 10 rfl rfl)
theorem dX0_mixed_11 : decode cX0_mixed 11 = .ok (.istore_n 2, 1) := dk_61 (dk_at dksX0_mixed_0 11 rfl rfl)
theorem dX0_mixed_12 : decode cX0_mixed 12 = .ok (.iload_n 2, 1) := dk_28 (dk_at dksX0_mixed_0 12 rfl rfl)
theorem dX0_mixed_13 : decode cX0_mixed 13 = .ok (.iload_n 2, 1) := dk_28 (dk_at dksX0_mixed_0 13 rfl rfl)
theorem dX0_mixed_14 : decode cX0_mixed 14 = .ok (.bipush 15, 2) := dk_16 15 (dk_at dksX0_mixed_0 14 rfl rfl)
theorem dX0_mixed_16 : decode cX0_mixed 16 = .ok (.iushr, 1) := dk_124 (dk_at dksX0_mixed_0 16 rfl rfl)
theorem dX0_mixed_17 : decode cX0_mixed 17 = .ok (.ixor, 1) := dk_130 (dk_at dksX0_mixed_0 17 rfl rfl)
theorem dX0_mixed_18 : decode cX0_mixed 18 = .ok (.ireturn, 1) := dk_172 (dk_at dksX0_mixed_0 18 rfl rfl)
abbrev cX0_ladder : ByteArray := prog_1_method_31_code
def yX0_ladder : MethodName := ⟨RX0, "ladder", "(II)I"⟩
def dkwX0_ladder_3 : List UInt8 := [182, 1, 45, 153, 0, 7, 4, 167, 0, 4, 3, 172, 2, 172]
abbrev dktX0_ladder_3 : List UInt8 := dkwX0_ladder_3 ++ []
def dkwX0_ladder_2 : List UInt8 := [45, 180, 0, 254, 172, 45, 182, 1, 38, 172, 45, 180, 1, 1, 180, 1, 39, 172, 45, 182, 1, 42, 172, 45]
abbrev dktX0_ladder_2 : List UInt8 := dkwX0_ladder_2 ++ dktX0_ladder_3
def dkwX0_ladder_1 : List UInt8 := [170, 0, 0, 0, 69, 0, 0, 0, 0, 0, 0, 0, 4, 0, 0, 0, 33, 0, 0, 0, 38, 0, 0, 0, 43, 0, 0, 0, 51, 0, 0, 0, 56]
abbrev dktX0_ladder_1 : List UInt8 := dkwX0_ladder_1 ++ dktX0_ladder_2
def dkwX0_ladder_0 : List UInt8 := [42, 27, 182, 0, 247, 154, 0, 5, 2, 172, 42, 180, 0, 148, 27, 182, 0, 250, 192, 0, 242, 78, 28]
abbrev dktX0_ladder_0 : List UInt8 := dkwX0_ladder_0 ++ dktX0_ladder_1
theorem dksX0_ladder_0 : cX0_ladder.data.toList.drop 0 = dktX0_ladder_0 := by decide +kernel
theorem dksX0_ladder_1 : cX0_ladder.data.toList.drop 23 = dktX0_ladder_1 := dk_seg dksX0_ladder_0 23 rfl rfl
theorem dksX0_ladder_2 : cX0_ladder.data.toList.drop 56 = dktX0_ladder_2 := dk_seg dksX0_ladder_1 33 rfl rfl
theorem dksX0_ladder_3 : cX0_ladder.data.toList.drop 80 = dktX0_ladder_3 := dk_seg dksX0_ladder_2 24 rfl rfl
theorem dX0_ladder_0 : decode cX0_ladder 0 = .ok (.aload_n 0, 1) := dk_42 (dk_at dksX0_ladder_0 0 rfl rfl)
theorem dX0_ladder_1 : decode cX0_ladder 1 = .ok (.iload_n 1, 1) := dk_27 (dk_at dksX0_ladder_0 1 rfl rfl)
theorem dX0_ladder_2 : decode cX0_ladder 2 = .ok (.invokevirtual 247, 3) := dk_182 0 247 (dk_at dksX0_ladder_0 2 rfl rfl)
theorem dX0_ladder_5 : decode cX0_ladder 5 = .ok (.ifCond .ne 5, 3) := dk_154 0 5 (dk_at dksX0_ladder_0 5 rfl rfl)
theorem dX0_ladder_8 : decode cX0_ladder 8 = .ok (.iconst (-1), 1) := dk_2 (dk_at dksX0_ladder_0 8 rfl rfl)
theorem dX0_ladder_9 : decode cX0_ladder 9 = .ok (.ireturn, 1) := dk_172 (dk_at dksX0_ladder_0 9 rfl rfl)
theorem dX0_ladder_10 : decode cX0_ladder 10 = .ok (.aload_n 0, 1) := dk_42 (dk_at dksX0_ladder_0 10 rfl rfl)
theorem dX0_ladder_11 : decode cX0_ladder 11 = .ok (.getfield 148, 3) := dk_180 0 148 (dk_at dksX0_ladder_0 11 rfl rfl)
theorem dX0_ladder_14 : decode cX0_ladder 14 = .ok (.iload_n 1, 1) := dk_27 (dk_at dksX0_ladder_0 14 rfl rfl)
theorem dX0_ladder_15 : decode cX0_ladder 15 = .ok (.invokevirtual 250, 3) := dk_182 0 250 (dk_at dksX0_ladder_0 15 rfl rfl)
theorem dX0_ladder_18 : decode cX0_ladder 18 = .ok (.checkcast 242, 3) := dk_192 0 242 (dk_at dksX0_ladder_0 18 rfl rfl)
theorem dX0_ladder_21 : decode cX0_ladder 21 = .ok (.astore_n 3, 1) := dk_78 (dk_at dksX0_ladder_0 21 rfl rfl)
theorem dX0_ladder_22 : decode cX0_ladder 22 = .ok (.iload_n 2, 1) := dk_28 (dk_at dksX0_ladder_0 22 rfl rfl)
theorem dX0_ladder_23 : decode cX0_ladder 23 = .ok (.tableswitch 69 0 4 #[33, 38, 43, 51, 56], 33) := by decide +kernel
theorem dX0_ladder_56 : decode cX0_ladder 56 = .ok (.aload_n 3, 1) := dk_45 (dk_at dksX0_ladder_2 0 rfl rfl)
theorem dX0_ladder_57 : decode cX0_ladder 57 = .ok (.getfield 254, 3) := dk_180 0 254 (dk_at dksX0_ladder_2 1 rfl rfl)
theorem dX0_ladder_60 : decode cX0_ladder 60 = .ok (.ireturn, 1) := dk_172 (dk_at dksX0_ladder_2 4 rfl rfl)
theorem dX0_ladder_61 : decode cX0_ladder 61 = .ok (.aload_n 3, 1) := dk_45 (dk_at dksX0_ladder_2 5 rfl rfl)
theorem dX0_ladder_62 : decode cX0_ladder 62 = .ok (.invokevirtual 294, 3) := dk_182 1 38 (dk_at dksX0_ladder_2 6 rfl rfl)
theorem dX0_ladder_65 : decode cX0_ladder 65 = .ok (.ireturn, 1) := dk_172 (dk_at dksX0_ladder_2 9 rfl rfl)
theorem dX0_ladder_66 : decode cX0_ladder 66 = .ok (.aload_n 3, 1) := dk_45 (dk_at dksX0_ladder_2 10 rfl rfl)
theorem dX0_ladder_67 : decode cX0_ladder 67 = .ok (.getfield 257, 3) := dk_180 1 1 (dk_at dksX0_ladder_2 11 rfl rfl)
theorem dX0_ladder_70 : decode cX0_ladder 70 = .ok (.getfield 295, 3) := dk_180 1 39 (dk_at dksX0_ladder_2 14 rfl rfl)
theorem dX0_ladder_73 : decode cX0_ladder 73 = .ok (.ireturn, 1) := dk_172 (dk_at dksX0_ladder_2 17 rfl rfl)
theorem dX0_ladder_74 : decode cX0_ladder 74 = .ok (.aload_n 3, 1) := dk_45 (dk_at dksX0_ladder_2 18 rfl rfl)
theorem dX0_ladder_75 : decode cX0_ladder 75 = .ok (.invokevirtual 298, 3) := dk_182 1 42 (dk_at dksX0_ladder_2 19 rfl rfl)
theorem dX0_ladder_78 : decode cX0_ladder 78 = .ok (.ireturn, 1) := dk_172 (dk_at dksX0_ladder_2 22 rfl rfl)
theorem dX0_ladder_79 : decode cX0_ladder 79 = .ok (.aload_n 3, 1) := dk_45 (dk_at dksX0_ladder_2 23 rfl rfl)
theorem dX0_ladder_80 : decode cX0_ladder 80 = .ok (.invokevirtual 301, 3) := dk_182 1 45 (dk_at dksX0_ladder_3 0 rfl rfl)
theorem dX0_ladder_83 : decode cX0_ladder 83 = .ok (.ifCond .eq 7, 3) := dk_153 0 7 (dk_at dksX0_ladder_3 3 rfl rfl)
theorem dX0_ladder_86 : decode cX0_ladder 86 = .ok (.iconst 1, 1) := dk_4 (dk_at dksX0_ladder_3 6 rfl rfl)
theorem dX0_ladder_87 : decode cX0_ladder 87 = .ok (.goto 4, 3) := dk_167 0 4 (dk_at dksX0_ladder_3 7 rfl rfl)
theorem dX0_ladder_90 : decode cX0_ladder 90 = .ok (.iconst 0, 1) := dk_3 (dk_at dksX0_ladder_3 10 rfl rfl)
theorem dX0_ladder_91 : decode cX0_ladder 91 = .ok (.ireturn, 1) := dk_172 (dk_at dksX0_ladder_3 11 rfl rfl)
theorem dX0_ladder_92 : decode cX0_ladder 92 = .ok (.iconst (-1), 1) := dk_2 (dk_at dksX0_ladder_3 12 rfl rfl)
theorem dX0_ladder_93 : decode cX0_ladder 93 = .ok (.ireturn, 1) := dk_172 (dk_at dksX0_ladder_3 13 rfl rfl)
abbrev cX0_element : ByteArray := prog_1_method_33_code
def yX0_element : MethodName := ⟨RX0, "element", "(III)I"⟩
def dkwX0_element_6 : List UInt8 := [2, 172]
abbrev dktX0_element_6 : List UInt8 := dkwX0_element_6 ++ []
def dkwX0_element_5 : List UInt8 := [180, 1, 66, 167, 0, 4, 2, 172, 42, 180, 0, 148, 27, 182, 0, 250, 192, 0, 242, 28, 182, 1, 69, 172]
abbrev dktX0_element_5 : List UInt8 := dkwX0_element_5 ++ dktX0_element_6
def dkwX0_element_4 : List UInt8 := [192, 1, 61, 180, 1, 63, 167, 0, 4, 2, 172, 25, 4, 193, 1, 61, 153, 0, 14, 25, 4, 192, 1, 61]
abbrev dktX0_element_4 : List UInt8 := dkwX0_element_4 ++ dktX0_element_5
def dkwX0_element_3 : List UInt8 := [25, 4, 180, 1, 55, 172, 25, 4, 182, 1, 58, 172, 25, 4, 193, 1, 61, 153, 0, 14, 25, 4]
abbrev dktX0_element_3 : List UInt8 := dkwX0_element_3 ++ dktX0_element_4
def dkwX0_element_2 : List UInt8 := [170, 0, 0, 0, 0, 0, 105, 0, 0, 0, 0, 0, 0, 0, 4, 0, 0, 0, 35, 0, 0, 0, 41, 0, 0, 0, 47, 0, 0, 0, 68, 0, 0, 0, 89]
abbrev dktX0_element_2 : List UInt8 := dkwX0_element_2 ++ dktX0_element_3
def dkwX0_element_1 : List UInt8 := [182, 1, 51, 58, 4, 29]
abbrev dktX0_element_1 : List UInt8 := dkwX0_element_1 ++ dktX0_element_2
def dkwX0_element_0 : List UInt8 := [42, 27, 28, 182, 1, 48, 154, 0, 5, 2, 172, 42, 180, 0, 148, 27, 182, 0, 250, 192, 0, 242, 28]
abbrev dktX0_element_0 : List UInt8 := dkwX0_element_0 ++ dktX0_element_1
theorem dksX0_element_0 : cX0_element.data.toList.drop 0 = dktX0_element_0 := by decide +kernel
theorem dksX0_element_1 : cX0_element.data.toList.drop 23 = dktX0_element_1 := dk_seg dksX0_element_0 23 rfl rfl
theorem dksX0_element_2 : cX0_element.data.toList.drop 29 = dktX0_element_2 := dk_seg dksX0_element_1 6 rfl rfl
theorem dksX0_element_3 : cX0_element.data.toList.drop 64 = dktX0_element_3 := dk_seg dksX0_element_2 35 rfl rfl
theorem dksX0_element_4 : cX0_element.data.toList.drop 86 = dktX0_element_4 := dk_seg dksX0_element_3 22 rfl rfl
theorem dksX0_element_5 : cX0_element.data.toList.drop 110 = dktX0_element_5 := dk_seg dksX0_element_4 24 rfl rfl
theorem dksX0_element_6 : cX0_element.data.toList.drop 134 = dktX0_element_6 := dk_seg dksX0_element_5 24 rfl rfl
theorem dX0_element_0 : decode cX0_element 0 = .ok (.aload_n 0, 1) := dk_42 (dk_at dksX0_element_0 0 rfl rfl)
theorem dX0_element_1 : decode cX0_element 1 = .ok (.iload_n 1, 1) := dk_27 (dk_at dksX0_element_0 1 rfl rfl)
theorem dX0_element_2 : decode cX0_element 2 = .ok (.iload_n 2, 1) := dk_28 (dk_at dksX0_element_0 2 rfl rfl)
theorem dX0_element_3 : decode cX0_element 3 = .ok (.invokevirtual 304, 3) := dk_182 1 48 (dk_at dksX0_element_0 3 rfl rfl)
theorem dX0_element_6 : decode cX0_element 6 = .ok (.ifCond .ne 5, 3) := dk_154 0 5 (dk_at dksX0_element_0 6 rfl rfl)
theorem dX0_element_9 : decode cX0_element 9 = .ok (.iconst (-1), 1) := dk_2 (dk_at dksX0_element_0 9 rfl rfl)
theorem dX0_element_10 : decode cX0_element 10 = .ok (.ireturn, 1) := dk_172 (dk_at dksX0_element_0 10 rfl rfl)
theorem dX0_element_11 : decode cX0_element 11 = .ok (.aload_n 0, 1) := dk_42 (dk_at dksX0_element_0 11 rfl rfl)
theorem dX0_element_12 : decode cX0_element 12 = .ok (.getfield 148, 3) := dk_180 0 148 (dk_at dksX0_element_0 12 rfl rfl)
theorem dX0_element_15 : decode cX0_element 15 = .ok (.iload_n 1, 1) := dk_27 (dk_at dksX0_element_0 15 rfl rfl)
theorem dX0_element_16 : decode cX0_element 16 = .ok (.invokevirtual 250, 3) := dk_182 0 250 (dk_at dksX0_element_0 16 rfl rfl)
theorem dX0_element_19 : decode cX0_element 19 = .ok (.checkcast 242, 3) := dk_192 0 242 (dk_at dksX0_element_0 19 rfl rfl)
theorem dX0_element_22 : decode cX0_element 22 = .ok (.iload_n 2, 1) := dk_28 (dk_at dksX0_element_0 22 rfl rfl)
theorem dX0_element_23 : decode cX0_element 23 = .ok (.invokevirtual 307, 3) := dk_182 1 51 (dk_at dksX0_element_1 0 rfl rfl)
theorem dX0_element_26 : decode cX0_element 26 = .ok (.astore 4, 2) := dk_58 4 (dk_at dksX0_element_1 3 rfl rfl)
theorem dX0_element_28 : decode cX0_element 28 = .ok (.iload_n 3, 1) := dk_29 (dk_at dksX0_element_1 5 rfl rfl)
theorem dX0_element_29 : decode cX0_element 29 = .ok (.tableswitch 105 0 4 #[35, 41, 47, 68, 89], 35) := by decide +kernel
theorem dX0_element_64 : decode cX0_element 64 = .ok (.aload 4, 2) := dk_25 4 (dk_at dksX0_element_3 0 rfl rfl)
theorem dX0_element_66 : decode cX0_element 66 = .ok (.getfield 311, 3) := dk_180 1 55 (dk_at dksX0_element_3 2 rfl rfl)
theorem dX0_element_69 : decode cX0_element 69 = .ok (.ireturn, 1) := dk_172 (dk_at dksX0_element_3 5 rfl rfl)
theorem dX0_element_70 : decode cX0_element 70 = .ok (.aload 4, 2) := dk_25 4 (dk_at dksX0_element_3 6 rfl rfl)
theorem dX0_element_72 : decode cX0_element 72 = .ok (.invokevirtual 314, 3) := dk_182 1 58 (dk_at dksX0_element_3 8 rfl rfl)
theorem dX0_element_75 : decode cX0_element 75 = .ok (.ireturn, 1) := dk_172 (dk_at dksX0_element_3 11 rfl rfl)
theorem dX0_element_76 : decode cX0_element 76 = .ok (.aload 4, 2) := dk_25 4 (dk_at dksX0_element_3 12 rfl rfl)
theorem dX0_element_78 : decode cX0_element 78 = .ok (.instanceof 317, 3) := dk_193 1 61 (dk_at dksX0_element_3 14 rfl rfl)
theorem dX0_element_81 : decode cX0_element 81 = .ok (.ifCond .eq 14, 3) := dk_153 0 14 (dk_at dksX0_element_3 17 rfl rfl)
theorem dX0_element_84 : decode cX0_element 84 = .ok (.aload 4, 2) := dk_25 4 (dk_at dksX0_element_3 20 rfl rfl)
theorem dX0_element_86 : decode cX0_element 86 = .ok (.checkcast 317, 3) := dk_192 1 61 (dk_at dksX0_element_4 0 rfl rfl)
theorem dX0_element_89 : decode cX0_element 89 = .ok (.getfield 319, 3) := dk_180 1 63 (dk_at dksX0_element_4 3 rfl rfl)
theorem dX0_element_92 : decode cX0_element 92 = .ok (.goto 4, 3) := dk_167 0 4 (dk_at dksX0_element_4 6 rfl rfl)
theorem dX0_element_95 : decode cX0_element 95 = .ok (.iconst (-1), 1) := dk_2 (dk_at dksX0_element_4 9 rfl rfl)
theorem dX0_element_96 : decode cX0_element 96 = .ok (.ireturn, 1) := dk_172 (dk_at dksX0_element_4 10 rfl rfl)
theorem dX0_element_97 : decode cX0_element 97 = .ok (.aload 4, 2) := dk_25 4 (dk_at dksX0_element_4 11 rfl rfl)
theorem dX0_element_99 : decode cX0_element 99 = .ok (.instanceof 317, 3) := dk_193 1 61 (dk_at dksX0_element_4 13 rfl rfl)
theorem dX0_element_102 : decode cX0_element 102 = .ok (.ifCond .eq 14, 3) := dk_153 0 14 (dk_at dksX0_element_4 16 rfl rfl)
theorem dX0_element_105 : decode cX0_element 105 = .ok (.aload 4, 2) := dk_25 4 (dk_at dksX0_element_4 19 rfl rfl)
theorem dX0_element_107 : decode cX0_element 107 = .ok (.checkcast 317, 3) := dk_192 1 61 (dk_at dksX0_element_4 21 rfl rfl)
theorem dX0_element_110 : decode cX0_element 110 = .ok (.getfield 322, 3) := dk_180 1 66 (dk_at dksX0_element_5 0 rfl rfl)
theorem dX0_element_113 : decode cX0_element 113 = .ok (.goto 4, 3) := dk_167 0 4 (dk_at dksX0_element_5 3 rfl rfl)
theorem dX0_element_116 : decode cX0_element 116 = .ok (.iconst (-1), 1) := dk_2 (dk_at dksX0_element_5 6 rfl rfl)
theorem dX0_element_117 : decode cX0_element 117 = .ok (.ireturn, 1) := dk_172 (dk_at dksX0_element_5 7 rfl rfl)
theorem dX0_element_118 : decode cX0_element 118 = .ok (.aload_n 0, 1) := dk_42 (dk_at dksX0_element_5 8 rfl rfl)
theorem dX0_element_119 : decode cX0_element 119 = .ok (.getfield 148, 3) := dk_180 0 148 (dk_at dksX0_element_5 9 rfl rfl)
theorem dX0_element_122 : decode cX0_element 122 = .ok (.iload_n 1, 1) := dk_27 (dk_at dksX0_element_5 12 rfl rfl)
theorem dX0_element_123 : decode cX0_element 123 = .ok (.invokevirtual 250, 3) := dk_182 0 250 (dk_at dksX0_element_5 13 rfl rfl)
theorem dX0_element_126 : decode cX0_element 126 = .ok (.checkcast 242, 3) := dk_192 0 242 (dk_at dksX0_element_5 16 rfl rfl)
theorem dX0_element_129 : decode cX0_element 129 = .ok (.iload_n 2, 1) := dk_28 (dk_at dksX0_element_5 19 rfl rfl)
theorem dX0_element_130 : decode cX0_element 130 = .ok (.invokevirtual 325, 3) := dk_182 1 69 (dk_at dksX0_element_5 20 rfl rfl)
theorem dX0_element_133 : decode cX0_element 133 = .ok (.ireturn, 1) := dk_172 (dk_at dksX0_element_5 23 rfl rfl)
theorem dX0_element_134 : decode cX0_element 134 = .ok (.iconst (-1), 1) := dk_2 (dk_at dksX0_element_6 0 rfl rfl)
theorem dX0_element_135 : decode cX0_element 135 = .ok (.ireturn, 1) := dk_172 (dk_at dksX0_element_6 1 rfl rfl)
abbrev cX0_isElement : ByteArray := prog_1_method_32_code
def yX0_isElement : MethodName := ⟨RX0, "isElement", "(II)Z"⟩
def dkwX0_isElement_1 : List UInt8 := [4, 100, 184, 0, 3, 153, 0, 7, 4, 167, 0, 4, 3, 172]
abbrev dktX0_isElement_1 : List UInt8 := dkwX0_isElement_1 ++ []
def dkwX0_isElement_0 : List UInt8 := [42, 27, 182, 0, 247, 153, 0, 31, 28, 3, 42, 180, 0, 148, 27, 182, 0, 250, 192, 0, 242, 182, 1, 38]
abbrev dktX0_isElement_0 : List UInt8 := dkwX0_isElement_0 ++ dktX0_isElement_1
theorem dksX0_isElement_0 : cX0_isElement.data.toList.drop 0 = dktX0_isElement_0 := by decide +kernel
theorem dksX0_isElement_1 : cX0_isElement.data.toList.drop 24 = dktX0_isElement_1 := dk_seg dksX0_isElement_0 24 rfl rfl
theorem dX0_isElement_0 : decode cX0_isElement 0 = .ok (.aload_n 0, 1) := dk_42 (dk_at dksX0_isElement_0 0 rfl rfl)
theorem dX0_isElement_1 : decode cX0_isElement 1 = .ok (.iload_n 1, 1) := dk_27 (dk_at dksX0_isElement_0 1 rfl rfl)
theorem dX0_isElement_2 : decode cX0_isElement 2 = .ok (.invokevirtual 247, 3) := dk_182 0 247 (dk_at dksX0_isElement_0 2 rfl rfl)
theorem dX0_isElement_5 : decode cX0_isElement 5 = .ok (.ifCond .eq 31, 3) := dk_153 0 31 (dk_at dksX0_isElement_0 5 rfl rfl)
theorem dX0_isElement_8 : decode cX0_isElement 8 = .ok (.iload_n 2, 1) := dk_28 (dk_at dksX0_isElement_0 8 rfl rfl)
theorem dX0_isElement_9 : decode cX0_isElement 9 = .ok (.iconst 0, 1) := dk_3 (dk_at dksX0_isElement_0 9 rfl rfl)
theorem dX0_isElement_10 : decode cX0_isElement 10 = .ok (.aload_n 0, 1) := dk_42 (dk_at dksX0_isElement_0 10 rfl rfl)
theorem dX0_isElement_11 : decode cX0_isElement 11 = .ok (.getfield 148, 3) := dk_180 0 148 (dk_at dksX0_isElement_0 11 rfl rfl)
theorem dX0_isElement_14 : decode cX0_isElement 14 = .ok (.iload_n 1, 1) := dk_27 (dk_at dksX0_isElement_0 14 rfl rfl)
theorem dX0_isElement_15 : decode cX0_isElement 15 = .ok (.invokevirtual 250, 3) := dk_182 0 250 (dk_at dksX0_isElement_0 15 rfl rfl)
theorem dX0_isElement_18 : decode cX0_isElement 18 = .ok (.checkcast 242, 3) := dk_192 0 242 (dk_at dksX0_isElement_0 18 rfl rfl)
theorem dX0_isElement_21 : decode cX0_isElement 21 = .ok (.invokevirtual 294, 3) := dk_182 1 38 (dk_at dksX0_isElement_0 21 rfl rfl)
theorem dX0_isElement_24 : decode cX0_isElement 24 = .ok (.iconst 1, 1) := dk_4 (dk_at dksX0_isElement_1 0 rfl rfl)
theorem dX0_isElement_25 : decode cX0_isElement 25 = .ok (.isub, 1) := dk_100 (dk_at dksX0_isElement_1 1 rfl rfl)
theorem dX0_isElement_26 : decode cX0_isElement 26 = .ok (.invokestatic 3, 3) := dk_184 0 3 (dk_at dksX0_isElement_1 2 rfl rfl)
theorem dX0_isElement_29 : decode cX0_isElement 29 = .ok (.ifCond .eq 7, 3) := dk_153 0 7 (dk_at dksX0_isElement_1 5 rfl rfl)
theorem dX0_isElement_32 : decode cX0_isElement 32 = .ok (.iconst 1, 1) := dk_4 (dk_at dksX0_isElement_1 8 rfl rfl)
theorem dX0_isElement_33 : decode cX0_isElement 33 = .ok (.goto 4, 3) := dk_167 0 4 (dk_at dksX0_isElement_1 9 rfl rfl)
theorem dX0_isElement_36 : decode cX0_isElement 36 = .ok (.iconst 0, 1) := dk_3 (dk_at dksX0_isElement_1 12 rfl rfl)
theorem dX0_isElement_37 : decode cX0_isElement 37 = .ok (.ireturn, 1) := dk_172 (dk_at dksX0_isElement_1 13 rfl rfl)
abbrev cX0_down : ByteArray := prog_1_method_37_code
def yX0_down : MethodName := ⟨RX0, "down", "(III)I"⟩
def dkwX0_down_1 : List UInt8 := [180, 0, 148, 27, 182, 0, 250, 192, 0, 242, 28, 29, 182, 1, 84, 172]
abbrev dktX0_down_1 : List UInt8 := dkwX0_down_1 ++ []
def dkwX0_down_0 : List UInt8 := [42, 27, 28, 182, 1, 78, 153, 0, 12, 42, 27, 29, 182, 1, 81, 154, 0, 7, 2, 167, 0, 20, 42, 42]
abbrev dktX0_down_0 : List UInt8 := dkwX0_down_0 ++ dktX0_down_1
theorem dksX0_down_0 : cX0_down.data.toList.drop 0 = dktX0_down_0 := by decide +kernel
theorem dksX0_down_1 : cX0_down.data.toList.drop 24 = dktX0_down_1 := dk_seg dksX0_down_0 24 rfl rfl
theorem dX0_down_0 : decode cX0_down 0 = .ok (.aload_n 0, 1) := dk_42 (dk_at dksX0_down_0 0 rfl rfl)
theorem dX0_down_1 : decode cX0_down 1 = .ok (.iload_n 1, 1) := dk_27 (dk_at dksX0_down_0 1 rfl rfl)
theorem dX0_down_2 : decode cX0_down 2 = .ok (.iload_n 2, 1) := dk_28 (dk_at dksX0_down_0 2 rfl rfl)
theorem dX0_down_3 : decode cX0_down 3 = .ok (.invokevirtual 334, 3) := dk_182 1 78 (dk_at dksX0_down_0 3 rfl rfl)
theorem dX0_down_6 : decode cX0_down 6 = .ok (.ifCond .eq 12, 3) := dk_153 0 12 (dk_at dksX0_down_0 6 rfl rfl)
theorem dX0_down_9 : decode cX0_down 9 = .ok (.aload_n 0, 1) := dk_42 (dk_at dksX0_down_0 9 rfl rfl)
theorem dX0_down_10 : decode cX0_down 10 = .ok (.iload_n 1, 1) := dk_27 (dk_at dksX0_down_0 10 rfl rfl)
theorem dX0_down_11 : decode cX0_down 11 = .ok (.iload_n 3, 1) := dk_29 (dk_at dksX0_down_0 11 rfl rfl)
theorem dX0_down_12 : decode cX0_down 12 = .ok (.invokevirtual 337, 3) := dk_182 1 81 (dk_at dksX0_down_0 12 rfl rfl)
theorem dX0_down_15 : decode cX0_down 15 = .ok (.ifCond .ne 7, 3) := dk_154 0 7 (dk_at dksX0_down_0 15 rfl rfl)
theorem dX0_down_18 : decode cX0_down 18 = .ok (.iconst (-1), 1) := dk_2 (dk_at dksX0_down_0 18 rfl rfl)
theorem dX0_down_19 : decode cX0_down 19 = .ok (.goto 20, 3) := dk_167 0 20 (dk_at dksX0_down_0 19 rfl rfl)
theorem dX0_down_22 : decode cX0_down 22 = .ok (.aload_n 0, 1) := dk_42 (dk_at dksX0_down_0 22 rfl rfl)
theorem dX0_down_23 : decode cX0_down 23 = .ok (.aload_n 0, 1) := dk_42 (dk_at dksX0_down_0 23 rfl rfl)
theorem dX0_down_24 : decode cX0_down 24 = .ok (.getfield 148, 3) := dk_180 0 148 (dk_at dksX0_down_1 0 rfl rfl)
theorem dX0_down_27 : decode cX0_down 27 = .ok (.iload_n 1, 1) := dk_27 (dk_at dksX0_down_1 3 rfl rfl)
theorem dX0_down_28 : decode cX0_down 28 = .ok (.invokevirtual 250, 3) := dk_182 0 250 (dk_at dksX0_down_1 4 rfl rfl)
theorem dX0_down_31 : decode cX0_down 31 = .ok (.checkcast 242, 3) := dk_192 0 242 (dk_at dksX0_down_1 7 rfl rfl)
theorem dX0_down_34 : decode cX0_down 34 = .ok (.iload_n 2, 1) := dk_28 (dk_at dksX0_down_1 10 rfl rfl)
theorem dX0_down_35 : decode cX0_down 35 = .ok (.iload_n 3, 1) := dk_29 (dk_at dksX0_down_1 11 rfl rfl)
theorem dX0_down_36 : decode cX0_down 36 = .ok (.invokevirtual 340, 3) := dk_182 1 84 (dk_at dksX0_down_1 12 rfl rfl)
theorem dX0_down_39 : decode cX0_down 39 = .ok (.ireturn, 1) := dk_172 (dk_at dksX0_down_1 15 rfl rfl)
abbrev cX0_isOrderOf : ByteArray := prog_1_method_34_code
def yX0_isOrderOf : MethodName := ⟨RX0, "isOrderOf", "(II)Z"⟩
def dkwX0_isOrderOf_1 : List UInt8 := [182, 0, 43, 153, 0, 7, 4, 167, 0, 4, 3, 172]
abbrev dktX0_isOrderOf_1 : List UInt8 := dkwX0_isOrderOf_1 ++ []
def dkwX0_isOrderOf_0 : List UInt8 := [42, 27, 182, 0, 247, 153, 0, 29, 42, 42, 180, 0, 148, 27, 182, 0, 250, 192, 0, 242, 180, 0, 254, 28]
abbrev dktX0_isOrderOf_0 : List UInt8 := dkwX0_isOrderOf_0 ++ dktX0_isOrderOf_1
theorem dksX0_isOrderOf_0 : cX0_isOrderOf.data.toList.drop 0 = dktX0_isOrderOf_0 := by decide +kernel
theorem dksX0_isOrderOf_1 : cX0_isOrderOf.data.toList.drop 24 = dktX0_isOrderOf_1 := dk_seg dksX0_isOrderOf_0 24 rfl rfl
theorem dX0_isOrderOf_0 : decode cX0_isOrderOf 0 = .ok (.aload_n 0, 1) := dk_42 (dk_at dksX0_isOrderOf_0 0 rfl rfl)
theorem dX0_isOrderOf_1 : decode cX0_isOrderOf 1 = .ok (.iload_n 1, 1) := dk_27 (dk_at dksX0_isOrderOf_0 1 rfl rfl)
theorem dX0_isOrderOf_2 : decode cX0_isOrderOf 2 = .ok (.invokevirtual 247, 3) := dk_182 0 247 (dk_at dksX0_isOrderOf_0 2 rfl rfl)
theorem dX0_isOrderOf_5 : decode cX0_isOrderOf 5 = .ok (.ifCond .eq 29, 3) := dk_153 0 29 (dk_at dksX0_isOrderOf_0 5 rfl rfl)
theorem dX0_isOrderOf_8 : decode cX0_isOrderOf 8 = .ok (.aload_n 0, 1) := dk_42 (dk_at dksX0_isOrderOf_0 8 rfl rfl)
theorem dX0_isOrderOf_9 : decode cX0_isOrderOf 9 = .ok (.aload_n 0, 1) := dk_42 (dk_at dksX0_isOrderOf_0 9 rfl rfl)
theorem dX0_isOrderOf_10 : decode cX0_isOrderOf 10 = .ok (.getfield 148, 3) := dk_180 0 148 (dk_at dksX0_isOrderOf_0 10 rfl rfl)
theorem dX0_isOrderOf_13 : decode cX0_isOrderOf 13 = .ok (.iload_n 1, 1) := dk_27 (dk_at dksX0_isOrderOf_0 13 rfl rfl)
theorem dX0_isOrderOf_14 : decode cX0_isOrderOf 14 = .ok (.invokevirtual 250, 3) := dk_182 0 250 (dk_at dksX0_isOrderOf_0 14 rfl rfl)
theorem dX0_isOrderOf_17 : decode cX0_isOrderOf 17 = .ok (.checkcast 242, 3) := dk_192 0 242 (dk_at dksX0_isOrderOf_0 17 rfl rfl)
theorem dX0_isOrderOf_20 : decode cX0_isOrderOf 20 = .ok (.getfield 254, 3) := dk_180 0 254 (dk_at dksX0_isOrderOf_0 20 rfl rfl)
theorem dX0_isOrderOf_23 : decode cX0_isOrderOf 23 = .ok (.iload_n 2, 1) := dk_28 (dk_at dksX0_isOrderOf_0 23 rfl rfl)
theorem dX0_isOrderOf_24 : decode cX0_isOrderOf 24 = .ok (.invokevirtual 43, 3) := dk_182 0 43 (dk_at dksX0_isOrderOf_1 0 rfl rfl)
theorem dX0_isOrderOf_27 : decode cX0_isOrderOf 27 = .ok (.ifCond .eq 7, 3) := dk_153 0 7 (dk_at dksX0_isOrderOf_1 3 rfl rfl)
theorem dX0_isOrderOf_30 : decode cX0_isOrderOf 30 = .ok (.iconst 1, 1) := dk_4 (dk_at dksX0_isOrderOf_1 6 rfl rfl)
theorem dX0_isOrderOf_31 : decode cX0_isOrderOf 31 = .ok (.goto 4, 3) := dk_167 0 4 (dk_at dksX0_isOrderOf_1 7 rfl rfl)
theorem dX0_isOrderOf_34 : decode cX0_isOrderOf 34 = .ok (.iconst 0, 1) := dk_3 (dk_at dksX0_isOrderOf_1 10 rfl rfl)
theorem dX0_isOrderOf_35 : decode cX0_isOrderOf 35 = .ok (.ireturn, 1) := dk_172 (dk_at dksX0_isOrderOf_1 11 rfl rfl)
abbrev cX0_isThere : ByteArray := prog_1_method_36_code
def yX0_isThere : MethodName := ⟨RX0, "isThere", "(II)Z"⟩
def dkwX0_isThere_1 : List UInt8 := [184, 0, 3, 172]
abbrev dktX0_isThere_1 : List UInt8 := dkwX0_isThere_1 ++ []
def dkwX0_isThere_0 : List UInt8 := [28, 3, 4, 42, 180, 0, 148, 27, 182, 0, 250, 192, 0, 242, 180, 1, 1, 180, 1, 39, 120, 4, 100]
abbrev dktX0_isThere_0 : List UInt8 := dkwX0_isThere_0 ++ dktX0_isThere_1
theorem dksX0_isThere_0 : cX0_isThere.data.toList.drop 0 = dktX0_isThere_0 := by decide +kernel
theorem dksX0_isThere_1 : cX0_isThere.data.toList.drop 23 = dktX0_isThere_1 := dk_seg dksX0_isThere_0 23 rfl rfl
theorem dX0_isThere_0 : decode cX0_isThere 0 = .ok (.iload_n 2, 1) := dk_28 (dk_at dksX0_isThere_0 0 rfl rfl)
theorem dX0_isThere_1 : decode cX0_isThere 1 = .ok (.iconst 0, 1) := dk_3 (dk_at dksX0_isThere_0 1 rfl rfl)
theorem dX0_isThere_2 : decode cX0_isThere 2 = .ok (.iconst 1, 1) := dk_4 (dk_at dksX0_isThere_0 2 rfl rfl)
theorem dX0_isThere_3 : decode cX0_isThere 3 = .ok (.aload_n 0, 1) := dk_42 (dk_at dksX0_isThere_0 3 rfl rfl)
theorem dX0_isThere_4 : decode cX0_isThere 4 = .ok (.getfield 148, 3) := dk_180 0 148 (dk_at dksX0_isThere_0 4 rfl rfl)
theorem dX0_isThere_7 : decode cX0_isThere 7 = .ok (.iload_n 1, 1) := dk_27 (dk_at dksX0_isThere_0 7 rfl rfl)
theorem dX0_isThere_8 : decode cX0_isThere 8 = .ok (.invokevirtual 250, 3) := dk_182 0 250 (dk_at dksX0_isThere_0 8 rfl rfl)
theorem dX0_isThere_11 : decode cX0_isThere 11 = .ok (.checkcast 242, 3) := dk_192 0 242 (dk_at dksX0_isThere_0 11 rfl rfl)
theorem dX0_isThere_14 : decode cX0_isThere 14 = .ok (.getfield 257, 3) := dk_180 1 1 (dk_at dksX0_isThere_0 14 rfl rfl)
theorem dX0_isThere_17 : decode cX0_isThere 17 = .ok (.getfield 295, 3) := dk_180 1 39 (dk_at dksX0_isThere_0 17 rfl rfl)
theorem dX0_isThere_20 : decode cX0_isThere 20 = .ok (.ishl, 1) := dk_120 (dk_at dksX0_isThere_0 20 rfl rfl)
theorem dX0_isThere_21 : decode cX0_isThere 21 = .ok (.iconst 1, 1) := dk_4 (dk_at dksX0_isThere_0 21 rfl rfl)
theorem dX0_isThere_22 : decode cX0_isThere 22 = .ok (.isub, 1) := dk_100 (dk_at dksX0_isThere_0 22 rfl rfl)
theorem dX0_isThere_23 : decode cX0_isThere 23 = .ok (.invokestatic 3, 3) := dk_184 0 3 (dk_at dksX0_isThere_1 0 rfl rfl)
theorem dX0_isThere_26 : decode cX0_isThere 26 = .ok (.ireturn, 1) := dk_172 (dk_at dksX0_isThere_1 3 rfl rfl)
abbrev cX0_goes : ByteArray := prog_1_method_35_code
def yX0_goes : MethodName := ⟨RX0, "goes", "(LLadderLots$Ladder;II)I"⟩
def dkwX0_goes_3 : List UInt8 := [182, 1, 58, 6, 160, 0, 6, 132, 5, 1, 132, 6, 1, 167, 255, 181, 21, 4, 172]
abbrev dktX0_goes_3 : List UInt8 := dkwX0_goes_3 ++ []
def dkwX0_goes_2 : List UInt8 := [25, 7, 29, 21, 5, 122, 4, 126, 4, 160, 0, 7, 4, 167, 0, 4, 3, 182, 1, 75, 54, 4, 25, 7]
abbrev dktX0_goes_2 : List UInt8 := dkwX0_goes_2 ++ dktX0_goes_3
def dkwX0_goes_1 : List UInt8 := [43, 180, 1, 1, 180, 1, 72, 21, 6, 182, 0, 250, 192, 0, 199, 58, 7, 42, 180, 0, 7, 21, 4]
abbrev dktX0_goes_1 : List UInt8 := dkwX0_goes_1 ++ dktX0_goes_2
def dkwX0_goes_0 : List UInt8 := [28, 54, 4, 3, 54, 5, 3, 54, 6, 21, 6, 43, 180, 1, 1, 180, 1, 72, 182, 0, 215, 162, 0, 66]
abbrev dktX0_goes_0 : List UInt8 := dkwX0_goes_0 ++ dktX0_goes_1
theorem dksX0_goes_0 : cX0_goes.data.toList.drop 0 = dktX0_goes_0 := by decide +kernel
theorem dksX0_goes_1 : cX0_goes.data.toList.drop 24 = dktX0_goes_1 := dk_seg dksX0_goes_0 24 rfl rfl
theorem dksX0_goes_2 : cX0_goes.data.toList.drop 47 = dktX0_goes_2 := dk_seg dksX0_goes_1 23 rfl rfl
theorem dksX0_goes_3 : cX0_goes.data.toList.drop 71 = dktX0_goes_3 := dk_seg dksX0_goes_2 24 rfl rfl
theorem dX0_goes_0 : decode cX0_goes 0 = .ok (.iload_n 2, 1) := dk_28 (dk_at dksX0_goes_0 0 rfl rfl)
theorem dX0_goes_1 : decode cX0_goes 1 = .ok (.istore 4, 2) := dk_54 4 (dk_at dksX0_goes_0 1 rfl rfl)
theorem dX0_goes_3 : decode cX0_goes 3 = .ok (.iconst 0, 1) := dk_3 (dk_at dksX0_goes_0 3 rfl rfl)
theorem dX0_goes_4 : decode cX0_goes 4 = .ok (.istore 5, 2) := dk_54 5 (dk_at dksX0_goes_0 4 rfl rfl)
theorem dX0_goes_6 : decode cX0_goes 6 = .ok (.iconst 0, 1) := dk_3 (dk_at dksX0_goes_0 6 rfl rfl)
theorem dX0_goes_7 : decode cX0_goes 7 = .ok (.istore 6, 2) := dk_54 6 (dk_at dksX0_goes_0 7 rfl rfl)
theorem dX0_goes_9 : decode cX0_goes 9 = .ok (.iload 6, 2) := dk_21 6 (dk_at dksX0_goes_0 9 rfl rfl)
theorem dX0_goes_11 : decode cX0_goes 11 = .ok (.aload_n 1, 1) := dk_43 (dk_at dksX0_goes_0 11 rfl rfl)
theorem dX0_goes_12 : decode cX0_goes 12 = .ok (.getfield 257, 3) := dk_180 1 1 (dk_at dksX0_goes_0 12 rfl rfl)
theorem dX0_goes_15 : decode cX0_goes 15 = .ok (.getfield 328, 3) := dk_180 1 72 (dk_at dksX0_goes_0 15 rfl rfl)
theorem dX0_goes_18 : decode cX0_goes 18 = .ok (.invokevirtual 215, 3) := dk_182 0 215 (dk_at dksX0_goes_0 18 rfl rfl)
theorem dX0_goes_21 : decode cX0_goes 21 = .ok (.if_icmp .ge 66, 3) := dk_162 0 66 (dk_at dksX0_goes_0 21 rfl rfl)
theorem dX0_goes_24 : decode cX0_goes 24 = .ok (.aload_n 1, 1) := dk_43 (dk_at dksX0_goes_1 0 rfl rfl)
theorem dX0_goes_25 : decode cX0_goes 25 = .ok (.getfield 257, 3) := dk_180 1 1 (dk_at dksX0_goes_1 1 rfl rfl)
theorem dX0_goes_28 : decode cX0_goes 28 = .ok (.getfield 328, 3) := dk_180 1 72 (dk_at dksX0_goes_1 4 rfl rfl)
theorem dX0_goes_31 : decode cX0_goes 31 = .ok (.iload 6, 2) := dk_21 6 (dk_at dksX0_goes_1 7 rfl rfl)
theorem dX0_goes_33 : decode cX0_goes 33 = .ok (.invokevirtual 250, 3) := dk_182 0 250 (dk_at dksX0_goes_1 9 rfl rfl)
theorem dX0_goes_36 : decode cX0_goes 36 = .ok (.checkcast 199, 3) := dk_192 0 199 (dk_at dksX0_goes_1 12 rfl rfl)
theorem dX0_goes_39 : decode cX0_goes 39 = .ok (.astore 7, 2) := dk_58 7 (dk_at dksX0_goes_1 15 rfl rfl)
theorem dX0_goes_41 : decode cX0_goes 41 = .ok (.aload_n 0, 1) := dk_42 (dk_at dksX0_goes_1 17 rfl rfl)
theorem dX0_goes_42 : decode cX0_goes 42 = .ok (.getfield 7, 3) := dk_180 0 7 (dk_at dksX0_goes_1 18 rfl rfl)
theorem dX0_goes_45 : decode cX0_goes 45 = .ok (.iload 4, 2) := dk_21 4 (dk_at dksX0_goes_1 21 rfl rfl)
theorem dX0_goes_47 : decode cX0_goes 47 = .ok (.aload 7, 2) := dk_25 7 (dk_at dksX0_goes_2 0 rfl rfl)
theorem dX0_goes_49 : decode cX0_goes 49 = .ok (.iload_n 3, 1) := dk_29 (dk_at dksX0_goes_2 2 rfl rfl)
theorem dX0_goes_50 : decode cX0_goes 50 = .ok (.iload 5, 2) := dk_21 5 (dk_at dksX0_goes_2 3 rfl rfl)
theorem dX0_goes_52 : decode cX0_goes 52 = .ok (.ishr, 1) := dk_122 (dk_at dksX0_goes_2 5 rfl rfl)
theorem dX0_goes_53 : decode cX0_goes 53 = .ok (.iconst 1, 1) := dk_4 (dk_at dksX0_goes_2 6 rfl rfl)
theorem dX0_goes_54 : decode cX0_goes 54 = .ok (.iand, 1) := dk_126 (dk_at dksX0_goes_2 7 rfl rfl)
theorem dX0_goes_55 : decode cX0_goes 55 = .ok (.iconst 1, 1) := dk_4 (dk_at dksX0_goes_2 8 rfl rfl)
theorem dX0_goes_56 : decode cX0_goes 56 = .ok (.if_icmp .ne 7, 3) := dk_160 0 7 (dk_at dksX0_goes_2 9 rfl rfl)
theorem dX0_goes_59 : decode cX0_goes 59 = .ok (.iconst 1, 1) := dk_4 (dk_at dksX0_goes_2 12 rfl rfl)
theorem dX0_goes_60 : decode cX0_goes 60 = .ok (.goto 4, 3) := dk_167 0 4 (dk_at dksX0_goes_2 13 rfl rfl)
theorem dX0_goes_63 : decode cX0_goes 63 = .ok (.iconst 0, 1) := dk_3 (dk_at dksX0_goes_2 16 rfl rfl)
theorem dX0_goes_64 : decode cX0_goes 64 = .ok (.invokevirtual 331, 3) := dk_182 1 75 (dk_at dksX0_goes_2 17 rfl rfl)
theorem dX0_goes_67 : decode cX0_goes 67 = .ok (.istore 4, 2) := dk_54 4 (dk_at dksX0_goes_2 20 rfl rfl)
theorem dX0_goes_69 : decode cX0_goes 69 = .ok (.aload 7, 2) := dk_25 7 (dk_at dksX0_goes_2 22 rfl rfl)
theorem dX0_goes_71 : decode cX0_goes 71 = .ok (.invokevirtual 314, 3) := dk_182 1 58 (dk_at dksX0_goes_3 0 rfl rfl)
theorem dX0_goes_74 : decode cX0_goes 74 = .ok (.iconst 3, 1) := dk_6 (dk_at dksX0_goes_3 3 rfl rfl)
theorem dX0_goes_75 : decode cX0_goes 75 = .ok (.if_icmp .ne 6, 3) := dk_160 0 6 (dk_at dksX0_goes_3 4 rfl rfl)
theorem dX0_goes_78 : decode cX0_goes 78 = .ok (.iinc 5 1, 3) := dk_132 5 1 (dk_at dksX0_goes_3 7 rfl rfl)
theorem dX0_goes_81 : decode cX0_goes 81 = .ok (.iinc 6 1, 3) := dk_132 6 1 (dk_at dksX0_goes_3 10 rfl rfl)
theorem dX0_goes_84 : decode cX0_goes 84 = .ok (.goto (-75), 3) := dk_167 255 181 (dk_at dksX0_goes_3 13 rfl rfl)
theorem dX0_goes_87 : decode cX0_goes 87 = .ok (.iload 4, 2) := dk_21 4 (dk_at dksX0_goes_3 16 rfl rfl)
theorem dX0_goes_89 : decode cX0_goes 89 = .ok (.ireturn, 1) := dk_172 (dk_at dksX0_goes_3 18 rfl rfl)
abbrev cX0_ends : ByteArray := prog_1_method_38_code
def yX0_ends : MethodName := ⟨RX0, "ends", "(IIII)I"⟩
def dkwX0_ends_2 : List UInt8 := [182, 1, 91, 172]
abbrev dktX0_ends_2 : List UInt8 := dkwX0_ends_2 ++ []
def dkwX0_ends_1 : List UInt8 := [180, 0, 24, 4, 100, 184, 0, 3, 154, 0, 7, 2, 167, 0, 14, 42, 180, 0, 7, 21, 5, 21, 4]
abbrev dktX0_ends_1 : List UInt8 := dkwX0_ends_1 ++ dktX0_ends_2
def dkwX0_ends_0 : List UInt8 := [42, 27, 28, 29, 182, 1, 88, 54, 5, 21, 5, 2, 159, 0, 21, 21, 4, 3, 42, 180, 0, 7]
abbrev dktX0_ends_0 : List UInt8 := dkwX0_ends_0 ++ dktX0_ends_1
theorem dksX0_ends_0 : cX0_ends.data.toList.drop 0 = dktX0_ends_0 := by decide +kernel
theorem dksX0_ends_1 : cX0_ends.data.toList.drop 22 = dktX0_ends_1 := dk_seg dksX0_ends_0 22 rfl rfl
theorem dksX0_ends_2 : cX0_ends.data.toList.drop 45 = dktX0_ends_2 := dk_seg dksX0_ends_1 23 rfl rfl
theorem dX0_ends_0 : decode cX0_ends 0 = .ok (.aload_n 0, 1) := dk_42 (dk_at dksX0_ends_0 0 rfl rfl)
theorem dX0_ends_1 : decode cX0_ends 1 = .ok (.iload_n 1, 1) := dk_27 (dk_at dksX0_ends_0 1 rfl rfl)
theorem dX0_ends_2 : decode cX0_ends 2 = .ok (.iload_n 2, 1) := dk_28 (dk_at dksX0_ends_0 2 rfl rfl)
theorem dX0_ends_3 : decode cX0_ends 3 = .ok (.iload_n 3, 1) := dk_29 (dk_at dksX0_ends_0 3 rfl rfl)
theorem dX0_ends_4 : decode cX0_ends 4 = .ok (.invokevirtual 344, 3) := dk_182 1 88 (dk_at dksX0_ends_0 4 rfl rfl)
theorem dX0_ends_7 : decode cX0_ends 7 = .ok (.istore 5, 2) := dk_54 5 (dk_at dksX0_ends_0 7 rfl rfl)
theorem dX0_ends_9 : decode cX0_ends 9 = .ok (.iload 5, 2) := dk_21 5 (dk_at dksX0_ends_0 9 rfl rfl)
theorem dX0_ends_11 : decode cX0_ends 11 = .ok (.iconst (-1), 1) := dk_2 (dk_at dksX0_ends_0 11 rfl rfl)
theorem dX0_ends_12 : decode cX0_ends 12 = .ok (.if_icmp .eq 21, 3) := dk_159 0 21 (dk_at dksX0_ends_0 12 rfl rfl)
theorem dX0_ends_15 : decode cX0_ends 15 = .ok (.iload 4, 2) := dk_21 4 (dk_at dksX0_ends_0 15 rfl rfl)
theorem dX0_ends_17 : decode cX0_ends 17 = .ok (.iconst 0, 1) := dk_3 (dk_at dksX0_ends_0 17 rfl rfl)
theorem dX0_ends_18 : decode cX0_ends 18 = .ok (.aload_n 0, 1) := dk_42 (dk_at dksX0_ends_0 18 rfl rfl)
theorem dX0_ends_19 : decode cX0_ends 19 = .ok (.getfield 7, 3) := dk_180 0 7 (dk_at dksX0_ends_0 19 rfl rfl)
theorem dX0_ends_22 : decode cX0_ends 22 = .ok (.getfield 24, 3) := dk_180 0 24 (dk_at dksX0_ends_1 0 rfl rfl)
theorem dX0_ends_25 : decode cX0_ends 25 = .ok (.iconst 1, 1) := dk_4 (dk_at dksX0_ends_1 3 rfl rfl)
theorem dX0_ends_26 : decode cX0_ends 26 = .ok (.isub, 1) := dk_100 (dk_at dksX0_ends_1 4 rfl rfl)
theorem dX0_ends_27 : decode cX0_ends 27 = .ok (.invokestatic 3, 3) := dk_184 0 3 (dk_at dksX0_ends_1 5 rfl rfl)
theorem dX0_ends_30 : decode cX0_ends 30 = .ok (.ifCond .ne 7, 3) := dk_154 0 7 (dk_at dksX0_ends_1 8 rfl rfl)
theorem dX0_ends_33 : decode cX0_ends 33 = .ok (.iconst (-1), 1) := dk_2 (dk_at dksX0_ends_1 11 rfl rfl)
theorem dX0_ends_34 : decode cX0_ends 34 = .ok (.goto 14, 3) := dk_167 0 14 (dk_at dksX0_ends_1 12 rfl rfl)
theorem dX0_ends_37 : decode cX0_ends 37 = .ok (.aload_n 0, 1) := dk_42 (dk_at dksX0_ends_1 15 rfl rfl)
theorem dX0_ends_38 : decode cX0_ends 38 = .ok (.getfield 7, 3) := dk_180 0 7 (dk_at dksX0_ends_1 16 rfl rfl)
theorem dX0_ends_41 : decode cX0_ends 41 = .ok (.iload 5, 2) := dk_21 5 (dk_at dksX0_ends_1 19 rfl rfl)
theorem dX0_ends_43 : decode cX0_ends 43 = .ok (.iload 4, 2) := dk_21 4 (dk_at dksX0_ends_1 21 rfl rfl)
theorem dX0_ends_45 : decode cX0_ends 45 = .ok (.invokevirtual 347, 3) := dk_182 1 91 (dk_at dksX0_ends_2 0 rfl rfl)
theorem dX0_ends_48 : decode cX0_ends 48 = .ok (.ireturn, 1) := dk_172 (dk_at dksX0_ends_2 3 rfl rfl)
abbrev cX0_rank : ByteArray := prog_1_method_39_code
def yX0_rank : MethodName := ⟨RX0, "rank", "(I)J"⟩
def dkwX0_rank_4 : List UInt8 := [180, 1, 55, 145, 84, 132, 4, 1, 167, 255, 227, 42, 29, 182, 0, 79, 173]
abbrev dktX0_rank_4 : List UInt8 := dkwX0_rank_4 ++ []
def dkwX0_rank_3 : List UInt8 := [54, 4, 21, 4, 44, 182, 1, 38, 162, 0, 26, 42, 180, 0, 55, 21, 4, 44, 21, 4, 182, 1, 51]
abbrev dktX0_rank_3 : List UInt8 := dkwX0_rank_3 ++ dktX0_rank_4
def dkwX0_rank_2 : List UInt8 := [153, 0, 18, 42, 180, 0, 7, 29, 182, 0, 49, 44, 182, 1, 38, 159, 0, 7, 20, 1, 94, 173, 3]
abbrev dktX0_rank_2 : List UInt8 := dkwX0_rank_2 ++ dktX0_rank_3
def dkwX0_rank_1 : List UInt8 := [42, 180, 0, 7, 44, 180, 0, 254, 182, 0, 11, 42, 44, 3, 3, 182, 1, 84, 62, 44, 182, 1, 45]
abbrev dktX0_rank_1 : List UInt8 := dkwX0_rank_1 ++ dktX0_rank_2
def dkwX0_rank_0 : List UInt8 := [42, 27, 182, 0, 247, 154, 0, 7, 20, 0, 53, 173, 42, 180, 0, 148, 27, 182, 0, 250, 192, 0, 242, 77]
abbrev dktX0_rank_0 : List UInt8 := dkwX0_rank_0 ++ dktX0_rank_1
theorem dksX0_rank_0 : cX0_rank.data.toList.drop 0 = dktX0_rank_0 := by decide +kernel
theorem dksX0_rank_1 : cX0_rank.data.toList.drop 24 = dktX0_rank_1 := dk_seg dksX0_rank_0 24 rfl rfl
theorem dksX0_rank_2 : cX0_rank.data.toList.drop 47 = dktX0_rank_2 := dk_seg dksX0_rank_1 23 rfl rfl
theorem dksX0_rank_3 : cX0_rank.data.toList.drop 70 = dktX0_rank_3 := dk_seg dksX0_rank_2 23 rfl rfl
theorem dksX0_rank_4 : cX0_rank.data.toList.drop 93 = dktX0_rank_4 := dk_seg dksX0_rank_3 23 rfl rfl
theorem dX0_rank_0 : decode cX0_rank 0 = .ok (.aload_n 0, 1) := dk_42 (dk_at dksX0_rank_0 0 rfl rfl)
theorem dX0_rank_1 : decode cX0_rank 1 = .ok (.iload_n 1, 1) := dk_27 (dk_at dksX0_rank_0 1 rfl rfl)
theorem dX0_rank_2 : decode cX0_rank 2 = .ok (.invokevirtual 247, 3) := dk_182 0 247 (dk_at dksX0_rank_0 2 rfl rfl)
theorem dX0_rank_5 : decode cX0_rank 5 = .ok (.ifCond .ne 7, 3) := dk_154 0 7 (dk_at dksX0_rank_0 5 rfl rfl)
theorem dX0_rank_8 : decode cX0_rank 8 = .ok (.ldc2_w 53, 3) := dk_20 0 53 (dk_at dksX0_rank_0 8 rfl rfl)
theorem dX0_rank_11 : decode cX0_rank 11 = .ok (.lreturn, 1) := dk_173 (dk_at dksX0_rank_0 11 rfl rfl)
theorem dX0_rank_12 : decode cX0_rank 12 = .ok (.aload_n 0, 1) := dk_42 (dk_at dksX0_rank_0 12 rfl rfl)
theorem dX0_rank_13 : decode cX0_rank 13 = .ok (.getfield 148, 3) := dk_180 0 148 (dk_at dksX0_rank_0 13 rfl rfl)
theorem dX0_rank_16 : decode cX0_rank 16 = .ok (.iload_n 1, 1) := dk_27 (dk_at dksX0_rank_0 16 rfl rfl)
theorem dX0_rank_17 : decode cX0_rank 17 = .ok (.invokevirtual 250, 3) := dk_182 0 250 (dk_at dksX0_rank_0 17 rfl rfl)
theorem dX0_rank_20 : decode cX0_rank 20 = .ok (.checkcast 242, 3) := dk_192 0 242 (dk_at dksX0_rank_0 20 rfl rfl)
theorem dX0_rank_23 : decode cX0_rank 23 = .ok (.astore_n 2, 1) := dk_77 (dk_at dksX0_rank_0 23 rfl rfl)
theorem dX0_rank_24 : decode cX0_rank 24 = .ok (.aload_n 0, 1) := dk_42 (dk_at dksX0_rank_1 0 rfl rfl)
theorem dX0_rank_25 : decode cX0_rank 25 = .ok (.getfield 7, 3) := dk_180 0 7 (dk_at dksX0_rank_1 1 rfl rfl)
theorem dX0_rank_28 : decode cX0_rank 28 = .ok (.aload_n 2, 1) := dk_44 (dk_at dksX0_rank_1 4 rfl rfl)
theorem dX0_rank_29 : decode cX0_rank 29 = .ok (.getfield 254, 3) := dk_180 0 254 (dk_at dksX0_rank_1 5 rfl rfl)
theorem dX0_rank_32 : decode cX0_rank 32 = .ok (.invokevirtual 11, 3) := dk_182 0 11 (dk_at dksX0_rank_1 8 rfl rfl)
theorem dX0_rank_35 : decode cX0_rank 35 = .ok (.aload_n 0, 1) := dk_42 (dk_at dksX0_rank_1 11 rfl rfl)
theorem dX0_rank_36 : decode cX0_rank 36 = .ok (.aload_n 2, 1) := dk_44 (dk_at dksX0_rank_1 12 rfl rfl)
theorem dX0_rank_37 : decode cX0_rank 37 = .ok (.iconst 0, 1) := dk_3 (dk_at dksX0_rank_1 13 rfl rfl)
theorem dX0_rank_38 : decode cX0_rank 38 = .ok (.iconst 0, 1) := dk_3 (dk_at dksX0_rank_1 14 rfl rfl)
theorem dX0_rank_39 : decode cX0_rank 39 = .ok (.invokevirtual 340, 3) := dk_182 1 84 (dk_at dksX0_rank_1 15 rfl rfl)
theorem dX0_rank_42 : decode cX0_rank 42 = .ok (.istore_n 3, 1) := dk_62 (dk_at dksX0_rank_1 18 rfl rfl)
theorem dX0_rank_43 : decode cX0_rank 43 = .ok (.aload_n 2, 1) := dk_44 (dk_at dksX0_rank_1 19 rfl rfl)
theorem dX0_rank_44 : decode cX0_rank 44 = .ok (.invokevirtual 301, 3) := dk_182 1 45 (dk_at dksX0_rank_1 20 rfl rfl)
theorem dX0_rank_47 : decode cX0_rank 47 = .ok (.ifCond .eq 18, 3) := dk_153 0 18 (dk_at dksX0_rank_2 0 rfl rfl)
theorem dX0_rank_50 : decode cX0_rank 50 = .ok (.aload_n 0, 1) := dk_42 (dk_at dksX0_rank_2 3 rfl rfl)
theorem dX0_rank_51 : decode cX0_rank 51 = .ok (.getfield 7, 3) := dk_180 0 7 (dk_at dksX0_rank_2 4 rfl rfl)
theorem dX0_rank_54 : decode cX0_rank 54 = .ok (.iload_n 3, 1) := dk_29 (dk_at dksX0_rank_2 7 rfl rfl)
theorem dX0_rank_55 : decode cX0_rank 55 = .ok (.invokevirtual 49, 3) := dk_182 0 49 (dk_at dksX0_rank_2 8 rfl rfl)
theorem dX0_rank_58 : decode cX0_rank 58 = .ok (.aload_n 2, 1) := dk_44 (dk_at dksX0_rank_2 11 rfl rfl)
theorem dX0_rank_59 : decode cX0_rank 59 = .ok (.invokevirtual 294, 3) := dk_182 1 38 (dk_at dksX0_rank_2 12 rfl rfl)
theorem dX0_rank_62 : decode cX0_rank 62 = .ok (.if_icmp .eq 7, 3) := dk_159 0 7 (dk_at dksX0_rank_2 15 rfl rfl)
theorem dX0_rank_65 : decode cX0_rank 65 = .ok (.ldc2_w 350, 3) := dk_20 1 94 (dk_at dksX0_rank_2 18 rfl rfl)
theorem dX0_rank_68 : decode cX0_rank 68 = .ok (.lreturn, 1) := dk_173 (dk_at dksX0_rank_2 21 rfl rfl)
theorem dX0_rank_69 : decode cX0_rank 69 = .ok (.iconst 0, 1) := dk_3 (dk_at dksX0_rank_2 22 rfl rfl)
theorem dX0_rank_70 : decode cX0_rank 70 = .ok (.istore 4, 2) := dk_54 4 (dk_at dksX0_rank_3 0 rfl rfl)
theorem dX0_rank_72 : decode cX0_rank 72 = .ok (.iload 4, 2) := dk_21 4 (dk_at dksX0_rank_3 2 rfl rfl)
theorem dX0_rank_74 : decode cX0_rank 74 = .ok (.aload_n 2, 1) := dk_44 (dk_at dksX0_rank_3 4 rfl rfl)
theorem dX0_rank_75 : decode cX0_rank 75 = .ok (.invokevirtual 294, 3) := dk_182 1 38 (dk_at dksX0_rank_3 5 rfl rfl)
theorem dX0_rank_78 : decode cX0_rank 78 = .ok (.if_icmp .ge 26, 3) := dk_162 0 26 (dk_at dksX0_rank_3 8 rfl rfl)
theorem dX0_rank_81 : decode cX0_rank 81 = .ok (.aload_n 0, 1) := dk_42 (dk_at dksX0_rank_3 11 rfl rfl)
theorem dX0_rank_82 : decode cX0_rank 82 = .ok (.getfield 55, 3) := dk_180 0 55 (dk_at dksX0_rank_3 12 rfl rfl)
theorem dX0_rank_85 : decode cX0_rank 85 = .ok (.iload 4, 2) := dk_21 4 (dk_at dksX0_rank_3 15 rfl rfl)
theorem dX0_rank_87 : decode cX0_rank 87 = .ok (.aload_n 2, 1) := dk_44 (dk_at dksX0_rank_3 17 rfl rfl)
theorem dX0_rank_88 : decode cX0_rank 88 = .ok (.iload 4, 2) := dk_21 4 (dk_at dksX0_rank_3 18 rfl rfl)
theorem dX0_rank_90 : decode cX0_rank 90 = .ok (.invokevirtual 307, 3) := dk_182 1 51 (dk_at dksX0_rank_3 20 rfl rfl)
theorem dX0_rank_93 : decode cX0_rank 93 = .ok (.getfield 311, 3) := dk_180 1 55 (dk_at dksX0_rank_4 0 rfl rfl)
theorem dX0_rank_96 : decode cX0_rank 96 = .ok (.i2b, 1) := dk_145 (dk_at dksX0_rank_4 3 rfl rfl)
theorem dX0_rank_97 : decode cX0_rank 97 = .ok (.bastore, 1) := dk_84 (dk_at dksX0_rank_4 4 rfl rfl)
theorem dX0_rank_98 : decode cX0_rank 98 = .ok (.iinc 4 1, 3) := dk_132 4 1 (dk_at dksX0_rank_4 5 rfl rfl)
theorem dX0_rank_101 : decode cX0_rank 101 = .ok (.goto (-29), 3) := dk_167 255 227 (dk_at dksX0_rank_4 8 rfl rfl)
theorem dX0_rank_104 : decode cX0_rank 104 = .ok (.aload_n 0, 1) := dk_42 (dk_at dksX0_rank_4 11 rfl rfl)
theorem dX0_rank_105 : decode cX0_rank 105 = .ok (.iload_n 3, 1) := dk_29 (dk_at dksX0_rank_4 12 rfl rfl)
theorem dX0_rank_106 : decode cX0_rank 106 = .ok (.invokevirtual 79, 3) := dk_182 0 79 (dk_at dksX0_rank_4 13 rfl rfl)
theorem dX0_rank_109 : decode cX0_rank 109 = .ok (.lreturn, 1) := dk_173 (dk_at dksX0_rank_4 16 rfl rfl)
abbrev cX0_cleared : ByteArray := prog_1_method_42_code
def yX0_cleared : MethodName := ⟨RX0, "cleared", "(I)I"⟩
def dkwX0_cleared_2 : List UInt8 := [182, 1, 100, 172]
abbrev dktX0_cleared_2 : List UInt8 := dkwX0_cleared_2 ++ []
def dkwX0_cleared_1 : List UInt8 := [182, 1, 45, 154, 0, 8, 16, 254, 167, 0, 18, 42, 42, 180, 0, 148, 27, 182, 0, 250, 192, 0, 242]
abbrev dktX0_cleared_1 : List UInt8 := dkwX0_cleared_1 ++ dktX0_cleared_2
def dkwX0_cleared_0 : List UInt8 := [42, 27, 182, 0, 247, 154, 0, 7, 2, 167, 0, 40, 42, 180, 0, 148, 27, 182, 0, 250, 192, 0, 242]
abbrev dktX0_cleared_0 : List UInt8 := dkwX0_cleared_0 ++ dktX0_cleared_1
theorem dksX0_cleared_0 : cX0_cleared.data.toList.drop 0 = dktX0_cleared_0 := by decide +kernel
theorem dksX0_cleared_1 : cX0_cleared.data.toList.drop 23 = dktX0_cleared_1 := dk_seg dksX0_cleared_0 23 rfl rfl
theorem dksX0_cleared_2 : cX0_cleared.data.toList.drop 46 = dktX0_cleared_2 := dk_seg dksX0_cleared_1 23 rfl rfl
theorem dX0_cleared_0 : decode cX0_cleared 0 = .ok (.aload_n 0, 1) := dk_42 (dk_at dksX0_cleared_0 0 rfl rfl)
theorem dX0_cleared_1 : decode cX0_cleared 1 = .ok (.iload_n 1, 1) := dk_27 (dk_at dksX0_cleared_0 1 rfl rfl)
theorem dX0_cleared_2 : decode cX0_cleared 2 = .ok (.invokevirtual 247, 3) := dk_182 0 247 (dk_at dksX0_cleared_0 2 rfl rfl)
theorem dX0_cleared_5 : decode cX0_cleared 5 = .ok (.ifCond .ne 7, 3) := dk_154 0 7 (dk_at dksX0_cleared_0 5 rfl rfl)
theorem dX0_cleared_8 : decode cX0_cleared 8 = .ok (.iconst (-1), 1) := dk_2 (dk_at dksX0_cleared_0 8 rfl rfl)
theorem dX0_cleared_9 : decode cX0_cleared 9 = .ok (.goto 40, 3) := dk_167 0 40 (dk_at dksX0_cleared_0 9 rfl rfl)
theorem dX0_cleared_12 : decode cX0_cleared 12 = .ok (.aload_n 0, 1) := dk_42 (dk_at dksX0_cleared_0 12 rfl rfl)
theorem dX0_cleared_13 : decode cX0_cleared 13 = .ok (.getfield 148, 3) := dk_180 0 148 (dk_at dksX0_cleared_0 13 rfl rfl)
theorem dX0_cleared_16 : decode cX0_cleared 16 = .ok (.iload_n 1, 1) := dk_27 (dk_at dksX0_cleared_0 16 rfl rfl)
theorem dX0_cleared_17 : decode cX0_cleared 17 = .ok (.invokevirtual 250, 3) := dk_182 0 250 (dk_at dksX0_cleared_0 17 rfl rfl)
theorem dX0_cleared_20 : decode cX0_cleared 20 = .ok (.checkcast 242, 3) := dk_192 0 242 (dk_at dksX0_cleared_0 20 rfl rfl)
theorem dX0_cleared_23 : decode cX0_cleared 23 = .ok (.invokevirtual 301, 3) := dk_182 1 45 (dk_at dksX0_cleared_1 0 rfl rfl)
theorem dX0_cleared_26 : decode cX0_cleared 26 = .ok (.ifCond .ne 8, 3) := dk_154 0 8 (dk_at dksX0_cleared_1 3 rfl rfl)
theorem dX0_cleared_29 : decode cX0_cleared 29 = .ok (.bipush (-2), 2) := dk_16 254 (dk_at dksX0_cleared_1 6 rfl rfl)
theorem dX0_cleared_31 : decode cX0_cleared 31 = .ok (.goto 18, 3) := dk_167 0 18 (dk_at dksX0_cleared_1 8 rfl rfl)
theorem dX0_cleared_34 : decode cX0_cleared 34 = .ok (.aload_n 0, 1) := dk_42 (dk_at dksX0_cleared_1 11 rfl rfl)
theorem dX0_cleared_35 : decode cX0_cleared 35 = .ok (.aload_n 0, 1) := dk_42 (dk_at dksX0_cleared_1 12 rfl rfl)
theorem dX0_cleared_36 : decode cX0_cleared 36 = .ok (.getfield 148, 3) := dk_180 0 148 (dk_at dksX0_cleared_1 13 rfl rfl)
theorem dX0_cleared_39 : decode cX0_cleared 39 = .ok (.iload_n 1, 1) := dk_27 (dk_at dksX0_cleared_1 16 rfl rfl)
theorem dX0_cleared_40 : decode cX0_cleared 40 = .ok (.invokevirtual 250, 3) := dk_182 0 250 (dk_at dksX0_cleared_1 17 rfl rfl)
theorem dX0_cleared_43 : decode cX0_cleared 43 = .ok (.checkcast 242, 3) := dk_192 0 242 (dk_at dksX0_cleared_1 20 rfl rfl)
theorem dX0_cleared_46 : decode cX0_cleared 46 = .ok (.invokevirtual 356, 3) := dk_182 1 100 (dk_at dksX0_cleared_2 0 rfl rfl)
theorem dX0_cleared_49 : decode cX0_cleared 49 = .ok (.ireturn, 1) := dk_172 (dk_at dksX0_cleared_2 3 rfl rfl)
abbrev cX0_clears : ByteArray := prog_1_method_40_code
def yX0_clears : MethodName := ⟨RX0, "clears", "(LLadderLots$Ladder;)I"⟩
def dkwX0_clears_1 : List UInt8 := [182, 1, 38, 61, 42, 43, 182, 1, 96, 153, 0, 9, 132, 2, 254, 167, 255, 245, 28, 172]
abbrev dktX0_clears_1 : List UInt8 := dkwX0_clears_1 ++ []
def dkwX0_clears_0 : List UInt8 := [3, 61, 28, 43, 182, 1, 38, 162, 0, 16, 42, 180, 0, 152, 28, 3, 84, 132, 2, 1, 167, 255, 238, 43]
abbrev dktX0_clears_0 : List UInt8 := dkwX0_clears_0 ++ dktX0_clears_1
theorem dksX0_clears_0 : cX0_clears.data.toList.drop 0 = dktX0_clears_0 := by decide +kernel
theorem dksX0_clears_1 : cX0_clears.data.toList.drop 24 = dktX0_clears_1 := dk_seg dksX0_clears_0 24 rfl rfl
theorem dX0_clears_0 : decode cX0_clears 0 = .ok (.iconst 0, 1) := dk_3 (dk_at dksX0_clears_0 0 rfl rfl)
theorem dX0_clears_1 : decode cX0_clears 1 = .ok (.istore_n 2, 1) := dk_61 (dk_at dksX0_clears_0 1 rfl rfl)
theorem dX0_clears_2 : decode cX0_clears 2 = .ok (.iload_n 2, 1) := dk_28 (dk_at dksX0_clears_0 2 rfl rfl)
theorem dX0_clears_3 : decode cX0_clears 3 = .ok (.aload_n 1, 1) := dk_43 (dk_at dksX0_clears_0 3 rfl rfl)
theorem dX0_clears_4 : decode cX0_clears 4 = .ok (.invokevirtual 294, 3) := dk_182 1 38 (dk_at dksX0_clears_0 4 rfl rfl)
theorem dX0_clears_7 : decode cX0_clears 7 = .ok (.if_icmp .ge 16, 3) := dk_162 0 16 (dk_at dksX0_clears_0 7 rfl rfl)
theorem dX0_clears_10 : decode cX0_clears 10 = .ok (.aload_n 0, 1) := dk_42 (dk_at dksX0_clears_0 10 rfl rfl)
theorem dX0_clears_11 : decode cX0_clears 11 = .ok (.getfield 152, 3) := dk_180 0 152 (dk_at dksX0_clears_0 11 rfl rfl)
theorem dX0_clears_14 : decode cX0_clears 14 = .ok (.iload_n 2, 1) := dk_28 (dk_at dksX0_clears_0 14 rfl rfl)
theorem dX0_clears_15 : decode cX0_clears 15 = .ok (.iconst 0, 1) := dk_3 (dk_at dksX0_clears_0 15 rfl rfl)
theorem dX0_clears_16 : decode cX0_clears 16 = .ok (.bastore, 1) := dk_84 (dk_at dksX0_clears_0 16 rfl rfl)
theorem dX0_clears_17 : decode cX0_clears 17 = .ok (.iinc 2 1, 3) := dk_132 2 1 (dk_at dksX0_clears_0 17 rfl rfl)
theorem dX0_clears_20 : decode cX0_clears 20 = .ok (.goto (-18), 3) := dk_167 255 238 (dk_at dksX0_clears_0 20 rfl rfl)
theorem dX0_clears_23 : decode cX0_clears 23 = .ok (.aload_n 1, 1) := dk_43 (dk_at dksX0_clears_0 23 rfl rfl)
theorem dX0_clears_24 : decode cX0_clears 24 = .ok (.invokevirtual 294, 3) := dk_182 1 38 (dk_at dksX0_clears_1 0 rfl rfl)
theorem dX0_clears_27 : decode cX0_clears 27 = .ok (.istore_n 2, 1) := dk_61 (dk_at dksX0_clears_1 3 rfl rfl)
theorem dX0_clears_28 : decode cX0_clears 28 = .ok (.aload_n 0, 1) := dk_42 (dk_at dksX0_clears_1 4 rfl rfl)
theorem dX0_clears_29 : decode cX0_clears 29 = .ok (.aload_n 1, 1) := dk_43 (dk_at dksX0_clears_1 5 rfl rfl)
theorem dX0_clears_30 : decode cX0_clears 30 = .ok (.invokevirtual 352, 3) := dk_182 1 96 (dk_at dksX0_clears_1 6 rfl rfl)
theorem dX0_clears_33 : decode cX0_clears 33 = .ok (.ifCond .eq 9, 3) := dk_153 0 9 (dk_at dksX0_clears_1 9 rfl rfl)
theorem dX0_clears_36 : decode cX0_clears 36 = .ok (.iinc 2 (-2), 3) := dk_132 2 254 (dk_at dksX0_clears_1 12 rfl rfl)
theorem dX0_clears_39 : decode cX0_clears 39 = .ok (.goto (-11), 3) := dk_167 255 245 (dk_at dksX0_clears_1 15 rfl rfl)
theorem dX0_clears_42 : decode cX0_clears 42 = .ok (.iload_n 2, 1) := dk_28 (dk_at dksX0_clears_1 18 rfl rfl)
theorem dX0_clears_43 : decode cX0_clears 43 = .ok (.ireturn, 1) := dk_172 (dk_at dksX0_clears_1 19 rfl rfl)
abbrev cX0_undoes : ByteArray := prog_1_method_41_code
def yX0_undoes : MethodName := ⟨RX0, "undoes", "(LLadderLots$Ladder;)Z"⟩
def dkwX0_undoes_8 : List UInt8 := [167, 255, 117, 3, 172]
abbrev dktX0_undoes_8 : List UInt8 := dkwX0_undoes_8 ++ []
def dkwX0_undoes_7 : List UInt8 := [96, 79, 42, 180, 0, 155, 29, 21, 5, 84, 42, 180, 0, 155, 29, 4, 96, 21, 4, 84, 132, 2, 1]
abbrev dktX0_undoes_7 : List UInt8 := dkwX0_undoes_7 ++ dktX0_undoes_8
def dkwX0_undoes_6 : List UInt8 := [21, 4, 104, 21, 5, 96, 28, 4, 96, 79, 42, 180, 0, 158, 16, 7, 21, 5, 104, 21, 4, 96, 28, 4]
abbrev dktX0_undoes_6 : List UInt8 := dkwX0_undoes_6 ++ dktX0_undoes_7
def dkwX0_undoes_5 : List UInt8 := [180, 0, 152, 21, 6, 4, 100, 4, 84, 42, 180, 0, 152, 28, 4, 84, 4, 172, 42, 180, 0, 158, 16, 7]
abbrev dktX0_undoes_5 : List UInt8 := dkwX0_undoes_5 ++ dktX0_undoes_6
def dkwX0_undoes_4 : List UInt8 := [54, 5, 42, 180, 0, 158, 16, 7, 21, 4, 104, 21, 5, 96, 46, 54, 6, 21, 6, 158, 0, 22, 42]
abbrev dktX0_undoes_4 : List UInt8 := dkwX0_undoes_4 ++ dktX0_undoes_5
def dkwX0_undoes_3 : List UInt8 := [182, 1, 51, 180, 1, 55, 62, 42, 180, 0, 155, 29, 51, 54, 4, 42, 180, 0, 155, 29, 4, 96, 51]
abbrev dktX0_undoes_3 : List UInt8 := dkwX0_undoes_3 ++ dktX0_undoes_4
def dkwX0_undoes_2 : List UInt8 := [28, 43, 182, 1, 38, 162, 0, 137, 42, 180, 0, 152, 28, 51, 153, 0, 6, 167, 0, 119, 43, 28]
abbrev dktX0_undoes_2 : List UInt8 := dkwX0_undoes_2 ++ dktX0_undoes_3
def dkwX0_undoes_1 : List UInt8 := [28, 42, 180, 0, 158, 190, 162, 0, 16, 42, 180, 0, 158, 28, 3, 79, 132, 2, 1, 167, 255, 237, 3, 61]
abbrev dktX0_undoes_1 : List UInt8 := dkwX0_undoes_1 ++ dktX0_undoes_2
def dkwX0_undoes_0 : List UInt8 := [3, 61, 28, 16, 7, 162, 0, 17, 42, 180, 0, 155, 28, 28, 145, 84, 132, 2, 1, 167, 255, 239, 3, 61]
abbrev dktX0_undoes_0 : List UInt8 := dkwX0_undoes_0 ++ dktX0_undoes_1
theorem dksX0_undoes_0 : cX0_undoes.data.toList.drop 0 = dktX0_undoes_0 := by decide +kernel
theorem dksX0_undoes_1 : cX0_undoes.data.toList.drop 24 = dktX0_undoes_1 := dk_seg dksX0_undoes_0 24 rfl rfl
theorem dksX0_undoes_2 : cX0_undoes.data.toList.drop 48 = dktX0_undoes_2 := dk_seg dksX0_undoes_1 24 rfl rfl
theorem dksX0_undoes_3 : cX0_undoes.data.toList.drop 70 = dktX0_undoes_3 := dk_seg dksX0_undoes_2 22 rfl rfl
theorem dksX0_undoes_4 : cX0_undoes.data.toList.drop 93 = dktX0_undoes_4 := dk_seg dksX0_undoes_3 23 rfl rfl
theorem dksX0_undoes_5 : cX0_undoes.data.toList.drop 116 = dktX0_undoes_5 := dk_seg dksX0_undoes_4 23 rfl rfl
theorem dksX0_undoes_6 : cX0_undoes.data.toList.drop 140 = dktX0_undoes_6 := dk_seg dksX0_undoes_5 24 rfl rfl
theorem dksX0_undoes_7 : cX0_undoes.data.toList.drop 164 = dktX0_undoes_7 := dk_seg dksX0_undoes_6 24 rfl rfl
theorem dksX0_undoes_8 : cX0_undoes.data.toList.drop 187 = dktX0_undoes_8 := dk_seg dksX0_undoes_7 23 rfl rfl
theorem dX0_undoes_0 : decode cX0_undoes 0 = .ok (.iconst 0, 1) := dk_3 (dk_at dksX0_undoes_0 0 rfl rfl)
theorem dX0_undoes_1 : decode cX0_undoes 1 = .ok (.istore_n 2, 1) := dk_61 (dk_at dksX0_undoes_0 1 rfl rfl)
theorem dX0_undoes_2 : decode cX0_undoes 2 = .ok (.iload_n 2, 1) := dk_28 (dk_at dksX0_undoes_0 2 rfl rfl)
theorem dX0_undoes_3 : decode cX0_undoes 3 = .ok (.bipush 7, 2) := dk_16 7 (dk_at dksX0_undoes_0 3 rfl rfl)
theorem dX0_undoes_5 : decode cX0_undoes 5 = .ok (.if_icmp .ge 17, 3) := dk_162 0 17 (dk_at dksX0_undoes_0 5 rfl rfl)
theorem dX0_undoes_8 : decode cX0_undoes 8 = .ok (.aload_n 0, 1) := dk_42 (dk_at dksX0_undoes_0 8 rfl rfl)
theorem dX0_undoes_9 : decode cX0_undoes 9 = .ok (.getfield 155, 3) := dk_180 0 155 (dk_at dksX0_undoes_0 9 rfl rfl)
theorem dX0_undoes_12 : decode cX0_undoes 12 = .ok (.iload_n 2, 1) := dk_28 (dk_at dksX0_undoes_0 12 rfl rfl)
theorem dX0_undoes_13 : decode cX0_undoes 13 = .ok (.iload_n 2, 1) := dk_28 (dk_at dksX0_undoes_0 13 rfl rfl)
theorem dX0_undoes_14 : decode cX0_undoes 14 = .ok (.i2b, 1) := dk_145 (dk_at dksX0_undoes_0 14 rfl rfl)
theorem dX0_undoes_15 : decode cX0_undoes 15 = .ok (.bastore, 1) := dk_84 (dk_at dksX0_undoes_0 15 rfl rfl)
theorem dX0_undoes_16 : decode cX0_undoes 16 = .ok (.iinc 2 1, 3) := dk_132 2 1 (dk_at dksX0_undoes_0 16 rfl rfl)
theorem dX0_undoes_19 : decode cX0_undoes 19 = .ok (.goto (-17), 3) := dk_167 255 239 (dk_at dksX0_undoes_0 19 rfl rfl)
theorem dX0_undoes_22 : decode cX0_undoes 22 = .ok (.iconst 0, 1) := dk_3 (dk_at dksX0_undoes_0 22 rfl rfl)
theorem dX0_undoes_23 : decode cX0_undoes 23 = .ok (.istore_n 2, 1) := dk_61 (dk_at dksX0_undoes_0 23 rfl rfl)
theorem dX0_undoes_24 : decode cX0_undoes 24 = .ok (.iload_n 2, 1) := dk_28 (dk_at dksX0_undoes_1 0 rfl rfl)
theorem dX0_undoes_25 : decode cX0_undoes 25 = .ok (.aload_n 0, 1) := dk_42 (dk_at dksX0_undoes_1 1 rfl rfl)
theorem dX0_undoes_26 : decode cX0_undoes 26 = .ok (.getfield 158, 3) := dk_180 0 158 (dk_at dksX0_undoes_1 2 rfl rfl)
theorem dX0_undoes_29 : decode cX0_undoes 29 = .ok (.arraylength, 1) := dk_190 (dk_at dksX0_undoes_1 5 rfl rfl)
theorem dX0_undoes_30 : decode cX0_undoes 30 = .ok (.if_icmp .ge 16, 3) := dk_162 0 16 (dk_at dksX0_undoes_1 6 rfl rfl)
theorem dX0_undoes_33 : decode cX0_undoes 33 = .ok (.aload_n 0, 1) := dk_42 (dk_at dksX0_undoes_1 9 rfl rfl)
theorem dX0_undoes_34 : decode cX0_undoes 34 = .ok (.getfield 158, 3) := dk_180 0 158 (dk_at dksX0_undoes_1 10 rfl rfl)
theorem dX0_undoes_37 : decode cX0_undoes 37 = .ok (.iload_n 2, 1) := dk_28 (dk_at dksX0_undoes_1 13 rfl rfl)
theorem dX0_undoes_38 : decode cX0_undoes 38 = .ok (.iconst 0, 1) := dk_3 (dk_at dksX0_undoes_1 14 rfl rfl)
theorem dX0_undoes_39 : decode cX0_undoes 39 = .ok (.iastore, 1) := dk_79 (dk_at dksX0_undoes_1 15 rfl rfl)
theorem dX0_undoes_40 : decode cX0_undoes 40 = .ok (.iinc 2 1, 3) := dk_132 2 1 (dk_at dksX0_undoes_1 16 rfl rfl)
theorem dX0_undoes_43 : decode cX0_undoes 43 = .ok (.goto (-19), 3) := dk_167 255 237 (dk_at dksX0_undoes_1 19 rfl rfl)
theorem dX0_undoes_46 : decode cX0_undoes 46 = .ok (.iconst 0, 1) := dk_3 (dk_at dksX0_undoes_1 22 rfl rfl)
theorem dX0_undoes_47 : decode cX0_undoes 47 = .ok (.istore_n 2, 1) := dk_61 (dk_at dksX0_undoes_1 23 rfl rfl)
theorem dX0_undoes_48 : decode cX0_undoes 48 = .ok (.iload_n 2, 1) := dk_28 (dk_at dksX0_undoes_2 0 rfl rfl)
theorem dX0_undoes_49 : decode cX0_undoes 49 = .ok (.aload_n 1, 1) := dk_43 (dk_at dksX0_undoes_2 1 rfl rfl)
theorem dX0_undoes_50 : decode cX0_undoes 50 = .ok (.invokevirtual 294, 3) := dk_182 1 38 (dk_at dksX0_undoes_2 2 rfl rfl)
theorem dX0_undoes_53 : decode cX0_undoes 53 = .ok (.if_icmp .ge 137, 3) := dk_162 0 137 (dk_at dksX0_undoes_2 5 rfl rfl)
theorem dX0_undoes_56 : decode cX0_undoes 56 = .ok (.aload_n 0, 1) := dk_42 (dk_at dksX0_undoes_2 8 rfl rfl)
theorem dX0_undoes_57 : decode cX0_undoes 57 = .ok (.getfield 152, 3) := dk_180 0 152 (dk_at dksX0_undoes_2 9 rfl rfl)
theorem dX0_undoes_60 : decode cX0_undoes 60 = .ok (.iload_n 2, 1) := dk_28 (dk_at dksX0_undoes_2 12 rfl rfl)
theorem dX0_undoes_61 : decode cX0_undoes 61 = .ok (.baload, 1) := dk_51 (dk_at dksX0_undoes_2 13 rfl rfl)
theorem dX0_undoes_62 : decode cX0_undoes 62 = .ok (.ifCond .eq 6, 3) := dk_153 0 6 (dk_at dksX0_undoes_2 14 rfl rfl)
theorem dX0_undoes_65 : decode cX0_undoes 65 = .ok (.goto 119, 3) := dk_167 0 119 (dk_at dksX0_undoes_2 17 rfl rfl)
theorem dX0_undoes_68 : decode cX0_undoes 68 = .ok (.aload_n 1, 1) := dk_43 (dk_at dksX0_undoes_2 20 rfl rfl)
theorem dX0_undoes_69 : decode cX0_undoes 69 = .ok (.iload_n 2, 1) := dk_28 (dk_at dksX0_undoes_2 21 rfl rfl)
theorem dX0_undoes_70 : decode cX0_undoes 70 = .ok (.invokevirtual 307, 3) := dk_182 1 51 (dk_at dksX0_undoes_3 0 rfl rfl)
theorem dX0_undoes_73 : decode cX0_undoes 73 = .ok (.getfield 311, 3) := dk_180 1 55 (dk_at dksX0_undoes_3 3 rfl rfl)
theorem dX0_undoes_76 : decode cX0_undoes 76 = .ok (.istore_n 3, 1) := dk_62 (dk_at dksX0_undoes_3 6 rfl rfl)
theorem dX0_undoes_77 : decode cX0_undoes 77 = .ok (.aload_n 0, 1) := dk_42 (dk_at dksX0_undoes_3 7 rfl rfl)
theorem dX0_undoes_78 : decode cX0_undoes 78 = .ok (.getfield 155, 3) := dk_180 0 155 (dk_at dksX0_undoes_3 8 rfl rfl)
theorem dX0_undoes_81 : decode cX0_undoes 81 = .ok (.iload_n 3, 1) := dk_29 (dk_at dksX0_undoes_3 11 rfl rfl)
theorem dX0_undoes_82 : decode cX0_undoes 82 = .ok (.baload, 1) := dk_51 (dk_at dksX0_undoes_3 12 rfl rfl)
theorem dX0_undoes_83 : decode cX0_undoes 83 = .ok (.istore 4, 2) := dk_54 4 (dk_at dksX0_undoes_3 13 rfl rfl)
theorem dX0_undoes_85 : decode cX0_undoes 85 = .ok (.aload_n 0, 1) := dk_42 (dk_at dksX0_undoes_3 15 rfl rfl)
theorem dX0_undoes_86 : decode cX0_undoes 86 = .ok (.getfield 155, 3) := dk_180 0 155 (dk_at dksX0_undoes_3 16 rfl rfl)
theorem dX0_undoes_89 : decode cX0_undoes 89 = .ok (.iload_n 3, 1) := dk_29 (dk_at dksX0_undoes_3 19 rfl rfl)
theorem dX0_undoes_90 : decode cX0_undoes 90 = .ok (.iconst 1, 1) := dk_4 (dk_at dksX0_undoes_3 20 rfl rfl)
theorem dX0_undoes_91 : decode cX0_undoes 91 = .ok (.iadd, 1) := dk_96 (dk_at dksX0_undoes_3 21 rfl rfl)
theorem dX0_undoes_92 : decode cX0_undoes 92 = .ok (.baload, 1) := dk_51 (dk_at dksX0_undoes_3 22 rfl rfl)
theorem dX0_undoes_93 : decode cX0_undoes 93 = .ok (.istore 5, 2) := dk_54 5 (dk_at dksX0_undoes_4 0 rfl rfl)
theorem dX0_undoes_95 : decode cX0_undoes 95 = .ok (.aload_n 0, 1) := dk_42 (dk_at dksX0_undoes_4 2 rfl rfl)
theorem dX0_undoes_96 : decode cX0_undoes 96 = .ok (.getfield 158, 3) := dk_180 0 158 (dk_at dksX0_undoes_4 3 rfl rfl)
theorem dX0_undoes_99 : decode cX0_undoes 99 = .ok (.bipush 7, 2) := dk_16 7 (dk_at dksX0_undoes_4 6 rfl rfl)
theorem dX0_undoes_101 : decode cX0_undoes 101 = .ok (.iload 4, 2) := dk_21 4 (dk_at dksX0_undoes_4 8 rfl rfl)
theorem dX0_undoes_103 : decode cX0_undoes 103 = .ok (.imul, 1) := dk_104 (dk_at dksX0_undoes_4 10 rfl rfl)
theorem dX0_undoes_104 : decode cX0_undoes 104 = .ok (.iload 5, 2) := dk_21 5 (dk_at dksX0_undoes_4 11 rfl rfl)
theorem dX0_undoes_106 : decode cX0_undoes 106 = .ok (.iadd, 1) := dk_96 (dk_at dksX0_undoes_4 13 rfl rfl)
theorem dX0_undoes_107 : decode cX0_undoes 107 = .ok (.iaload, 1) := dk_46 (dk_at dksX0_undoes_4 14 rfl rfl)
theorem dX0_undoes_108 : decode cX0_undoes 108 = .ok (.istore 6, 2) := dk_54 6 (dk_at dksX0_undoes_4 15 rfl rfl)
theorem dX0_undoes_110 : decode cX0_undoes 110 = .ok (.iload 6, 2) := dk_21 6 (dk_at dksX0_undoes_4 17 rfl rfl)
theorem dX0_undoes_112 : decode cX0_undoes 112 = .ok (.ifCond .le 22, 3) := dk_158 0 22 (dk_at dksX0_undoes_4 19 rfl rfl)
theorem dX0_undoes_115 : decode cX0_undoes 115 = .ok (.aload_n 0, 1) := dk_42 (dk_at dksX0_undoes_4 22 rfl rfl)
theorem dX0_undoes_116 : decode cX0_undoes 116 = .ok (.getfield 152, 3) := dk_180 0 152 (dk_at dksX0_undoes_5 0 rfl rfl)
theorem dX0_undoes_119 : decode cX0_undoes 119 = .ok (.iload 6, 2) := dk_21 6 (dk_at dksX0_undoes_5 3 rfl rfl)
theorem dX0_undoes_121 : decode cX0_undoes 121 = .ok (.iconst 1, 1) := dk_4 (dk_at dksX0_undoes_5 5 rfl rfl)
theorem dX0_undoes_122 : decode cX0_undoes 122 = .ok (.isub, 1) := dk_100 (dk_at dksX0_undoes_5 6 rfl rfl)
theorem dX0_undoes_123 : decode cX0_undoes 123 = .ok (.iconst 1, 1) := dk_4 (dk_at dksX0_undoes_5 7 rfl rfl)
theorem dX0_undoes_124 : decode cX0_undoes 124 = .ok (.bastore, 1) := dk_84 (dk_at dksX0_undoes_5 8 rfl rfl)
theorem dX0_undoes_125 : decode cX0_undoes 125 = .ok (.aload_n 0, 1) := dk_42 (dk_at dksX0_undoes_5 9 rfl rfl)
theorem dX0_undoes_126 : decode cX0_undoes 126 = .ok (.getfield 152, 3) := dk_180 0 152 (dk_at dksX0_undoes_5 10 rfl rfl)
theorem dX0_undoes_129 : decode cX0_undoes 129 = .ok (.iload_n 2, 1) := dk_28 (dk_at dksX0_undoes_5 13 rfl rfl)
theorem dX0_undoes_130 : decode cX0_undoes 130 = .ok (.iconst 1, 1) := dk_4 (dk_at dksX0_undoes_5 14 rfl rfl)
theorem dX0_undoes_131 : decode cX0_undoes 131 = .ok (.bastore, 1) := dk_84 (dk_at dksX0_undoes_5 15 rfl rfl)
theorem dX0_undoes_132 : decode cX0_undoes 132 = .ok (.iconst 1, 1) := dk_4 (dk_at dksX0_undoes_5 16 rfl rfl)
theorem dX0_undoes_133 : decode cX0_undoes 133 = .ok (.ireturn, 1) := dk_172 (dk_at dksX0_undoes_5 17 rfl rfl)
theorem dX0_undoes_134 : decode cX0_undoes 134 = .ok (.aload_n 0, 1) := dk_42 (dk_at dksX0_undoes_5 18 rfl rfl)
theorem dX0_undoes_135 : decode cX0_undoes 135 = .ok (.getfield 158, 3) := dk_180 0 158 (dk_at dksX0_undoes_5 19 rfl rfl)
theorem dX0_undoes_138 : decode cX0_undoes 138 = .ok (.bipush 7, 2) := dk_16 7 (dk_at dksX0_undoes_5 22 rfl rfl)
theorem dX0_undoes_140 : decode cX0_undoes 140 = .ok (.iload 4, 2) := dk_21 4 (dk_at dksX0_undoes_6 0 rfl rfl)
theorem dX0_undoes_142 : decode cX0_undoes 142 = .ok (.imul, 1) := dk_104 (dk_at dksX0_undoes_6 2 rfl rfl)
theorem dX0_undoes_143 : decode cX0_undoes 143 = .ok (.iload 5, 2) := dk_21 5 (dk_at dksX0_undoes_6 3 rfl rfl)
theorem dX0_undoes_145 : decode cX0_undoes 145 = .ok (.iadd, 1) := dk_96 (dk_at dksX0_undoes_6 5 rfl rfl)
theorem dX0_undoes_146 : decode cX0_undoes 146 = .ok (.iload_n 2, 1) := dk_28 (dk_at dksX0_undoes_6 6 rfl rfl)
theorem dX0_undoes_147 : decode cX0_undoes 147 = .ok (.iconst 1, 1) := dk_4 (dk_at dksX0_undoes_6 7 rfl rfl)
theorem dX0_undoes_148 : decode cX0_undoes 148 = .ok (.iadd, 1) := dk_96 (dk_at dksX0_undoes_6 8 rfl rfl)
theorem dX0_undoes_149 : decode cX0_undoes 149 = .ok (.iastore, 1) := dk_79 (dk_at dksX0_undoes_6 9 rfl rfl)
theorem dX0_undoes_150 : decode cX0_undoes 150 = .ok (.aload_n 0, 1) := dk_42 (dk_at dksX0_undoes_6 10 rfl rfl)
theorem dX0_undoes_151 : decode cX0_undoes 151 = .ok (.getfield 158, 3) := dk_180 0 158 (dk_at dksX0_undoes_6 11 rfl rfl)
theorem dX0_undoes_154 : decode cX0_undoes 154 = .ok (.bipush 7, 2) := dk_16 7 (dk_at dksX0_undoes_6 14 rfl rfl)
theorem dX0_undoes_156 : decode cX0_undoes 156 = .ok (.iload 5, 2) := dk_21 5 (dk_at dksX0_undoes_6 16 rfl rfl)
theorem dX0_undoes_158 : decode cX0_undoes 158 = .ok (.imul, 1) := dk_104 (dk_at dksX0_undoes_6 18 rfl rfl)
theorem dX0_undoes_159 : decode cX0_undoes 159 = .ok (.iload 4, 2) := dk_21 4 (dk_at dksX0_undoes_6 19 rfl rfl)
theorem dX0_undoes_161 : decode cX0_undoes 161 = .ok (.iadd, 1) := dk_96 (dk_at dksX0_undoes_6 21 rfl rfl)
theorem dX0_undoes_162 : decode cX0_undoes 162 = .ok (.iload_n 2, 1) := dk_28 (dk_at dksX0_undoes_6 22 rfl rfl)
theorem dX0_undoes_163 : decode cX0_undoes 163 = .ok (.iconst 1, 1) := dk_4 (dk_at dksX0_undoes_6 23 rfl rfl)
theorem dX0_undoes_164 : decode cX0_undoes 164 = .ok (.iadd, 1) := dk_96 (dk_at dksX0_undoes_7 0 rfl rfl)
theorem dX0_undoes_165 : decode cX0_undoes 165 = .ok (.iastore, 1) := dk_79 (dk_at dksX0_undoes_7 1 rfl rfl)
theorem dX0_undoes_166 : decode cX0_undoes 166 = .ok (.aload_n 0, 1) := dk_42 (dk_at dksX0_undoes_7 2 rfl rfl)
theorem dX0_undoes_167 : decode cX0_undoes 167 = .ok (.getfield 155, 3) := dk_180 0 155 (dk_at dksX0_undoes_7 3 rfl rfl)
theorem dX0_undoes_170 : decode cX0_undoes 170 = .ok (.iload_n 3, 1) := dk_29 (dk_at dksX0_undoes_7 6 rfl rfl)
theorem dX0_undoes_171 : decode cX0_undoes 171 = .ok (.iload 5, 2) := dk_21 5 (dk_at dksX0_undoes_7 7 rfl rfl)
theorem dX0_undoes_173 : decode cX0_undoes 173 = .ok (.bastore, 1) := dk_84 (dk_at dksX0_undoes_7 9 rfl rfl)
theorem dX0_undoes_174 : decode cX0_undoes 174 = .ok (.aload_n 0, 1) := dk_42 (dk_at dksX0_undoes_7 10 rfl rfl)
theorem dX0_undoes_175 : decode cX0_undoes 175 = .ok (.getfield 155, 3) := dk_180 0 155 (dk_at dksX0_undoes_7 11 rfl rfl)
theorem dX0_undoes_178 : decode cX0_undoes 178 = .ok (.iload_n 3, 1) := dk_29 (dk_at dksX0_undoes_7 14 rfl rfl)
theorem dX0_undoes_179 : decode cX0_undoes 179 = .ok (.iconst 1, 1) := dk_4 (dk_at dksX0_undoes_7 15 rfl rfl)
theorem dX0_undoes_180 : decode cX0_undoes 180 = .ok (.iadd, 1) := dk_96 (dk_at dksX0_undoes_7 16 rfl rfl)
theorem dX0_undoes_181 : decode cX0_undoes 181 = .ok (.iload 4, 2) := dk_21 4 (dk_at dksX0_undoes_7 17 rfl rfl)
theorem dX0_undoes_183 : decode cX0_undoes 183 = .ok (.bastore, 1) := dk_84 (dk_at dksX0_undoes_7 19 rfl rfl)
theorem dX0_undoes_184 : decode cX0_undoes 184 = .ok (.iinc 2 1, 3) := dk_132 2 1 (dk_at dksX0_undoes_7 20 rfl rfl)
theorem dX0_undoes_187 : decode cX0_undoes 187 = .ok (.goto (-139), 3) := dk_167 255 117 (dk_at dksX0_undoes_8 0 rfl rfl)
theorem dX0_undoes_190 : decode cX0_undoes 190 = .ok (.iconst 0, 1) := dk_3 (dk_at dksX0_undoes_8 3 rfl rfl)
theorem dX0_undoes_191 : decode cX0_undoes 191 = .ok (.ireturn, 1) := dk_172 (dk_at dksX0_undoes_8 4 rfl rfl)
abbrev cX0_kept : ByteArray := prog_1_method_43_code
def yX0_kept : MethodName := ⟨RX0, "kept", "(II)I"⟩
def dkwX0_kept_2 : List UInt8 := [167, 0, 13, 29, 154, 0, 6, 21, 4, 172, 132, 3, 255, 132, 4, 1, 167, 255, 211, 2, 172]
abbrev dktX0_kept_2 : List UInt8 := dkwX0_kept_2 ++ []
def dkwX0_kept_1 : List UInt8 := [182, 0, 250, 192, 0, 242, 182, 1, 38, 162, 0, 32, 42, 180, 0, 152, 21, 4, 51, 153, 0, 6]
abbrev dktX0_kept_1 : List UInt8 := dkwX0_kept_1 ++ dktX0_kept_2
def dkwX0_kept_0 : List UInt8 := [42, 27, 182, 1, 104, 156, 0, 5, 2, 172, 28, 62, 3, 54, 4, 21, 4, 42, 180, 0, 148, 27]
abbrev dktX0_kept_0 : List UInt8 := dkwX0_kept_0 ++ dktX0_kept_1
theorem dksX0_kept_0 : cX0_kept.data.toList.drop 0 = dktX0_kept_0 := by decide +kernel
theorem dksX0_kept_1 : cX0_kept.data.toList.drop 22 = dktX0_kept_1 := dk_seg dksX0_kept_0 22 rfl rfl
theorem dksX0_kept_2 : cX0_kept.data.toList.drop 44 = dktX0_kept_2 := dk_seg dksX0_kept_1 22 rfl rfl
theorem dX0_kept_0 : decode cX0_kept 0 = .ok (.aload_n 0, 1) := dk_42 (dk_at dksX0_kept_0 0 rfl rfl)
theorem dX0_kept_1 : decode cX0_kept 1 = .ok (.iload_n 1, 1) := dk_27 (dk_at dksX0_kept_0 1 rfl rfl)
theorem dX0_kept_2 : decode cX0_kept 2 = .ok (.invokevirtual 360, 3) := dk_182 1 104 (dk_at dksX0_kept_0 2 rfl rfl)
theorem dX0_kept_5 : decode cX0_kept 5 = .ok (.ifCond .ge 5, 3) := dk_156 0 5 (dk_at dksX0_kept_0 5 rfl rfl)
theorem dX0_kept_8 : decode cX0_kept 8 = .ok (.iconst (-1), 1) := dk_2 (dk_at dksX0_kept_0 8 rfl rfl)
theorem dX0_kept_9 : decode cX0_kept 9 = .ok (.ireturn, 1) := dk_172 (dk_at dksX0_kept_0 9 rfl rfl)
theorem dX0_kept_10 : decode cX0_kept 10 = .ok (.iload_n 2, 1) := dk_28 (dk_at dksX0_kept_0 10 rfl rfl)
theorem dX0_kept_11 : decode cX0_kept 11 = .ok (.istore_n 3, 1) := dk_62 (dk_at dksX0_kept_0 11 rfl rfl)
theorem dX0_kept_12 : decode cX0_kept 12 = .ok (.iconst 0, 1) := dk_3 (dk_at dksX0_kept_0 12 rfl rfl)
theorem dX0_kept_13 : decode cX0_kept 13 = .ok (.istore 4, 2) := dk_54 4 (dk_at dksX0_kept_0 13 rfl rfl)
theorem dX0_kept_15 : decode cX0_kept 15 = .ok (.iload 4, 2) := dk_21 4 (dk_at dksX0_kept_0 15 rfl rfl)
theorem dX0_kept_17 : decode cX0_kept 17 = .ok (.aload_n 0, 1) := dk_42 (dk_at dksX0_kept_0 17 rfl rfl)
theorem dX0_kept_18 : decode cX0_kept 18 = .ok (.getfield 148, 3) := dk_180 0 148 (dk_at dksX0_kept_0 18 rfl rfl)
theorem dX0_kept_21 : decode cX0_kept 21 = .ok (.iload_n 1, 1) := dk_27 (dk_at dksX0_kept_0 21 rfl rfl)
theorem dX0_kept_22 : decode cX0_kept 22 = .ok (.invokevirtual 250, 3) := dk_182 0 250 (dk_at dksX0_kept_1 0 rfl rfl)
theorem dX0_kept_25 : decode cX0_kept 25 = .ok (.checkcast 242, 3) := dk_192 0 242 (dk_at dksX0_kept_1 3 rfl rfl)
theorem dX0_kept_28 : decode cX0_kept 28 = .ok (.invokevirtual 294, 3) := dk_182 1 38 (dk_at dksX0_kept_1 6 rfl rfl)
theorem dX0_kept_31 : decode cX0_kept 31 = .ok (.if_icmp .ge 32, 3) := dk_162 0 32 (dk_at dksX0_kept_1 9 rfl rfl)
theorem dX0_kept_34 : decode cX0_kept 34 = .ok (.aload_n 0, 1) := dk_42 (dk_at dksX0_kept_1 12 rfl rfl)
theorem dX0_kept_35 : decode cX0_kept 35 = .ok (.getfield 152, 3) := dk_180 0 152 (dk_at dksX0_kept_1 13 rfl rfl)
theorem dX0_kept_38 : decode cX0_kept 38 = .ok (.iload 4, 2) := dk_21 4 (dk_at dksX0_kept_1 16 rfl rfl)
theorem dX0_kept_40 : decode cX0_kept 40 = .ok (.baload, 1) := dk_51 (dk_at dksX0_kept_1 18 rfl rfl)
theorem dX0_kept_41 : decode cX0_kept 41 = .ok (.ifCond .eq 6, 3) := dk_153 0 6 (dk_at dksX0_kept_1 19 rfl rfl)
theorem dX0_kept_44 : decode cX0_kept 44 = .ok (.goto 13, 3) := dk_167 0 13 (dk_at dksX0_kept_2 0 rfl rfl)
theorem dX0_kept_47 : decode cX0_kept 47 = .ok (.iload_n 3, 1) := dk_29 (dk_at dksX0_kept_2 3 rfl rfl)
theorem dX0_kept_48 : decode cX0_kept 48 = .ok (.ifCond .ne 6, 3) := dk_154 0 6 (dk_at dksX0_kept_2 4 rfl rfl)
theorem dX0_kept_51 : decode cX0_kept 51 = .ok (.iload 4, 2) := dk_21 4 (dk_at dksX0_kept_2 7 rfl rfl)
theorem dX0_kept_53 : decode cX0_kept 53 = .ok (.ireturn, 1) := dk_172 (dk_at dksX0_kept_2 9 rfl rfl)
theorem dX0_kept_54 : decode cX0_kept 54 = .ok (.iinc 3 (-1), 3) := dk_132 3 255 (dk_at dksX0_kept_2 10 rfl rfl)
theorem dX0_kept_57 : decode cX0_kept 57 = .ok (.iinc 4 1, 3) := dk_132 4 1 (dk_at dksX0_kept_2 13 rfl rfl)
theorem dX0_kept_60 : decode cX0_kept 60 = .ok (.goto (-45), 3) := dk_167 255 211 (dk_at dksX0_kept_2 16 rfl rfl)
theorem dX0_kept_63 : decode cX0_kept 63 = .ok (.iconst (-1), 1) := dk_2 (dk_at dksX0_kept_2 19 rfl rfl)
theorem dX0_kept_64 : decode cX0_kept 64 = .ok (.ireturn, 1) := dk_172 (dk_at dksX0_kept_2 20 rfl rfl)
abbrev cX0_ways : ByteArray := prog_1_method_45_code
def yX0_ways : MethodName := ⟨RX0, "ways", "(I)J"⟩
def dkwX0_ways_4 : List UInt8 := [32, 173]
abbrev dktX0_ways_4 : List UInt8 := dkwX0_ways_4 ++ []
def dkwX0_ways_3 : List UInt8 := [193, 1, 61, 153, 0, 15, 32, 25, 5, 192, 1, 61, 180, 1, 66, 133, 105, 65, 132, 4, 1, 167, 255, 181]
abbrev dktX0_ways_3 : List UInt8 := dkwX0_ways_3 ++ dktX0_ways_4
def dkwX0_ways_2 : List UInt8 := [182, 0, 250, 192, 0, 242, 180, 1, 1, 180, 1, 72, 21, 4, 182, 0, 250, 192, 0, 199, 58, 5, 25, 5]
abbrev dktX0_ways_2 : List UInt8 := dkwX0_ways_2 ++ dktX0_ways_3
def dkwX0_ways_1 : List UInt8 := [182, 0, 250, 192, 0, 242, 180, 1, 1, 180, 1, 72, 182, 0, 215, 162, 0, 56, 42, 180, 0, 148, 27]
abbrev dktX0_ways_1 : List UInt8 := dkwX0_ways_1 ++ dktX0_ways_2
def dkwX0_ways_0 : List UInt8 := [42, 27, 182, 0, 247, 154, 0, 7, 20, 0, 53, 173, 10, 65, 3, 54, 4, 21, 4, 42, 180, 0, 148, 27]
abbrev dktX0_ways_0 : List UInt8 := dkwX0_ways_0 ++ dktX0_ways_1
theorem dksX0_ways_0 : cX0_ways.data.toList.drop 0 = dktX0_ways_0 := by decide +kernel
theorem dksX0_ways_1 : cX0_ways.data.toList.drop 24 = dktX0_ways_1 := dk_seg dksX0_ways_0 24 rfl rfl
theorem dksX0_ways_2 : cX0_ways.data.toList.drop 47 = dktX0_ways_2 := dk_seg dksX0_ways_1 23 rfl rfl
theorem dksX0_ways_3 : cX0_ways.data.toList.drop 71 = dktX0_ways_3 := dk_seg dksX0_ways_2 24 rfl rfl
theorem dksX0_ways_4 : cX0_ways.data.toList.drop 95 = dktX0_ways_4 := dk_seg dksX0_ways_3 24 rfl rfl
theorem dX0_ways_0 : decode cX0_ways 0 = .ok (.aload_n 0, 1) := dk_42 (dk_at dksX0_ways_0 0 rfl rfl)
theorem dX0_ways_1 : decode cX0_ways 1 = .ok (.iload_n 1, 1) := dk_27 (dk_at dksX0_ways_0 1 rfl rfl)
theorem dX0_ways_2 : decode cX0_ways 2 = .ok (.invokevirtual 247, 3) := dk_182 0 247 (dk_at dksX0_ways_0 2 rfl rfl)
theorem dX0_ways_5 : decode cX0_ways 5 = .ok (.ifCond .ne 7, 3) := dk_154 0 7 (dk_at dksX0_ways_0 5 rfl rfl)
theorem dX0_ways_8 : decode cX0_ways 8 = .ok (.ldc2_w 53, 3) := dk_20 0 53 (dk_at dksX0_ways_0 8 rfl rfl)
theorem dX0_ways_11 : decode cX0_ways 11 = .ok (.lreturn, 1) := dk_173 (dk_at dksX0_ways_0 11 rfl rfl)
theorem dX0_ways_12 : decode cX0_ways 12 = .ok (.lconst 1, 1) := dk_10 (dk_at dksX0_ways_0 12 rfl rfl)
theorem dX0_ways_13 : decode cX0_ways 13 = .ok (.lstore_n 2, 1) := dk_65 (dk_at dksX0_ways_0 13 rfl rfl)
theorem dX0_ways_14 : decode cX0_ways 14 = .ok (.iconst 0, 1) := dk_3 (dk_at dksX0_ways_0 14 rfl rfl)
theorem dX0_ways_15 : decode cX0_ways 15 = .ok (.istore 4, 2) := dk_54 4 (dk_at dksX0_ways_0 15 rfl rfl)
theorem dX0_ways_17 : decode cX0_ways 17 = .ok (.iload 4, 2) := dk_21 4 (dk_at dksX0_ways_0 17 rfl rfl)
theorem dX0_ways_19 : decode cX0_ways 19 = .ok (.aload_n 0, 1) := dk_42 (dk_at dksX0_ways_0 19 rfl rfl)
theorem dX0_ways_20 : decode cX0_ways 20 = .ok (.getfield 148, 3) := dk_180 0 148 (dk_at dksX0_ways_0 20 rfl rfl)
theorem dX0_ways_23 : decode cX0_ways 23 = .ok (.iload_n 1, 1) := dk_27 (dk_at dksX0_ways_0 23 rfl rfl)
theorem dX0_ways_24 : decode cX0_ways 24 = .ok (.invokevirtual 250, 3) := dk_182 0 250 (dk_at dksX0_ways_1 0 rfl rfl)
theorem dX0_ways_27 : decode cX0_ways 27 = .ok (.checkcast 242, 3) := dk_192 0 242 (dk_at dksX0_ways_1 3 rfl rfl)
theorem dX0_ways_30 : decode cX0_ways 30 = .ok (.getfield 257, 3) := dk_180 1 1 (dk_at dksX0_ways_1 6 rfl rfl)
theorem dX0_ways_33 : decode cX0_ways 33 = .ok (.getfield 328, 3) := dk_180 1 72 (dk_at dksX0_ways_1 9 rfl rfl)
theorem dX0_ways_36 : decode cX0_ways 36 = .ok (.invokevirtual 215, 3) := dk_182 0 215 (dk_at dksX0_ways_1 12 rfl rfl)
theorem dX0_ways_39 : decode cX0_ways 39 = .ok (.if_icmp .ge 56, 3) := dk_162 0 56 (dk_at dksX0_ways_1 15 rfl rfl)
theorem dX0_ways_42 : decode cX0_ways 42 = .ok (.aload_n 0, 1) := dk_42 (dk_at dksX0_ways_1 18 rfl rfl)
theorem dX0_ways_43 : decode cX0_ways 43 = .ok (.getfield 148, 3) := dk_180 0 148 (dk_at dksX0_ways_1 19 rfl rfl)
theorem dX0_ways_46 : decode cX0_ways 46 = .ok (.iload_n 1, 1) := dk_27 (dk_at dksX0_ways_1 22 rfl rfl)
theorem dX0_ways_47 : decode cX0_ways 47 = .ok (.invokevirtual 250, 3) := dk_182 0 250 (dk_at dksX0_ways_2 0 rfl rfl)
theorem dX0_ways_50 : decode cX0_ways 50 = .ok (.checkcast 242, 3) := dk_192 0 242 (dk_at dksX0_ways_2 3 rfl rfl)
theorem dX0_ways_53 : decode cX0_ways 53 = .ok (.getfield 257, 3) := dk_180 1 1 (dk_at dksX0_ways_2 6 rfl rfl)
theorem dX0_ways_56 : decode cX0_ways 56 = .ok (.getfield 328, 3) := dk_180 1 72 (dk_at dksX0_ways_2 9 rfl rfl)
theorem dX0_ways_59 : decode cX0_ways 59 = .ok (.iload 4, 2) := dk_21 4 (dk_at dksX0_ways_2 12 rfl rfl)
theorem dX0_ways_61 : decode cX0_ways 61 = .ok (.invokevirtual 250, 3) := dk_182 0 250 (dk_at dksX0_ways_2 14 rfl rfl)
theorem dX0_ways_64 : decode cX0_ways 64 = .ok (.checkcast 199, 3) := dk_192 0 199 (dk_at dksX0_ways_2 17 rfl rfl)
theorem dX0_ways_67 : decode cX0_ways 67 = .ok (.astore 5, 2) := dk_58 5 (dk_at dksX0_ways_2 20 rfl rfl)
theorem dX0_ways_69 : decode cX0_ways 69 = .ok (.aload 5, 2) := dk_25 5 (dk_at dksX0_ways_2 22 rfl rfl)
theorem dX0_ways_71 : decode cX0_ways 71 = .ok (.instanceof 317, 3) := dk_193 1 61 (dk_at dksX0_ways_3 0 rfl rfl)
theorem dX0_ways_74 : decode cX0_ways 74 = .ok (.ifCond .eq 15, 3) := dk_153 0 15 (dk_at dksX0_ways_3 3 rfl rfl)
theorem dX0_ways_77 : decode cX0_ways 77 = .ok (.lload_n 2, 1) := dk_32 (dk_at dksX0_ways_3 6 rfl rfl)
theorem dX0_ways_78 : decode cX0_ways 78 = .ok (.aload 5, 2) := dk_25 5 (dk_at dksX0_ways_3 7 rfl rfl)
theorem dX0_ways_80 : decode cX0_ways 80 = .ok (.checkcast 317, 3) := dk_192 1 61 (dk_at dksX0_ways_3 9 rfl rfl)
theorem dX0_ways_83 : decode cX0_ways 83 = .ok (.getfield 322, 3) := dk_180 1 66 (dk_at dksX0_ways_3 12 rfl rfl)
theorem dX0_ways_86 : decode cX0_ways 86 = .ok (.i2l, 1) := dk_133 (dk_at dksX0_ways_3 15 rfl rfl)
theorem dX0_ways_87 : decode cX0_ways 87 = .ok (.lmul, 1) := dk_105 (dk_at dksX0_ways_3 16 rfl rfl)
theorem dX0_ways_88 : decode cX0_ways 88 = .ok (.lstore_n 2, 1) := dk_65 (dk_at dksX0_ways_3 17 rfl rfl)
theorem dX0_ways_89 : decode cX0_ways 89 = .ok (.iinc 4 1, 3) := dk_132 4 1 (dk_at dksX0_ways_3 18 rfl rfl)
theorem dX0_ways_92 : decode cX0_ways 92 = .ok (.goto (-75), 3) := dk_167 255 181 (dk_at dksX0_ways_3 21 rfl rfl)
theorem dX0_ways_95 : decode cX0_ways 95 = .ok (.lload_n 2, 1) := dk_32 (dk_at dksX0_ways_4 0 rfl rfl)
theorem dX0_ways_96 : decode cX0_ways 96 = .ok (.lreturn, 1) := dk_173 (dk_at dksX0_ways_4 1 rfl rfl)
abbrev cX0_odds : ByteArray := prog_1_method_47_code
def yX0_odds : MethodName := ⟨RX0, "odds", "(IIII)J"⟩
def dkwX0_odds_4 : List UInt8 := [55, 5, 132, 7, 1, 167, 255, 214, 22, 5, 173]
abbrev dktX0_odds_4 : List UInt8 := dkwX0_odds_4 ++ []
def dkwX0_odds_3 : List UInt8 := [180, 0, 7, 21, 7, 21, 4, 182, 0, 46, 29, 160, 0, 15, 22, 5, 42, 180, 0, 161, 21, 7, 47, 97]
abbrev dktX0_odds_3 : List UInt8 := dkwX0_odds_3 ++ dktX0_odds_4
def dkwX0_odds_2 : List UInt8 := [182, 1, 110, 9, 55, 5, 3, 54, 7, 21, 7, 42, 180, 0, 7, 180, 0, 17, 162, 0, 36, 42]
abbrev dktX0_odds_2 : List UInt8 := dkwX0_odds_2 ++ dktX0_odds_3
def dkwX0_odds_1 : List UInt8 := [182, 1, 107, 154, 0, 7, 20, 0, 53, 173, 42, 42, 180, 0, 148, 27, 182, 0, 250, 192, 0, 242, 28]
abbrev dktX0_odds_1 : List UInt8 := dkwX0_odds_1 ++ dktX0_odds_2
def dkwX0_odds_0 : List UInt8 := [42, 27, 28, 182, 1, 78, 153, 0, 22, 42, 27, 29, 182, 1, 107, 153, 0, 13, 42, 27, 21, 4]
abbrev dktX0_odds_0 : List UInt8 := dkwX0_odds_0 ++ dktX0_odds_1
theorem dksX0_odds_0 : cX0_odds.data.toList.drop 0 = dktX0_odds_0 := by decide +kernel
theorem dksX0_odds_1 : cX0_odds.data.toList.drop 22 = dktX0_odds_1 := dk_seg dksX0_odds_0 22 rfl rfl
theorem dksX0_odds_2 : cX0_odds.data.toList.drop 45 = dktX0_odds_2 := dk_seg dksX0_odds_1 23 rfl rfl
theorem dksX0_odds_3 : cX0_odds.data.toList.drop 67 = dktX0_odds_3 := dk_seg dksX0_odds_2 22 rfl rfl
theorem dksX0_odds_4 : cX0_odds.data.toList.drop 91 = dktX0_odds_4 := dk_seg dksX0_odds_3 24 rfl rfl
theorem dX0_odds_0 : decode cX0_odds 0 = .ok (.aload_n 0, 1) := dk_42 (dk_at dksX0_odds_0 0 rfl rfl)
theorem dX0_odds_1 : decode cX0_odds 1 = .ok (.iload_n 1, 1) := dk_27 (dk_at dksX0_odds_0 1 rfl rfl)
theorem dX0_odds_2 : decode cX0_odds 2 = .ok (.iload_n 2, 1) := dk_28 (dk_at dksX0_odds_0 2 rfl rfl)
theorem dX0_odds_3 : decode cX0_odds 3 = .ok (.invokevirtual 334, 3) := dk_182 1 78 (dk_at dksX0_odds_0 3 rfl rfl)
theorem dX0_odds_6 : decode cX0_odds 6 = .ok (.ifCond .eq 22, 3) := dk_153 0 22 (dk_at dksX0_odds_0 6 rfl rfl)
theorem dX0_odds_9 : decode cX0_odds 9 = .ok (.aload_n 0, 1) := dk_42 (dk_at dksX0_odds_0 9 rfl rfl)
theorem dX0_odds_10 : decode cX0_odds 10 = .ok (.iload_n 1, 1) := dk_27 (dk_at dksX0_odds_0 10 rfl rfl)
theorem dX0_odds_11 : decode cX0_odds 11 = .ok (.iload_n 3, 1) := dk_29 (dk_at dksX0_odds_0 11 rfl rfl)
theorem dX0_odds_12 : decode cX0_odds 12 = .ok (.invokevirtual 363, 3) := dk_182 1 107 (dk_at dksX0_odds_0 12 rfl rfl)
theorem dX0_odds_15 : decode cX0_odds 15 = .ok (.ifCond .eq 13, 3) := dk_153 0 13 (dk_at dksX0_odds_0 15 rfl rfl)
theorem dX0_odds_18 : decode cX0_odds 18 = .ok (.aload_n 0, 1) := dk_42 (dk_at dksX0_odds_0 18 rfl rfl)
theorem dX0_odds_19 : decode cX0_odds 19 = .ok (.iload_n 1, 1) := dk_27 (dk_at dksX0_odds_0 19 rfl rfl)
theorem dX0_odds_20 : decode cX0_odds 20 = .ok (.iload 4, 2) := dk_21 4 (dk_at dksX0_odds_0 20 rfl rfl)
theorem dX0_odds_22 : decode cX0_odds 22 = .ok (.invokevirtual 363, 3) := dk_182 1 107 (dk_at dksX0_odds_1 0 rfl rfl)
theorem dX0_odds_25 : decode cX0_odds 25 = .ok (.ifCond .ne 7, 3) := dk_154 0 7 (dk_at dksX0_odds_1 3 rfl rfl)
theorem dX0_odds_28 : decode cX0_odds 28 = .ok (.ldc2_w 53, 3) := dk_20 0 53 (dk_at dksX0_odds_1 6 rfl rfl)
theorem dX0_odds_31 : decode cX0_odds 31 = .ok (.lreturn, 1) := dk_173 (dk_at dksX0_odds_1 9 rfl rfl)
theorem dX0_odds_32 : decode cX0_odds 32 = .ok (.aload_n 0, 1) := dk_42 (dk_at dksX0_odds_1 10 rfl rfl)
theorem dX0_odds_33 : decode cX0_odds 33 = .ok (.aload_n 0, 1) := dk_42 (dk_at dksX0_odds_1 11 rfl rfl)
theorem dX0_odds_34 : decode cX0_odds 34 = .ok (.getfield 148, 3) := dk_180 0 148 (dk_at dksX0_odds_1 12 rfl rfl)
theorem dX0_odds_37 : decode cX0_odds 37 = .ok (.iload_n 1, 1) := dk_27 (dk_at dksX0_odds_1 15 rfl rfl)
theorem dX0_odds_38 : decode cX0_odds 38 = .ok (.invokevirtual 250, 3) := dk_182 0 250 (dk_at dksX0_odds_1 16 rfl rfl)
theorem dX0_odds_41 : decode cX0_odds 41 = .ok (.checkcast 242, 3) := dk_192 0 242 (dk_at dksX0_odds_1 19 rfl rfl)
theorem dX0_odds_44 : decode cX0_odds 44 = .ok (.iload_n 2, 1) := dk_28 (dk_at dksX0_odds_1 22 rfl rfl)
theorem dX0_odds_45 : decode cX0_odds 45 = .ok (.invokevirtual 366, 3) := dk_182 1 110 (dk_at dksX0_odds_2 0 rfl rfl)
theorem dX0_odds_48 : decode cX0_odds 48 = .ok (.lconst 0, 1) := dk_9 (dk_at dksX0_odds_2 3 rfl rfl)
theorem dX0_odds_49 : decode cX0_odds 49 = .ok (.lstore 5, 2) := dk_55 5 (dk_at dksX0_odds_2 4 rfl rfl)
theorem dX0_odds_51 : decode cX0_odds 51 = .ok (.iconst 0, 1) := dk_3 (dk_at dksX0_odds_2 6 rfl rfl)
theorem dX0_odds_52 : decode cX0_odds 52 = .ok (.istore 7, 2) := dk_54 7 (dk_at dksX0_odds_2 7 rfl rfl)
theorem dX0_odds_54 : decode cX0_odds 54 = .ok (.iload 7, 2) := dk_21 7 (dk_at dksX0_odds_2 9 rfl rfl)
theorem dX0_odds_56 : decode cX0_odds 56 = .ok (.aload_n 0, 1) := dk_42 (dk_at dksX0_odds_2 11 rfl rfl)
theorem dX0_odds_57 : decode cX0_odds 57 = .ok (.getfield 7, 3) := dk_180 0 7 (dk_at dksX0_odds_2 12 rfl rfl)
theorem dX0_odds_60 : decode cX0_odds 60 = .ok (.getfield 17, 3) := dk_180 0 17 (dk_at dksX0_odds_2 15 rfl rfl)
theorem dX0_odds_63 : decode cX0_odds 63 = .ok (.if_icmp .ge 36, 3) := dk_162 0 36 (dk_at dksX0_odds_2 18 rfl rfl)
theorem dX0_odds_66 : decode cX0_odds 66 = .ok (.aload_n 0, 1) := dk_42 (dk_at dksX0_odds_2 21 rfl rfl)
theorem dX0_odds_67 : decode cX0_odds 67 = .ok (.getfield 7, 3) := dk_180 0 7 (dk_at dksX0_odds_3 0 rfl rfl)
theorem dX0_odds_70 : decode cX0_odds 70 = .ok (.iload 7, 2) := dk_21 7 (dk_at dksX0_odds_3 3 rfl rfl)
theorem dX0_odds_72 : decode cX0_odds 72 = .ok (.iload 4, 2) := dk_21 4 (dk_at dksX0_odds_3 5 rfl rfl)
theorem dX0_odds_74 : decode cX0_odds 74 = .ok (.invokevirtual 46, 3) := dk_182 0 46 (dk_at dksX0_odds_3 7 rfl rfl)
theorem dX0_odds_77 : decode cX0_odds 77 = .ok (.iload_n 3, 1) := dk_29 (dk_at dksX0_odds_3 10 rfl rfl)
theorem dX0_odds_78 : decode cX0_odds 78 = .ok (.if_icmp .ne 15, 3) := dk_160 0 15 (dk_at dksX0_odds_3 11 rfl rfl)
theorem dX0_odds_81 : decode cX0_odds 81 = .ok (.lload 5, 2) := dk_22 5 (dk_at dksX0_odds_3 14 rfl rfl)
theorem dX0_odds_83 : decode cX0_odds 83 = .ok (.aload_n 0, 1) := dk_42 (dk_at dksX0_odds_3 16 rfl rfl)
theorem dX0_odds_84 : decode cX0_odds 84 = .ok (.getfield 161, 3) := dk_180 0 161 (dk_at dksX0_odds_3 17 rfl rfl)
theorem dX0_odds_87 : decode cX0_odds 87 = .ok (.iload 7, 2) := dk_21 7 (dk_at dksX0_odds_3 20 rfl rfl)
theorem dX0_odds_89 : decode cX0_odds 89 = .ok (.laload, 1) := dk_47 (dk_at dksX0_odds_3 22 rfl rfl)
theorem dX0_odds_90 : decode cX0_odds 90 = .ok (.ladd, 1) := dk_97 (dk_at dksX0_odds_3 23 rfl rfl)
theorem dX0_odds_91 : decode cX0_odds 91 = .ok (.lstore 5, 2) := dk_55 5 (dk_at dksX0_odds_4 0 rfl rfl)
theorem dX0_odds_93 : decode cX0_odds 93 = .ok (.iinc 7 1, 3) := dk_132 7 1 (dk_at dksX0_odds_4 2 rfl rfl)
theorem dX0_odds_96 : decode cX0_odds 96 = .ok (.goto (-42), 3) := dk_167 255 214 (dk_at dksX0_odds_4 5 rfl rfl)
theorem dX0_odds_99 : decode cX0_odds 99 = .ok (.lload 5, 2) := dk_22 5 (dk_at dksX0_odds_4 8 rfl rfl)
theorem dX0_odds_101 : decode cX0_odds 101 = .ok (.lreturn, 1) := dk_173 (dk_at dksX0_odds_4 10 rfl rfl)
abbrev cX0_isNumber : ByteArray := prog_1_method_46_code
def yX0_isNumber : MethodName := ⟨RX0, "isNumber", "(II)Z"⟩
def dkwX0_isNumber_1 : List UInt8 := [4, 100, 184, 0, 3, 153, 0, 7, 4, 167, 0, 4, 3, 172]
abbrev dktX0_isNumber_1 : List UInt8 := dkwX0_isNumber_1 ++ []
def dkwX0_isNumber_0 : List UInt8 := [42, 27, 182, 0, 247, 153, 0, 31, 28, 3, 42, 180, 0, 148, 27, 182, 0, 250, 192, 0, 242, 180, 0, 254]
abbrev dktX0_isNumber_0 : List UInt8 := dkwX0_isNumber_0 ++ dktX0_isNumber_1
theorem dksX0_isNumber_0 : cX0_isNumber.data.toList.drop 0 = dktX0_isNumber_0 := by decide +kernel
theorem dksX0_isNumber_1 : cX0_isNumber.data.toList.drop 24 = dktX0_isNumber_1 := dk_seg dksX0_isNumber_0 24 rfl rfl
theorem dX0_isNumber_0 : decode cX0_isNumber 0 = .ok (.aload_n 0, 1) := dk_42 (dk_at dksX0_isNumber_0 0 rfl rfl)
theorem dX0_isNumber_1 : decode cX0_isNumber 1 = .ok (.iload_n 1, 1) := dk_27 (dk_at dksX0_isNumber_0 1 rfl rfl)
theorem dX0_isNumber_2 : decode cX0_isNumber 2 = .ok (.invokevirtual 247, 3) := dk_182 0 247 (dk_at dksX0_isNumber_0 2 rfl rfl)
theorem dX0_isNumber_5 : decode cX0_isNumber 5 = .ok (.ifCond .eq 31, 3) := dk_153 0 31 (dk_at dksX0_isNumber_0 5 rfl rfl)
theorem dX0_isNumber_8 : decode cX0_isNumber 8 = .ok (.iload_n 2, 1) := dk_28 (dk_at dksX0_isNumber_0 8 rfl rfl)
theorem dX0_isNumber_9 : decode cX0_isNumber 9 = .ok (.iconst 0, 1) := dk_3 (dk_at dksX0_isNumber_0 9 rfl rfl)
theorem dX0_isNumber_10 : decode cX0_isNumber 10 = .ok (.aload_n 0, 1) := dk_42 (dk_at dksX0_isNumber_0 10 rfl rfl)
theorem dX0_isNumber_11 : decode cX0_isNumber 11 = .ok (.getfield 148, 3) := dk_180 0 148 (dk_at dksX0_isNumber_0 11 rfl rfl)
theorem dX0_isNumber_14 : decode cX0_isNumber 14 = .ok (.iload_n 1, 1) := dk_27 (dk_at dksX0_isNumber_0 14 rfl rfl)
theorem dX0_isNumber_15 : decode cX0_isNumber 15 = .ok (.invokevirtual 250, 3) := dk_182 0 250 (dk_at dksX0_isNumber_0 15 rfl rfl)
theorem dX0_isNumber_18 : decode cX0_isNumber 18 = .ok (.checkcast 242, 3) := dk_192 0 242 (dk_at dksX0_isNumber_0 18 rfl rfl)
theorem dX0_isNumber_21 : decode cX0_isNumber 21 = .ok (.getfield 254, 3) := dk_180 0 254 (dk_at dksX0_isNumber_0 21 rfl rfl)
theorem dX0_isNumber_24 : decode cX0_isNumber 24 = .ok (.iconst 1, 1) := dk_4 (dk_at dksX0_isNumber_1 0 rfl rfl)
theorem dX0_isNumber_25 : decode cX0_isNumber 25 = .ok (.isub, 1) := dk_100 (dk_at dksX0_isNumber_1 1 rfl rfl)
theorem dX0_isNumber_26 : decode cX0_isNumber 26 = .ok (.invokestatic 3, 3) := dk_184 0 3 (dk_at dksX0_isNumber_1 2 rfl rfl)
theorem dX0_isNumber_29 : decode cX0_isNumber 29 = .ok (.ifCond .eq 7, 3) := dk_153 0 7 (dk_at dksX0_isNumber_1 5 rfl rfl)
theorem dX0_isNumber_32 : decode cX0_isNumber 32 = .ok (.iconst 1, 1) := dk_4 (dk_at dksX0_isNumber_1 8 rfl rfl)
theorem dX0_isNumber_33 : decode cX0_isNumber 33 = .ok (.goto 4, 3) := dk_167 0 4 (dk_at dksX0_isNumber_1 9 rfl rfl)
theorem dX0_isNumber_36 : decode cX0_isNumber 36 = .ok (.iconst 0, 1) := dk_3 (dk_at dksX0_isNumber_1 12 rfl rfl)
theorem dX0_isNumber_37 : decode cX0_isNumber 37 = .ok (.ireturn, 1) := dk_172 (dk_at dksX0_isNumber_1 13 rfl rfl)
abbrev cX0_spreads : ByteArray := prog_1_method_44_code
def yX0_spreads : MethodName := ⟨RX0, "spreads", "(LLadderLots$Ladder;I)V"⟩
def dkwX0_spreads_11 : List UInt8 := [181, 0, 161, 42, 25, 7, 181, 0, 164, 132, 3, 1, 167, 255, 22, 177]
abbrev dktX0_spreads_11 : List UInt8 := dkwX0_spreads_11 ++ []
def dkwX0_spreads_10 : List UInt8 := [100, 133, 105, 97, 80, 132, 7, 1, 167, 255, 154, 42, 180, 0, 161, 58, 7, 42, 42, 180, 0, 164]
abbrev dktX0_spreads_10 : List UInt8 := dkwX0_spreads_10 ++ dktX0_spreads_11
def dkwX0_spreads_9 : List UInt8 := [180, 0, 7, 21, 7, 25, 4, 3, 182, 1, 75, 92, 47, 42, 180, 0, 161, 21, 7, 47, 21, 6, 21, 5]
abbrev dktX0_spreads_9 : List UInt8 := dkwX0_spreads_9 ++ dktX0_spreads_10
def dkwX0_spreads_8 : List UInt8 := [180, 0, 161, 21, 7, 47, 21, 5, 133, 105, 97, 80, 21, 6, 21, 5, 164, 0, 37, 42, 180, 0, 164, 42]
abbrev dktX0_spreads_8 : List UInt8 := dkwX0_spreads_8 ++ dktX0_spreads_9
def dkwX0_spreads_7 : List UInt8 := [167, 0, 75, 42, 180, 0, 164, 42, 180, 0, 7, 21, 7, 25, 4, 4, 182, 1, 75, 92, 47, 42]
abbrev dktX0_spreads_7 : List UInt8 := dkwX0_spreads_7 ++ dktX0_spreads_8
def dkwX0_spreads_6 : List UInt8 := [21, 7, 42, 180, 0, 7, 180, 0, 17, 162, 0, 96, 42, 180, 0, 161, 21, 7, 47, 9, 148, 154, 0, 6]
abbrev dktX0_spreads_6 : List UInt8 := dkwX0_spreads_6 ++ dktX0_spreads_7
def dkwX0_spreads_5 : List UInt8 := [193, 1, 61, 153, 0, 14, 25, 4, 192, 1, 61, 180, 1, 66, 167, 0, 4, 4, 54, 6, 3, 54, 7]
abbrev dktX0_spreads_5 : List UInt8 := dkwX0_spreads_5 ++ dktX0_spreads_6
def dkwX0_spreads_4 : List UInt8 := [25, 4, 193, 1, 61, 153, 0, 14, 25, 4, 192, 1, 61, 180, 1, 63, 167, 0, 4, 4, 54, 5, 25, 4]
abbrev dktX0_spreads_4 : List UInt8 := dkwX0_spreads_4 ++ dktX0_spreads_5
def dkwX0_spreads_3 : List UInt8 := [42, 180, 0, 7, 180, 0, 17, 162, 0, 17, 42, 180, 0, 164, 21, 5, 9, 80, 132, 5, 1, 167, 255, 233]
abbrev dktX0_spreads_3 : List UInt8 := dkwX0_spreads_3 ++ dktX0_spreads_4
def dkwX0_spreads_2 : List UInt8 := [162, 0, 226, 43, 180, 1, 1, 180, 1, 72, 29, 182, 0, 250, 192, 0, 199, 58, 4, 3, 54, 5, 21, 5]
abbrev dktX0_spreads_2 : List UInt8 := dkwX0_spreads_2 ++ dktX0_spreads_3
def dkwX0_spreads_1 : List UInt8 := [167, 255, 235, 42, 180, 0, 161, 28, 10, 80, 3, 62, 29, 43, 180, 1, 1, 180, 1, 72, 182, 0, 215]
abbrev dktX0_spreads_1 : List UInt8 := dkwX0_spreads_1 ++ dktX0_spreads_2
def dkwX0_spreads_0 : List UInt8 := [3, 62, 29, 42, 180, 0, 7, 180, 0, 17, 162, 0, 16, 42, 180, 0, 161, 29, 9, 80, 132, 3, 1]
abbrev dktX0_spreads_0 : List UInt8 := dkwX0_spreads_0 ++ dktX0_spreads_1
theorem dksX0_spreads_0 : cX0_spreads.data.toList.drop 0 = dktX0_spreads_0 := by decide +kernel
theorem dksX0_spreads_1 : cX0_spreads.data.toList.drop 23 = dktX0_spreads_1 := dk_seg dksX0_spreads_0 23 rfl rfl
theorem dksX0_spreads_2 : cX0_spreads.data.toList.drop 46 = dktX0_spreads_2 := dk_seg dksX0_spreads_1 23 rfl rfl
theorem dksX0_spreads_3 : cX0_spreads.data.toList.drop 70 = dktX0_spreads_3 := dk_seg dksX0_spreads_2 24 rfl rfl
theorem dksX0_spreads_4 : cX0_spreads.data.toList.drop 94 = dktX0_spreads_4 := dk_seg dksX0_spreads_3 24 rfl rfl
theorem dksX0_spreads_5 : cX0_spreads.data.toList.drop 118 = dktX0_spreads_5 := dk_seg dksX0_spreads_4 24 rfl rfl
theorem dksX0_spreads_6 : cX0_spreads.data.toList.drop 141 = dktX0_spreads_6 := dk_seg dksX0_spreads_5 23 rfl rfl
theorem dksX0_spreads_7 : cX0_spreads.data.toList.drop 165 = dktX0_spreads_7 := dk_seg dksX0_spreads_6 24 rfl rfl
theorem dksX0_spreads_8 : cX0_spreads.data.toList.drop 187 = dktX0_spreads_8 := dk_seg dksX0_spreads_7 22 rfl rfl
theorem dksX0_spreads_9 : cX0_spreads.data.toList.drop 211 = dktX0_spreads_9 := dk_seg dksX0_spreads_8 24 rfl rfl
theorem dksX0_spreads_10 : cX0_spreads.data.toList.drop 235 = dktX0_spreads_10 := dk_seg dksX0_spreads_9 24 rfl rfl
theorem dksX0_spreads_11 : cX0_spreads.data.toList.drop 257 = dktX0_spreads_11 := dk_seg dksX0_spreads_10 22 rfl rfl
theorem dX0_spreads_0 : decode cX0_spreads 0 = .ok (.iconst 0, 1) := dk_3 (dk_at dksX0_spreads_0 0 rfl rfl)
theorem dX0_spreads_1 : decode cX0_spreads 1 = .ok (.istore_n 3, 1) := dk_62 (dk_at dksX0_spreads_0 1 rfl rfl)
theorem dX0_spreads_2 : decode cX0_spreads 2 = .ok (.iload_n 3, 1) := dk_29 (dk_at dksX0_spreads_0 2 rfl rfl)
theorem dX0_spreads_3 : decode cX0_spreads 3 = .ok (.aload_n 0, 1) := dk_42 (dk_at dksX0_spreads_0 3 rfl rfl)
theorem dX0_spreads_4 : decode cX0_spreads 4 = .ok (.getfield 7, 3) := dk_180 0 7 (dk_at dksX0_spreads_0 4 rfl rfl)
theorem dX0_spreads_7 : decode cX0_spreads 7 = .ok (.getfield 17, 3) := dk_180 0 17 (dk_at dksX0_spreads_0 7 rfl rfl)
theorem dX0_spreads_10 : decode cX0_spreads 10 = .ok (.if_icmp .ge 16, 3) := dk_162 0 16 (dk_at dksX0_spreads_0 10 rfl rfl)
theorem dX0_spreads_13 : decode cX0_spreads 13 = .ok (.aload_n 0, 1) := dk_42 (dk_at dksX0_spreads_0 13 rfl rfl)
theorem dX0_spreads_14 : decode cX0_spreads 14 = .ok (.getfield 161, 3) := dk_180 0 161 (dk_at dksX0_spreads_0 14 rfl rfl)
theorem dX0_spreads_17 : decode cX0_spreads 17 = .ok (.iload_n 3, 1) := dk_29 (dk_at dksX0_spreads_0 17 rfl rfl)
theorem dX0_spreads_18 : decode cX0_spreads 18 = .ok (.lconst 0, 1) := dk_9 (dk_at dksX0_spreads_0 18 rfl rfl)
theorem dX0_spreads_19 : decode cX0_spreads 19 = .ok (.lastore, 1) := dk_80 (dk_at dksX0_spreads_0 19 rfl rfl)
theorem dX0_spreads_20 : decode cX0_spreads 20 = .ok (.iinc 3 1, 3) := dk_132 3 1 (dk_at dksX0_spreads_0 20 rfl rfl)
theorem dX0_spreads_23 : decode cX0_spreads 23 = .ok (.goto (-21), 3) := dk_167 255 235 (dk_at dksX0_spreads_1 0 rfl rfl)
theorem dX0_spreads_26 : decode cX0_spreads 26 = .ok (.aload_n 0, 1) := dk_42 (dk_at dksX0_spreads_1 3 rfl rfl)
theorem dX0_spreads_27 : decode cX0_spreads 27 = .ok (.getfield 161, 3) := dk_180 0 161 (dk_at dksX0_spreads_1 4 rfl rfl)
theorem dX0_spreads_30 : decode cX0_spreads 30 = .ok (.iload_n 2, 1) := dk_28 (dk_at dksX0_spreads_1 7 rfl rfl)
theorem dX0_spreads_31 : decode cX0_spreads 31 = .ok (.lconst 1, 1) := dk_10 (dk_at dksX0_spreads_1 8 rfl rfl)
theorem dX0_spreads_32 : decode cX0_spreads 32 = .ok (.lastore, 1) := dk_80 (dk_at dksX0_spreads_1 9 rfl rfl)
theorem dX0_spreads_33 : decode cX0_spreads 33 = .ok (.iconst 0, 1) := dk_3 (dk_at dksX0_spreads_1 10 rfl rfl)
theorem dX0_spreads_34 : decode cX0_spreads 34 = .ok (.istore_n 3, 1) := dk_62 (dk_at dksX0_spreads_1 11 rfl rfl)
theorem dX0_spreads_35 : decode cX0_spreads 35 = .ok (.iload_n 3, 1) := dk_29 (dk_at dksX0_spreads_1 12 rfl rfl)
theorem dX0_spreads_36 : decode cX0_spreads 36 = .ok (.aload_n 1, 1) := dk_43 (dk_at dksX0_spreads_1 13 rfl rfl)
theorem dX0_spreads_37 : decode cX0_spreads 37 = .ok (.getfield 257, 3) := dk_180 1 1 (dk_at dksX0_spreads_1 14 rfl rfl)
theorem dX0_spreads_40 : decode cX0_spreads 40 = .ok (.getfield 328, 3) := dk_180 1 72 (dk_at dksX0_spreads_1 17 rfl rfl)
theorem dX0_spreads_43 : decode cX0_spreads 43 = .ok (.invokevirtual 215, 3) := dk_182 0 215 (dk_at dksX0_spreads_1 20 rfl rfl)
theorem dX0_spreads_46 : decode cX0_spreads 46 = .ok (.if_icmp .ge 226, 3) := dk_162 0 226 (dk_at dksX0_spreads_2 0 rfl rfl)
theorem dX0_spreads_49 : decode cX0_spreads 49 = .ok (.aload_n 1, 1) := dk_43 (dk_at dksX0_spreads_2 3 rfl rfl)
theorem dX0_spreads_50 : decode cX0_spreads 50 = .ok (.getfield 257, 3) := dk_180 1 1 (dk_at dksX0_spreads_2 4 rfl rfl)
theorem dX0_spreads_53 : decode cX0_spreads 53 = .ok (.getfield 328, 3) := dk_180 1 72 (dk_at dksX0_spreads_2 7 rfl rfl)
theorem dX0_spreads_56 : decode cX0_spreads 56 = .ok (.iload_n 3, 1) := dk_29 (dk_at dksX0_spreads_2 10 rfl rfl)
theorem dX0_spreads_57 : decode cX0_spreads 57 = .ok (.invokevirtual 250, 3) := dk_182 0 250 (dk_at dksX0_spreads_2 11 rfl rfl)
theorem dX0_spreads_60 : decode cX0_spreads 60 = .ok (.checkcast 199, 3) := dk_192 0 199 (dk_at dksX0_spreads_2 14 rfl rfl)
theorem dX0_spreads_63 : decode cX0_spreads 63 = .ok (.astore 4, 2) := dk_58 4 (dk_at dksX0_spreads_2 17 rfl rfl)
theorem dX0_spreads_65 : decode cX0_spreads 65 = .ok (.iconst 0, 1) := dk_3 (dk_at dksX0_spreads_2 19 rfl rfl)
theorem dX0_spreads_66 : decode cX0_spreads 66 = .ok (.istore 5, 2) := dk_54 5 (dk_at dksX0_spreads_2 20 rfl rfl)
theorem dX0_spreads_68 : decode cX0_spreads 68 = .ok (.iload 5, 2) := dk_21 5 (dk_at dksX0_spreads_2 22 rfl rfl)
theorem dX0_spreads_70 : decode cX0_spreads 70 = .ok (.aload_n 0, 1) := dk_42 (dk_at dksX0_spreads_3 0 rfl rfl)
theorem dX0_spreads_71 : decode cX0_spreads 71 = .ok (.getfield 7, 3) := dk_180 0 7 (dk_at dksX0_spreads_3 1 rfl rfl)
theorem dX0_spreads_74 : decode cX0_spreads 74 = .ok (.getfield 17, 3) := dk_180 0 17 (dk_at dksX0_spreads_3 4 rfl rfl)
theorem dX0_spreads_77 : decode cX0_spreads 77 = .ok (.if_icmp .ge 17, 3) := dk_162 0 17 (dk_at dksX0_spreads_3 7 rfl rfl)
theorem dX0_spreads_80 : decode cX0_spreads 80 = .ok (.aload_n 0, 1) := dk_42 (dk_at dksX0_spreads_3 10 rfl rfl)
theorem dX0_spreads_81 : decode cX0_spreads 81 = .ok (.getfield 164, 3) := dk_180 0 164 (dk_at dksX0_spreads_3 11 rfl rfl)
theorem dX0_spreads_84 : decode cX0_spreads 84 = .ok (.iload 5, 2) := dk_21 5 (dk_at dksX0_spreads_3 14 rfl rfl)
theorem dX0_spreads_86 : decode cX0_spreads 86 = .ok (.lconst 0, 1) := dk_9 (dk_at dksX0_spreads_3 16 rfl rfl)
theorem dX0_spreads_87 : decode cX0_spreads 87 = .ok (.lastore, 1) := dk_80 (dk_at dksX0_spreads_3 17 rfl rfl)
theorem dX0_spreads_88 : decode cX0_spreads 88 = .ok (.iinc 5 1, 3) := dk_132 5 1 (dk_at dksX0_spreads_3 18 rfl rfl)
theorem dX0_spreads_91 : decode cX0_spreads 91 = .ok (.goto (-23), 3) := dk_167 255 233 (dk_at dksX0_spreads_3 21 rfl rfl)
theorem dX0_spreads_94 : decode cX0_spreads 94 = .ok (.aload 4, 2) := dk_25 4 (dk_at dksX0_spreads_4 0 rfl rfl)
theorem dX0_spreads_96 : decode cX0_spreads 96 = .ok (.instanceof 317, 3) := dk_193 1 61 (dk_at dksX0_spreads_4 2 rfl rfl)
theorem dX0_spreads_99 : decode cX0_spreads 99 = .ok (.ifCond .eq 14, 3) := dk_153 0 14 (dk_at dksX0_spreads_4 5 rfl rfl)
theorem dX0_spreads_102 : decode cX0_spreads 102 = .ok (.aload 4, 2) := dk_25 4 (dk_at dksX0_spreads_4 8 rfl rfl)
theorem dX0_spreads_104 : decode cX0_spreads 104 = .ok (.checkcast 317, 3) := dk_192 1 61 (dk_at dksX0_spreads_4 10 rfl rfl)
theorem dX0_spreads_107 : decode cX0_spreads 107 = .ok (.getfield 319, 3) := dk_180 1 63 (dk_at dksX0_spreads_4 13 rfl rfl)
theorem dX0_spreads_110 : decode cX0_spreads 110 = .ok (.goto 4, 3) := dk_167 0 4 (dk_at dksX0_spreads_4 16 rfl rfl)
theorem dX0_spreads_113 : decode cX0_spreads 113 = .ok (.iconst 1, 1) := dk_4 (dk_at dksX0_spreads_4 19 rfl rfl)
theorem dX0_spreads_114 : decode cX0_spreads 114 = .ok (.istore 5, 2) := dk_54 5 (dk_at dksX0_spreads_4 20 rfl rfl)
theorem dX0_spreads_116 : decode cX0_spreads 116 = .ok (.aload 4, 2) := dk_25 4 (dk_at dksX0_spreads_4 22 rfl rfl)
theorem dX0_spreads_118 : decode cX0_spreads 118 = .ok (.instanceof 317, 3) := dk_193 1 61 (dk_at dksX0_spreads_5 0 rfl rfl)
theorem dX0_spreads_121 : decode cX0_spreads 121 = .ok (.ifCond .eq 14, 3) := dk_153 0 14 (dk_at dksX0_spreads_5 3 rfl rfl)
theorem dX0_spreads_124 : decode cX0_spreads 124 = .ok (.aload 4, 2) := dk_25 4 (dk_at dksX0_spreads_5 6 rfl rfl)
theorem dX0_spreads_126 : decode cX0_spreads 126 = .ok (.checkcast 317, 3) := dk_192 1 61 (dk_at dksX0_spreads_5 8 rfl rfl)
theorem dX0_spreads_129 : decode cX0_spreads 129 = .ok (.getfield 322, 3) := dk_180 1 66 (dk_at dksX0_spreads_5 11 rfl rfl)
theorem dX0_spreads_132 : decode cX0_spreads 132 = .ok (.goto 4, 3) := dk_167 0 4 (dk_at dksX0_spreads_5 14 rfl rfl)
theorem dX0_spreads_135 : decode cX0_spreads 135 = .ok (.iconst 1, 1) := dk_4 (dk_at dksX0_spreads_5 17 rfl rfl)
theorem dX0_spreads_136 : decode cX0_spreads 136 = .ok (.istore 6, 2) := dk_54 6 (dk_at dksX0_spreads_5 18 rfl rfl)
theorem dX0_spreads_138 : decode cX0_spreads 138 = .ok (.iconst 0, 1) := dk_3 (dk_at dksX0_spreads_5 20 rfl rfl)
theorem dX0_spreads_139 : decode cX0_spreads 139 = .ok (.istore 7, 2) := dk_54 7 (dk_at dksX0_spreads_5 21 rfl rfl)
theorem dX0_spreads_141 : decode cX0_spreads 141 = .ok (.iload 7, 2) := dk_21 7 (dk_at dksX0_spreads_6 0 rfl rfl)
theorem dX0_spreads_143 : decode cX0_spreads 143 = .ok (.aload_n 0, 1) := dk_42 (dk_at dksX0_spreads_6 2 rfl rfl)
theorem dX0_spreads_144 : decode cX0_spreads 144 = .ok (.getfield 7, 3) := dk_180 0 7 (dk_at dksX0_spreads_6 3 rfl rfl)
theorem dX0_spreads_147 : decode cX0_spreads 147 = .ok (.getfield 17, 3) := dk_180 0 17 (dk_at dksX0_spreads_6 6 rfl rfl)
theorem dX0_spreads_150 : decode cX0_spreads 150 = .ok (.if_icmp .ge 96, 3) := dk_162 0 96 (dk_at dksX0_spreads_6 9 rfl rfl)
theorem dX0_spreads_153 : decode cX0_spreads 153 = .ok (.aload_n 0, 1) := dk_42 (dk_at dksX0_spreads_6 12 rfl rfl)
theorem dX0_spreads_154 : decode cX0_spreads 154 = .ok (.getfield 161, 3) := dk_180 0 161 (dk_at dksX0_spreads_6 13 rfl rfl)
theorem dX0_spreads_157 : decode cX0_spreads 157 = .ok (.iload 7, 2) := dk_21 7 (dk_at dksX0_spreads_6 16 rfl rfl)
theorem dX0_spreads_159 : decode cX0_spreads 159 = .ok (.laload, 1) := dk_47 (dk_at dksX0_spreads_6 18 rfl rfl)
theorem dX0_spreads_160 : decode cX0_spreads 160 = .ok (.lconst 0, 1) := dk_9 (dk_at dksX0_spreads_6 19 rfl rfl)
theorem dX0_spreads_161 : decode cX0_spreads 161 = .ok (.lcmp, 1) := dk_148 (dk_at dksX0_spreads_6 20 rfl rfl)
theorem dX0_spreads_162 : decode cX0_spreads 162 = .ok (.ifCond .ne 6, 3) := dk_154 0 6 (dk_at dksX0_spreads_6 21 rfl rfl)
theorem dX0_spreads_165 : decode cX0_spreads 165 = .ok (.goto 75, 3) := dk_167 0 75 (dk_at dksX0_spreads_7 0 rfl rfl)
theorem dX0_spreads_168 : decode cX0_spreads 168 = .ok (.aload_n 0, 1) := dk_42 (dk_at dksX0_spreads_7 3 rfl rfl)
theorem dX0_spreads_169 : decode cX0_spreads 169 = .ok (.getfield 164, 3) := dk_180 0 164 (dk_at dksX0_spreads_7 4 rfl rfl)
theorem dX0_spreads_172 : decode cX0_spreads 172 = .ok (.aload_n 0, 1) := dk_42 (dk_at dksX0_spreads_7 7 rfl rfl)
theorem dX0_spreads_173 : decode cX0_spreads 173 = .ok (.getfield 7, 3) := dk_180 0 7 (dk_at dksX0_spreads_7 8 rfl rfl)
theorem dX0_spreads_176 : decode cX0_spreads 176 = .ok (.iload 7, 2) := dk_21 7 (dk_at dksX0_spreads_7 11 rfl rfl)
theorem dX0_spreads_178 : decode cX0_spreads 178 = .ok (.aload 4, 2) := dk_25 4 (dk_at dksX0_spreads_7 13 rfl rfl)
theorem dX0_spreads_180 : decode cX0_spreads 180 = .ok (.iconst 1, 1) := dk_4 (dk_at dksX0_spreads_7 15 rfl rfl)
theorem dX0_spreads_181 : decode cX0_spreads 181 = .ok (.invokevirtual 331, 3) := dk_182 1 75 (dk_at dksX0_spreads_7 16 rfl rfl)
theorem dX0_spreads_184 : decode cX0_spreads 184 = .ok (.dup2, 1) := dk_92 (dk_at dksX0_spreads_7 19 rfl rfl)
theorem dX0_spreads_185 : decode cX0_spreads 185 = .ok (.laload, 1) := dk_47 (dk_at dksX0_spreads_7 20 rfl rfl)
theorem dX0_spreads_186 : decode cX0_spreads 186 = .ok (.aload_n 0, 1) := dk_42 (dk_at dksX0_spreads_7 21 rfl rfl)
theorem dX0_spreads_187 : decode cX0_spreads 187 = .ok (.getfield 161, 3) := dk_180 0 161 (dk_at dksX0_spreads_8 0 rfl rfl)
theorem dX0_spreads_190 : decode cX0_spreads 190 = .ok (.iload 7, 2) := dk_21 7 (dk_at dksX0_spreads_8 3 rfl rfl)
theorem dX0_spreads_192 : decode cX0_spreads 192 = .ok (.laload, 1) := dk_47 (dk_at dksX0_spreads_8 5 rfl rfl)
theorem dX0_spreads_193 : decode cX0_spreads 193 = .ok (.iload 5, 2) := dk_21 5 (dk_at dksX0_spreads_8 6 rfl rfl)
theorem dX0_spreads_195 : decode cX0_spreads 195 = .ok (.i2l, 1) := dk_133 (dk_at dksX0_spreads_8 8 rfl rfl)
theorem dX0_spreads_196 : decode cX0_spreads 196 = .ok (.lmul, 1) := dk_105 (dk_at dksX0_spreads_8 9 rfl rfl)
theorem dX0_spreads_197 : decode cX0_spreads 197 = .ok (.ladd, 1) := dk_97 (dk_at dksX0_spreads_8 10 rfl rfl)
theorem dX0_spreads_198 : decode cX0_spreads 198 = .ok (.lastore, 1) := dk_80 (dk_at dksX0_spreads_8 11 rfl rfl)
theorem dX0_spreads_199 : decode cX0_spreads 199 = .ok (.iload 6, 2) := dk_21 6 (dk_at dksX0_spreads_8 12 rfl rfl)
theorem dX0_spreads_201 : decode cX0_spreads 201 = .ok (.iload 5, 2) := dk_21 5 (dk_at dksX0_spreads_8 14 rfl rfl)
theorem dX0_spreads_203 : decode cX0_spreads 203 = .ok (.if_icmp .le 37, 3) := dk_164 0 37 (dk_at dksX0_spreads_8 16 rfl rfl)
theorem dX0_spreads_206 : decode cX0_spreads 206 = .ok (.aload_n 0, 1) := dk_42 (dk_at dksX0_spreads_8 19 rfl rfl)
theorem dX0_spreads_207 : decode cX0_spreads 207 = .ok (.getfield 164, 3) := dk_180 0 164 (dk_at dksX0_spreads_8 20 rfl rfl)
theorem dX0_spreads_210 : decode cX0_spreads 210 = .ok (.aload_n 0, 1) := dk_42 (dk_at dksX0_spreads_8 23 rfl rfl)
theorem dX0_spreads_211 : decode cX0_spreads 211 = .ok (.getfield 7, 3) := dk_180 0 7 (dk_at dksX0_spreads_9 0 rfl rfl)
theorem dX0_spreads_214 : decode cX0_spreads 214 = .ok (.iload 7, 2) := dk_21 7 (dk_at dksX0_spreads_9 3 rfl rfl)
theorem dX0_spreads_216 : decode cX0_spreads 216 = .ok (.aload 4, 2) := dk_25 4 (dk_at dksX0_spreads_9 5 rfl rfl)
theorem dX0_spreads_218 : decode cX0_spreads 218 = .ok (.iconst 0, 1) := dk_3 (dk_at dksX0_spreads_9 7 rfl rfl)
theorem dX0_spreads_219 : decode cX0_spreads 219 = .ok (.invokevirtual 331, 3) := dk_182 1 75 (dk_at dksX0_spreads_9 8 rfl rfl)
theorem dX0_spreads_222 : decode cX0_spreads 222 = .ok (.dup2, 1) := dk_92 (dk_at dksX0_spreads_9 11 rfl rfl)
theorem dX0_spreads_223 : decode cX0_spreads 223 = .ok (.laload, 1) := dk_47 (dk_at dksX0_spreads_9 12 rfl rfl)
theorem dX0_spreads_224 : decode cX0_spreads 224 = .ok (.aload_n 0, 1) := dk_42 (dk_at dksX0_spreads_9 13 rfl rfl)
theorem dX0_spreads_225 : decode cX0_spreads 225 = .ok (.getfield 161, 3) := dk_180 0 161 (dk_at dksX0_spreads_9 14 rfl rfl)
theorem dX0_spreads_228 : decode cX0_spreads 228 = .ok (.iload 7, 2) := dk_21 7 (dk_at dksX0_spreads_9 17 rfl rfl)
theorem dX0_spreads_230 : decode cX0_spreads 230 = .ok (.laload, 1) := dk_47 (dk_at dksX0_spreads_9 19 rfl rfl)
theorem dX0_spreads_231 : decode cX0_spreads 231 = .ok (.iload 6, 2) := dk_21 6 (dk_at dksX0_spreads_9 20 rfl rfl)
theorem dX0_spreads_233 : decode cX0_spreads 233 = .ok (.iload 5, 2) := dk_21 5 (dk_at dksX0_spreads_9 22 rfl rfl)
theorem dX0_spreads_235 : decode cX0_spreads 235 = .ok (.isub, 1) := dk_100 (dk_at dksX0_spreads_10 0 rfl rfl)
theorem dX0_spreads_236 : decode cX0_spreads 236 = .ok (.i2l, 1) := dk_133 (dk_at dksX0_spreads_10 1 rfl rfl)
theorem dX0_spreads_237 : decode cX0_spreads 237 = .ok (.lmul, 1) := dk_105 (dk_at dksX0_spreads_10 2 rfl rfl)
theorem dX0_spreads_238 : decode cX0_spreads 238 = .ok (.ladd, 1) := dk_97 (dk_at dksX0_spreads_10 3 rfl rfl)
theorem dX0_spreads_239 : decode cX0_spreads 239 = .ok (.lastore, 1) := dk_80 (dk_at dksX0_spreads_10 4 rfl rfl)
theorem dX0_spreads_240 : decode cX0_spreads 240 = .ok (.iinc 7 1, 3) := dk_132 7 1 (dk_at dksX0_spreads_10 5 rfl rfl)
theorem dX0_spreads_243 : decode cX0_spreads 243 = .ok (.goto (-102), 3) := dk_167 255 154 (dk_at dksX0_spreads_10 8 rfl rfl)
theorem dX0_spreads_246 : decode cX0_spreads 246 = .ok (.aload_n 0, 1) := dk_42 (dk_at dksX0_spreads_10 11 rfl rfl)
theorem dX0_spreads_247 : decode cX0_spreads 247 = .ok (.getfield 161, 3) := dk_180 0 161 (dk_at dksX0_spreads_10 12 rfl rfl)
theorem dX0_spreads_250 : decode cX0_spreads 250 = .ok (.astore 7, 2) := dk_58 7 (dk_at dksX0_spreads_10 15 rfl rfl)
theorem dX0_spreads_252 : decode cX0_spreads 252 = .ok (.aload_n 0, 1) := dk_42 (dk_at dksX0_spreads_10 17 rfl rfl)
theorem dX0_spreads_253 : decode cX0_spreads 253 = .ok (.aload_n 0, 1) := dk_42 (dk_at dksX0_spreads_10 18 rfl rfl)
theorem dX0_spreads_254 : decode cX0_spreads 254 = .ok (.getfield 164, 3) := dk_180 0 164 (dk_at dksX0_spreads_10 19 rfl rfl)
theorem dX0_spreads_257 : decode cX0_spreads 257 = .ok (.putfield 161, 3) := dk_181 0 161 (dk_at dksX0_spreads_11 0 rfl rfl)
theorem dX0_spreads_260 : decode cX0_spreads 260 = .ok (.aload_n 0, 1) := dk_42 (dk_at dksX0_spreads_11 3 rfl rfl)
theorem dX0_spreads_261 : decode cX0_spreads 261 = .ok (.aload 7, 2) := dk_25 7 (dk_at dksX0_spreads_11 4 rfl rfl)
theorem dX0_spreads_263 : decode cX0_spreads 263 = .ok (.putfield 164, 3) := dk_181 0 164 (dk_at dksX0_spreads_11 6 rfl rfl)
theorem dX0_spreads_266 : decode cX0_spreads 266 = .ok (.iinc 3 1, 3) := dk_132 3 1 (dk_at dksX0_spreads_11 9 rfl rfl)
theorem dX0_spreads_269 : decode cX0_spreads 269 = .ok (.goto (-234), 3) := dk_167 255 22 (dk_at dksX0_spreads_11 12 rfl rfl)
theorem dX0_spreads_272 : decode cX0_spreads 272 = .ok (.return_, 1) := dk_177 (dk_at dksX0_spreads_11 15 rfl rfl)
abbrev cX0_oddsOf : ByteArray := prog_1_method_48_code
def yX0_oddsOf : MethodName := ⟨RX0, "oddsOf", "(III)J"⟩
def dkwX0_oddsOf_1 : List UInt8 := [180, 0, 148, 27, 182, 0, 250, 192, 0, 242, 28, 182, 1, 110, 42, 180, 0, 161, 29, 47, 173]
abbrev dktX0_oddsOf_1 : List UInt8 := dkwX0_oddsOf_1 ++ []
def dkwX0_oddsOf_0 : List UInt8 := [42, 27, 28, 182, 1, 78, 153, 0, 12, 42, 27, 29, 182, 1, 78, 154, 0, 7, 20, 0, 53, 173, 42, 42]
abbrev dktX0_oddsOf_0 : List UInt8 := dkwX0_oddsOf_0 ++ dktX0_oddsOf_1
theorem dksX0_oddsOf_0 : cX0_oddsOf.data.toList.drop 0 = dktX0_oddsOf_0 := by decide +kernel
theorem dksX0_oddsOf_1 : cX0_oddsOf.data.toList.drop 24 = dktX0_oddsOf_1 := dk_seg dksX0_oddsOf_0 24 rfl rfl
theorem dX0_oddsOf_0 : decode cX0_oddsOf 0 = .ok (.aload_n 0, 1) := dk_42 (dk_at dksX0_oddsOf_0 0 rfl rfl)
theorem dX0_oddsOf_1 : decode cX0_oddsOf 1 = .ok (.iload_n 1, 1) := dk_27 (dk_at dksX0_oddsOf_0 1 rfl rfl)
theorem dX0_oddsOf_2 : decode cX0_oddsOf 2 = .ok (.iload_n 2, 1) := dk_28 (dk_at dksX0_oddsOf_0 2 rfl rfl)
theorem dX0_oddsOf_3 : decode cX0_oddsOf 3 = .ok (.invokevirtual 334, 3) := dk_182 1 78 (dk_at dksX0_oddsOf_0 3 rfl rfl)
theorem dX0_oddsOf_6 : decode cX0_oddsOf 6 = .ok (.ifCond .eq 12, 3) := dk_153 0 12 (dk_at dksX0_oddsOf_0 6 rfl rfl)
theorem dX0_oddsOf_9 : decode cX0_oddsOf 9 = .ok (.aload_n 0, 1) := dk_42 (dk_at dksX0_oddsOf_0 9 rfl rfl)
theorem dX0_oddsOf_10 : decode cX0_oddsOf 10 = .ok (.iload_n 1, 1) := dk_27 (dk_at dksX0_oddsOf_0 10 rfl rfl)
theorem dX0_oddsOf_11 : decode cX0_oddsOf 11 = .ok (.iload_n 3, 1) := dk_29 (dk_at dksX0_oddsOf_0 11 rfl rfl)
theorem dX0_oddsOf_12 : decode cX0_oddsOf 12 = .ok (.invokevirtual 334, 3) := dk_182 1 78 (dk_at dksX0_oddsOf_0 12 rfl rfl)
theorem dX0_oddsOf_15 : decode cX0_oddsOf 15 = .ok (.ifCond .ne 7, 3) := dk_154 0 7 (dk_at dksX0_oddsOf_0 15 rfl rfl)
theorem dX0_oddsOf_18 : decode cX0_oddsOf 18 = .ok (.ldc2_w 53, 3) := dk_20 0 53 (dk_at dksX0_oddsOf_0 18 rfl rfl)
theorem dX0_oddsOf_21 : decode cX0_oddsOf 21 = .ok (.lreturn, 1) := dk_173 (dk_at dksX0_oddsOf_0 21 rfl rfl)
theorem dX0_oddsOf_22 : decode cX0_oddsOf 22 = .ok (.aload_n 0, 1) := dk_42 (dk_at dksX0_oddsOf_0 22 rfl rfl)
theorem dX0_oddsOf_23 : decode cX0_oddsOf 23 = .ok (.aload_n 0, 1) := dk_42 (dk_at dksX0_oddsOf_0 23 rfl rfl)
theorem dX0_oddsOf_24 : decode cX0_oddsOf 24 = .ok (.getfield 148, 3) := dk_180 0 148 (dk_at dksX0_oddsOf_1 0 rfl rfl)
theorem dX0_oddsOf_27 : decode cX0_oddsOf 27 = .ok (.iload_n 1, 1) := dk_27 (dk_at dksX0_oddsOf_1 3 rfl rfl)
theorem dX0_oddsOf_28 : decode cX0_oddsOf 28 = .ok (.invokevirtual 250, 3) := dk_182 0 250 (dk_at dksX0_oddsOf_1 4 rfl rfl)
theorem dX0_oddsOf_31 : decode cX0_oddsOf 31 = .ok (.checkcast 242, 3) := dk_192 0 242 (dk_at dksX0_oddsOf_1 7 rfl rfl)
theorem dX0_oddsOf_34 : decode cX0_oddsOf 34 = .ok (.iload_n 2, 1) := dk_28 (dk_at dksX0_oddsOf_1 10 rfl rfl)
theorem dX0_oddsOf_35 : decode cX0_oddsOf 35 = .ok (.invokevirtual 366, 3) := dk_182 1 110 (dk_at dksX0_oddsOf_1 11 rfl rfl)
theorem dX0_oddsOf_38 : decode cX0_oddsOf 38 = .ok (.aload_n 0, 1) := dk_42 (dk_at dksX0_oddsOf_1 14 rfl rfl)
theorem dX0_oddsOf_39 : decode cX0_oddsOf 39 = .ok (.getfield 161, 3) := dk_180 0 161 (dk_at dksX0_oddsOf_1 15 rfl rfl)
theorem dX0_oddsOf_42 : decode cX0_oddsOf 42 = .ok (.iload_n 3, 1) := dk_29 (dk_at dksX0_oddsOf_1 18 rfl rfl)
theorem dX0_oddsOf_43 : decode cX0_oddsOf 43 = .ok (.laload, 1) := dk_47 (dk_at dksX0_oddsOf_1 19 rfl rfl)
theorem dX0_oddsOf_44 : decode cX0_oddsOf 44 = .ok (.lreturn, 1) := dk_173 (dk_at dksX0_oddsOf_1 20 rfl rfl)
abbrev cX0_possible : ByteArray := prog_1_method_49_code
def yX0_possible : MethodName := ⟨RX0, "possible", "(II)I"⟩
def dkwX0_possible_2 : List UInt8 := [21, 4, 47, 9, 148, 158, 0, 6, 132, 3, 1, 132, 4, 1, 167, 255, 226, 29, 172]
abbrev dktX0_possible_2 : List UInt8 := dkwX0_possible_2 ++ []
def dkwX0_possible_1 : List UInt8 := [182, 1, 110, 3, 62, 3, 54, 4, 21, 4, 42, 180, 0, 7, 180, 0, 17, 162, 0, 24, 42, 180, 0, 161]
abbrev dktX0_possible_1 : List UInt8 := dkwX0_possible_1 ++ dktX0_possible_2
def dkwX0_possible_0 : List UInt8 := [42, 27, 28, 182, 1, 78, 154, 0, 5, 2, 172, 42, 42, 180, 0, 148, 27, 182, 0, 250, 192, 0, 242, 28]
abbrev dktX0_possible_0 : List UInt8 := dkwX0_possible_0 ++ dktX0_possible_1
theorem dksX0_possible_0 : cX0_possible.data.toList.drop 0 = dktX0_possible_0 := by decide +kernel
theorem dksX0_possible_1 : cX0_possible.data.toList.drop 24 = dktX0_possible_1 := dk_seg dksX0_possible_0 24 rfl rfl
theorem dksX0_possible_2 : cX0_possible.data.toList.drop 48 = dktX0_possible_2 := dk_seg dksX0_possible_1 24 rfl rfl
theorem dX0_possible_0 : decode cX0_possible 0 = .ok (.aload_n 0, 1) := dk_42 (dk_at dksX0_possible_0 0 rfl rfl)
theorem dX0_possible_1 : decode cX0_possible 1 = .ok (.iload_n 1, 1) := dk_27 (dk_at dksX0_possible_0 1 rfl rfl)
theorem dX0_possible_2 : decode cX0_possible 2 = .ok (.iload_n 2, 1) := dk_28 (dk_at dksX0_possible_0 2 rfl rfl)
theorem dX0_possible_3 : decode cX0_possible 3 = .ok (.invokevirtual 334, 3) := dk_182 1 78 (dk_at dksX0_possible_0 3 rfl rfl)
theorem dX0_possible_6 : decode cX0_possible 6 = .ok (.ifCond .ne 5, 3) := dk_154 0 5 (dk_at dksX0_possible_0 6 rfl rfl)
theorem dX0_possible_9 : decode cX0_possible 9 = .ok (.iconst (-1), 1) := dk_2 (dk_at dksX0_possible_0 9 rfl rfl)
theorem dX0_possible_10 : decode cX0_possible 10 = .ok (.ireturn, 1) := dk_172 (dk_at dksX0_possible_0 10 rfl rfl)
theorem dX0_possible_11 : decode cX0_possible 11 = .ok (.aload_n 0, 1) := dk_42 (dk_at dksX0_possible_0 11 rfl rfl)
theorem dX0_possible_12 : decode cX0_possible 12 = .ok (.aload_n 0, 1) := dk_42 (dk_at dksX0_possible_0 12 rfl rfl)
theorem dX0_possible_13 : decode cX0_possible 13 = .ok (.getfield 148, 3) := dk_180 0 148 (dk_at dksX0_possible_0 13 rfl rfl)
theorem dX0_possible_16 : decode cX0_possible 16 = .ok (.iload_n 1, 1) := dk_27 (dk_at dksX0_possible_0 16 rfl rfl)
theorem dX0_possible_17 : decode cX0_possible 17 = .ok (.invokevirtual 250, 3) := dk_182 0 250 (dk_at dksX0_possible_0 17 rfl rfl)
theorem dX0_possible_20 : decode cX0_possible 20 = .ok (.checkcast 242, 3) := dk_192 0 242 (dk_at dksX0_possible_0 20 rfl rfl)
theorem dX0_possible_23 : decode cX0_possible 23 = .ok (.iload_n 2, 1) := dk_28 (dk_at dksX0_possible_0 23 rfl rfl)
theorem dX0_possible_24 : decode cX0_possible 24 = .ok (.invokevirtual 366, 3) := dk_182 1 110 (dk_at dksX0_possible_1 0 rfl rfl)
theorem dX0_possible_27 : decode cX0_possible 27 = .ok (.iconst 0, 1) := dk_3 (dk_at dksX0_possible_1 3 rfl rfl)
theorem dX0_possible_28 : decode cX0_possible 28 = .ok (.istore_n 3, 1) := dk_62 (dk_at dksX0_possible_1 4 rfl rfl)
theorem dX0_possible_29 : decode cX0_possible 29 = .ok (.iconst 0, 1) := dk_3 (dk_at dksX0_possible_1 5 rfl rfl)
theorem dX0_possible_30 : decode cX0_possible 30 = .ok (.istore 4, 2) := dk_54 4 (dk_at dksX0_possible_1 6 rfl rfl)
theorem dX0_possible_32 : decode cX0_possible 32 = .ok (.iload 4, 2) := dk_21 4 (dk_at dksX0_possible_1 8 rfl rfl)
theorem dX0_possible_34 : decode cX0_possible 34 = .ok (.aload_n 0, 1) := dk_42 (dk_at dksX0_possible_1 10 rfl rfl)
theorem dX0_possible_35 : decode cX0_possible 35 = .ok (.getfield 7, 3) := dk_180 0 7 (dk_at dksX0_possible_1 11 rfl rfl)
theorem dX0_possible_38 : decode cX0_possible 38 = .ok (.getfield 17, 3) := dk_180 0 17 (dk_at dksX0_possible_1 14 rfl rfl)
theorem dX0_possible_41 : decode cX0_possible 41 = .ok (.if_icmp .ge 24, 3) := dk_162 0 24 (dk_at dksX0_possible_1 17 rfl rfl)
theorem dX0_possible_44 : decode cX0_possible 44 = .ok (.aload_n 0, 1) := dk_42 (dk_at dksX0_possible_1 20 rfl rfl)
theorem dX0_possible_45 : decode cX0_possible 45 = .ok (.getfield 161, 3) := dk_180 0 161 (dk_at dksX0_possible_1 21 rfl rfl)
theorem dX0_possible_48 : decode cX0_possible 48 = .ok (.iload 4, 2) := dk_21 4 (dk_at dksX0_possible_2 0 rfl rfl)
theorem dX0_possible_50 : decode cX0_possible 50 = .ok (.laload, 1) := dk_47 (dk_at dksX0_possible_2 2 rfl rfl)
theorem dX0_possible_51 : decode cX0_possible 51 = .ok (.lconst 0, 1) := dk_9 (dk_at dksX0_possible_2 3 rfl rfl)
theorem dX0_possible_52 : decode cX0_possible 52 = .ok (.lcmp, 1) := dk_148 (dk_at dksX0_possible_2 4 rfl rfl)
theorem dX0_possible_53 : decode cX0_possible 53 = .ok (.ifCond .le 6, 3) := dk_158 0 6 (dk_at dksX0_possible_2 5 rfl rfl)
theorem dX0_possible_56 : decode cX0_possible 56 = .ok (.iinc 3 1, 3) := dk_132 3 1 (dk_at dksX0_possible_2 8 rfl rfl)
theorem dX0_possible_59 : decode cX0_possible 59 = .ok (.iinc 4 1, 3) := dk_132 4 1 (dk_at dksX0_possible_2 11 rfl rfl)
theorem dX0_possible_62 : decode cX0_possible 62 = .ok (.goto (-30), 3) := dk_167 255 226 (dk_at dksX0_possible_2 14 rfl rfl)
theorem dX0_possible_65 : decode cX0_possible 65 = .ok (.iload_n 3, 1) := dk_29 (dk_at dksX0_possible_2 17 rfl rfl)
theorem dX0_possible_66 : decode cX0_possible 66 = .ok (.ireturn, 1) := dk_172 (dk_at dksX0_possible_2 18 rfl rfl)
abbrev cX0_log : ByteArray := prog_1_method_50_code
def yX0_log : MethodName := ⟨RX0, "log", "(III)I"⟩
def dkwX0_log_3 : List UInt8 := [42, 180, 0, 239, 4, 100, 172]
abbrev dktX0_log_3 : List UInt8 := dkwX0_log_3 ++ []
def dkwX0_log_2 : List UInt8 := [28, 145, 84, 42, 180, 0, 173, 42, 180, 0, 239, 29, 145, 84, 42, 89, 180, 0, 239, 4, 96, 181, 0, 239]
abbrev dktX0_log_2 : List UInt8 := dkwX0_log_2 ++ dktX0_log_3
def dkwX0_log_1 : List UInt8 := [154, 0, 5, 2, 172, 42, 180, 0, 167, 42, 180, 0, 239, 27, 145, 84, 42, 180, 0, 170, 42, 180, 0, 239]
abbrev dktX0_log_1 : List UInt8 := dkwX0_log_1 ++ dktX0_log_2
def dkwX0_log_0 : List UInt8 := [42, 180, 0, 239, 16, 40, 159, 0, 21, 42, 27, 28, 182, 1, 107, 153, 0, 12, 42, 27, 29, 182, 1, 107]
abbrev dktX0_log_0 : List UInt8 := dkwX0_log_0 ++ dktX0_log_1
theorem dksX0_log_0 : cX0_log.data.toList.drop 0 = dktX0_log_0 := by decide +kernel
theorem dksX0_log_1 : cX0_log.data.toList.drop 24 = dktX0_log_1 := dk_seg dksX0_log_0 24 rfl rfl
theorem dksX0_log_2 : cX0_log.data.toList.drop 48 = dktX0_log_2 := dk_seg dksX0_log_1 24 rfl rfl
theorem dksX0_log_3 : cX0_log.data.toList.drop 72 = dktX0_log_3 := dk_seg dksX0_log_2 24 rfl rfl
theorem dX0_log_0 : decode cX0_log 0 = .ok (.aload_n 0, 1) := dk_42 (dk_at dksX0_log_0 0 rfl rfl)
theorem dX0_log_1 : decode cX0_log 1 = .ok (.getfield 239, 3) := dk_180 0 239 (dk_at dksX0_log_0 1 rfl rfl)
theorem dX0_log_4 : decode cX0_log 4 = .ok (.bipush 40, 2) := dk_16 40 (dk_at dksX0_log_0 4 rfl rfl)
theorem dX0_log_6 : decode cX0_log 6 = .ok (.if_icmp .eq 21, 3) := dk_159 0 21 (dk_at dksX0_log_0 6 rfl rfl)
theorem dX0_log_9 : decode cX0_log 9 = .ok (.aload_n 0, 1) := dk_42 (dk_at dksX0_log_0 9 rfl rfl)
theorem dX0_log_10 : decode cX0_log 10 = .ok (.iload_n 1, 1) := dk_27 (dk_at dksX0_log_0 10 rfl rfl)
theorem dX0_log_11 : decode cX0_log 11 = .ok (.iload_n 2, 1) := dk_28 (dk_at dksX0_log_0 11 rfl rfl)
theorem dX0_log_12 : decode cX0_log 12 = .ok (.invokevirtual 363, 3) := dk_182 1 107 (dk_at dksX0_log_0 12 rfl rfl)
theorem dX0_log_15 : decode cX0_log 15 = .ok (.ifCond .eq 12, 3) := dk_153 0 12 (dk_at dksX0_log_0 15 rfl rfl)
theorem dX0_log_18 : decode cX0_log 18 = .ok (.aload_n 0, 1) := dk_42 (dk_at dksX0_log_0 18 rfl rfl)
theorem dX0_log_19 : decode cX0_log 19 = .ok (.iload_n 1, 1) := dk_27 (dk_at dksX0_log_0 19 rfl rfl)
theorem dX0_log_20 : decode cX0_log 20 = .ok (.iload_n 3, 1) := dk_29 (dk_at dksX0_log_0 20 rfl rfl)
theorem dX0_log_21 : decode cX0_log 21 = .ok (.invokevirtual 363, 3) := dk_182 1 107 (dk_at dksX0_log_0 21 rfl rfl)
theorem dX0_log_24 : decode cX0_log 24 = .ok (.ifCond .ne 5, 3) := dk_154 0 5 (dk_at dksX0_log_1 0 rfl rfl)
theorem dX0_log_27 : decode cX0_log 27 = .ok (.iconst (-1), 1) := dk_2 (dk_at dksX0_log_1 3 rfl rfl)
theorem dX0_log_28 : decode cX0_log 28 = .ok (.ireturn, 1) := dk_172 (dk_at dksX0_log_1 4 rfl rfl)
theorem dX0_log_29 : decode cX0_log 29 = .ok (.aload_n 0, 1) := dk_42 (dk_at dksX0_log_1 5 rfl rfl)
theorem dX0_log_30 : decode cX0_log 30 = .ok (.getfield 167, 3) := dk_180 0 167 (dk_at dksX0_log_1 6 rfl rfl)
theorem dX0_log_33 : decode cX0_log 33 = .ok (.aload_n 0, 1) := dk_42 (dk_at dksX0_log_1 9 rfl rfl)
theorem dX0_log_34 : decode cX0_log 34 = .ok (.getfield 239, 3) := dk_180 0 239 (dk_at dksX0_log_1 10 rfl rfl)
theorem dX0_log_37 : decode cX0_log 37 = .ok (.iload_n 1, 1) := dk_27 (dk_at dksX0_log_1 13 rfl rfl)
theorem dX0_log_38 : decode cX0_log 38 = .ok (.i2b, 1) := dk_145 (dk_at dksX0_log_1 14 rfl rfl)
theorem dX0_log_39 : decode cX0_log 39 = .ok (.bastore, 1) := dk_84 (dk_at dksX0_log_1 15 rfl rfl)
theorem dX0_log_40 : decode cX0_log 40 = .ok (.aload_n 0, 1) := dk_42 (dk_at dksX0_log_1 16 rfl rfl)
theorem dX0_log_41 : decode cX0_log 41 = .ok (.getfield 170, 3) := dk_180 0 170 (dk_at dksX0_log_1 17 rfl rfl)
theorem dX0_log_44 : decode cX0_log 44 = .ok (.aload_n 0, 1) := dk_42 (dk_at dksX0_log_1 20 rfl rfl)
theorem dX0_log_45 : decode cX0_log 45 = .ok (.getfield 239, 3) := dk_180 0 239 (dk_at dksX0_log_1 21 rfl rfl)
theorem dX0_log_48 : decode cX0_log 48 = .ok (.iload_n 2, 1) := dk_28 (dk_at dksX0_log_2 0 rfl rfl)
theorem dX0_log_49 : decode cX0_log 49 = .ok (.i2b, 1) := dk_145 (dk_at dksX0_log_2 1 rfl rfl)
theorem dX0_log_50 : decode cX0_log 50 = .ok (.bastore, 1) := dk_84 (dk_at dksX0_log_2 2 rfl rfl)
theorem dX0_log_51 : decode cX0_log 51 = .ok (.aload_n 0, 1) := dk_42 (dk_at dksX0_log_2 3 rfl rfl)
theorem dX0_log_52 : decode cX0_log 52 = .ok (.getfield 173, 3) := dk_180 0 173 (dk_at dksX0_log_2 4 rfl rfl)
theorem dX0_log_55 : decode cX0_log 55 = .ok (.aload_n 0, 1) := dk_42 (dk_at dksX0_log_2 7 rfl rfl)
theorem dX0_log_56 : decode cX0_log 56 = .ok (.getfield 239, 3) := dk_180 0 239 (dk_at dksX0_log_2 8 rfl rfl)
theorem dX0_log_59 : decode cX0_log 59 = .ok (.iload_n 3, 1) := dk_29 (dk_at dksX0_log_2 11 rfl rfl)
theorem dX0_log_60 : decode cX0_log 60 = .ok (.i2b, 1) := dk_145 (dk_at dksX0_log_2 12 rfl rfl)
theorem dX0_log_61 : decode cX0_log 61 = .ok (.bastore, 1) := dk_84 (dk_at dksX0_log_2 13 rfl rfl)
theorem dX0_log_62 : decode cX0_log 62 = .ok (.aload_n 0, 1) := dk_42 (dk_at dksX0_log_2 14 rfl rfl)
theorem dX0_log_63 : decode cX0_log 63 = .ok (.dup, 1) := dk_89 (dk_at dksX0_log_2 15 rfl rfl)
theorem dX0_log_64 : decode cX0_log 64 = .ok (.getfield 239, 3) := dk_180 0 239 (dk_at dksX0_log_2 16 rfl rfl)
theorem dX0_log_67 : decode cX0_log 67 = .ok (.iconst 1, 1) := dk_4 (dk_at dksX0_log_2 19 rfl rfl)
theorem dX0_log_68 : decode cX0_log 68 = .ok (.iadd, 1) := dk_96 (dk_at dksX0_log_2 20 rfl rfl)
theorem dX0_log_69 : decode cX0_log 69 = .ok (.putfield 239, 3) := dk_181 0 239 (dk_at dksX0_log_2 21 rfl rfl)
theorem dX0_log_72 : decode cX0_log 72 = .ok (.aload_n 0, 1) := dk_42 (dk_at dksX0_log_3 0 rfl rfl)
theorem dX0_log_73 : decode cX0_log 73 = .ok (.getfield 239, 3) := dk_180 0 239 (dk_at dksX0_log_3 1 rfl rfl)
theorem dX0_log_76 : decode cX0_log 76 = .ok (.iconst 1, 1) := dk_4 (dk_at dksX0_log_3 4 rfl rfl)
theorem dX0_log_77 : decode cX0_log 77 = .ok (.isub, 1) := dk_100 (dk_at dksX0_log_3 5 rfl rfl)
theorem dX0_log_78 : decode cX0_log 78 = .ok (.ireturn, 1) := dk_172 (dk_at dksX0_log_3 6 rfl rfl)
abbrev cX0_annul : ByteArray := prog_1_method_51_code
def yX0_annul : MethodName := ⟨RX0, "annul", "(I)I"⟩
def dkwX0_annul_3 : List UInt8 := [4, 100, 172]
abbrev dktX0_annul_3 : List UInt8 := dkwX0_annul_3 ++ []
def dkwX0_annul_2 : List UInt8 := [180, 0, 170, 42, 180, 0, 239, 27, 145, 84, 42, 89, 180, 0, 239, 4, 96, 181, 0, 239, 42, 180, 0, 239]
abbrev dktX0_annul_2 : List UInt8 := dkwX0_annul_2 ++ dktX0_annul_3
def dkwX0_annul_1 : List UInt8 := [180, 0, 167, 27, 51, 2, 160, 0, 5, 2, 172, 42, 180, 0, 167, 42, 180, 0, 239, 2, 84, 42]
abbrev dktX0_annul_1 : List UInt8 := dkwX0_annul_1 ++ dktX0_annul_2
def dkwX0_annul_0 : List UInt8 := [42, 180, 0, 239, 16, 40, 159, 0, 27, 27, 3, 42, 180, 0, 239, 4, 100, 184, 0, 3, 153, 0, 13, 42]
abbrev dktX0_annul_0 : List UInt8 := dkwX0_annul_0 ++ dktX0_annul_1
theorem dksX0_annul_0 : cX0_annul.data.toList.drop 0 = dktX0_annul_0 := by decide +kernel
theorem dksX0_annul_1 : cX0_annul.data.toList.drop 24 = dktX0_annul_1 := dk_seg dksX0_annul_0 24 rfl rfl
theorem dksX0_annul_2 : cX0_annul.data.toList.drop 46 = dktX0_annul_2 := dk_seg dksX0_annul_1 22 rfl rfl
theorem dksX0_annul_3 : cX0_annul.data.toList.drop 70 = dktX0_annul_3 := dk_seg dksX0_annul_2 24 rfl rfl
theorem dX0_annul_0 : decode cX0_annul 0 = .ok (.aload_n 0, 1) := dk_42 (dk_at dksX0_annul_0 0 rfl rfl)
theorem dX0_annul_1 : decode cX0_annul 1 = .ok (.getfield 239, 3) := dk_180 0 239 (dk_at dksX0_annul_0 1 rfl rfl)
theorem dX0_annul_4 : decode cX0_annul 4 = .ok (.bipush 40, 2) := dk_16 40 (dk_at dksX0_annul_0 4 rfl rfl)
theorem dX0_annul_6 : decode cX0_annul 6 = .ok (.if_icmp .eq 27, 3) := dk_159 0 27 (dk_at dksX0_annul_0 6 rfl rfl)
theorem dX0_annul_9 : decode cX0_annul 9 = .ok (.iload_n 1, 1) := dk_27 (dk_at dksX0_annul_0 9 rfl rfl)
theorem dX0_annul_10 : decode cX0_annul 10 = .ok (.iconst 0, 1) := dk_3 (dk_at dksX0_annul_0 10 rfl rfl)
theorem dX0_annul_11 : decode cX0_annul 11 = .ok (.aload_n 0, 1) := dk_42 (dk_at dksX0_annul_0 11 rfl rfl)
theorem dX0_annul_12 : decode cX0_annul 12 = .ok (.getfield 239, 3) := dk_180 0 239 (dk_at dksX0_annul_0 12 rfl rfl)
theorem dX0_annul_15 : decode cX0_annul 15 = .ok (.iconst 1, 1) := dk_4 (dk_at dksX0_annul_0 15 rfl rfl)
theorem dX0_annul_16 : decode cX0_annul 16 = .ok (.isub, 1) := dk_100 (dk_at dksX0_annul_0 16 rfl rfl)
theorem dX0_annul_17 : decode cX0_annul 17 = .ok (.invokestatic 3, 3) := dk_184 0 3 (dk_at dksX0_annul_0 17 rfl rfl)
theorem dX0_annul_20 : decode cX0_annul 20 = .ok (.ifCond .eq 13, 3) := dk_153 0 13 (dk_at dksX0_annul_0 20 rfl rfl)
theorem dX0_annul_23 : decode cX0_annul 23 = .ok (.aload_n 0, 1) := dk_42 (dk_at dksX0_annul_0 23 rfl rfl)
theorem dX0_annul_24 : decode cX0_annul 24 = .ok (.getfield 167, 3) := dk_180 0 167 (dk_at dksX0_annul_1 0 rfl rfl)
theorem dX0_annul_27 : decode cX0_annul 27 = .ok (.iload_n 1, 1) := dk_27 (dk_at dksX0_annul_1 3 rfl rfl)
theorem dX0_annul_28 : decode cX0_annul 28 = .ok (.baload, 1) := dk_51 (dk_at dksX0_annul_1 4 rfl rfl)
theorem dX0_annul_29 : decode cX0_annul 29 = .ok (.iconst (-1), 1) := dk_2 (dk_at dksX0_annul_1 5 rfl rfl)
theorem dX0_annul_30 : decode cX0_annul 30 = .ok (.if_icmp .ne 5, 3) := dk_160 0 5 (dk_at dksX0_annul_1 6 rfl rfl)
theorem dX0_annul_33 : decode cX0_annul 33 = .ok (.iconst (-1), 1) := dk_2 (dk_at dksX0_annul_1 9 rfl rfl)
theorem dX0_annul_34 : decode cX0_annul 34 = .ok (.ireturn, 1) := dk_172 (dk_at dksX0_annul_1 10 rfl rfl)
theorem dX0_annul_35 : decode cX0_annul 35 = .ok (.aload_n 0, 1) := dk_42 (dk_at dksX0_annul_1 11 rfl rfl)
theorem dX0_annul_36 : decode cX0_annul 36 = .ok (.getfield 167, 3) := dk_180 0 167 (dk_at dksX0_annul_1 12 rfl rfl)
theorem dX0_annul_39 : decode cX0_annul 39 = .ok (.aload_n 0, 1) := dk_42 (dk_at dksX0_annul_1 15 rfl rfl)
theorem dX0_annul_40 : decode cX0_annul 40 = .ok (.getfield 239, 3) := dk_180 0 239 (dk_at dksX0_annul_1 16 rfl rfl)
theorem dX0_annul_43 : decode cX0_annul 43 = .ok (.iconst (-1), 1) := dk_2 (dk_at dksX0_annul_1 19 rfl rfl)
theorem dX0_annul_44 : decode cX0_annul 44 = .ok (.bastore, 1) := dk_84 (dk_at dksX0_annul_1 20 rfl rfl)
theorem dX0_annul_45 : decode cX0_annul 45 = .ok (.aload_n 0, 1) := dk_42 (dk_at dksX0_annul_1 21 rfl rfl)
theorem dX0_annul_46 : decode cX0_annul 46 = .ok (.getfield 170, 3) := dk_180 0 170 (dk_at dksX0_annul_2 0 rfl rfl)
theorem dX0_annul_49 : decode cX0_annul 49 = .ok (.aload_n 0, 1) := dk_42 (dk_at dksX0_annul_2 3 rfl rfl)
theorem dX0_annul_50 : decode cX0_annul 50 = .ok (.getfield 239, 3) := dk_180 0 239 (dk_at dksX0_annul_2 4 rfl rfl)
theorem dX0_annul_53 : decode cX0_annul 53 = .ok (.iload_n 1, 1) := dk_27 (dk_at dksX0_annul_2 7 rfl rfl)
theorem dX0_annul_54 : decode cX0_annul 54 = .ok (.i2b, 1) := dk_145 (dk_at dksX0_annul_2 8 rfl rfl)
theorem dX0_annul_55 : decode cX0_annul 55 = .ok (.bastore, 1) := dk_84 (dk_at dksX0_annul_2 9 rfl rfl)
theorem dX0_annul_56 : decode cX0_annul 56 = .ok (.aload_n 0, 1) := dk_42 (dk_at dksX0_annul_2 10 rfl rfl)
theorem dX0_annul_57 : decode cX0_annul 57 = .ok (.dup, 1) := dk_89 (dk_at dksX0_annul_2 11 rfl rfl)
theorem dX0_annul_58 : decode cX0_annul 58 = .ok (.getfield 239, 3) := dk_180 0 239 (dk_at dksX0_annul_2 12 rfl rfl)
theorem dX0_annul_61 : decode cX0_annul 61 = .ok (.iconst 1, 1) := dk_4 (dk_at dksX0_annul_2 15 rfl rfl)
theorem dX0_annul_62 : decode cX0_annul 62 = .ok (.iadd, 1) := dk_96 (dk_at dksX0_annul_2 16 rfl rfl)
theorem dX0_annul_63 : decode cX0_annul 63 = .ok (.putfield 239, 3) := dk_181 0 239 (dk_at dksX0_annul_2 17 rfl rfl)
theorem dX0_annul_66 : decode cX0_annul 66 = .ok (.aload_n 0, 1) := dk_42 (dk_at dksX0_annul_2 20 rfl rfl)
theorem dX0_annul_67 : decode cX0_annul 67 = .ok (.getfield 239, 3) := dk_180 0 239 (dk_at dksX0_annul_2 21 rfl rfl)
theorem dX0_annul_70 : decode cX0_annul 70 = .ok (.iconst 1, 1) := dk_4 (dk_at dksX0_annul_3 0 rfl rfl)
theorem dX0_annul_71 : decode cX0_annul 71 = .ok (.isub, 1) := dk_100 (dk_at dksX0_annul_3 1 rfl rfl)
theorem dX0_annul_72 : decode cX0_annul 72 = .ok (.ireturn, 1) := dk_172 (dk_at dksX0_annul_3 2 rfl rfl)
abbrev cX0_fitting : ByteArray := prog_1_method_55_code
def yX0_fitting : MethodName := ⟨RX0, "fitting", "(II)J"⟩
def dkwX0_fitting_2 : List UInt8 := [132, 5, 1, 167, 255, 231, 33, 173]
abbrev dktX0_fitting_2 : List UInt8 := dkwX0_fitting_2 ++ []
def dkwX0_fitting_1 : List UInt8 := [21, 5, 42, 180, 0, 7, 180, 0, 17, 162, 0, 19, 33, 42, 180, 0, 161, 21, 5, 47, 97, 66]
abbrev dktX0_fitting_1 : List UInt8 := dkwX0_fitting_1 ++ dktX0_fitting_2
def dkwX0_fitting_0 : List UInt8 := [42, 27, 28, 182, 1, 114, 154, 0, 7, 20, 0, 53, 173, 42, 27, 28, 182, 1, 117, 9, 66, 3, 54, 5]
abbrev dktX0_fitting_0 : List UInt8 := dkwX0_fitting_0 ++ dktX0_fitting_1
theorem dksX0_fitting_0 : cX0_fitting.data.toList.drop 0 = dktX0_fitting_0 := by decide +kernel
theorem dksX0_fitting_1 : cX0_fitting.data.toList.drop 24 = dktX0_fitting_1 := dk_seg dksX0_fitting_0 24 rfl rfl
theorem dksX0_fitting_2 : cX0_fitting.data.toList.drop 46 = dktX0_fitting_2 := dk_seg dksX0_fitting_1 22 rfl rfl
theorem dX0_fitting_0 : decode cX0_fitting 0 = .ok (.aload_n 0, 1) := dk_42 (dk_at dksX0_fitting_0 0 rfl rfl)
theorem dX0_fitting_1 : decode cX0_fitting 1 = .ok (.iload_n 1, 1) := dk_27 (dk_at dksX0_fitting_0 1 rfl rfl)
theorem dX0_fitting_2 : decode cX0_fitting 2 = .ok (.iload_n 2, 1) := dk_28 (dk_at dksX0_fitting_0 2 rfl rfl)
theorem dX0_fitting_3 : decode cX0_fitting 3 = .ok (.invokevirtual 370, 3) := dk_182 1 114 (dk_at dksX0_fitting_0 3 rfl rfl)
theorem dX0_fitting_6 : decode cX0_fitting 6 = .ok (.ifCond .ne 7, 3) := dk_154 0 7 (dk_at dksX0_fitting_0 6 rfl rfl)
theorem dX0_fitting_9 : decode cX0_fitting 9 = .ok (.ldc2_w 53, 3) := dk_20 0 53 (dk_at dksX0_fitting_0 9 rfl rfl)
theorem dX0_fitting_12 : decode cX0_fitting 12 = .ok (.lreturn, 1) := dk_173 (dk_at dksX0_fitting_0 12 rfl rfl)
theorem dX0_fitting_13 : decode cX0_fitting 13 = .ok (.aload_n 0, 1) := dk_42 (dk_at dksX0_fitting_0 13 rfl rfl)
theorem dX0_fitting_14 : decode cX0_fitting 14 = .ok (.iload_n 1, 1) := dk_27 (dk_at dksX0_fitting_0 14 rfl rfl)
theorem dX0_fitting_15 : decode cX0_fitting 15 = .ok (.iload_n 2, 1) := dk_28 (dk_at dksX0_fitting_0 15 rfl rfl)
theorem dX0_fitting_16 : decode cX0_fitting 16 = .ok (.invokevirtual 373, 3) := dk_182 1 117 (dk_at dksX0_fitting_0 16 rfl rfl)
theorem dX0_fitting_19 : decode cX0_fitting 19 = .ok (.lconst 0, 1) := dk_9 (dk_at dksX0_fitting_0 19 rfl rfl)
theorem dX0_fitting_20 : decode cX0_fitting 20 = .ok (.lstore_n 3, 1) := dk_66 (dk_at dksX0_fitting_0 20 rfl rfl)
theorem dX0_fitting_21 : decode cX0_fitting 21 = .ok (.iconst 0, 1) := dk_3 (dk_at dksX0_fitting_0 21 rfl rfl)
theorem dX0_fitting_22 : decode cX0_fitting 22 = .ok (.istore 5, 2) := dk_54 5 (dk_at dksX0_fitting_0 22 rfl rfl)
theorem dX0_fitting_24 : decode cX0_fitting 24 = .ok (.iload 5, 2) := dk_21 5 (dk_at dksX0_fitting_1 0 rfl rfl)
theorem dX0_fitting_26 : decode cX0_fitting 26 = .ok (.aload_n 0, 1) := dk_42 (dk_at dksX0_fitting_1 2 rfl rfl)
theorem dX0_fitting_27 : decode cX0_fitting 27 = .ok (.getfield 7, 3) := dk_180 0 7 (dk_at dksX0_fitting_1 3 rfl rfl)
theorem dX0_fitting_30 : decode cX0_fitting 30 = .ok (.getfield 17, 3) := dk_180 0 17 (dk_at dksX0_fitting_1 6 rfl rfl)
theorem dX0_fitting_33 : decode cX0_fitting 33 = .ok (.if_icmp .ge 19, 3) := dk_162 0 19 (dk_at dksX0_fitting_1 9 rfl rfl)
theorem dX0_fitting_36 : decode cX0_fitting 36 = .ok (.lload_n 3, 1) := dk_33 (dk_at dksX0_fitting_1 12 rfl rfl)
theorem dX0_fitting_37 : decode cX0_fitting 37 = .ok (.aload_n 0, 1) := dk_42 (dk_at dksX0_fitting_1 13 rfl rfl)
theorem dX0_fitting_38 : decode cX0_fitting 38 = .ok (.getfield 161, 3) := dk_180 0 161 (dk_at dksX0_fitting_1 14 rfl rfl)
theorem dX0_fitting_41 : decode cX0_fitting 41 = .ok (.iload 5, 2) := dk_21 5 (dk_at dksX0_fitting_1 17 rfl rfl)
theorem dX0_fitting_43 : decode cX0_fitting 43 = .ok (.laload, 1) := dk_47 (dk_at dksX0_fitting_1 19 rfl rfl)
theorem dX0_fitting_44 : decode cX0_fitting 44 = .ok (.ladd, 1) := dk_97 (dk_at dksX0_fitting_1 20 rfl rfl)
theorem dX0_fitting_45 : decode cX0_fitting 45 = .ok (.lstore_n 3, 1) := dk_66 (dk_at dksX0_fitting_1 21 rfl rfl)
theorem dX0_fitting_46 : decode cX0_fitting 46 = .ok (.iinc 5 1, 3) := dk_132 5 1 (dk_at dksX0_fitting_2 0 rfl rfl)
theorem dX0_fitting_49 : decode cX0_fitting 49 = .ok (.goto (-25), 3) := dk_167 255 231 (dk_at dksX0_fitting_2 3 rfl rfl)
theorem dX0_fitting_52 : decode cX0_fitting 52 = .ok (.lload_n 3, 1) := dk_33 (dk_at dksX0_fitting_2 6 rfl rfl)
theorem dX0_fitting_53 : decode cX0_fitting 53 = .ok (.lreturn, 1) := dk_173 (dk_at dksX0_fitting_2 7 rfl rfl)
abbrev cX0_isKnown : ByteArray := prog_1_method_53_code
def yX0_isKnown : MethodName := ⟨RX0, "isKnown", "(II)Z"⟩
def dkwX0_isKnown_1 : List UInt8 := [3, 172]
abbrev dktX0_isKnown_1 : List UInt8 := dkwX0_isKnown_1 ++ []
def dkwX0_isKnown_0 : List UInt8 := [42, 27, 182, 0, 247, 153, 0, 19, 28, 3, 42, 180, 0, 239, 184, 0, 3, 153, 0, 7, 4, 167, 0, 4]
abbrev dktX0_isKnown_0 : List UInt8 := dkwX0_isKnown_0 ++ dktX0_isKnown_1
theorem dksX0_isKnown_0 : cX0_isKnown.data.toList.drop 0 = dktX0_isKnown_0 := by decide +kernel
theorem dksX0_isKnown_1 : cX0_isKnown.data.toList.drop 24 = dktX0_isKnown_1 := dk_seg dksX0_isKnown_0 24 rfl rfl
theorem dX0_isKnown_0 : decode cX0_isKnown 0 = .ok (.aload_n 0, 1) := dk_42 (dk_at dksX0_isKnown_0 0 rfl rfl)
theorem dX0_isKnown_1 : decode cX0_isKnown 1 = .ok (.iload_n 1, 1) := dk_27 (dk_at dksX0_isKnown_0 1 rfl rfl)
theorem dX0_isKnown_2 : decode cX0_isKnown 2 = .ok (.invokevirtual 247, 3) := dk_182 0 247 (dk_at dksX0_isKnown_0 2 rfl rfl)
theorem dX0_isKnown_5 : decode cX0_isKnown 5 = .ok (.ifCond .eq 19, 3) := dk_153 0 19 (dk_at dksX0_isKnown_0 5 rfl rfl)
theorem dX0_isKnown_8 : decode cX0_isKnown 8 = .ok (.iload_n 2, 1) := dk_28 (dk_at dksX0_isKnown_0 8 rfl rfl)
theorem dX0_isKnown_9 : decode cX0_isKnown 9 = .ok (.iconst 0, 1) := dk_3 (dk_at dksX0_isKnown_0 9 rfl rfl)
theorem dX0_isKnown_10 : decode cX0_isKnown 10 = .ok (.aload_n 0, 1) := dk_42 (dk_at dksX0_isKnown_0 10 rfl rfl)
theorem dX0_isKnown_11 : decode cX0_isKnown 11 = .ok (.getfield 239, 3) := dk_180 0 239 (dk_at dksX0_isKnown_0 11 rfl rfl)
theorem dX0_isKnown_14 : decode cX0_isKnown 14 = .ok (.invokestatic 3, 3) := dk_184 0 3 (dk_at dksX0_isKnown_0 14 rfl rfl)
theorem dX0_isKnown_17 : decode cX0_isKnown 17 = .ok (.ifCond .eq 7, 3) := dk_153 0 7 (dk_at dksX0_isKnown_0 17 rfl rfl)
theorem dX0_isKnown_20 : decode cX0_isKnown 20 = .ok (.iconst 1, 1) := dk_4 (dk_at dksX0_isKnown_0 20 rfl rfl)
theorem dX0_isKnown_21 : decode cX0_isKnown 21 = .ok (.goto 4, 3) := dk_167 0 4 (dk_at dksX0_isKnown_0 21 rfl rfl)
theorem dX0_isKnown_24 : decode cX0_isKnown 24 = .ok (.iconst 0, 1) := dk_3 (dk_at dksX0_isKnown_1 0 rfl rfl)
theorem dX0_isKnown_25 : decode cX0_isKnown 25 = .ok (.ireturn, 1) := dk_172 (dk_at dksX0_isKnown_1 1 rfl rfl)
abbrev cX0_fits : ByteArray := prog_1_method_52_code
def yX0_fits : MethodName := ⟨RX0, "fits", "(II)V"⟩
def dkwX0_fits_7 : List UInt8 := [159, 0, 11, 42, 180, 0, 161, 21, 5, 9, 80, 132, 5, 1, 167, 255, 207, 132, 4, 1, 167, 255, 168, 177]
abbrev dktX0_fits_7 : List UInt8 := dkwX0_fits_7 ++ []
def dkwX0_fits_6 : List UInt8 := [42, 180, 0, 7, 21, 5, 42, 180, 0, 173, 21, 4, 51, 182, 0, 46, 42, 180, 0, 170, 21, 4, 51]
abbrev dktX0_fits_6 : List UInt8 := dkwX0_fits_6 ++ dktX0_fits_7
def dkwX0_fits_5 : List UInt8 := [21, 4, 51, 153, 0, 6, 167, 0, 58, 3, 54, 5, 21, 5, 42, 180, 0, 7, 180, 0, 17, 162, 0, 43]
abbrev dktX0_fits_5 : List UInt8 := dkwX0_fits_5 ++ dktX0_fits_6
def dkwX0_fits_4 : List UInt8 := [54, 4, 21, 4, 28, 162, 0, 88, 42, 180, 0, 167, 21, 4, 51, 27, 160, 0, 71, 42, 180, 0, 176]
abbrev dktX0_fits_4 : List UInt8 := dkwX0_fits_4 ++ dktX0_fits_5
def dkwX0_fits_3 : List UInt8 := [160, 0, 16, 42, 180, 0, 176, 42, 180, 0, 170, 21, 4, 51, 4, 84, 132, 4, 1, 167, 255, 223, 3]
abbrev dktX0_fits_3 : List UInt8 := dkwX0_fits_3 ++ dktX0_fits_4
def dkwX0_fits_2 : List UInt8 := [132, 4, 1, 167, 255, 239, 3, 54, 4, 21, 4, 28, 162, 0, 33, 42, 180, 0, 167, 21, 4, 51, 2]
abbrev dktX0_fits_2 : List UInt8 := dkwX0_fits_2 ++ dktX0_fits_3
def dkwX0_fits_1 : List UInt8 := [45, 3, 182, 1, 110, 3, 54, 4, 21, 4, 28, 162, 0, 17, 42, 180, 0, 176, 21, 4, 3, 84]
abbrev dktX0_fits_1 : List UInt8 := dkwX0_fits_1 ++ dktX0_fits_2
def dkwX0_fits_0 : List UInt8 := [42, 180, 0, 148, 27, 182, 0, 250, 192, 0, 242, 78, 42, 180, 0, 7, 45, 180, 0, 254, 182, 0, 11, 42]
abbrev dktX0_fits_0 : List UInt8 := dkwX0_fits_0 ++ dktX0_fits_1
theorem dksX0_fits_0 : cX0_fits.data.toList.drop 0 = dktX0_fits_0 := by decide +kernel
theorem dksX0_fits_1 : cX0_fits.data.toList.drop 24 = dktX0_fits_1 := dk_seg dksX0_fits_0 24 rfl rfl
theorem dksX0_fits_2 : cX0_fits.data.toList.drop 46 = dktX0_fits_2 := dk_seg dksX0_fits_1 22 rfl rfl
theorem dksX0_fits_3 : cX0_fits.data.toList.drop 69 = dktX0_fits_3 := dk_seg dksX0_fits_2 23 rfl rfl
theorem dksX0_fits_4 : cX0_fits.data.toList.drop 92 = dktX0_fits_4 := dk_seg dksX0_fits_3 23 rfl rfl
theorem dksX0_fits_5 : cX0_fits.data.toList.drop 115 = dktX0_fits_5 := dk_seg dksX0_fits_4 23 rfl rfl
theorem dksX0_fits_6 : cX0_fits.data.toList.drop 139 = dktX0_fits_6 := dk_seg dksX0_fits_5 24 rfl rfl
theorem dksX0_fits_7 : cX0_fits.data.toList.drop 162 = dktX0_fits_7 := dk_seg dksX0_fits_6 23 rfl rfl
theorem dX0_fits_0 : decode cX0_fits 0 = .ok (.aload_n 0, 1) := dk_42 (dk_at dksX0_fits_0 0 rfl rfl)
theorem dX0_fits_1 : decode cX0_fits 1 = .ok (.getfield 148, 3) := dk_180 0 148 (dk_at dksX0_fits_0 1 rfl rfl)
theorem dX0_fits_4 : decode cX0_fits 4 = .ok (.iload_n 1, 1) := dk_27 (dk_at dksX0_fits_0 4 rfl rfl)
theorem dX0_fits_5 : decode cX0_fits 5 = .ok (.invokevirtual 250, 3) := dk_182 0 250 (dk_at dksX0_fits_0 5 rfl rfl)
theorem dX0_fits_8 : decode cX0_fits 8 = .ok (.checkcast 242, 3) := dk_192 0 242 (dk_at dksX0_fits_0 8 rfl rfl)
theorem dX0_fits_11 : decode cX0_fits 11 = .ok (.astore_n 3, 1) := dk_78 (dk_at dksX0_fits_0 11 rfl rfl)
theorem dX0_fits_12 : decode cX0_fits 12 = .ok (.aload_n 0, 1) := dk_42 (dk_at dksX0_fits_0 12 rfl rfl)
theorem dX0_fits_13 : decode cX0_fits 13 = .ok (.getfield 7, 3) := dk_180 0 7 (dk_at dksX0_fits_0 13 rfl rfl)
theorem dX0_fits_16 : decode cX0_fits 16 = .ok (.aload_n 3, 1) := dk_45 (dk_at dksX0_fits_0 16 rfl rfl)
theorem dX0_fits_17 : decode cX0_fits 17 = .ok (.getfield 254, 3) := dk_180 0 254 (dk_at dksX0_fits_0 17 rfl rfl)
theorem dX0_fits_20 : decode cX0_fits 20 = .ok (.invokevirtual 11, 3) := dk_182 0 11 (dk_at dksX0_fits_0 20 rfl rfl)
theorem dX0_fits_23 : decode cX0_fits 23 = .ok (.aload_n 0, 1) := dk_42 (dk_at dksX0_fits_0 23 rfl rfl)
theorem dX0_fits_24 : decode cX0_fits 24 = .ok (.aload_n 3, 1) := dk_45 (dk_at dksX0_fits_1 0 rfl rfl)
theorem dX0_fits_25 : decode cX0_fits 25 = .ok (.iconst 0, 1) := dk_3 (dk_at dksX0_fits_1 1 rfl rfl)
theorem dX0_fits_26 : decode cX0_fits 26 = .ok (.invokevirtual 366, 3) := dk_182 1 110 (dk_at dksX0_fits_1 2 rfl rfl)
theorem dX0_fits_29 : decode cX0_fits 29 = .ok (.iconst 0, 1) := dk_3 (dk_at dksX0_fits_1 5 rfl rfl)
theorem dX0_fits_30 : decode cX0_fits 30 = .ok (.istore 4, 2) := dk_54 4 (dk_at dksX0_fits_1 6 rfl rfl)
theorem dX0_fits_32 : decode cX0_fits 32 = .ok (.iload 4, 2) := dk_21 4 (dk_at dksX0_fits_1 8 rfl rfl)
theorem dX0_fits_34 : decode cX0_fits 34 = .ok (.iload_n 2, 1) := dk_28 (dk_at dksX0_fits_1 10 rfl rfl)
theorem dX0_fits_35 : decode cX0_fits 35 = .ok (.if_icmp .ge 17, 3) := dk_162 0 17 (dk_at dksX0_fits_1 11 rfl rfl)
theorem dX0_fits_38 : decode cX0_fits 38 = .ok (.aload_n 0, 1) := dk_42 (dk_at dksX0_fits_1 14 rfl rfl)
theorem dX0_fits_39 : decode cX0_fits 39 = .ok (.getfield 176, 3) := dk_180 0 176 (dk_at dksX0_fits_1 15 rfl rfl)
theorem dX0_fits_42 : decode cX0_fits 42 = .ok (.iload 4, 2) := dk_21 4 (dk_at dksX0_fits_1 18 rfl rfl)
theorem dX0_fits_44 : decode cX0_fits 44 = .ok (.iconst 0, 1) := dk_3 (dk_at dksX0_fits_1 20 rfl rfl)
theorem dX0_fits_45 : decode cX0_fits 45 = .ok (.bastore, 1) := dk_84 (dk_at dksX0_fits_1 21 rfl rfl)
theorem dX0_fits_46 : decode cX0_fits 46 = .ok (.iinc 4 1, 3) := dk_132 4 1 (dk_at dksX0_fits_2 0 rfl rfl)
theorem dX0_fits_49 : decode cX0_fits 49 = .ok (.goto (-17), 3) := dk_167 255 239 (dk_at dksX0_fits_2 3 rfl rfl)
theorem dX0_fits_52 : decode cX0_fits 52 = .ok (.iconst 0, 1) := dk_3 (dk_at dksX0_fits_2 6 rfl rfl)
theorem dX0_fits_53 : decode cX0_fits 53 = .ok (.istore 4, 2) := dk_54 4 (dk_at dksX0_fits_2 7 rfl rfl)
theorem dX0_fits_55 : decode cX0_fits 55 = .ok (.iload 4, 2) := dk_21 4 (dk_at dksX0_fits_2 9 rfl rfl)
theorem dX0_fits_57 : decode cX0_fits 57 = .ok (.iload_n 2, 1) := dk_28 (dk_at dksX0_fits_2 11 rfl rfl)
theorem dX0_fits_58 : decode cX0_fits 58 = .ok (.if_icmp .ge 33, 3) := dk_162 0 33 (dk_at dksX0_fits_2 12 rfl rfl)
theorem dX0_fits_61 : decode cX0_fits 61 = .ok (.aload_n 0, 1) := dk_42 (dk_at dksX0_fits_2 15 rfl rfl)
theorem dX0_fits_62 : decode cX0_fits 62 = .ok (.getfield 167, 3) := dk_180 0 167 (dk_at dksX0_fits_2 16 rfl rfl)
theorem dX0_fits_65 : decode cX0_fits 65 = .ok (.iload 4, 2) := dk_21 4 (dk_at dksX0_fits_2 19 rfl rfl)
theorem dX0_fits_67 : decode cX0_fits 67 = .ok (.baload, 1) := dk_51 (dk_at dksX0_fits_2 21 rfl rfl)
theorem dX0_fits_68 : decode cX0_fits 68 = .ok (.iconst (-1), 1) := dk_2 (dk_at dksX0_fits_2 22 rfl rfl)
theorem dX0_fits_69 : decode cX0_fits 69 = .ok (.if_icmp .ne 16, 3) := dk_160 0 16 (dk_at dksX0_fits_3 0 rfl rfl)
theorem dX0_fits_72 : decode cX0_fits 72 = .ok (.aload_n 0, 1) := dk_42 (dk_at dksX0_fits_3 3 rfl rfl)
theorem dX0_fits_73 : decode cX0_fits 73 = .ok (.getfield 176, 3) := dk_180 0 176 (dk_at dksX0_fits_3 4 rfl rfl)
theorem dX0_fits_76 : decode cX0_fits 76 = .ok (.aload_n 0, 1) := dk_42 (dk_at dksX0_fits_3 7 rfl rfl)
theorem dX0_fits_77 : decode cX0_fits 77 = .ok (.getfield 170, 3) := dk_180 0 170 (dk_at dksX0_fits_3 8 rfl rfl)
theorem dX0_fits_80 : decode cX0_fits 80 = .ok (.iload 4, 2) := dk_21 4 (dk_at dksX0_fits_3 11 rfl rfl)
theorem dX0_fits_82 : decode cX0_fits 82 = .ok (.baload, 1) := dk_51 (dk_at dksX0_fits_3 13 rfl rfl)
theorem dX0_fits_83 : decode cX0_fits 83 = .ok (.iconst 1, 1) := dk_4 (dk_at dksX0_fits_3 14 rfl rfl)
theorem dX0_fits_84 : decode cX0_fits 84 = .ok (.bastore, 1) := dk_84 (dk_at dksX0_fits_3 15 rfl rfl)
theorem dX0_fits_85 : decode cX0_fits 85 = .ok (.iinc 4 1, 3) := dk_132 4 1 (dk_at dksX0_fits_3 16 rfl rfl)
theorem dX0_fits_88 : decode cX0_fits 88 = .ok (.goto (-33), 3) := dk_167 255 223 (dk_at dksX0_fits_3 19 rfl rfl)
theorem dX0_fits_91 : decode cX0_fits 91 = .ok (.iconst 0, 1) := dk_3 (dk_at dksX0_fits_3 22 rfl rfl)
theorem dX0_fits_92 : decode cX0_fits 92 = .ok (.istore 4, 2) := dk_54 4 (dk_at dksX0_fits_4 0 rfl rfl)
theorem dX0_fits_94 : decode cX0_fits 94 = .ok (.iload 4, 2) := dk_21 4 (dk_at dksX0_fits_4 2 rfl rfl)
theorem dX0_fits_96 : decode cX0_fits 96 = .ok (.iload_n 2, 1) := dk_28 (dk_at dksX0_fits_4 4 rfl rfl)
theorem dX0_fits_97 : decode cX0_fits 97 = .ok (.if_icmp .ge 88, 3) := dk_162 0 88 (dk_at dksX0_fits_4 5 rfl rfl)
theorem dX0_fits_100 : decode cX0_fits 100 = .ok (.aload_n 0, 1) := dk_42 (dk_at dksX0_fits_4 8 rfl rfl)
theorem dX0_fits_101 : decode cX0_fits 101 = .ok (.getfield 167, 3) := dk_180 0 167 (dk_at dksX0_fits_4 9 rfl rfl)
theorem dX0_fits_104 : decode cX0_fits 104 = .ok (.iload 4, 2) := dk_21 4 (dk_at dksX0_fits_4 12 rfl rfl)
theorem dX0_fits_106 : decode cX0_fits 106 = .ok (.baload, 1) := dk_51 (dk_at dksX0_fits_4 14 rfl rfl)
theorem dX0_fits_107 : decode cX0_fits 107 = .ok (.iload_n 1, 1) := dk_27 (dk_at dksX0_fits_4 15 rfl rfl)
theorem dX0_fits_108 : decode cX0_fits 108 = .ok (.if_icmp .ne 71, 3) := dk_160 0 71 (dk_at dksX0_fits_4 16 rfl rfl)
theorem dX0_fits_111 : decode cX0_fits 111 = .ok (.aload_n 0, 1) := dk_42 (dk_at dksX0_fits_4 19 rfl rfl)
theorem dX0_fits_112 : decode cX0_fits 112 = .ok (.getfield 176, 3) := dk_180 0 176 (dk_at dksX0_fits_4 20 rfl rfl)
theorem dX0_fits_115 : decode cX0_fits 115 = .ok (.iload 4, 2) := dk_21 4 (dk_at dksX0_fits_5 0 rfl rfl)
theorem dX0_fits_117 : decode cX0_fits 117 = .ok (.baload, 1) := dk_51 (dk_at dksX0_fits_5 2 rfl rfl)
theorem dX0_fits_118 : decode cX0_fits 118 = .ok (.ifCond .eq 6, 3) := dk_153 0 6 (dk_at dksX0_fits_5 3 rfl rfl)
theorem dX0_fits_121 : decode cX0_fits 121 = .ok (.goto 58, 3) := dk_167 0 58 (dk_at dksX0_fits_5 6 rfl rfl)
theorem dX0_fits_124 : decode cX0_fits 124 = .ok (.iconst 0, 1) := dk_3 (dk_at dksX0_fits_5 9 rfl rfl)
theorem dX0_fits_125 : decode cX0_fits 125 = .ok (.istore 5, 2) := dk_54 5 (dk_at dksX0_fits_5 10 rfl rfl)
theorem dX0_fits_127 : decode cX0_fits 127 = .ok (.iload 5, 2) := dk_21 5 (dk_at dksX0_fits_5 12 rfl rfl)
theorem dX0_fits_129 : decode cX0_fits 129 = .ok (.aload_n 0, 1) := dk_42 (dk_at dksX0_fits_5 14 rfl rfl)
theorem dX0_fits_130 : decode cX0_fits 130 = .ok (.getfield 7, 3) := dk_180 0 7 (dk_at dksX0_fits_5 15 rfl rfl)
theorem dX0_fits_133 : decode cX0_fits 133 = .ok (.getfield 17, 3) := dk_180 0 17 (dk_at dksX0_fits_5 18 rfl rfl)
theorem dX0_fits_136 : decode cX0_fits 136 = .ok (.if_icmp .ge 43, 3) := dk_162 0 43 (dk_at dksX0_fits_5 21 rfl rfl)
theorem dX0_fits_139 : decode cX0_fits 139 = .ok (.aload_n 0, 1) := dk_42 (dk_at dksX0_fits_6 0 rfl rfl)
theorem dX0_fits_140 : decode cX0_fits 140 = .ok (.getfield 7, 3) := dk_180 0 7 (dk_at dksX0_fits_6 1 rfl rfl)
theorem dX0_fits_143 : decode cX0_fits 143 = .ok (.iload 5, 2) := dk_21 5 (dk_at dksX0_fits_6 4 rfl rfl)
theorem dX0_fits_145 : decode cX0_fits 145 = .ok (.aload_n 0, 1) := dk_42 (dk_at dksX0_fits_6 6 rfl rfl)
theorem dX0_fits_146 : decode cX0_fits 146 = .ok (.getfield 173, 3) := dk_180 0 173 (dk_at dksX0_fits_6 7 rfl rfl)
theorem dX0_fits_149 : decode cX0_fits 149 = .ok (.iload 4, 2) := dk_21 4 (dk_at dksX0_fits_6 10 rfl rfl)
theorem dX0_fits_151 : decode cX0_fits 151 = .ok (.baload, 1) := dk_51 (dk_at dksX0_fits_6 12 rfl rfl)
theorem dX0_fits_152 : decode cX0_fits 152 = .ok (.invokevirtual 46, 3) := dk_182 0 46 (dk_at dksX0_fits_6 13 rfl rfl)
theorem dX0_fits_155 : decode cX0_fits 155 = .ok (.aload_n 0, 1) := dk_42 (dk_at dksX0_fits_6 16 rfl rfl)
theorem dX0_fits_156 : decode cX0_fits 156 = .ok (.getfield 170, 3) := dk_180 0 170 (dk_at dksX0_fits_6 17 rfl rfl)
theorem dX0_fits_159 : decode cX0_fits 159 = .ok (.iload 4, 2) := dk_21 4 (dk_at dksX0_fits_6 20 rfl rfl)
theorem dX0_fits_161 : decode cX0_fits 161 = .ok (.baload, 1) := dk_51 (dk_at dksX0_fits_6 22 rfl rfl)
theorem dX0_fits_162 : decode cX0_fits 162 = .ok (.if_icmp .eq 11, 3) := dk_159 0 11 (dk_at dksX0_fits_7 0 rfl rfl)
theorem dX0_fits_165 : decode cX0_fits 165 = .ok (.aload_n 0, 1) := dk_42 (dk_at dksX0_fits_7 3 rfl rfl)
theorem dX0_fits_166 : decode cX0_fits 166 = .ok (.getfield 161, 3) := dk_180 0 161 (dk_at dksX0_fits_7 4 rfl rfl)
theorem dX0_fits_169 : decode cX0_fits 169 = .ok (.iload 5, 2) := dk_21 5 (dk_at dksX0_fits_7 7 rfl rfl)
theorem dX0_fits_171 : decode cX0_fits 171 = .ok (.lconst 0, 1) := dk_9 (dk_at dksX0_fits_7 9 rfl rfl)
theorem dX0_fits_172 : decode cX0_fits 172 = .ok (.lastore, 1) := dk_80 (dk_at dksX0_fits_7 10 rfl rfl)
theorem dX0_fits_173 : decode cX0_fits 173 = .ok (.iinc 5 1, 3) := dk_132 5 1 (dk_at dksX0_fits_7 11 rfl rfl)
theorem dX0_fits_176 : decode cX0_fits 176 = .ok (.goto (-49), 3) := dk_167 255 207 (dk_at dksX0_fits_7 14 rfl rfl)
theorem dX0_fits_179 : decode cX0_fits 179 = .ok (.iinc 4 1, 3) := dk_132 4 1 (dk_at dksX0_fits_7 17 rfl rfl)
theorem dX0_fits_182 : decode cX0_fits 182 = .ok (.goto (-88), 3) := dk_167 255 168 (dk_at dksX0_fits_7 20 rfl rfl)
theorem dX0_fits_185 : decode cX0_fits 185 = .ok (.return_, 1) := dk_177 (dk_at dksX0_fits_7 23 rfl rfl)
abbrev cX0_likely : ByteArray := prog_1_method_56_code
def yX0_likely : MethodName := ⟨RX0, "likely", "(IIII)J"⟩
def dkwX0_likely_1 : List UInt8 := [182, 1, 107, 154, 0, 7, 20, 0, 53, 173, 42, 27, 28, 182, 1, 117, 42, 29, 21, 4, 182, 1, 120, 173]
abbrev dktX0_likely_1 : List UInt8 := dkwX0_likely_1 ++ []
def dkwX0_likely_0 : List UInt8 := [42, 27, 28, 182, 1, 114, 153, 0, 22, 42, 27, 29, 182, 1, 107, 153, 0, 13, 42, 27, 21, 4]
abbrev dktX0_likely_0 : List UInt8 := dkwX0_likely_0 ++ dktX0_likely_1
theorem dksX0_likely_0 : cX0_likely.data.toList.drop 0 = dktX0_likely_0 := by decide +kernel
theorem dksX0_likely_1 : cX0_likely.data.toList.drop 22 = dktX0_likely_1 := dk_seg dksX0_likely_0 22 rfl rfl
theorem dX0_likely_0 : decode cX0_likely 0 = .ok (.aload_n 0, 1) := dk_42 (dk_at dksX0_likely_0 0 rfl rfl)
theorem dX0_likely_1 : decode cX0_likely 1 = .ok (.iload_n 1, 1) := dk_27 (dk_at dksX0_likely_0 1 rfl rfl)
theorem dX0_likely_2 : decode cX0_likely 2 = .ok (.iload_n 2, 1) := dk_28 (dk_at dksX0_likely_0 2 rfl rfl)
theorem dX0_likely_3 : decode cX0_likely 3 = .ok (.invokevirtual 370, 3) := dk_182 1 114 (dk_at dksX0_likely_0 3 rfl rfl)
theorem dX0_likely_6 : decode cX0_likely 6 = .ok (.ifCond .eq 22, 3) := dk_153 0 22 (dk_at dksX0_likely_0 6 rfl rfl)
theorem dX0_likely_9 : decode cX0_likely 9 = .ok (.aload_n 0, 1) := dk_42 (dk_at dksX0_likely_0 9 rfl rfl)
theorem dX0_likely_10 : decode cX0_likely 10 = .ok (.iload_n 1, 1) := dk_27 (dk_at dksX0_likely_0 10 rfl rfl)
theorem dX0_likely_11 : decode cX0_likely 11 = .ok (.iload_n 3, 1) := dk_29 (dk_at dksX0_likely_0 11 rfl rfl)
theorem dX0_likely_12 : decode cX0_likely 12 = .ok (.invokevirtual 363, 3) := dk_182 1 107 (dk_at dksX0_likely_0 12 rfl rfl)
theorem dX0_likely_15 : decode cX0_likely 15 = .ok (.ifCond .eq 13, 3) := dk_153 0 13 (dk_at dksX0_likely_0 15 rfl rfl)
theorem dX0_likely_18 : decode cX0_likely 18 = .ok (.aload_n 0, 1) := dk_42 (dk_at dksX0_likely_0 18 rfl rfl)
theorem dX0_likely_19 : decode cX0_likely 19 = .ok (.iload_n 1, 1) := dk_27 (dk_at dksX0_likely_0 19 rfl rfl)
theorem dX0_likely_20 : decode cX0_likely 20 = .ok (.iload 4, 2) := dk_21 4 (dk_at dksX0_likely_0 20 rfl rfl)
theorem dX0_likely_22 : decode cX0_likely 22 = .ok (.invokevirtual 363, 3) := dk_182 1 107 (dk_at dksX0_likely_1 0 rfl rfl)
theorem dX0_likely_25 : decode cX0_likely 25 = .ok (.ifCond .ne 7, 3) := dk_154 0 7 (dk_at dksX0_likely_1 3 rfl rfl)
theorem dX0_likely_28 : decode cX0_likely 28 = .ok (.ldc2_w 53, 3) := dk_20 0 53 (dk_at dksX0_likely_1 6 rfl rfl)
theorem dX0_likely_31 : decode cX0_likely 31 = .ok (.lreturn, 1) := dk_173 (dk_at dksX0_likely_1 9 rfl rfl)
theorem dX0_likely_32 : decode cX0_likely 32 = .ok (.aload_n 0, 1) := dk_42 (dk_at dksX0_likely_1 10 rfl rfl)
theorem dX0_likely_33 : decode cX0_likely 33 = .ok (.iload_n 1, 1) := dk_27 (dk_at dksX0_likely_1 11 rfl rfl)
theorem dX0_likely_34 : decode cX0_likely 34 = .ok (.iload_n 2, 1) := dk_28 (dk_at dksX0_likely_1 12 rfl rfl)
theorem dX0_likely_35 : decode cX0_likely 35 = .ok (.invokevirtual 373, 3) := dk_182 1 117 (dk_at dksX0_likely_1 13 rfl rfl)
theorem dX0_likely_38 : decode cX0_likely 38 = .ok (.aload_n 0, 1) := dk_42 (dk_at dksX0_likely_1 16 rfl rfl)
theorem dX0_likely_39 : decode cX0_likely 39 = .ok (.iload_n 3, 1) := dk_29 (dk_at dksX0_likely_1 17 rfl rfl)
theorem dX0_likely_40 : decode cX0_likely 40 = .ok (.iload 4, 2) := dk_21 4 (dk_at dksX0_likely_1 18 rfl rfl)
theorem dX0_likely_42 : decode cX0_likely 42 = .ok (.invokevirtual 376, 3) := dk_182 1 120 (dk_at dksX0_likely_1 20 rfl rfl)
theorem dX0_likely_45 : decode cX0_likely 45 = .ok (.lreturn, 1) := dk_173 (dk_at dksX0_likely_1 23 rfl rfl)
abbrev cX0_endsThere : ByteArray := prog_1_method_54_code
def yX0_endsThere : MethodName := ⟨RX0, "endsThere", "(II)J"⟩
def dkwX0_endsThere_2 : List UInt8 := [173]
abbrev dktX0_endsThere_2 : List UInt8 := dkwX0_endsThere_2 ++ []
def dkwX0_endsThere_1 : List UInt8 := [182, 0, 46, 27, 160, 0, 13, 33, 42, 180, 0, 161, 21, 5, 47, 97, 66, 132, 5, 1, 167, 255, 217, 33]
abbrev dktX0_endsThere_1 : List UInt8 := dkwX0_endsThere_1 ++ dktX0_endsThere_2
def dkwX0_endsThere_0 : List UInt8 := [9, 66, 3, 54, 5, 21, 5, 42, 180, 0, 7, 180, 0, 17, 162, 0, 33, 42, 180, 0, 7, 21, 5, 28]
abbrev dktX0_endsThere_0 : List UInt8 := dkwX0_endsThere_0 ++ dktX0_endsThere_1
theorem dksX0_endsThere_0 : cX0_endsThere.data.toList.drop 0 = dktX0_endsThere_0 := by decide +kernel
theorem dksX0_endsThere_1 : cX0_endsThere.data.toList.drop 24 = dktX0_endsThere_1 := dk_seg dksX0_endsThere_0 24 rfl rfl
theorem dksX0_endsThere_2 : cX0_endsThere.data.toList.drop 48 = dktX0_endsThere_2 := dk_seg dksX0_endsThere_1 24 rfl rfl
theorem dX0_endsThere_0 : decode cX0_endsThere 0 = .ok (.lconst 0, 1) := dk_9 (dk_at dksX0_endsThere_0 0 rfl rfl)
theorem dX0_endsThere_1 : decode cX0_endsThere 1 = .ok (.lstore_n 3, 1) := dk_66 (dk_at dksX0_endsThere_0 1 rfl rfl)
theorem dX0_endsThere_2 : decode cX0_endsThere 2 = .ok (.iconst 0, 1) := dk_3 (dk_at dksX0_endsThere_0 2 rfl rfl)
theorem dX0_endsThere_3 : decode cX0_endsThere 3 = .ok (.istore 5, 2) := dk_54 5 (dk_at dksX0_endsThere_0 3 rfl rfl)
theorem dX0_endsThere_5 : decode cX0_endsThere 5 = .ok (.iload 5, 2) := dk_21 5 (dk_at dksX0_endsThere_0 5 rfl rfl)
theorem dX0_endsThere_7 : decode cX0_endsThere 7 = .ok (.aload_n 0, 1) := dk_42 (dk_at dksX0_endsThere_0 7 rfl rfl)
theorem dX0_endsThere_8 : decode cX0_endsThere 8 = .ok (.getfield 7, 3) := dk_180 0 7 (dk_at dksX0_endsThere_0 8 rfl rfl)
theorem dX0_endsThere_11 : decode cX0_endsThere 11 = .ok (.getfield 17, 3) := dk_180 0 17 (dk_at dksX0_endsThere_0 11 rfl rfl)
theorem dX0_endsThere_14 : decode cX0_endsThere 14 = .ok (.if_icmp .ge 33, 3) := dk_162 0 33 (dk_at dksX0_endsThere_0 14 rfl rfl)
theorem dX0_endsThere_17 : decode cX0_endsThere 17 = .ok (.aload_n 0, 1) := dk_42 (dk_at dksX0_endsThere_0 17 rfl rfl)
theorem dX0_endsThere_18 : decode cX0_endsThere 18 = .ok (.getfield 7, 3) := dk_180 0 7 (dk_at dksX0_endsThere_0 18 rfl rfl)
theorem dX0_endsThere_21 : decode cX0_endsThere 21 = .ok (.iload 5, 2) := dk_21 5 (dk_at dksX0_endsThere_0 21 rfl rfl)
theorem dX0_endsThere_23 : decode cX0_endsThere 23 = .ok (.iload_n 2, 1) := dk_28 (dk_at dksX0_endsThere_0 23 rfl rfl)
theorem dX0_endsThere_24 : decode cX0_endsThere 24 = .ok (.invokevirtual 46, 3) := dk_182 0 46 (dk_at dksX0_endsThere_1 0 rfl rfl)
theorem dX0_endsThere_27 : decode cX0_endsThere 27 = .ok (.iload_n 1, 1) := dk_27 (dk_at dksX0_endsThere_1 3 rfl rfl)
theorem dX0_endsThere_28 : decode cX0_endsThere 28 = .ok (.if_icmp .ne 13, 3) := dk_160 0 13 (dk_at dksX0_endsThere_1 4 rfl rfl)
theorem dX0_endsThere_31 : decode cX0_endsThere 31 = .ok (.lload_n 3, 1) := dk_33 (dk_at dksX0_endsThere_1 7 rfl rfl)
theorem dX0_endsThere_32 : decode cX0_endsThere 32 = .ok (.aload_n 0, 1) := dk_42 (dk_at dksX0_endsThere_1 8 rfl rfl)
theorem dX0_endsThere_33 : decode cX0_endsThere 33 = .ok (.getfield 161, 3) := dk_180 0 161 (dk_at dksX0_endsThere_1 9 rfl rfl)
theorem dX0_endsThere_36 : decode cX0_endsThere 36 = .ok (.iload 5, 2) := dk_21 5 (dk_at dksX0_endsThere_1 12 rfl rfl)
theorem dX0_endsThere_38 : decode cX0_endsThere 38 = .ok (.laload, 1) := dk_47 (dk_at dksX0_endsThere_1 14 rfl rfl)
theorem dX0_endsThere_39 : decode cX0_endsThere 39 = .ok (.ladd, 1) := dk_97 (dk_at dksX0_endsThere_1 15 rfl rfl)
theorem dX0_endsThere_40 : decode cX0_endsThere 40 = .ok (.lstore_n 3, 1) := dk_66 (dk_at dksX0_endsThere_1 16 rfl rfl)
theorem dX0_endsThere_41 : decode cX0_endsThere 41 = .ok (.iinc 5 1, 3) := dk_132 5 1 (dk_at dksX0_endsThere_1 17 rfl rfl)
theorem dX0_endsThere_44 : decode cX0_endsThere 44 = .ok (.goto (-39), 3) := dk_167 255 217 (dk_at dksX0_endsThere_1 20 rfl rfl)
theorem dX0_endsThere_47 : decode cX0_endsThere 47 = .ok (.lload_n 3, 1) := dk_33 (dk_at dksX0_endsThere_1 23 rfl rfl)
theorem dX0_endsThere_48 : decode cX0_endsThere 48 = .ok (.lreturn, 1) := dk_173 (dk_at dksX0_endsThere_2 0 rfl rfl)
abbrev cX0_next : ByteArray := prog_1_method_57_code
def yX0_next : MethodName := ⟨RX0, "next", "(II)I"⟩
def dkwX0_next_4 : List UInt8 := [62, 22, 7, 55, 4, 132, 6, 1, 167, 255, 179, 29, 172]
abbrev dktX0_next_4 : List UInt8 := dkwX0_next_4 ++ []
def dkwX0_next_3 : List UInt8 := [132, 9, 1, 167, 255, 226, 29, 2, 159, 0, 14, 22, 7, 22, 4, 148, 155, 0, 6, 167, 0, 10, 21, 6]
abbrev dktX0_next_3 : List UInt8 := dkwX0_next_3 ++ dktX0_next_4
def dkwX0_next_2 : List UInt8 := [180, 0, 7, 180, 0, 24, 162, 0, 24, 22, 7, 42, 21, 6, 21, 9, 182, 1, 120, 184, 1, 124, 55, 7]
abbrev dktX0_next_2 : List UInt8 := dkwX0_next_2 ++ dktX0_next_3
def dkwX0_next_1 : List UInt8 := [54, 6, 21, 6, 42, 180, 0, 7, 180, 0, 24, 162, 0, 71, 9, 55, 7, 3, 54, 9, 21, 9, 42]
abbrev dktX0_next_1 : List UInt8 := dkwX0_next_1 ++ dktX0_next_2
def dkwX0_next_0 : List UInt8 := [42, 27, 28, 182, 1, 114, 154, 0, 5, 2, 172, 42, 27, 28, 182, 1, 117, 2, 62, 9, 55, 4, 3]
abbrev dktX0_next_0 : List UInt8 := dkwX0_next_0 ++ dktX0_next_1
theorem dksX0_next_0 : cX0_next.data.toList.drop 0 = dktX0_next_0 := by decide +kernel
theorem dksX0_next_1 : cX0_next.data.toList.drop 23 = dktX0_next_1 := dk_seg dksX0_next_0 23 rfl rfl
theorem dksX0_next_2 : cX0_next.data.toList.drop 46 = dktX0_next_2 := dk_seg dksX0_next_1 23 rfl rfl
theorem dksX0_next_3 : cX0_next.data.toList.drop 70 = dktX0_next_3 := dk_seg dksX0_next_2 24 rfl rfl
theorem dksX0_next_4 : cX0_next.data.toList.drop 94 = dktX0_next_4 := dk_seg dksX0_next_3 24 rfl rfl
theorem dX0_next_0 : decode cX0_next 0 = .ok (.aload_n 0, 1) := dk_42 (dk_at dksX0_next_0 0 rfl rfl)
theorem dX0_next_1 : decode cX0_next 1 = .ok (.iload_n 1, 1) := dk_27 (dk_at dksX0_next_0 1 rfl rfl)
theorem dX0_next_2 : decode cX0_next 2 = .ok (.iload_n 2, 1) := dk_28 (dk_at dksX0_next_0 2 rfl rfl)
theorem dX0_next_3 : decode cX0_next 3 = .ok (.invokevirtual 370, 3) := dk_182 1 114 (dk_at dksX0_next_0 3 rfl rfl)
theorem dX0_next_6 : decode cX0_next 6 = .ok (.ifCond .ne 5, 3) := dk_154 0 5 (dk_at dksX0_next_0 6 rfl rfl)
theorem dX0_next_9 : decode cX0_next 9 = .ok (.iconst (-1), 1) := dk_2 (dk_at dksX0_next_0 9 rfl rfl)
theorem dX0_next_10 : decode cX0_next 10 = .ok (.ireturn, 1) := dk_172 (dk_at dksX0_next_0 10 rfl rfl)
theorem dX0_next_11 : decode cX0_next 11 = .ok (.aload_n 0, 1) := dk_42 (dk_at dksX0_next_0 11 rfl rfl)
theorem dX0_next_12 : decode cX0_next 12 = .ok (.iload_n 1, 1) := dk_27 (dk_at dksX0_next_0 12 rfl rfl)
theorem dX0_next_13 : decode cX0_next 13 = .ok (.iload_n 2, 1) := dk_28 (dk_at dksX0_next_0 13 rfl rfl)
theorem dX0_next_14 : decode cX0_next 14 = .ok (.invokevirtual 373, 3) := dk_182 1 117 (dk_at dksX0_next_0 14 rfl rfl)
theorem dX0_next_17 : decode cX0_next 17 = .ok (.iconst (-1), 1) := dk_2 (dk_at dksX0_next_0 17 rfl rfl)
theorem dX0_next_18 : decode cX0_next 18 = .ok (.istore_n 3, 1) := dk_62 (dk_at dksX0_next_0 18 rfl rfl)
theorem dX0_next_19 : decode cX0_next 19 = .ok (.lconst 0, 1) := dk_9 (dk_at dksX0_next_0 19 rfl rfl)
theorem dX0_next_20 : decode cX0_next 20 = .ok (.lstore 4, 2) := dk_55 4 (dk_at dksX0_next_0 20 rfl rfl)
theorem dX0_next_22 : decode cX0_next 22 = .ok (.iconst 0, 1) := dk_3 (dk_at dksX0_next_0 22 rfl rfl)
theorem dX0_next_23 : decode cX0_next 23 = .ok (.istore 6, 2) := dk_54 6 (dk_at dksX0_next_1 0 rfl rfl)
theorem dX0_next_25 : decode cX0_next 25 = .ok (.iload 6, 2) := dk_21 6 (dk_at dksX0_next_1 2 rfl rfl)
theorem dX0_next_27 : decode cX0_next 27 = .ok (.aload_n 0, 1) := dk_42 (dk_at dksX0_next_1 4 rfl rfl)
theorem dX0_next_28 : decode cX0_next 28 = .ok (.getfield 7, 3) := dk_180 0 7 (dk_at dksX0_next_1 5 rfl rfl)
theorem dX0_next_31 : decode cX0_next 31 = .ok (.getfield 24, 3) := dk_180 0 24 (dk_at dksX0_next_1 8 rfl rfl)
theorem dX0_next_34 : decode cX0_next 34 = .ok (.if_icmp .ge 71, 3) := dk_162 0 71 (dk_at dksX0_next_1 11 rfl rfl)
theorem dX0_next_37 : decode cX0_next 37 = .ok (.lconst 0, 1) := dk_9 (dk_at dksX0_next_1 14 rfl rfl)
theorem dX0_next_38 : decode cX0_next 38 = .ok (.lstore 7, 2) := dk_55 7 (dk_at dksX0_next_1 15 rfl rfl)
theorem dX0_next_40 : decode cX0_next 40 = .ok (.iconst 0, 1) := dk_3 (dk_at dksX0_next_1 17 rfl rfl)
theorem dX0_next_41 : decode cX0_next 41 = .ok (.istore 9, 2) := dk_54 9 (dk_at dksX0_next_1 18 rfl rfl)
theorem dX0_next_43 : decode cX0_next 43 = .ok (.iload 9, 2) := dk_21 9 (dk_at dksX0_next_1 20 rfl rfl)
theorem dX0_next_45 : decode cX0_next 45 = .ok (.aload_n 0, 1) := dk_42 (dk_at dksX0_next_1 22 rfl rfl)
theorem dX0_next_46 : decode cX0_next 46 = .ok (.getfield 7, 3) := dk_180 0 7 (dk_at dksX0_next_2 0 rfl rfl)
theorem dX0_next_49 : decode cX0_next 49 = .ok (.getfield 24, 3) := dk_180 0 24 (dk_at dksX0_next_2 3 rfl rfl)
theorem dX0_next_52 : decode cX0_next 52 = .ok (.if_icmp .ge 24, 3) := dk_162 0 24 (dk_at dksX0_next_2 6 rfl rfl)
theorem dX0_next_55 : decode cX0_next 55 = .ok (.lload 7, 2) := dk_22 7 (dk_at dksX0_next_2 9 rfl rfl)
theorem dX0_next_57 : decode cX0_next 57 = .ok (.aload_n 0, 1) := dk_42 (dk_at dksX0_next_2 11 rfl rfl)
theorem dX0_next_58 : decode cX0_next 58 = .ok (.iload 6, 2) := dk_21 6 (dk_at dksX0_next_2 12 rfl rfl)
theorem dX0_next_60 : decode cX0_next 60 = .ok (.iload 9, 2) := dk_21 9 (dk_at dksX0_next_2 14 rfl rfl)
theorem dX0_next_62 : decode cX0_next 62 = .ok (.invokevirtual 376, 3) := dk_182 1 120 (dk_at dksX0_next_2 16 rfl rfl)
theorem dX0_next_65 : decode cX0_next 65 = .ok (.invokestatic 380, 3) := dk_184 1 124 (dk_at dksX0_next_2 19 rfl rfl)
theorem dX0_next_68 : decode cX0_next 68 = .ok (.lstore 7, 2) := dk_55 7 (dk_at dksX0_next_2 22 rfl rfl)
theorem dX0_next_70 : decode cX0_next 70 = .ok (.iinc 9 1, 3) := dk_132 9 1 (dk_at dksX0_next_3 0 rfl rfl)
theorem dX0_next_73 : decode cX0_next 73 = .ok (.goto (-30), 3) := dk_167 255 226 (dk_at dksX0_next_3 3 rfl rfl)
theorem dX0_next_76 : decode cX0_next 76 = .ok (.iload_n 3, 1) := dk_29 (dk_at dksX0_next_3 6 rfl rfl)
theorem dX0_next_77 : decode cX0_next 77 = .ok (.iconst (-1), 1) := dk_2 (dk_at dksX0_next_3 7 rfl rfl)
theorem dX0_next_78 : decode cX0_next 78 = .ok (.if_icmp .eq 14, 3) := dk_159 0 14 (dk_at dksX0_next_3 8 rfl rfl)
theorem dX0_next_81 : decode cX0_next 81 = .ok (.lload 7, 2) := dk_22 7 (dk_at dksX0_next_3 11 rfl rfl)
theorem dX0_next_83 : decode cX0_next 83 = .ok (.lload 4, 2) := dk_22 4 (dk_at dksX0_next_3 13 rfl rfl)
theorem dX0_next_85 : decode cX0_next 85 = .ok (.lcmp, 1) := dk_148 (dk_at dksX0_next_3 15 rfl rfl)
theorem dX0_next_86 : decode cX0_next 86 = .ok (.ifCond .lt 6, 3) := dk_155 0 6 (dk_at dksX0_next_3 16 rfl rfl)
theorem dX0_next_89 : decode cX0_next 89 = .ok (.goto 10, 3) := dk_167 0 10 (dk_at dksX0_next_3 19 rfl rfl)
theorem dX0_next_92 : decode cX0_next 92 = .ok (.iload 6, 2) := dk_21 6 (dk_at dksX0_next_3 22 rfl rfl)
theorem dX0_next_94 : decode cX0_next 94 = .ok (.istore_n 3, 1) := dk_62 (dk_at dksX0_next_4 0 rfl rfl)
theorem dX0_next_95 : decode cX0_next 95 = .ok (.lload 7, 2) := dk_22 7 (dk_at dksX0_next_4 1 rfl rfl)
theorem dX0_next_97 : decode cX0_next 97 = .ok (.lstore 4, 2) := dk_55 4 (dk_at dksX0_next_4 3 rfl rfl)
theorem dX0_next_99 : decode cX0_next 99 = .ok (.iinc 6 1, 3) := dk_132 6 1 (dk_at dksX0_next_4 5 rfl rfl)
theorem dX0_next_102 : decode cX0_next 102 = .ok (.goto (-77), 3) := dk_167 255 179 (dk_at dksX0_next_4 8 rfl rfl)
theorem dX0_next_105 : decode cX0_next 105 = .ok (.iload_n 3, 1) := dk_29 (dk_at dksX0_next_4 11 rfl rfl)
theorem dX0_next_106 : decode cX0_next 106 = .ok (.ireturn, 1) := dk_172 (dk_at dksX0_next_4 12 rfl rfl)
abbrev cX0_drawn : ByteArray := prog_1_method_60_code
def yX0_drawn : MethodName := ⟨RX0, "drawn", "(III)I"⟩
def dkwX0_drawn_2 : List UInt8 := [182, 1, 132, 42, 180, 0, 181, 3, 50, 28, 46, 172]
abbrev dktX0_drawn_2 : List UInt8 := dkwX0_drawn_2 ++ []
def dkwX0_drawn_1 : List UInt8 := [27, 182, 0, 250, 192, 0, 242, 58, 4, 25, 4, 182, 1, 45, 154, 0, 6, 16, 254, 172, 42, 25, 4, 29]
abbrev dktX0_drawn_1 : List UInt8 := dkwX0_drawn_1 ++ dktX0_drawn_2
def dkwX0_drawn_0 : List UInt8 := [42, 27, 28, 182, 1, 107, 153, 0, 12, 42, 27, 29, 182, 1, 107, 154, 0, 5, 2, 172, 42, 180, 0, 148]
abbrev dktX0_drawn_0 : List UInt8 := dkwX0_drawn_0 ++ dktX0_drawn_1
theorem dksX0_drawn_0 : cX0_drawn.data.toList.drop 0 = dktX0_drawn_0 := by decide +kernel
theorem dksX0_drawn_1 : cX0_drawn.data.toList.drop 24 = dktX0_drawn_1 := dk_seg dksX0_drawn_0 24 rfl rfl
theorem dksX0_drawn_2 : cX0_drawn.data.toList.drop 48 = dktX0_drawn_2 := dk_seg dksX0_drawn_1 24 rfl rfl
theorem dX0_drawn_0 : decode cX0_drawn 0 = .ok (.aload_n 0, 1) := dk_42 (dk_at dksX0_drawn_0 0 rfl rfl)
theorem dX0_drawn_1 : decode cX0_drawn 1 = .ok (.iload_n 1, 1) := dk_27 (dk_at dksX0_drawn_0 1 rfl rfl)
theorem dX0_drawn_2 : decode cX0_drawn 2 = .ok (.iload_n 2, 1) := dk_28 (dk_at dksX0_drawn_0 2 rfl rfl)
theorem dX0_drawn_3 : decode cX0_drawn 3 = .ok (.invokevirtual 363, 3) := dk_182 1 107 (dk_at dksX0_drawn_0 3 rfl rfl)
theorem dX0_drawn_6 : decode cX0_drawn 6 = .ok (.ifCond .eq 12, 3) := dk_153 0 12 (dk_at dksX0_drawn_0 6 rfl rfl)
theorem dX0_drawn_9 : decode cX0_drawn 9 = .ok (.aload_n 0, 1) := dk_42 (dk_at dksX0_drawn_0 9 rfl rfl)
theorem dX0_drawn_10 : decode cX0_drawn 10 = .ok (.iload_n 1, 1) := dk_27 (dk_at dksX0_drawn_0 10 rfl rfl)
theorem dX0_drawn_11 : decode cX0_drawn 11 = .ok (.iload_n 3, 1) := dk_29 (dk_at dksX0_drawn_0 11 rfl rfl)
theorem dX0_drawn_12 : decode cX0_drawn 12 = .ok (.invokevirtual 363, 3) := dk_182 1 107 (dk_at dksX0_drawn_0 12 rfl rfl)
theorem dX0_drawn_15 : decode cX0_drawn 15 = .ok (.ifCond .ne 5, 3) := dk_154 0 5 (dk_at dksX0_drawn_0 15 rfl rfl)
theorem dX0_drawn_18 : decode cX0_drawn 18 = .ok (.iconst (-1), 1) := dk_2 (dk_at dksX0_drawn_0 18 rfl rfl)
theorem dX0_drawn_19 : decode cX0_drawn 19 = .ok (.ireturn, 1) := dk_172 (dk_at dksX0_drawn_0 19 rfl rfl)
theorem dX0_drawn_20 : decode cX0_drawn 20 = .ok (.aload_n 0, 1) := dk_42 (dk_at dksX0_drawn_0 20 rfl rfl)
theorem dX0_drawn_21 : decode cX0_drawn 21 = .ok (.getfield 148, 3) := dk_180 0 148 (dk_at dksX0_drawn_0 21 rfl rfl)
theorem dX0_drawn_24 : decode cX0_drawn 24 = .ok (.iload_n 1, 1) := dk_27 (dk_at dksX0_drawn_1 0 rfl rfl)
theorem dX0_drawn_25 : decode cX0_drawn 25 = .ok (.invokevirtual 250, 3) := dk_182 0 250 (dk_at dksX0_drawn_1 1 rfl rfl)
theorem dX0_drawn_28 : decode cX0_drawn 28 = .ok (.checkcast 242, 3) := dk_192 0 242 (dk_at dksX0_drawn_1 4 rfl rfl)
theorem dX0_drawn_31 : decode cX0_drawn 31 = .ok (.astore 4, 2) := dk_58 4 (dk_at dksX0_drawn_1 7 rfl rfl)
theorem dX0_drawn_33 : decode cX0_drawn 33 = .ok (.aload 4, 2) := dk_25 4 (dk_at dksX0_drawn_1 9 rfl rfl)
theorem dX0_drawn_35 : decode cX0_drawn 35 = .ok (.invokevirtual 301, 3) := dk_182 1 45 (dk_at dksX0_drawn_1 11 rfl rfl)
theorem dX0_drawn_38 : decode cX0_drawn 38 = .ok (.ifCond .ne 6, 3) := dk_154 0 6 (dk_at dksX0_drawn_1 14 rfl rfl)
theorem dX0_drawn_41 : decode cX0_drawn 41 = .ok (.bipush (-2), 2) := dk_16 254 (dk_at dksX0_drawn_1 17 rfl rfl)
theorem dX0_drawn_43 : decode cX0_drawn 43 = .ok (.ireturn, 1) := dk_172 (dk_at dksX0_drawn_1 19 rfl rfl)
theorem dX0_drawn_44 : decode cX0_drawn 44 = .ok (.aload_n 0, 1) := dk_42 (dk_at dksX0_drawn_1 20 rfl rfl)
theorem dX0_drawn_45 : decode cX0_drawn 45 = .ok (.aload 4, 2) := dk_25 4 (dk_at dksX0_drawn_1 21 rfl rfl)
theorem dX0_drawn_47 : decode cX0_drawn 47 = .ok (.iload_n 3, 1) := dk_29 (dk_at dksX0_drawn_1 23 rfl rfl)
theorem dX0_drawn_48 : decode cX0_drawn 48 = .ok (.invokevirtual 388, 3) := dk_182 1 132 (dk_at dksX0_drawn_2 0 rfl rfl)
theorem dX0_drawn_51 : decode cX0_drawn 51 = .ok (.aload_n 0, 1) := dk_42 (dk_at dksX0_drawn_2 3 rfl rfl)
theorem dX0_drawn_52 : decode cX0_drawn 52 = .ok (.getfield 181, 3) := dk_180 0 181 (dk_at dksX0_drawn_2 4 rfl rfl)
theorem dX0_drawn_55 : decode cX0_drawn 55 = .ok (.iconst 0, 1) := dk_3 (dk_at dksX0_drawn_2 7 rfl rfl)
theorem dX0_drawn_56 : decode cX0_drawn 56 = .ok (.aaload, 1) := dk_50 (dk_at dksX0_drawn_2 8 rfl rfl)
theorem dX0_drawn_57 : decode cX0_drawn 57 = .ok (.iload_n 2, 1) := dk_28 (dk_at dksX0_drawn_2 9 rfl rfl)
theorem dX0_drawn_58 : decode cX0_drawn 58 = .ok (.iaload, 1) := dk_46 (dk_at dksX0_drawn_2 10 rfl rfl)
theorem dX0_drawn_59 : decode cX0_drawn 59 = .ok (.ireturn, 1) := dk_172 (dk_at dksX0_drawn_2 11 rfl rfl)
abbrev cX0_needsTo : ByteArray := prog_1_method_59_code
def yX0_needsTo : MethodName := ⟨RX0, "needsTo", "(LLadderLots$Ladder;I)V"⟩
def dkwX0_needsTo_8 : List UInt8 := [4, 96, 184, 0, 101, 79, 132, 5, 255, 167, 255, 211, 132, 4, 255, 167, 255, 66, 177]
abbrev dktX0_needsTo_8 : List UInt8 := dkwX0_needsTo_8 ++ []
def dkwX0_needsTo_7 : List UInt8 := [21, 5, 42, 180, 0, 181, 21, 4, 50, 21, 5, 46, 42, 180, 0, 181, 21, 4, 50, 21, 5, 4, 96, 46]
abbrev dktX0_needsTo_7 : List UInt8 := dkwX0_needsTo_7 ++ dktX0_needsTo_8
def dkwX0_needsTo_6 : List UInt8 := [167, 255, 207, 43, 180, 0, 254, 5, 100, 54, 5, 21, 5, 155, 0, 46, 42, 180, 0, 181, 21, 4, 50]
abbrev dktX0_needsTo_6 : List UInt8 := dkwX0_needsTo_6 ++ dktX0_needsTo_7
def dkwX0_needsTo_5 : List UInt8 := [46, 42, 180, 0, 181, 21, 4, 50, 21, 5, 4, 100, 46, 4, 96, 184, 0, 101, 79, 132, 5, 1]
abbrev dktX0_needsTo_5 : List UInt8 := dkwX0_needsTo_5 ++ dktX0_needsTo_6
def dkwX0_needsTo_4 : List UInt8 := [180, 0, 254, 162, 0, 46, 42, 180, 0, 181, 21, 4, 50, 21, 5, 42, 180, 0, 181, 21, 4, 50, 21, 5]
abbrev dktX0_needsTo_4 : List UInt8 := dkwX0_needsTo_4 ++ dktX0_needsTo_5
def dkwX0_needsTo_3 : List UInt8 := [182, 1, 51, 21, 5, 184, 1, 128, 46, 79, 132, 5, 1, 167, 255, 191, 4, 54, 5, 21, 5, 43]
abbrev dktX0_needsTo_3 : List UInt8 := dkwX0_needsTo_3 ++ dktX0_needsTo_4
def dkwX0_needsTo_2 : List UInt8 := [3, 167, 0, 30, 17, 3, 232, 167, 0, 24, 42, 180, 0, 181, 21, 4, 4, 96, 50, 43, 21, 4]
abbrev dktX0_needsTo_2 : List UInt8 := dkwX0_needsTo_2 ++ dktX0_needsTo_3
def dkwX0_needsTo_1 : List UInt8 := [162, 0, 62, 42, 180, 0, 181, 21, 4, 50, 21, 5, 21, 4, 29, 160, 0, 19, 21, 5, 28, 160, 0, 7]
abbrev dktX0_needsTo_1 : List UInt8 := dkwX0_needsTo_1 ++ dktX0_needsTo_2
def dkwX0_needsTo_0 : List UInt8 := [43, 182, 1, 38, 62, 29, 54, 4, 21, 4, 155, 0, 191, 3, 54, 5, 21, 5, 43, 180, 0, 254]
abbrev dktX0_needsTo_0 : List UInt8 := dkwX0_needsTo_0 ++ dktX0_needsTo_1
theorem dksX0_needsTo_0 : cX0_needsTo.data.toList.drop 0 = dktX0_needsTo_0 := by decide +kernel
theorem dksX0_needsTo_1 : cX0_needsTo.data.toList.drop 22 = dktX0_needsTo_1 := dk_seg dksX0_needsTo_0 22 rfl rfl
theorem dksX0_needsTo_2 : cX0_needsTo.data.toList.drop 46 = dktX0_needsTo_2 := dk_seg dksX0_needsTo_1 24 rfl rfl
theorem dksX0_needsTo_3 : cX0_needsTo.data.toList.drop 68 = dktX0_needsTo_3 := dk_seg dksX0_needsTo_2 22 rfl rfl
theorem dksX0_needsTo_4 : cX0_needsTo.data.toList.drop 90 = dktX0_needsTo_4 := dk_seg dksX0_needsTo_3 22 rfl rfl
theorem dksX0_needsTo_5 : cX0_needsTo.data.toList.drop 114 = dktX0_needsTo_5 := dk_seg dksX0_needsTo_4 24 rfl rfl
theorem dksX0_needsTo_6 : cX0_needsTo.data.toList.drop 136 = dktX0_needsTo_6 := dk_seg dksX0_needsTo_5 22 rfl rfl
theorem dksX0_needsTo_7 : cX0_needsTo.data.toList.drop 159 = dktX0_needsTo_7 := dk_seg dksX0_needsTo_6 23 rfl rfl
theorem dksX0_needsTo_8 : cX0_needsTo.data.toList.drop 183 = dktX0_needsTo_8 := dk_seg dksX0_needsTo_7 24 rfl rfl
theorem dX0_needsTo_0 : decode cX0_needsTo 0 = .ok (.aload_n 1, 1) := dk_43 (dk_at dksX0_needsTo_0 0 rfl rfl)
theorem dX0_needsTo_1 : decode cX0_needsTo 1 = .ok (.invokevirtual 294, 3) := dk_182 1 38 (dk_at dksX0_needsTo_0 1 rfl rfl)
theorem dX0_needsTo_4 : decode cX0_needsTo 4 = .ok (.istore_n 3, 1) := dk_62 (dk_at dksX0_needsTo_0 4 rfl rfl)
theorem dX0_needsTo_5 : decode cX0_needsTo 5 = .ok (.iload_n 3, 1) := dk_29 (dk_at dksX0_needsTo_0 5 rfl rfl)
theorem dX0_needsTo_6 : decode cX0_needsTo 6 = .ok (.istore 4, 2) := dk_54 4 (dk_at dksX0_needsTo_0 6 rfl rfl)
theorem dX0_needsTo_8 : decode cX0_needsTo 8 = .ok (.iload 4, 2) := dk_21 4 (dk_at dksX0_needsTo_0 8 rfl rfl)
theorem dX0_needsTo_10 : decode cX0_needsTo 10 = .ok (.ifCond .lt 191, 3) := dk_155 0 191 (dk_at dksX0_needsTo_0 10 rfl rfl)
theorem dX0_needsTo_13 : decode cX0_needsTo 13 = .ok (.iconst 0, 1) := dk_3 (dk_at dksX0_needsTo_0 13 rfl rfl)
theorem dX0_needsTo_14 : decode cX0_needsTo 14 = .ok (.istore 5, 2) := dk_54 5 (dk_at dksX0_needsTo_0 14 rfl rfl)
theorem dX0_needsTo_16 : decode cX0_needsTo 16 = .ok (.iload 5, 2) := dk_21 5 (dk_at dksX0_needsTo_0 16 rfl rfl)
theorem dX0_needsTo_18 : decode cX0_needsTo 18 = .ok (.aload_n 1, 1) := dk_43 (dk_at dksX0_needsTo_0 18 rfl rfl)
theorem dX0_needsTo_19 : decode cX0_needsTo 19 = .ok (.getfield 254, 3) := dk_180 0 254 (dk_at dksX0_needsTo_0 19 rfl rfl)
theorem dX0_needsTo_22 : decode cX0_needsTo 22 = .ok (.if_icmp .ge 62, 3) := dk_162 0 62 (dk_at dksX0_needsTo_1 0 rfl rfl)
theorem dX0_needsTo_25 : decode cX0_needsTo 25 = .ok (.aload_n 0, 1) := dk_42 (dk_at dksX0_needsTo_1 3 rfl rfl)
theorem dX0_needsTo_26 : decode cX0_needsTo 26 = .ok (.getfield 181, 3) := dk_180 0 181 (dk_at dksX0_needsTo_1 4 rfl rfl)
theorem dX0_needsTo_29 : decode cX0_needsTo 29 = .ok (.iload 4, 2) := dk_21 4 (dk_at dksX0_needsTo_1 7 rfl rfl)
theorem dX0_needsTo_31 : decode cX0_needsTo 31 = .ok (.aaload, 1) := dk_50 (dk_at dksX0_needsTo_1 9 rfl rfl)
theorem dX0_needsTo_32 : decode cX0_needsTo 32 = .ok (.iload 5, 2) := dk_21 5 (dk_at dksX0_needsTo_1 10 rfl rfl)
theorem dX0_needsTo_34 : decode cX0_needsTo 34 = .ok (.iload 4, 2) := dk_21 4 (dk_at dksX0_needsTo_1 12 rfl rfl)
theorem dX0_needsTo_36 : decode cX0_needsTo 36 = .ok (.iload_n 3, 1) := dk_29 (dk_at dksX0_needsTo_1 14 rfl rfl)
theorem dX0_needsTo_37 : decode cX0_needsTo 37 = .ok (.if_icmp .ne 19, 3) := dk_160 0 19 (dk_at dksX0_needsTo_1 15 rfl rfl)
theorem dX0_needsTo_40 : decode cX0_needsTo 40 = .ok (.iload 5, 2) := dk_21 5 (dk_at dksX0_needsTo_1 18 rfl rfl)
theorem dX0_needsTo_42 : decode cX0_needsTo 42 = .ok (.iload_n 2, 1) := dk_28 (dk_at dksX0_needsTo_1 20 rfl rfl)
theorem dX0_needsTo_43 : decode cX0_needsTo 43 = .ok (.if_icmp .ne 7, 3) := dk_160 0 7 (dk_at dksX0_needsTo_1 21 rfl rfl)
theorem dX0_needsTo_46 : decode cX0_needsTo 46 = .ok (.iconst 0, 1) := dk_3 (dk_at dksX0_needsTo_2 0 rfl rfl)
theorem dX0_needsTo_47 : decode cX0_needsTo 47 = .ok (.goto 30, 3) := dk_167 0 30 (dk_at dksX0_needsTo_2 1 rfl rfl)
theorem dX0_needsTo_50 : decode cX0_needsTo 50 = .ok (.sipush 1000, 3) := dk_17 3 232 (dk_at dksX0_needsTo_2 4 rfl rfl)
theorem dX0_needsTo_53 : decode cX0_needsTo 53 = .ok (.goto 24, 3) := dk_167 0 24 (dk_at dksX0_needsTo_2 7 rfl rfl)
theorem dX0_needsTo_56 : decode cX0_needsTo 56 = .ok (.aload_n 0, 1) := dk_42 (dk_at dksX0_needsTo_2 10 rfl rfl)
theorem dX0_needsTo_57 : decode cX0_needsTo 57 = .ok (.getfield 181, 3) := dk_180 0 181 (dk_at dksX0_needsTo_2 11 rfl rfl)
theorem dX0_needsTo_60 : decode cX0_needsTo 60 = .ok (.iload 4, 2) := dk_21 4 (dk_at dksX0_needsTo_2 14 rfl rfl)
theorem dX0_needsTo_62 : decode cX0_needsTo 62 = .ok (.iconst 1, 1) := dk_4 (dk_at dksX0_needsTo_2 16 rfl rfl)
theorem dX0_needsTo_63 : decode cX0_needsTo 63 = .ok (.iadd, 1) := dk_96 (dk_at dksX0_needsTo_2 17 rfl rfl)
theorem dX0_needsTo_64 : decode cX0_needsTo 64 = .ok (.aaload, 1) := dk_50 (dk_at dksX0_needsTo_2 18 rfl rfl)
theorem dX0_needsTo_65 : decode cX0_needsTo 65 = .ok (.aload_n 1, 1) := dk_43 (dk_at dksX0_needsTo_2 19 rfl rfl)
theorem dX0_needsTo_66 : decode cX0_needsTo 66 = .ok (.iload 4, 2) := dk_21 4 (dk_at dksX0_needsTo_2 20 rfl rfl)
theorem dX0_needsTo_68 : decode cX0_needsTo 68 = .ok (.invokevirtual 307, 3) := dk_182 1 51 (dk_at dksX0_needsTo_3 0 rfl rfl)
theorem dX0_needsTo_71 : decode cX0_needsTo 71 = .ok (.iload 5, 2) := dk_21 5 (dk_at dksX0_needsTo_3 3 rfl rfl)
theorem dX0_needsTo_73 : decode cX0_needsTo 73 = .ok (.invokestatic 384, 3) := dk_184 1 128 (dk_at dksX0_needsTo_3 5 rfl rfl)
theorem dX0_needsTo_76 : decode cX0_needsTo 76 = .ok (.iaload, 1) := dk_46 (dk_at dksX0_needsTo_3 8 rfl rfl)
theorem dX0_needsTo_77 : decode cX0_needsTo 77 = .ok (.iastore, 1) := dk_79 (dk_at dksX0_needsTo_3 9 rfl rfl)
theorem dX0_needsTo_78 : decode cX0_needsTo 78 = .ok (.iinc 5 1, 3) := dk_132 5 1 (dk_at dksX0_needsTo_3 10 rfl rfl)
theorem dX0_needsTo_81 : decode cX0_needsTo 81 = .ok (.goto (-65), 3) := dk_167 255 191 (dk_at dksX0_needsTo_3 13 rfl rfl)
theorem dX0_needsTo_84 : decode cX0_needsTo 84 = .ok (.iconst 1, 1) := dk_4 (dk_at dksX0_needsTo_3 16 rfl rfl)
theorem dX0_needsTo_85 : decode cX0_needsTo 85 = .ok (.istore 5, 2) := dk_54 5 (dk_at dksX0_needsTo_3 17 rfl rfl)
theorem dX0_needsTo_87 : decode cX0_needsTo 87 = .ok (.iload 5, 2) := dk_21 5 (dk_at dksX0_needsTo_3 19 rfl rfl)
theorem dX0_needsTo_89 : decode cX0_needsTo 89 = .ok (.aload_n 1, 1) := dk_43 (dk_at dksX0_needsTo_3 21 rfl rfl)
theorem dX0_needsTo_90 : decode cX0_needsTo 90 = .ok (.getfield 254, 3) := dk_180 0 254 (dk_at dksX0_needsTo_4 0 rfl rfl)
theorem dX0_needsTo_93 : decode cX0_needsTo 93 = .ok (.if_icmp .ge 46, 3) := dk_162 0 46 (dk_at dksX0_needsTo_4 3 rfl rfl)
theorem dX0_needsTo_96 : decode cX0_needsTo 96 = .ok (.aload_n 0, 1) := dk_42 (dk_at dksX0_needsTo_4 6 rfl rfl)
theorem dX0_needsTo_97 : decode cX0_needsTo 97 = .ok (.getfield 181, 3) := dk_180 0 181 (dk_at dksX0_needsTo_4 7 rfl rfl)
theorem dX0_needsTo_100 : decode cX0_needsTo 100 = .ok (.iload 4, 2) := dk_21 4 (dk_at dksX0_needsTo_4 10 rfl rfl)
theorem dX0_needsTo_102 : decode cX0_needsTo 102 = .ok (.aaload, 1) := dk_50 (dk_at dksX0_needsTo_4 12 rfl rfl)
theorem dX0_needsTo_103 : decode cX0_needsTo 103 = .ok (.iload 5, 2) := dk_21 5 (dk_at dksX0_needsTo_4 13 rfl rfl)
theorem dX0_needsTo_105 : decode cX0_needsTo 105 = .ok (.aload_n 0, 1) := dk_42 (dk_at dksX0_needsTo_4 15 rfl rfl)
theorem dX0_needsTo_106 : decode cX0_needsTo 106 = .ok (.getfield 181, 3) := dk_180 0 181 (dk_at dksX0_needsTo_4 16 rfl rfl)
theorem dX0_needsTo_109 : decode cX0_needsTo 109 = .ok (.iload 4, 2) := dk_21 4 (dk_at dksX0_needsTo_4 19 rfl rfl)
theorem dX0_needsTo_111 : decode cX0_needsTo 111 = .ok (.aaload, 1) := dk_50 (dk_at dksX0_needsTo_4 21 rfl rfl)
theorem dX0_needsTo_112 : decode cX0_needsTo 112 = .ok (.iload 5, 2) := dk_21 5 (dk_at dksX0_needsTo_4 22 rfl rfl)
theorem dX0_needsTo_114 : decode cX0_needsTo 114 = .ok (.iaload, 1) := dk_46 (dk_at dksX0_needsTo_5 0 rfl rfl)
theorem dX0_needsTo_115 : decode cX0_needsTo 115 = .ok (.aload_n 0, 1) := dk_42 (dk_at dksX0_needsTo_5 1 rfl rfl)
theorem dX0_needsTo_116 : decode cX0_needsTo 116 = .ok (.getfield 181, 3) := dk_180 0 181 (dk_at dksX0_needsTo_5 2 rfl rfl)
theorem dX0_needsTo_119 : decode cX0_needsTo 119 = .ok (.iload 4, 2) := dk_21 4 (dk_at dksX0_needsTo_5 5 rfl rfl)
theorem dX0_needsTo_121 : decode cX0_needsTo 121 = .ok (.aaload, 1) := dk_50 (dk_at dksX0_needsTo_5 7 rfl rfl)
theorem dX0_needsTo_122 : decode cX0_needsTo 122 = .ok (.iload 5, 2) := dk_21 5 (dk_at dksX0_needsTo_5 8 rfl rfl)
theorem dX0_needsTo_124 : decode cX0_needsTo 124 = .ok (.iconst 1, 1) := dk_4 (dk_at dksX0_needsTo_5 10 rfl rfl)
theorem dX0_needsTo_125 : decode cX0_needsTo 125 = .ok (.isub, 1) := dk_100 (dk_at dksX0_needsTo_5 11 rfl rfl)
theorem dX0_needsTo_126 : decode cX0_needsTo 126 = .ok (.iaload, 1) := dk_46 (dk_at dksX0_needsTo_5 12 rfl rfl)
theorem dX0_needsTo_127 : decode cX0_needsTo 127 = .ok (.iconst 1, 1) := dk_4 (dk_at dksX0_needsTo_5 13 rfl rfl)
theorem dX0_needsTo_128 : decode cX0_needsTo 128 = .ok (.iadd, 1) := dk_96 (dk_at dksX0_needsTo_5 14 rfl rfl)
theorem dX0_needsTo_129 : decode cX0_needsTo 129 = .ok (.invokestatic 101, 3) := dk_184 0 101 (dk_at dksX0_needsTo_5 15 rfl rfl)
theorem dX0_needsTo_132 : decode cX0_needsTo 132 = .ok (.iastore, 1) := dk_79 (dk_at dksX0_needsTo_5 18 rfl rfl)
theorem dX0_needsTo_133 : decode cX0_needsTo 133 = .ok (.iinc 5 1, 3) := dk_132 5 1 (dk_at dksX0_needsTo_5 19 rfl rfl)
theorem dX0_needsTo_136 : decode cX0_needsTo 136 = .ok (.goto (-49), 3) := dk_167 255 207 (dk_at dksX0_needsTo_6 0 rfl rfl)
theorem dX0_needsTo_139 : decode cX0_needsTo 139 = .ok (.aload_n 1, 1) := dk_43 (dk_at dksX0_needsTo_6 3 rfl rfl)
theorem dX0_needsTo_140 : decode cX0_needsTo 140 = .ok (.getfield 254, 3) := dk_180 0 254 (dk_at dksX0_needsTo_6 4 rfl rfl)
theorem dX0_needsTo_143 : decode cX0_needsTo 143 = .ok (.iconst 2, 1) := dk_5 (dk_at dksX0_needsTo_6 7 rfl rfl)
theorem dX0_needsTo_144 : decode cX0_needsTo 144 = .ok (.isub, 1) := dk_100 (dk_at dksX0_needsTo_6 8 rfl rfl)
theorem dX0_needsTo_145 : decode cX0_needsTo 145 = .ok (.istore 5, 2) := dk_54 5 (dk_at dksX0_needsTo_6 9 rfl rfl)
theorem dX0_needsTo_147 : decode cX0_needsTo 147 = .ok (.iload 5, 2) := dk_21 5 (dk_at dksX0_needsTo_6 11 rfl rfl)
theorem dX0_needsTo_149 : decode cX0_needsTo 149 = .ok (.ifCond .lt 46, 3) := dk_155 0 46 (dk_at dksX0_needsTo_6 13 rfl rfl)
theorem dX0_needsTo_152 : decode cX0_needsTo 152 = .ok (.aload_n 0, 1) := dk_42 (dk_at dksX0_needsTo_6 16 rfl rfl)
theorem dX0_needsTo_153 : decode cX0_needsTo 153 = .ok (.getfield 181, 3) := dk_180 0 181 (dk_at dksX0_needsTo_6 17 rfl rfl)
theorem dX0_needsTo_156 : decode cX0_needsTo 156 = .ok (.iload 4, 2) := dk_21 4 (dk_at dksX0_needsTo_6 20 rfl rfl)
theorem dX0_needsTo_158 : decode cX0_needsTo 158 = .ok (.aaload, 1) := dk_50 (dk_at dksX0_needsTo_6 22 rfl rfl)
theorem dX0_needsTo_159 : decode cX0_needsTo 159 = .ok (.iload 5, 2) := dk_21 5 (dk_at dksX0_needsTo_7 0 rfl rfl)
theorem dX0_needsTo_161 : decode cX0_needsTo 161 = .ok (.aload_n 0, 1) := dk_42 (dk_at dksX0_needsTo_7 2 rfl rfl)
theorem dX0_needsTo_162 : decode cX0_needsTo 162 = .ok (.getfield 181, 3) := dk_180 0 181 (dk_at dksX0_needsTo_7 3 rfl rfl)
theorem dX0_needsTo_165 : decode cX0_needsTo 165 = .ok (.iload 4, 2) := dk_21 4 (dk_at dksX0_needsTo_7 6 rfl rfl)
theorem dX0_needsTo_167 : decode cX0_needsTo 167 = .ok (.aaload, 1) := dk_50 (dk_at dksX0_needsTo_7 8 rfl rfl)
theorem dX0_needsTo_168 : decode cX0_needsTo 168 = .ok (.iload 5, 2) := dk_21 5 (dk_at dksX0_needsTo_7 9 rfl rfl)
theorem dX0_needsTo_170 : decode cX0_needsTo 170 = .ok (.iaload, 1) := dk_46 (dk_at dksX0_needsTo_7 11 rfl rfl)
theorem dX0_needsTo_171 : decode cX0_needsTo 171 = .ok (.aload_n 0, 1) := dk_42 (dk_at dksX0_needsTo_7 12 rfl rfl)
theorem dX0_needsTo_172 : decode cX0_needsTo 172 = .ok (.getfield 181, 3) := dk_180 0 181 (dk_at dksX0_needsTo_7 13 rfl rfl)
theorem dX0_needsTo_175 : decode cX0_needsTo 175 = .ok (.iload 4, 2) := dk_21 4 (dk_at dksX0_needsTo_7 16 rfl rfl)
theorem dX0_needsTo_177 : decode cX0_needsTo 177 = .ok (.aaload, 1) := dk_50 (dk_at dksX0_needsTo_7 18 rfl rfl)
theorem dX0_needsTo_178 : decode cX0_needsTo 178 = .ok (.iload 5, 2) := dk_21 5 (dk_at dksX0_needsTo_7 19 rfl rfl)
theorem dX0_needsTo_180 : decode cX0_needsTo 180 = .ok (.iconst 1, 1) := dk_4 (dk_at dksX0_needsTo_7 21 rfl rfl)
theorem dX0_needsTo_181 : decode cX0_needsTo 181 = .ok (.iadd, 1) := dk_96 (dk_at dksX0_needsTo_7 22 rfl rfl)
theorem dX0_needsTo_182 : decode cX0_needsTo 182 = .ok (.iaload, 1) := dk_46 (dk_at dksX0_needsTo_7 23 rfl rfl)
theorem dX0_needsTo_183 : decode cX0_needsTo 183 = .ok (.iconst 1, 1) := dk_4 (dk_at dksX0_needsTo_8 0 rfl rfl)
theorem dX0_needsTo_184 : decode cX0_needsTo 184 = .ok (.iadd, 1) := dk_96 (dk_at dksX0_needsTo_8 1 rfl rfl)
theorem dX0_needsTo_185 : decode cX0_needsTo 185 = .ok (.invokestatic 101, 3) := dk_184 0 101 (dk_at dksX0_needsTo_8 2 rfl rfl)
theorem dX0_needsTo_188 : decode cX0_needsTo 188 = .ok (.iastore, 1) := dk_79 (dk_at dksX0_needsTo_8 5 rfl rfl)
theorem dX0_needsTo_189 : decode cX0_needsTo 189 = .ok (.iinc 5 (-1), 3) := dk_132 5 255 (dk_at dksX0_needsTo_8 6 rfl rfl)
theorem dX0_needsTo_192 : decode cX0_needsTo 192 = .ok (.goto (-45), 3) := dk_167 255 211 (dk_at dksX0_needsTo_8 9 rfl rfl)
theorem dX0_needsTo_195 : decode cX0_needsTo 195 = .ok (.iinc 4 (-1), 3) := dk_132 4 255 (dk_at dksX0_needsTo_8 12 rfl rfl)
theorem dX0_needsTo_198 : decode cX0_needsTo 198 = .ok (.goto (-190), 3) := dk_167 255 66 (dk_at dksX0_needsTo_8 15 rfl rfl)
theorem dX0_needsTo_201 : decode cX0_needsTo 201 = .ok (.return_, 1) := dk_177 (dk_at dksX0_needsTo_8 18 rfl rfl)
abbrev cX0_moved : ByteArray := prog_1_method_58_code
def yX0_moved : MethodName := ⟨RX0, "moved", "(LLadderLots$Step;I)I"⟩
def dkwX0_moved_1 : List UInt8 := [27, 4, 100, 167, 0, 4, 27, 172]
abbrev dktX0_moved_1 : List UInt8 := dkwX0_moved_1 ++ []
def dkwX0_moved_0 : List UInt8 := [27, 42, 180, 1, 55, 160, 0, 9, 27, 4, 96, 167, 0, 20, 27, 42, 180, 1, 55, 4, 96, 160, 0, 9]
abbrev dktX0_moved_0 : List UInt8 := dkwX0_moved_0 ++ dktX0_moved_1
theorem dksX0_moved_0 : cX0_moved.data.toList.drop 0 = dktX0_moved_0 := by decide +kernel
theorem dksX0_moved_1 : cX0_moved.data.toList.drop 24 = dktX0_moved_1 := dk_seg dksX0_moved_0 24 rfl rfl
theorem dX0_moved_0 : decode cX0_moved 0 = .ok (.iload_n 1, 1) := dk_27 (dk_at dksX0_moved_0 0 rfl rfl)
theorem dX0_moved_1 : decode cX0_moved 1 = .ok (.aload_n 0, 1) := dk_42 (dk_at dksX0_moved_0 1 rfl rfl)
theorem dX0_moved_2 : decode cX0_moved 2 = .ok (.getfield 311, 3) := dk_180 1 55 (dk_at dksX0_moved_0 2 rfl rfl)
theorem dX0_moved_5 : decode cX0_moved 5 = .ok (.if_icmp .ne 9, 3) := dk_160 0 9 (dk_at dksX0_moved_0 5 rfl rfl)
theorem dX0_moved_8 : decode cX0_moved 8 = .ok (.iload_n 1, 1) := dk_27 (dk_at dksX0_moved_0 8 rfl rfl)
theorem dX0_moved_9 : decode cX0_moved 9 = .ok (.iconst 1, 1) := dk_4 (dk_at dksX0_moved_0 9 rfl rfl)
theorem dX0_moved_10 : decode cX0_moved 10 = .ok (.iadd, 1) := dk_96 (dk_at dksX0_moved_0 10 rfl rfl)
theorem dX0_moved_11 : decode cX0_moved 11 = .ok (.goto 20, 3) := dk_167 0 20 (dk_at dksX0_moved_0 11 rfl rfl)
theorem dX0_moved_14 : decode cX0_moved 14 = .ok (.iload_n 1, 1) := dk_27 (dk_at dksX0_moved_0 14 rfl rfl)
theorem dX0_moved_15 : decode cX0_moved 15 = .ok (.aload_n 0, 1) := dk_42 (dk_at dksX0_moved_0 15 rfl rfl)
theorem dX0_moved_16 : decode cX0_moved 16 = .ok (.getfield 311, 3) := dk_180 1 55 (dk_at dksX0_moved_0 16 rfl rfl)
theorem dX0_moved_19 : decode cX0_moved 19 = .ok (.iconst 1, 1) := dk_4 (dk_at dksX0_moved_0 19 rfl rfl)
theorem dX0_moved_20 : decode cX0_moved 20 = .ok (.iadd, 1) := dk_96 (dk_at dksX0_moved_0 20 rfl rfl)
theorem dX0_moved_21 : decode cX0_moved 21 = .ok (.if_icmp .ne 9, 3) := dk_160 0 9 (dk_at dksX0_moved_0 21 rfl rfl)
theorem dX0_moved_24 : decode cX0_moved 24 = .ok (.iload_n 1, 1) := dk_27 (dk_at dksX0_moved_1 0 rfl rfl)
theorem dX0_moved_25 : decode cX0_moved 25 = .ok (.iconst 1, 1) := dk_4 (dk_at dksX0_moved_1 1 rfl rfl)
theorem dX0_moved_26 : decode cX0_moved 26 = .ok (.isub, 1) := dk_100 (dk_at dksX0_moved_1 2 rfl rfl)
theorem dX0_moved_27 : decode cX0_moved 27 = .ok (.goto 4, 3) := dk_167 0 4 (dk_at dksX0_moved_1 3 rfl rfl)
theorem dX0_moved_30 : decode cX0_moved 30 = .ok (.iload_n 1, 1) := dk_27 (dk_at dksX0_moved_1 6 rfl rfl)
theorem dX0_moved_31 : decode cX0_moved 31 = .ok (.ireturn, 1) := dk_172 (dk_at dksX0_moved_1 7 rfl rfl)
abbrev cX0_drawnAt : ByteArray := prog_1_method_61_code
def yX0_drawnAt : MethodName := ⟨RX0, "drawnAt", "(IIII)I"⟩
def dkwX0_drawnAt_8 : List UInt8 := [132, 9, 1, 167, 255, 116]
abbrev dktX0_drawnAt_8 : List UInt8 := dkwX0_drawnAt_8 ++ []
def dkwX0_drawnAt_7 : List UInt8 := [132, 7, 1, 132, 8, 1, 167, 255, 136, 25, 6, 21, 9, 182, 1, 51, 21, 7, 184, 1, 128, 54, 7]
abbrev dktX0_drawnAt_7 : List UInt8 := dkwX0_drawnAt_7 ++ dktX0_drawnAt_8
def dkwX0_drawnAt_6 : List UInt8 := [46, 4, 100, 160, 0, 28, 21, 8, 21, 4, 160, 0, 12, 16, 10, 21, 9, 104, 21, 7, 96, 172]
abbrev dktX0_drawnAt_6 : List UInt8 := dkwX0_drawnAt_6 ++ dktX0_drawnAt_7
def dkwX0_drawnAt_5 : List UInt8 := [162, 0, 55, 42, 180, 0, 181, 21, 9, 50, 21, 7, 4, 96, 46, 42, 180, 0, 181, 21, 9, 50, 21, 7]
abbrev dktX0_drawnAt_5 : List UInt8 := dkwX0_drawnAt_5 ++ dktX0_drawnAt_6
def dkwX0_drawnAt_4 : List UInt8 := [21, 7, 96, 4, 100, 172, 132, 7, 255, 132, 8, 1, 167, 255, 200, 21, 7, 4, 96, 25, 6, 180, 0, 254]
abbrev dktX0_drawnAt_4 : List UInt8 := dkwX0_drawnAt_4 ++ dktX0_drawnAt_5
def dkwX0_drawnAt_3 : List UInt8 := [21, 9, 50, 21, 7, 46, 4, 100, 160, 0, 30, 21, 8, 21, 4, 160, 0, 14, 16, 10, 21, 9, 104]
abbrev dktX0_drawnAt_3 : List UInt8 := dkwX0_drawnAt_3 ++ dktX0_drawnAt_4
def dkwX0_drawnAt_2 : List UInt8 := [3, 54, 9, 21, 7, 158, 0, 57, 42, 180, 0, 181, 21, 9, 50, 21, 7, 4, 100, 46, 42, 180, 0, 181]
abbrev dktX0_drawnAt_2 : List UInt8 := dkwX0_drawnAt_2 ++ dktX0_drawnAt_3
def dkwX0_drawnAt_1 : List UInt8 := [154, 0, 5, 2, 172, 42, 180, 0, 148, 27, 182, 0, 250, 192, 0, 242, 58, 6, 28, 54, 7, 3, 54, 8]
abbrev dktX0_drawnAt_1 : List UInt8 := dkwX0_drawnAt_1 ++ dktX0_drawnAt_2
def dkwX0_drawnAt_0 : List UInt8 := [42, 27, 28, 29, 182, 1, 135, 54, 5, 21, 5, 155, 0, 16, 21, 4, 3, 21, 5, 4, 100, 184, 0, 3]
abbrev dktX0_drawnAt_0 : List UInt8 := dkwX0_drawnAt_0 ++ dktX0_drawnAt_1
theorem dksX0_drawnAt_0 : cX0_drawnAt.data.toList.drop 0 = dktX0_drawnAt_0 := by decide +kernel
theorem dksX0_drawnAt_1 : cX0_drawnAt.data.toList.drop 24 = dktX0_drawnAt_1 := dk_seg dksX0_drawnAt_0 24 rfl rfl
theorem dksX0_drawnAt_2 : cX0_drawnAt.data.toList.drop 48 = dktX0_drawnAt_2 := dk_seg dksX0_drawnAt_1 24 rfl rfl
theorem dksX0_drawnAt_3 : cX0_drawnAt.data.toList.drop 72 = dktX0_drawnAt_3 := dk_seg dksX0_drawnAt_2 24 rfl rfl
theorem dksX0_drawnAt_4 : cX0_drawnAt.data.toList.drop 95 = dktX0_drawnAt_4 := dk_seg dksX0_drawnAt_3 23 rfl rfl
theorem dksX0_drawnAt_5 : cX0_drawnAt.data.toList.drop 119 = dktX0_drawnAt_5 := dk_seg dksX0_drawnAt_4 24 rfl rfl
theorem dksX0_drawnAt_6 : cX0_drawnAt.data.toList.drop 143 = dktX0_drawnAt_6 := dk_seg dksX0_drawnAt_5 24 rfl rfl
theorem dksX0_drawnAt_7 : cX0_drawnAt.data.toList.drop 165 = dktX0_drawnAt_7 := dk_seg dksX0_drawnAt_6 22 rfl rfl
theorem dksX0_drawnAt_8 : cX0_drawnAt.data.toList.drop 188 = dktX0_drawnAt_8 := dk_seg dksX0_drawnAt_7 23 rfl rfl
theorem dX0_drawnAt_0 : decode cX0_drawnAt 0 = .ok (.aload_n 0, 1) := dk_42 (dk_at dksX0_drawnAt_0 0 rfl rfl)
theorem dX0_drawnAt_1 : decode cX0_drawnAt 1 = .ok (.iload_n 1, 1) := dk_27 (dk_at dksX0_drawnAt_0 1 rfl rfl)
theorem dX0_drawnAt_2 : decode cX0_drawnAt 2 = .ok (.iload_n 2, 1) := dk_28 (dk_at dksX0_drawnAt_0 2 rfl rfl)
theorem dX0_drawnAt_3 : decode cX0_drawnAt 3 = .ok (.iload_n 3, 1) := dk_29 (dk_at dksX0_drawnAt_0 3 rfl rfl)
theorem dX0_drawnAt_4 : decode cX0_drawnAt 4 = .ok (.invokevirtual 391, 3) := dk_182 1 135 (dk_at dksX0_drawnAt_0 4 rfl rfl)
theorem dX0_drawnAt_7 : decode cX0_drawnAt 7 = .ok (.istore 5, 2) := dk_54 5 (dk_at dksX0_drawnAt_0 7 rfl rfl)
theorem dX0_drawnAt_9 : decode cX0_drawnAt 9 = .ok (.iload 5, 2) := dk_21 5 (dk_at dksX0_drawnAt_0 9 rfl rfl)
theorem dX0_drawnAt_11 : decode cX0_drawnAt 11 = .ok (.ifCond .lt 16, 3) := dk_155 0 16 (dk_at dksX0_drawnAt_0 11 rfl rfl)
theorem dX0_drawnAt_14 : decode cX0_drawnAt 14 = .ok (.iload 4, 2) := dk_21 4 (dk_at dksX0_drawnAt_0 14 rfl rfl)
theorem dX0_drawnAt_16 : decode cX0_drawnAt 16 = .ok (.iconst 0, 1) := dk_3 (dk_at dksX0_drawnAt_0 16 rfl rfl)
theorem dX0_drawnAt_17 : decode cX0_drawnAt 17 = .ok (.iload 5, 2) := dk_21 5 (dk_at dksX0_drawnAt_0 17 rfl rfl)
theorem dX0_drawnAt_19 : decode cX0_drawnAt 19 = .ok (.iconst 1, 1) := dk_4 (dk_at dksX0_drawnAt_0 19 rfl rfl)
theorem dX0_drawnAt_20 : decode cX0_drawnAt 20 = .ok (.isub, 1) := dk_100 (dk_at dksX0_drawnAt_0 20 rfl rfl)
theorem dX0_drawnAt_21 : decode cX0_drawnAt 21 = .ok (.invokestatic 3, 3) := dk_184 0 3 (dk_at dksX0_drawnAt_0 21 rfl rfl)
theorem dX0_drawnAt_24 : decode cX0_drawnAt 24 = .ok (.ifCond .ne 5, 3) := dk_154 0 5 (dk_at dksX0_drawnAt_1 0 rfl rfl)
theorem dX0_drawnAt_27 : decode cX0_drawnAt 27 = .ok (.iconst (-1), 1) := dk_2 (dk_at dksX0_drawnAt_1 3 rfl rfl)
theorem dX0_drawnAt_28 : decode cX0_drawnAt 28 = .ok (.ireturn, 1) := dk_172 (dk_at dksX0_drawnAt_1 4 rfl rfl)
theorem dX0_drawnAt_29 : decode cX0_drawnAt 29 = .ok (.aload_n 0, 1) := dk_42 (dk_at dksX0_drawnAt_1 5 rfl rfl)
theorem dX0_drawnAt_30 : decode cX0_drawnAt 30 = .ok (.getfield 148, 3) := dk_180 0 148 (dk_at dksX0_drawnAt_1 6 rfl rfl)
theorem dX0_drawnAt_33 : decode cX0_drawnAt 33 = .ok (.iload_n 1, 1) := dk_27 (dk_at dksX0_drawnAt_1 9 rfl rfl)
theorem dX0_drawnAt_34 : decode cX0_drawnAt 34 = .ok (.invokevirtual 250, 3) := dk_182 0 250 (dk_at dksX0_drawnAt_1 10 rfl rfl)
theorem dX0_drawnAt_37 : decode cX0_drawnAt 37 = .ok (.checkcast 242, 3) := dk_192 0 242 (dk_at dksX0_drawnAt_1 13 rfl rfl)
theorem dX0_drawnAt_40 : decode cX0_drawnAt 40 = .ok (.astore 6, 2) := dk_58 6 (dk_at dksX0_drawnAt_1 16 rfl rfl)
theorem dX0_drawnAt_42 : decode cX0_drawnAt 42 = .ok (.iload_n 2, 1) := dk_28 (dk_at dksX0_drawnAt_1 18 rfl rfl)
theorem dX0_drawnAt_43 : decode cX0_drawnAt 43 = .ok (.istore 7, 2) := dk_54 7 (dk_at dksX0_drawnAt_1 19 rfl rfl)
theorem dX0_drawnAt_45 : decode cX0_drawnAt 45 = .ok (.iconst 0, 1) := dk_3 (dk_at dksX0_drawnAt_1 21 rfl rfl)
theorem dX0_drawnAt_46 : decode cX0_drawnAt 46 = .ok (.istore 8, 2) := dk_54 8 (dk_at dksX0_drawnAt_1 22 rfl rfl)
theorem dX0_drawnAt_48 : decode cX0_drawnAt 48 = .ok (.iconst 0, 1) := dk_3 (dk_at dksX0_drawnAt_2 0 rfl rfl)
theorem dX0_drawnAt_49 : decode cX0_drawnAt 49 = .ok (.istore 9, 2) := dk_54 9 (dk_at dksX0_drawnAt_2 1 rfl rfl)
theorem dX0_drawnAt_51 : decode cX0_drawnAt 51 = .ok (.iload 7, 2) := dk_21 7 (dk_at dksX0_drawnAt_2 3 rfl rfl)
theorem dX0_drawnAt_53 : decode cX0_drawnAt 53 = .ok (.ifCond .le 57, 3) := dk_158 0 57 (dk_at dksX0_drawnAt_2 5 rfl rfl)
theorem dX0_drawnAt_56 : decode cX0_drawnAt 56 = .ok (.aload_n 0, 1) := dk_42 (dk_at dksX0_drawnAt_2 8 rfl rfl)
theorem dX0_drawnAt_57 : decode cX0_drawnAt 57 = .ok (.getfield 181, 3) := dk_180 0 181 (dk_at dksX0_drawnAt_2 9 rfl rfl)
theorem dX0_drawnAt_60 : decode cX0_drawnAt 60 = .ok (.iload 9, 2) := dk_21 9 (dk_at dksX0_drawnAt_2 12 rfl rfl)
theorem dX0_drawnAt_62 : decode cX0_drawnAt 62 = .ok (.aaload, 1) := dk_50 (dk_at dksX0_drawnAt_2 14 rfl rfl)
theorem dX0_drawnAt_63 : decode cX0_drawnAt 63 = .ok (.iload 7, 2) := dk_21 7 (dk_at dksX0_drawnAt_2 15 rfl rfl)
theorem dX0_drawnAt_65 : decode cX0_drawnAt 65 = .ok (.iconst 1, 1) := dk_4 (dk_at dksX0_drawnAt_2 17 rfl rfl)
theorem dX0_drawnAt_66 : decode cX0_drawnAt 66 = .ok (.isub, 1) := dk_100 (dk_at dksX0_drawnAt_2 18 rfl rfl)
theorem dX0_drawnAt_67 : decode cX0_drawnAt 67 = .ok (.iaload, 1) := dk_46 (dk_at dksX0_drawnAt_2 19 rfl rfl)
theorem dX0_drawnAt_68 : decode cX0_drawnAt 68 = .ok (.aload_n 0, 1) := dk_42 (dk_at dksX0_drawnAt_2 20 rfl rfl)
theorem dX0_drawnAt_69 : decode cX0_drawnAt 69 = .ok (.getfield 181, 3) := dk_180 0 181 (dk_at dksX0_drawnAt_2 21 rfl rfl)
theorem dX0_drawnAt_72 : decode cX0_drawnAt 72 = .ok (.iload 9, 2) := dk_21 9 (dk_at dksX0_drawnAt_3 0 rfl rfl)
theorem dX0_drawnAt_74 : decode cX0_drawnAt 74 = .ok (.aaload, 1) := dk_50 (dk_at dksX0_drawnAt_3 2 rfl rfl)
theorem dX0_drawnAt_75 : decode cX0_drawnAt 75 = .ok (.iload 7, 2) := dk_21 7 (dk_at dksX0_drawnAt_3 3 rfl rfl)
theorem dX0_drawnAt_77 : decode cX0_drawnAt 77 = .ok (.iaload, 1) := dk_46 (dk_at dksX0_drawnAt_3 5 rfl rfl)
theorem dX0_drawnAt_78 : decode cX0_drawnAt 78 = .ok (.iconst 1, 1) := dk_4 (dk_at dksX0_drawnAt_3 6 rfl rfl)
theorem dX0_drawnAt_79 : decode cX0_drawnAt 79 = .ok (.isub, 1) := dk_100 (dk_at dksX0_drawnAt_3 7 rfl rfl)
theorem dX0_drawnAt_80 : decode cX0_drawnAt 80 = .ok (.if_icmp .ne 30, 3) := dk_160 0 30 (dk_at dksX0_drawnAt_3 8 rfl rfl)
theorem dX0_drawnAt_83 : decode cX0_drawnAt 83 = .ok (.iload 8, 2) := dk_21 8 (dk_at dksX0_drawnAt_3 11 rfl rfl)
theorem dX0_drawnAt_85 : decode cX0_drawnAt 85 = .ok (.iload 4, 2) := dk_21 4 (dk_at dksX0_drawnAt_3 13 rfl rfl)
theorem dX0_drawnAt_87 : decode cX0_drawnAt 87 = .ok (.if_icmp .ne 14, 3) := dk_160 0 14 (dk_at dksX0_drawnAt_3 15 rfl rfl)
theorem dX0_drawnAt_90 : decode cX0_drawnAt 90 = .ok (.bipush 10, 2) := dk_16 10 (dk_at dksX0_drawnAt_3 18 rfl rfl)
theorem dX0_drawnAt_92 : decode cX0_drawnAt 92 = .ok (.iload 9, 2) := dk_21 9 (dk_at dksX0_drawnAt_3 20 rfl rfl)
theorem dX0_drawnAt_94 : decode cX0_drawnAt 94 = .ok (.imul, 1) := dk_104 (dk_at dksX0_drawnAt_3 22 rfl rfl)
theorem dX0_drawnAt_95 : decode cX0_drawnAt 95 = .ok (.iload 7, 2) := dk_21 7 (dk_at dksX0_drawnAt_4 0 rfl rfl)
theorem dX0_drawnAt_97 : decode cX0_drawnAt 97 = .ok (.iadd, 1) := dk_96 (dk_at dksX0_drawnAt_4 2 rfl rfl)
theorem dX0_drawnAt_98 : decode cX0_drawnAt 98 = .ok (.iconst 1, 1) := dk_4 (dk_at dksX0_drawnAt_4 3 rfl rfl)
theorem dX0_drawnAt_99 : decode cX0_drawnAt 99 = .ok (.isub, 1) := dk_100 (dk_at dksX0_drawnAt_4 4 rfl rfl)
theorem dX0_drawnAt_100 : decode cX0_drawnAt 100 = .ok (.ireturn, 1) := dk_172 (dk_at dksX0_drawnAt_4 5 rfl rfl)
theorem dX0_drawnAt_101 : decode cX0_drawnAt 101 = .ok (.iinc 7 (-1), 3) := dk_132 7 255 (dk_at dksX0_drawnAt_4 6 rfl rfl)
theorem dX0_drawnAt_104 : decode cX0_drawnAt 104 = .ok (.iinc 8 1, 3) := dk_132 8 1 (dk_at dksX0_drawnAt_4 9 rfl rfl)
theorem dX0_drawnAt_107 : decode cX0_drawnAt 107 = .ok (.goto (-56), 3) := dk_167 255 200 (dk_at dksX0_drawnAt_4 12 rfl rfl)
theorem dX0_drawnAt_110 : decode cX0_drawnAt 110 = .ok (.iload 7, 2) := dk_21 7 (dk_at dksX0_drawnAt_4 15 rfl rfl)
theorem dX0_drawnAt_112 : decode cX0_drawnAt 112 = .ok (.iconst 1, 1) := dk_4 (dk_at dksX0_drawnAt_4 17 rfl rfl)
theorem dX0_drawnAt_113 : decode cX0_drawnAt 113 = .ok (.iadd, 1) := dk_96 (dk_at dksX0_drawnAt_4 18 rfl rfl)
theorem dX0_drawnAt_114 : decode cX0_drawnAt 114 = .ok (.aload 6, 2) := dk_25 6 (dk_at dksX0_drawnAt_4 19 rfl rfl)
theorem dX0_drawnAt_116 : decode cX0_drawnAt 116 = .ok (.getfield 254, 3) := dk_180 0 254 (dk_at dksX0_drawnAt_4 21 rfl rfl)
theorem dX0_drawnAt_119 : decode cX0_drawnAt 119 = .ok (.if_icmp .ge 55, 3) := dk_162 0 55 (dk_at dksX0_drawnAt_5 0 rfl rfl)
theorem dX0_drawnAt_122 : decode cX0_drawnAt 122 = .ok (.aload_n 0, 1) := dk_42 (dk_at dksX0_drawnAt_5 3 rfl rfl)
theorem dX0_drawnAt_123 : decode cX0_drawnAt 123 = .ok (.getfield 181, 3) := dk_180 0 181 (dk_at dksX0_drawnAt_5 4 rfl rfl)
theorem dX0_drawnAt_126 : decode cX0_drawnAt 126 = .ok (.iload 9, 2) := dk_21 9 (dk_at dksX0_drawnAt_5 7 rfl rfl)
theorem dX0_drawnAt_128 : decode cX0_drawnAt 128 = .ok (.aaload, 1) := dk_50 (dk_at dksX0_drawnAt_5 9 rfl rfl)
theorem dX0_drawnAt_129 : decode cX0_drawnAt 129 = .ok (.iload 7, 2) := dk_21 7 (dk_at dksX0_drawnAt_5 10 rfl rfl)
theorem dX0_drawnAt_131 : decode cX0_drawnAt 131 = .ok (.iconst 1, 1) := dk_4 (dk_at dksX0_drawnAt_5 12 rfl rfl)
theorem dX0_drawnAt_132 : decode cX0_drawnAt 132 = .ok (.iadd, 1) := dk_96 (dk_at dksX0_drawnAt_5 13 rfl rfl)
theorem dX0_drawnAt_133 : decode cX0_drawnAt 133 = .ok (.iaload, 1) := dk_46 (dk_at dksX0_drawnAt_5 14 rfl rfl)
theorem dX0_drawnAt_134 : decode cX0_drawnAt 134 = .ok (.aload_n 0, 1) := dk_42 (dk_at dksX0_drawnAt_5 15 rfl rfl)
theorem dX0_drawnAt_135 : decode cX0_drawnAt 135 = .ok (.getfield 181, 3) := dk_180 0 181 (dk_at dksX0_drawnAt_5 16 rfl rfl)
theorem dX0_drawnAt_138 : decode cX0_drawnAt 138 = .ok (.iload 9, 2) := dk_21 9 (dk_at dksX0_drawnAt_5 19 rfl rfl)
theorem dX0_drawnAt_140 : decode cX0_drawnAt 140 = .ok (.aaload, 1) := dk_50 (dk_at dksX0_drawnAt_5 21 rfl rfl)
theorem dX0_drawnAt_141 : decode cX0_drawnAt 141 = .ok (.iload 7, 2) := dk_21 7 (dk_at dksX0_drawnAt_5 22 rfl rfl)
theorem dX0_drawnAt_143 : decode cX0_drawnAt 143 = .ok (.iaload, 1) := dk_46 (dk_at dksX0_drawnAt_6 0 rfl rfl)
theorem dX0_drawnAt_144 : decode cX0_drawnAt 144 = .ok (.iconst 1, 1) := dk_4 (dk_at dksX0_drawnAt_6 1 rfl rfl)
theorem dX0_drawnAt_145 : decode cX0_drawnAt 145 = .ok (.isub, 1) := dk_100 (dk_at dksX0_drawnAt_6 2 rfl rfl)
theorem dX0_drawnAt_146 : decode cX0_drawnAt 146 = .ok (.if_icmp .ne 28, 3) := dk_160 0 28 (dk_at dksX0_drawnAt_6 3 rfl rfl)
theorem dX0_drawnAt_149 : decode cX0_drawnAt 149 = .ok (.iload 8, 2) := dk_21 8 (dk_at dksX0_drawnAt_6 6 rfl rfl)
theorem dX0_drawnAt_151 : decode cX0_drawnAt 151 = .ok (.iload 4, 2) := dk_21 4 (dk_at dksX0_drawnAt_6 8 rfl rfl)
theorem dX0_drawnAt_153 : decode cX0_drawnAt 153 = .ok (.if_icmp .ne 12, 3) := dk_160 0 12 (dk_at dksX0_drawnAt_6 10 rfl rfl)
theorem dX0_drawnAt_156 : decode cX0_drawnAt 156 = .ok (.bipush 10, 2) := dk_16 10 (dk_at dksX0_drawnAt_6 13 rfl rfl)
theorem dX0_drawnAt_158 : decode cX0_drawnAt 158 = .ok (.iload 9, 2) := dk_21 9 (dk_at dksX0_drawnAt_6 15 rfl rfl)
theorem dX0_drawnAt_160 : decode cX0_drawnAt 160 = .ok (.imul, 1) := dk_104 (dk_at dksX0_drawnAt_6 17 rfl rfl)
theorem dX0_drawnAt_161 : decode cX0_drawnAt 161 = .ok (.iload 7, 2) := dk_21 7 (dk_at dksX0_drawnAt_6 18 rfl rfl)
theorem dX0_drawnAt_163 : decode cX0_drawnAt 163 = .ok (.iadd, 1) := dk_96 (dk_at dksX0_drawnAt_6 20 rfl rfl)
theorem dX0_drawnAt_164 : decode cX0_drawnAt 164 = .ok (.ireturn, 1) := dk_172 (dk_at dksX0_drawnAt_6 21 rfl rfl)
theorem dX0_drawnAt_165 : decode cX0_drawnAt 165 = .ok (.iinc 7 1, 3) := dk_132 7 1 (dk_at dksX0_drawnAt_7 0 rfl rfl)
theorem dX0_drawnAt_168 : decode cX0_drawnAt 168 = .ok (.iinc 8 1, 3) := dk_132 8 1 (dk_at dksX0_drawnAt_7 3 rfl rfl)
theorem dX0_drawnAt_171 : decode cX0_drawnAt 171 = .ok (.goto (-120), 3) := dk_167 255 136 (dk_at dksX0_drawnAt_7 6 rfl rfl)
theorem dX0_drawnAt_174 : decode cX0_drawnAt 174 = .ok (.aload 6, 2) := dk_25 6 (dk_at dksX0_drawnAt_7 9 rfl rfl)
theorem dX0_drawnAt_176 : decode cX0_drawnAt 176 = .ok (.iload 9, 2) := dk_21 9 (dk_at dksX0_drawnAt_7 11 rfl rfl)
theorem dX0_drawnAt_178 : decode cX0_drawnAt 178 = .ok (.invokevirtual 307, 3) := dk_182 1 51 (dk_at dksX0_drawnAt_7 13 rfl rfl)
theorem dX0_drawnAt_181 : decode cX0_drawnAt 181 = .ok (.iload 7, 2) := dk_21 7 (dk_at dksX0_drawnAt_7 16 rfl rfl)
theorem dX0_drawnAt_183 : decode cX0_drawnAt 183 = .ok (.invokestatic 384, 3) := dk_184 1 128 (dk_at dksX0_drawnAt_7 18 rfl rfl)
theorem dX0_drawnAt_186 : decode cX0_drawnAt 186 = .ok (.istore 7, 2) := dk_54 7 (dk_at dksX0_drawnAt_7 21 rfl rfl)
theorem dX0_drawnAt_188 : decode cX0_drawnAt 188 = .ok (.iinc 9 1, 3) := dk_132 9 1 (dk_at dksX0_drawnAt_8 0 rfl rfl)
theorem dX0_drawnAt_191 : decode cX0_drawnAt 191 = .ok (.goto (-140), 3) := dk_167 255 116 (dk_at dksX0_drawnAt_8 3 rfl rfl)
abbrev cX0_drawnAll : ByteArray := prog_1_method_62_code
def yX0_drawnAll : MethodName := ⟨RX0, "drawnAll", "(II)I"⟩
def dkwX0_drawnAll_12 : List UInt8 := [180, 0, 7, 180, 0, 17, 184, 0, 68, 132, 4, 1, 167, 255, 50, 42, 180, 0, 184, 28, 46, 172]
abbrev dktX0_drawnAll_12 : List UInt8 := dkwX0_drawnAll_12 ++ []
def dkwX0_drawnAll_11 : List UInt8 := [180, 0, 184, 21, 6, 46, 79, 132, 6, 1, 167, 255, 210, 42, 180, 0, 187, 3, 42, 180, 0, 184, 3, 42]
abbrev dktX0_drawnAll_11 : List UInt8 := dkwX0_drawnAll_11 ++ dktX0_drawnAll_12
def dkwX0_drawnAll_10 : List UInt8 := [180, 0, 187, 42, 180, 0, 7, 21, 6, 45, 21, 4, 182, 1, 51, 180, 1, 55, 4, 182, 1, 138, 42]
abbrev dktX0_drawnAll_10 : List UInt8 := dkwX0_drawnAll_10 ++ dktX0_drawnAll_11
def dkwX0_drawnAll_9 : List UInt8 := [160, 0, 6, 167, 0, 81, 3, 54, 6, 21, 6, 42, 180, 0, 7, 180, 0, 17, 162, 0, 40, 42]
abbrev dktX0_drawnAll_9 : List UInt8 := dkwX0_drawnAll_9 ++ dktX0_drawnAll_10
def dkwX0_drawnAll_8 : List UInt8 := [4, 54, 5, 132, 7, 1, 167, 255, 187, 132, 6, 1, 167, 255, 166, 167, 255, 152, 21, 4, 45, 182, 1, 38]
abbrev dktX0_drawnAll_8 : List UInt8 := dkwX0_drawnAll_8 ++ dktX0_drawnAll_9
def dkwX0_drawnAll_7 : List UInt8 := [4, 96, 163, 0, 6, 167, 0, 22, 42, 180, 0, 184, 21, 8, 42, 180, 0, 184, 21, 6, 46, 4, 96, 79]
abbrev dktX0_drawnAll_7 : List UInt8 := dkwX0_drawnAll_7 ++ dktX0_drawnAll_8
def dkwX0_drawnAll_6 : List UInt8 := [21, 6, 21, 7, 4, 182, 1, 138, 54, 8, 42, 180, 0, 184, 21, 8, 46, 42, 180, 0, 184, 21, 6, 46]
abbrev dktX0_drawnAll_6 : List UInt8 := dkwX0_drawnAll_6 ++ dktX0_drawnAll_7
def dkwX0_drawnAll_5 : List UInt8 := [180, 0, 17, 162, 0, 84, 3, 54, 7, 21, 7, 4, 96, 45, 180, 0, 254, 162, 0, 64, 42, 180, 0, 7]
abbrev dktX0_drawnAll_5 : List UInt8 := dkwX0_drawnAll_5 ++ dktX0_drawnAll_6
def dkwX0_drawnAll_4 : List UInt8 := [163, 0, 203, 4, 54, 5, 21, 5, 153, 0, 105, 3, 54, 5, 3, 54, 6, 21, 6, 42, 180, 0, 7]
abbrev dktX0_drawnAll_4 : List UInt8 := dkwX0_drawnAll_4 ++ dktX0_drawnAll_5
def dkwX0_drawnAll_3 : List UInt8 := [167, 0, 6, 17, 3, 232, 79, 132, 4, 1, 167, 255, 222, 3, 54, 4, 21, 4, 45, 182, 1, 38]
abbrev dktX0_drawnAll_3 : List UInt8 := dkwX0_drawnAll_3 ++ dktX0_drawnAll_4
def dkwX0_drawnAll_2 : List UInt8 := [21, 4, 42, 180, 0, 7, 180, 0, 17, 162, 0, 28, 42, 180, 0, 184, 21, 4, 21, 4, 154, 0, 7, 3]
abbrev dktX0_drawnAll_2 : List UInt8 := dkwX0_drawnAll_2 ++ dktX0_drawnAll_3
def dkwX0_drawnAll_1 : List UInt8 := [182, 1, 45, 154, 0, 6, 16, 254, 172, 45, 180, 0, 254, 8, 164, 0, 6, 16, 253, 172, 3, 54, 4]
abbrev dktX0_drawnAll_1 : List UInt8 := dkwX0_drawnAll_1 ++ dktX0_drawnAll_2
def dkwX0_drawnAll_0 : List UInt8 := [42, 27, 28, 182, 1, 78, 154, 0, 5, 2, 172, 42, 180, 0, 148, 27, 182, 0, 250, 192, 0, 242, 78, 45]
abbrev dktX0_drawnAll_0 : List UInt8 := dkwX0_drawnAll_0 ++ dktX0_drawnAll_1
theorem dksX0_drawnAll_0 : cX0_drawnAll.data.toList.drop 0 = dktX0_drawnAll_0 := by decide +kernel
theorem dksX0_drawnAll_1 : cX0_drawnAll.data.toList.drop 24 = dktX0_drawnAll_1 := dk_seg dksX0_drawnAll_0 24 rfl rfl
theorem dksX0_drawnAll_2 : cX0_drawnAll.data.toList.drop 47 = dktX0_drawnAll_2 := dk_seg dksX0_drawnAll_1 23 rfl rfl
theorem dksX0_drawnAll_3 : cX0_drawnAll.data.toList.drop 71 = dktX0_drawnAll_3 := dk_seg dksX0_drawnAll_2 24 rfl rfl
theorem dksX0_drawnAll_4 : cX0_drawnAll.data.toList.drop 93 = dktX0_drawnAll_4 := dk_seg dksX0_drawnAll_3 22 rfl rfl
theorem dksX0_drawnAll_5 : cX0_drawnAll.data.toList.drop 116 = dktX0_drawnAll_5 := dk_seg dksX0_drawnAll_4 23 rfl rfl
theorem dksX0_drawnAll_6 : cX0_drawnAll.data.toList.drop 140 = dktX0_drawnAll_6 := dk_seg dksX0_drawnAll_5 24 rfl rfl
theorem dksX0_drawnAll_7 : cX0_drawnAll.data.toList.drop 164 = dktX0_drawnAll_7 := dk_seg dksX0_drawnAll_6 24 rfl rfl
theorem dksX0_drawnAll_8 : cX0_drawnAll.data.toList.drop 188 = dktX0_drawnAll_8 := dk_seg dksX0_drawnAll_7 24 rfl rfl
theorem dksX0_drawnAll_9 : cX0_drawnAll.data.toList.drop 212 = dktX0_drawnAll_9 := dk_seg dksX0_drawnAll_8 24 rfl rfl
theorem dksX0_drawnAll_10 : cX0_drawnAll.data.toList.drop 234 = dktX0_drawnAll_10 := dk_seg dksX0_drawnAll_9 22 rfl rfl
theorem dksX0_drawnAll_11 : cX0_drawnAll.data.toList.drop 257 = dktX0_drawnAll_11 := dk_seg dksX0_drawnAll_10 23 rfl rfl
theorem dksX0_drawnAll_12 : cX0_drawnAll.data.toList.drop 281 = dktX0_drawnAll_12 := dk_seg dksX0_drawnAll_11 24 rfl rfl
theorem dX0_drawnAll_0 : decode cX0_drawnAll 0 = .ok (.aload_n 0, 1) := dk_42 (dk_at dksX0_drawnAll_0 0 rfl rfl)
theorem dX0_drawnAll_1 : decode cX0_drawnAll 1 = .ok (.iload_n 1, 1) := dk_27 (dk_at dksX0_drawnAll_0 1 rfl rfl)
theorem dX0_drawnAll_2 : decode cX0_drawnAll 2 = .ok (.iload_n 2, 1) := dk_28 (dk_at dksX0_drawnAll_0 2 rfl rfl)
theorem dX0_drawnAll_3 : decode cX0_drawnAll 3 = .ok (.invokevirtual 334, 3) := dk_182 1 78 (dk_at dksX0_drawnAll_0 3 rfl rfl)
theorem dX0_drawnAll_6 : decode cX0_drawnAll 6 = .ok (.ifCond .ne 5, 3) := dk_154 0 5 (dk_at dksX0_drawnAll_0 6 rfl rfl)
theorem dX0_drawnAll_9 : decode cX0_drawnAll 9 = .ok (.iconst (-1), 1) := dk_2 (dk_at dksX0_drawnAll_0 9 rfl rfl)
theorem dX0_drawnAll_10 : decode cX0_drawnAll 10 = .ok (.ireturn, 1) := dk_172 (dk_at dksX0_drawnAll_0 10 rfl rfl)
theorem dX0_drawnAll_11 : decode cX0_drawnAll 11 = .ok (.aload_n 0, 1) := dk_42 (dk_at dksX0_drawnAll_0 11 rfl rfl)
theorem dX0_drawnAll_12 : decode cX0_drawnAll 12 = .ok (.getfield 148, 3) := dk_180 0 148 (dk_at dksX0_drawnAll_0 12 rfl rfl)
theorem dX0_drawnAll_15 : decode cX0_drawnAll 15 = .ok (.iload_n 1, 1) := dk_27 (dk_at dksX0_drawnAll_0 15 rfl rfl)
theorem dX0_drawnAll_16 : decode cX0_drawnAll 16 = .ok (.invokevirtual 250, 3) := dk_182 0 250 (dk_at dksX0_drawnAll_0 16 rfl rfl)
theorem dX0_drawnAll_19 : decode cX0_drawnAll 19 = .ok (.checkcast 242, 3) := dk_192 0 242 (dk_at dksX0_drawnAll_0 19 rfl rfl)
theorem dX0_drawnAll_22 : decode cX0_drawnAll 22 = .ok (.astore_n 3, 1) := dk_78 (dk_at dksX0_drawnAll_0 22 rfl rfl)
theorem dX0_drawnAll_23 : decode cX0_drawnAll 23 = .ok (.aload_n 3, 1) := dk_45 (dk_at dksX0_drawnAll_0 23 rfl rfl)
theorem dX0_drawnAll_24 : decode cX0_drawnAll 24 = .ok (.invokevirtual 301, 3) := dk_182 1 45 (dk_at dksX0_drawnAll_1 0 rfl rfl)
theorem dX0_drawnAll_27 : decode cX0_drawnAll 27 = .ok (.ifCond .ne 6, 3) := dk_154 0 6 (dk_at dksX0_drawnAll_1 3 rfl rfl)
theorem dX0_drawnAll_30 : decode cX0_drawnAll 30 = .ok (.bipush (-2), 2) := dk_16 254 (dk_at dksX0_drawnAll_1 6 rfl rfl)
theorem dX0_drawnAll_32 : decode cX0_drawnAll 32 = .ok (.ireturn, 1) := dk_172 (dk_at dksX0_drawnAll_1 8 rfl rfl)
theorem dX0_drawnAll_33 : decode cX0_drawnAll 33 = .ok (.aload_n 3, 1) := dk_45 (dk_at dksX0_drawnAll_1 9 rfl rfl)
theorem dX0_drawnAll_34 : decode cX0_drawnAll 34 = .ok (.getfield 254, 3) := dk_180 0 254 (dk_at dksX0_drawnAll_1 10 rfl rfl)
theorem dX0_drawnAll_37 : decode cX0_drawnAll 37 = .ok (.iconst 5, 1) := dk_8 (dk_at dksX0_drawnAll_1 13 rfl rfl)
theorem dX0_drawnAll_38 : decode cX0_drawnAll 38 = .ok (.if_icmp .le 6, 3) := dk_164 0 6 (dk_at dksX0_drawnAll_1 14 rfl rfl)
theorem dX0_drawnAll_41 : decode cX0_drawnAll 41 = .ok (.bipush (-3), 2) := dk_16 253 (dk_at dksX0_drawnAll_1 17 rfl rfl)
theorem dX0_drawnAll_43 : decode cX0_drawnAll 43 = .ok (.ireturn, 1) := dk_172 (dk_at dksX0_drawnAll_1 19 rfl rfl)
theorem dX0_drawnAll_44 : decode cX0_drawnAll 44 = .ok (.iconst 0, 1) := dk_3 (dk_at dksX0_drawnAll_1 20 rfl rfl)
theorem dX0_drawnAll_45 : decode cX0_drawnAll 45 = .ok (.istore 4, 2) := dk_54 4 (dk_at dksX0_drawnAll_1 21 rfl rfl)
theorem dX0_drawnAll_47 : decode cX0_drawnAll 47 = .ok (.iload 4, 2) := dk_21 4 (dk_at dksX0_drawnAll_2 0 rfl rfl)
theorem dX0_drawnAll_49 : decode cX0_drawnAll 49 = .ok (.aload_n 0, 1) := dk_42 (dk_at dksX0_drawnAll_2 2 rfl rfl)
theorem dX0_drawnAll_50 : decode cX0_drawnAll 50 = .ok (.getfield 7, 3) := dk_180 0 7 (dk_at dksX0_drawnAll_2 3 rfl rfl)
theorem dX0_drawnAll_53 : decode cX0_drawnAll 53 = .ok (.getfield 17, 3) := dk_180 0 17 (dk_at dksX0_drawnAll_2 6 rfl rfl)
theorem dX0_drawnAll_56 : decode cX0_drawnAll 56 = .ok (.if_icmp .ge 28, 3) := dk_162 0 28 (dk_at dksX0_drawnAll_2 9 rfl rfl)
theorem dX0_drawnAll_59 : decode cX0_drawnAll 59 = .ok (.aload_n 0, 1) := dk_42 (dk_at dksX0_drawnAll_2 12 rfl rfl)
theorem dX0_drawnAll_60 : decode cX0_drawnAll 60 = .ok (.getfield 184, 3) := dk_180 0 184 (dk_at dksX0_drawnAll_2 13 rfl rfl)
theorem dX0_drawnAll_63 : decode cX0_drawnAll 63 = .ok (.iload 4, 2) := dk_21 4 (dk_at dksX0_drawnAll_2 16 rfl rfl)
theorem dX0_drawnAll_65 : decode cX0_drawnAll 65 = .ok (.iload 4, 2) := dk_21 4 (dk_at dksX0_drawnAll_2 18 rfl rfl)
theorem dX0_drawnAll_67 : decode cX0_drawnAll 67 = .ok (.ifCond .ne 7, 3) := dk_154 0 7 (dk_at dksX0_drawnAll_2 20 rfl rfl)
theorem dX0_drawnAll_70 : decode cX0_drawnAll 70 = .ok (.iconst 0, 1) := dk_3 (dk_at dksX0_drawnAll_2 23 rfl rfl)
theorem dX0_drawnAll_71 : decode cX0_drawnAll 71 = .ok (.goto 6, 3) := dk_167 0 6 (dk_at dksX0_drawnAll_3 0 rfl rfl)
theorem dX0_drawnAll_74 : decode cX0_drawnAll 74 = .ok (.sipush 1000, 3) := dk_17 3 232 (dk_at dksX0_drawnAll_3 3 rfl rfl)
theorem dX0_drawnAll_77 : decode cX0_drawnAll 77 = .ok (.iastore, 1) := dk_79 (dk_at dksX0_drawnAll_3 6 rfl rfl)
theorem dX0_drawnAll_78 : decode cX0_drawnAll 78 = .ok (.iinc 4 1, 3) := dk_132 4 1 (dk_at dksX0_drawnAll_3 7 rfl rfl)
theorem dX0_drawnAll_81 : decode cX0_drawnAll 81 = .ok (.goto (-34), 3) := dk_167 255 222 (dk_at dksX0_drawnAll_3 10 rfl rfl)
theorem dX0_drawnAll_84 : decode cX0_drawnAll 84 = .ok (.iconst 0, 1) := dk_3 (dk_at dksX0_drawnAll_3 13 rfl rfl)
theorem dX0_drawnAll_85 : decode cX0_drawnAll 85 = .ok (.istore 4, 2) := dk_54 4 (dk_at dksX0_drawnAll_3 14 rfl rfl)
theorem dX0_drawnAll_87 : decode cX0_drawnAll 87 = .ok (.iload 4, 2) := dk_21 4 (dk_at dksX0_drawnAll_3 16 rfl rfl)
theorem dX0_drawnAll_89 : decode cX0_drawnAll 89 = .ok (.aload_n 3, 1) := dk_45 (dk_at dksX0_drawnAll_3 18 rfl rfl)
theorem dX0_drawnAll_90 : decode cX0_drawnAll 90 = .ok (.invokevirtual 294, 3) := dk_182 1 38 (dk_at dksX0_drawnAll_3 19 rfl rfl)
theorem dX0_drawnAll_93 : decode cX0_drawnAll 93 = .ok (.if_icmp .gt 203, 3) := dk_163 0 203 (dk_at dksX0_drawnAll_4 0 rfl rfl)
theorem dX0_drawnAll_96 : decode cX0_drawnAll 96 = .ok (.iconst 1, 1) := dk_4 (dk_at dksX0_drawnAll_4 3 rfl rfl)
theorem dX0_drawnAll_97 : decode cX0_drawnAll 97 = .ok (.istore 5, 2) := dk_54 5 (dk_at dksX0_drawnAll_4 4 rfl rfl)
theorem dX0_drawnAll_99 : decode cX0_drawnAll 99 = .ok (.iload 5, 2) := dk_21 5 (dk_at dksX0_drawnAll_4 6 rfl rfl)
theorem dX0_drawnAll_101 : decode cX0_drawnAll 101 = .ok (.ifCond .eq 105, 3) := dk_153 0 105 (dk_at dksX0_drawnAll_4 8 rfl rfl)
theorem dX0_drawnAll_104 : decode cX0_drawnAll 104 = .ok (.iconst 0, 1) := dk_3 (dk_at dksX0_drawnAll_4 11 rfl rfl)
theorem dX0_drawnAll_105 : decode cX0_drawnAll 105 = .ok (.istore 5, 2) := dk_54 5 (dk_at dksX0_drawnAll_4 12 rfl rfl)
theorem dX0_drawnAll_107 : decode cX0_drawnAll 107 = .ok (.iconst 0, 1) := dk_3 (dk_at dksX0_drawnAll_4 14 rfl rfl)
theorem dX0_drawnAll_108 : decode cX0_drawnAll 108 = .ok (.istore 6, 2) := dk_54 6 (dk_at dksX0_drawnAll_4 15 rfl rfl)
theorem dX0_drawnAll_110 : decode cX0_drawnAll 110 = .ok (.iload 6, 2) := dk_21 6 (dk_at dksX0_drawnAll_4 17 rfl rfl)
theorem dX0_drawnAll_112 : decode cX0_drawnAll 112 = .ok (.aload_n 0, 1) := dk_42 (dk_at dksX0_drawnAll_4 19 rfl rfl)
theorem dX0_drawnAll_113 : decode cX0_drawnAll 113 = .ok (.getfield 7, 3) := dk_180 0 7 (dk_at dksX0_drawnAll_4 20 rfl rfl)
theorem dX0_drawnAll_116 : decode cX0_drawnAll 116 = .ok (.getfield 17, 3) := dk_180 0 17 (dk_at dksX0_drawnAll_5 0 rfl rfl)
theorem dX0_drawnAll_119 : decode cX0_drawnAll 119 = .ok (.if_icmp .ge 84, 3) := dk_162 0 84 (dk_at dksX0_drawnAll_5 3 rfl rfl)
theorem dX0_drawnAll_122 : decode cX0_drawnAll 122 = .ok (.iconst 0, 1) := dk_3 (dk_at dksX0_drawnAll_5 6 rfl rfl)
theorem dX0_drawnAll_123 : decode cX0_drawnAll 123 = .ok (.istore 7, 2) := dk_54 7 (dk_at dksX0_drawnAll_5 7 rfl rfl)
theorem dX0_drawnAll_125 : decode cX0_drawnAll 125 = .ok (.iload 7, 2) := dk_21 7 (dk_at dksX0_drawnAll_5 9 rfl rfl)
theorem dX0_drawnAll_127 : decode cX0_drawnAll 127 = .ok (.iconst 1, 1) := dk_4 (dk_at dksX0_drawnAll_5 11 rfl rfl)
theorem dX0_drawnAll_128 : decode cX0_drawnAll 128 = .ok (.iadd, 1) := dk_96 (dk_at dksX0_drawnAll_5 12 rfl rfl)
theorem dX0_drawnAll_129 : decode cX0_drawnAll 129 = .ok (.aload_n 3, 1) := dk_45 (dk_at dksX0_drawnAll_5 13 rfl rfl)
theorem dX0_drawnAll_130 : decode cX0_drawnAll 130 = .ok (.getfield 254, 3) := dk_180 0 254 (dk_at dksX0_drawnAll_5 14 rfl rfl)
theorem dX0_drawnAll_133 : decode cX0_drawnAll 133 = .ok (.if_icmp .ge 64, 3) := dk_162 0 64 (dk_at dksX0_drawnAll_5 17 rfl rfl)
theorem dX0_drawnAll_136 : decode cX0_drawnAll 136 = .ok (.aload_n 0, 1) := dk_42 (dk_at dksX0_drawnAll_5 20 rfl rfl)
theorem dX0_drawnAll_137 : decode cX0_drawnAll 137 = .ok (.getfield 7, 3) := dk_180 0 7 (dk_at dksX0_drawnAll_5 21 rfl rfl)
theorem dX0_drawnAll_140 : decode cX0_drawnAll 140 = .ok (.iload 6, 2) := dk_21 6 (dk_at dksX0_drawnAll_6 0 rfl rfl)
theorem dX0_drawnAll_142 : decode cX0_drawnAll 142 = .ok (.iload 7, 2) := dk_21 7 (dk_at dksX0_drawnAll_6 2 rfl rfl)
theorem dX0_drawnAll_144 : decode cX0_drawnAll 144 = .ok (.iconst 1, 1) := dk_4 (dk_at dksX0_drawnAll_6 4 rfl rfl)
theorem dX0_drawnAll_145 : decode cX0_drawnAll 145 = .ok (.invokevirtual 394, 3) := dk_182 1 138 (dk_at dksX0_drawnAll_6 5 rfl rfl)
theorem dX0_drawnAll_148 : decode cX0_drawnAll 148 = .ok (.istore 8, 2) := dk_54 8 (dk_at dksX0_drawnAll_6 8 rfl rfl)
theorem dX0_drawnAll_150 : decode cX0_drawnAll 150 = .ok (.aload_n 0, 1) := dk_42 (dk_at dksX0_drawnAll_6 10 rfl rfl)
theorem dX0_drawnAll_151 : decode cX0_drawnAll 151 = .ok (.getfield 184, 3) := dk_180 0 184 (dk_at dksX0_drawnAll_6 11 rfl rfl)
theorem dX0_drawnAll_154 : decode cX0_drawnAll 154 = .ok (.iload 8, 2) := dk_21 8 (dk_at dksX0_drawnAll_6 14 rfl rfl)
theorem dX0_drawnAll_156 : decode cX0_drawnAll 156 = .ok (.iaload, 1) := dk_46 (dk_at dksX0_drawnAll_6 16 rfl rfl)
theorem dX0_drawnAll_157 : decode cX0_drawnAll 157 = .ok (.aload_n 0, 1) := dk_42 (dk_at dksX0_drawnAll_6 17 rfl rfl)
theorem dX0_drawnAll_158 : decode cX0_drawnAll 158 = .ok (.getfield 184, 3) := dk_180 0 184 (dk_at dksX0_drawnAll_6 18 rfl rfl)
theorem dX0_drawnAll_161 : decode cX0_drawnAll 161 = .ok (.iload 6, 2) := dk_21 6 (dk_at dksX0_drawnAll_6 21 rfl rfl)
theorem dX0_drawnAll_163 : decode cX0_drawnAll 163 = .ok (.iaload, 1) := dk_46 (dk_at dksX0_drawnAll_6 23 rfl rfl)
theorem dX0_drawnAll_164 : decode cX0_drawnAll 164 = .ok (.iconst 1, 1) := dk_4 (dk_at dksX0_drawnAll_7 0 rfl rfl)
theorem dX0_drawnAll_165 : decode cX0_drawnAll 165 = .ok (.iadd, 1) := dk_96 (dk_at dksX0_drawnAll_7 1 rfl rfl)
theorem dX0_drawnAll_166 : decode cX0_drawnAll 166 = .ok (.if_icmp .gt 6, 3) := dk_163 0 6 (dk_at dksX0_drawnAll_7 2 rfl rfl)
theorem dX0_drawnAll_169 : decode cX0_drawnAll 169 = .ok (.goto 22, 3) := dk_167 0 22 (dk_at dksX0_drawnAll_7 5 rfl rfl)
theorem dX0_drawnAll_172 : decode cX0_drawnAll 172 = .ok (.aload_n 0, 1) := dk_42 (dk_at dksX0_drawnAll_7 8 rfl rfl)
theorem dX0_drawnAll_173 : decode cX0_drawnAll 173 = .ok (.getfield 184, 3) := dk_180 0 184 (dk_at dksX0_drawnAll_7 9 rfl rfl)
theorem dX0_drawnAll_176 : decode cX0_drawnAll 176 = .ok (.iload 8, 2) := dk_21 8 (dk_at dksX0_drawnAll_7 12 rfl rfl)
theorem dX0_drawnAll_178 : decode cX0_drawnAll 178 = .ok (.aload_n 0, 1) := dk_42 (dk_at dksX0_drawnAll_7 14 rfl rfl)
theorem dX0_drawnAll_179 : decode cX0_drawnAll 179 = .ok (.getfield 184, 3) := dk_180 0 184 (dk_at dksX0_drawnAll_7 15 rfl rfl)
theorem dX0_drawnAll_182 : decode cX0_drawnAll 182 = .ok (.iload 6, 2) := dk_21 6 (dk_at dksX0_drawnAll_7 18 rfl rfl)
theorem dX0_drawnAll_184 : decode cX0_drawnAll 184 = .ok (.iaload, 1) := dk_46 (dk_at dksX0_drawnAll_7 20 rfl rfl)
theorem dX0_drawnAll_185 : decode cX0_drawnAll 185 = .ok (.iconst 1, 1) := dk_4 (dk_at dksX0_drawnAll_7 21 rfl rfl)
theorem dX0_drawnAll_186 : decode cX0_drawnAll 186 = .ok (.iadd, 1) := dk_96 (dk_at dksX0_drawnAll_7 22 rfl rfl)
theorem dX0_drawnAll_187 : decode cX0_drawnAll 187 = .ok (.iastore, 1) := dk_79 (dk_at dksX0_drawnAll_7 23 rfl rfl)
theorem dX0_drawnAll_188 : decode cX0_drawnAll 188 = .ok (.iconst 1, 1) := dk_4 (dk_at dksX0_drawnAll_8 0 rfl rfl)
theorem dX0_drawnAll_189 : decode cX0_drawnAll 189 = .ok (.istore 5, 2) := dk_54 5 (dk_at dksX0_drawnAll_8 1 rfl rfl)
theorem dX0_drawnAll_191 : decode cX0_drawnAll 191 = .ok (.iinc 7 1, 3) := dk_132 7 1 (dk_at dksX0_drawnAll_8 3 rfl rfl)
theorem dX0_drawnAll_194 : decode cX0_drawnAll 194 = .ok (.goto (-69), 3) := dk_167 255 187 (dk_at dksX0_drawnAll_8 6 rfl rfl)
theorem dX0_drawnAll_197 : decode cX0_drawnAll 197 = .ok (.iinc 6 1, 3) := dk_132 6 1 (dk_at dksX0_drawnAll_8 9 rfl rfl)
theorem dX0_drawnAll_200 : decode cX0_drawnAll 200 = .ok (.goto (-90), 3) := dk_167 255 166 (dk_at dksX0_drawnAll_8 12 rfl rfl)
theorem dX0_drawnAll_203 : decode cX0_drawnAll 203 = .ok (.goto (-104), 3) := dk_167 255 152 (dk_at dksX0_drawnAll_8 15 rfl rfl)
theorem dX0_drawnAll_206 : decode cX0_drawnAll 206 = .ok (.iload 4, 2) := dk_21 4 (dk_at dksX0_drawnAll_8 18 rfl rfl)
theorem dX0_drawnAll_208 : decode cX0_drawnAll 208 = .ok (.aload_n 3, 1) := dk_45 (dk_at dksX0_drawnAll_8 20 rfl rfl)
theorem dX0_drawnAll_209 : decode cX0_drawnAll 209 = .ok (.invokevirtual 294, 3) := dk_182 1 38 (dk_at dksX0_drawnAll_8 21 rfl rfl)
theorem dX0_drawnAll_212 : decode cX0_drawnAll 212 = .ok (.if_icmp .ne 6, 3) := dk_160 0 6 (dk_at dksX0_drawnAll_9 0 rfl rfl)
theorem dX0_drawnAll_215 : decode cX0_drawnAll 215 = .ok (.goto 81, 3) := dk_167 0 81 (dk_at dksX0_drawnAll_9 3 rfl rfl)
theorem dX0_drawnAll_218 : decode cX0_drawnAll 218 = .ok (.iconst 0, 1) := dk_3 (dk_at dksX0_drawnAll_9 6 rfl rfl)
theorem dX0_drawnAll_219 : decode cX0_drawnAll 219 = .ok (.istore 6, 2) := dk_54 6 (dk_at dksX0_drawnAll_9 7 rfl rfl)
theorem dX0_drawnAll_221 : decode cX0_drawnAll 221 = .ok (.iload 6, 2) := dk_21 6 (dk_at dksX0_drawnAll_9 9 rfl rfl)
theorem dX0_drawnAll_223 : decode cX0_drawnAll 223 = .ok (.aload_n 0, 1) := dk_42 (dk_at dksX0_drawnAll_9 11 rfl rfl)
theorem dX0_drawnAll_224 : decode cX0_drawnAll 224 = .ok (.getfield 7, 3) := dk_180 0 7 (dk_at dksX0_drawnAll_9 12 rfl rfl)
theorem dX0_drawnAll_227 : decode cX0_drawnAll 227 = .ok (.getfield 17, 3) := dk_180 0 17 (dk_at dksX0_drawnAll_9 15 rfl rfl)
theorem dX0_drawnAll_230 : decode cX0_drawnAll 230 = .ok (.if_icmp .ge 40, 3) := dk_162 0 40 (dk_at dksX0_drawnAll_9 18 rfl rfl)
theorem dX0_drawnAll_233 : decode cX0_drawnAll 233 = .ok (.aload_n 0, 1) := dk_42 (dk_at dksX0_drawnAll_9 21 rfl rfl)
theorem dX0_drawnAll_234 : decode cX0_drawnAll 234 = .ok (.getfield 187, 3) := dk_180 0 187 (dk_at dksX0_drawnAll_10 0 rfl rfl)
theorem dX0_drawnAll_237 : decode cX0_drawnAll 237 = .ok (.aload_n 0, 1) := dk_42 (dk_at dksX0_drawnAll_10 3 rfl rfl)
theorem dX0_drawnAll_238 : decode cX0_drawnAll 238 = .ok (.getfield 7, 3) := dk_180 0 7 (dk_at dksX0_drawnAll_10 4 rfl rfl)
theorem dX0_drawnAll_241 : decode cX0_drawnAll 241 = .ok (.iload 6, 2) := dk_21 6 (dk_at dksX0_drawnAll_10 7 rfl rfl)
theorem dX0_drawnAll_243 : decode cX0_drawnAll 243 = .ok (.aload_n 3, 1) := dk_45 (dk_at dksX0_drawnAll_10 9 rfl rfl)
theorem dX0_drawnAll_244 : decode cX0_drawnAll 244 = .ok (.iload 4, 2) := dk_21 4 (dk_at dksX0_drawnAll_10 10 rfl rfl)
theorem dX0_drawnAll_246 : decode cX0_drawnAll 246 = .ok (.invokevirtual 307, 3) := dk_182 1 51 (dk_at dksX0_drawnAll_10 12 rfl rfl)
theorem dX0_drawnAll_249 : decode cX0_drawnAll 249 = .ok (.getfield 311, 3) := dk_180 1 55 (dk_at dksX0_drawnAll_10 15 rfl rfl)
theorem dX0_drawnAll_252 : decode cX0_drawnAll 252 = .ok (.iconst 1, 1) := dk_4 (dk_at dksX0_drawnAll_10 18 rfl rfl)
theorem dX0_drawnAll_253 : decode cX0_drawnAll 253 = .ok (.invokevirtual 394, 3) := dk_182 1 138 (dk_at dksX0_drawnAll_10 19 rfl rfl)
theorem dX0_drawnAll_256 : decode cX0_drawnAll 256 = .ok (.aload_n 0, 1) := dk_42 (dk_at dksX0_drawnAll_10 22 rfl rfl)
theorem dX0_drawnAll_257 : decode cX0_drawnAll 257 = .ok (.getfield 184, 3) := dk_180 0 184 (dk_at dksX0_drawnAll_11 0 rfl rfl)
theorem dX0_drawnAll_260 : decode cX0_drawnAll 260 = .ok (.iload 6, 2) := dk_21 6 (dk_at dksX0_drawnAll_11 3 rfl rfl)
theorem dX0_drawnAll_262 : decode cX0_drawnAll 262 = .ok (.iaload, 1) := dk_46 (dk_at dksX0_drawnAll_11 5 rfl rfl)
theorem dX0_drawnAll_263 : decode cX0_drawnAll 263 = .ok (.iastore, 1) := dk_79 (dk_at dksX0_drawnAll_11 6 rfl rfl)
theorem dX0_drawnAll_264 : decode cX0_drawnAll 264 = .ok (.iinc 6 1, 3) := dk_132 6 1 (dk_at dksX0_drawnAll_11 7 rfl rfl)
theorem dX0_drawnAll_267 : decode cX0_drawnAll 267 = .ok (.goto (-46), 3) := dk_167 255 210 (dk_at dksX0_drawnAll_11 10 rfl rfl)
theorem dX0_drawnAll_270 : decode cX0_drawnAll 270 = .ok (.aload_n 0, 1) := dk_42 (dk_at dksX0_drawnAll_11 13 rfl rfl)
theorem dX0_drawnAll_271 : decode cX0_drawnAll 271 = .ok (.getfield 187, 3) := dk_180 0 187 (dk_at dksX0_drawnAll_11 14 rfl rfl)
theorem dX0_drawnAll_274 : decode cX0_drawnAll 274 = .ok (.iconst 0, 1) := dk_3 (dk_at dksX0_drawnAll_11 17 rfl rfl)
theorem dX0_drawnAll_275 : decode cX0_drawnAll 275 = .ok (.aload_n 0, 1) := dk_42 (dk_at dksX0_drawnAll_11 18 rfl rfl)
theorem dX0_drawnAll_276 : decode cX0_drawnAll 276 = .ok (.getfield 184, 3) := dk_180 0 184 (dk_at dksX0_drawnAll_11 19 rfl rfl)
theorem dX0_drawnAll_279 : decode cX0_drawnAll 279 = .ok (.iconst 0, 1) := dk_3 (dk_at dksX0_drawnAll_11 22 rfl rfl)
theorem dX0_drawnAll_280 : decode cX0_drawnAll 280 = .ok (.aload_n 0, 1) := dk_42 (dk_at dksX0_drawnAll_11 23 rfl rfl)
theorem dX0_drawnAll_281 : decode cX0_drawnAll 281 = .ok (.getfield 7, 3) := dk_180 0 7 (dk_at dksX0_drawnAll_12 0 rfl rfl)
theorem dX0_drawnAll_284 : decode cX0_drawnAll 284 = .ok (.getfield 17, 3) := dk_180 0 17 (dk_at dksX0_drawnAll_12 3 rfl rfl)
theorem dX0_drawnAll_287 : decode cX0_drawnAll 287 = .ok (.invokestatic 68, 3) := dk_184 0 68 (dk_at dksX0_drawnAll_12 6 rfl rfl)
theorem dX0_drawnAll_290 : decode cX0_drawnAll 290 = .ok (.iinc 4 1, 3) := dk_132 4 1 (dk_at dksX0_drawnAll_12 9 rfl rfl)
theorem dX0_drawnAll_293 : decode cX0_drawnAll 293 = .ok (.goto (-206), 3) := dk_167 255 50 (dk_at dksX0_drawnAll_12 12 rfl rfl)
theorem dX0_drawnAll_296 : decode cX0_drawnAll 296 = .ok (.aload_n 0, 1) := dk_42 (dk_at dksX0_drawnAll_12 15 rfl rfl)
theorem dX0_drawnAll_297 : decode cX0_drawnAll 297 = .ok (.getfield 184, 3) := dk_180 0 184 (dk_at dksX0_drawnAll_12 16 rfl rfl)
theorem dX0_drawnAll_300 : decode cX0_drawnAll 300 = .ok (.iload_n 2, 1) := dk_28 (dk_at dksX0_drawnAll_12 19 rfl rfl)
theorem dX0_drawnAll_301 : decode cX0_drawnAll 301 = .ok (.iaload, 1) := dk_46 (dk_at dksX0_drawnAll_12 20 rfl rfl)
theorem dX0_drawnAll_302 : decode cX0_drawnAll 302 = .ok (.ireturn, 1) := dk_172 (dk_at dksX0_drawnAll_12 21 rfl rfl)
abbrev cX0_sorts : ByteArray := prog_1_method_68_code
def yX0_sorts : MethodName := ⟨RX0, "sorts", "(I)I"⟩
def dkwX0_sorts_1 : List UInt8 := [192, 0, 242, 2, 184, 1, 161, 154, 0, 7, 4, 167, 0, 4, 3, 172]
abbrev dktX0_sorts_1 : List UInt8 := dkwX0_sorts_1 ++ []
def dkwX0_sorts_0 : List UInt8 := [42, 27, 182, 1, 158, 156, 0, 11, 42, 27, 182, 1, 158, 167, 0, 26, 42, 180, 0, 148, 27, 182, 0, 250]
abbrev dktX0_sorts_0 : List UInt8 := dkwX0_sorts_0 ++ dktX0_sorts_1
theorem dksX0_sorts_0 : cX0_sorts.data.toList.drop 0 = dktX0_sorts_0 := by decide +kernel
theorem dksX0_sorts_1 : cX0_sorts.data.toList.drop 24 = dktX0_sorts_1 := dk_seg dksX0_sorts_0 24 rfl rfl
theorem dX0_sorts_0 : decode cX0_sorts 0 = .ok (.aload_n 0, 1) := dk_42 (dk_at dksX0_sorts_0 0 rfl rfl)
theorem dX0_sorts_1 : decode cX0_sorts 1 = .ok (.iload_n 1, 1) := dk_27 (dk_at dksX0_sorts_0 1 rfl rfl)
theorem dX0_sorts_2 : decode cX0_sorts 2 = .ok (.invokevirtual 414, 3) := dk_182 1 158 (dk_at dksX0_sorts_0 2 rfl rfl)
theorem dX0_sorts_5 : decode cX0_sorts 5 = .ok (.ifCond .ge 11, 3) := dk_156 0 11 (dk_at dksX0_sorts_0 5 rfl rfl)
theorem dX0_sorts_8 : decode cX0_sorts 8 = .ok (.aload_n 0, 1) := dk_42 (dk_at dksX0_sorts_0 8 rfl rfl)
theorem dX0_sorts_9 : decode cX0_sorts 9 = .ok (.iload_n 1, 1) := dk_27 (dk_at dksX0_sorts_0 9 rfl rfl)
theorem dX0_sorts_10 : decode cX0_sorts 10 = .ok (.invokevirtual 414, 3) := dk_182 1 158 (dk_at dksX0_sorts_0 10 rfl rfl)
theorem dX0_sorts_13 : decode cX0_sorts 13 = .ok (.goto 26, 3) := dk_167 0 26 (dk_at dksX0_sorts_0 13 rfl rfl)
theorem dX0_sorts_16 : decode cX0_sorts 16 = .ok (.aload_n 0, 1) := dk_42 (dk_at dksX0_sorts_0 16 rfl rfl)
theorem dX0_sorts_17 : decode cX0_sorts 17 = .ok (.getfield 148, 3) := dk_180 0 148 (dk_at dksX0_sorts_0 17 rfl rfl)
theorem dX0_sorts_20 : decode cX0_sorts 20 = .ok (.iload_n 1, 1) := dk_27 (dk_at dksX0_sorts_0 20 rfl rfl)
theorem dX0_sorts_21 : decode cX0_sorts 21 = .ok (.invokevirtual 250, 3) := dk_182 0 250 (dk_at dksX0_sorts_0 21 rfl rfl)
theorem dX0_sorts_24 : decode cX0_sorts 24 = .ok (.checkcast 242, 3) := dk_192 0 242 (dk_at dksX0_sorts_1 0 rfl rfl)
theorem dX0_sorts_27 : decode cX0_sorts 27 = .ok (.iconst (-1), 1) := dk_2 (dk_at dksX0_sorts_1 3 rfl rfl)
theorem dX0_sorts_28 : decode cX0_sorts 28 = .ok (.invokestatic 417, 3) := dk_184 1 161 (dk_at dksX0_sorts_1 4 rfl rfl)
theorem dX0_sorts_31 : decode cX0_sorts 31 = .ok (.ifCond .ne 7, 3) := dk_154 0 7 (dk_at dksX0_sorts_1 7 rfl rfl)
theorem dX0_sorts_34 : decode cX0_sorts 34 = .ok (.iconst 1, 1) := dk_4 (dk_at dksX0_sorts_1 10 rfl rfl)
theorem dX0_sorts_35 : decode cX0_sorts 35 = .ok (.goto 4, 3) := dk_167 0 4 (dk_at dksX0_sorts_1 11 rfl rfl)
theorem dX0_sorts_38 : decode cX0_sorts 38 = .ok (.iconst 0, 1) := dk_3 (dk_at dksX0_sorts_1 14 rfl rfl)
theorem dX0_sorts_39 : decode cX0_sorts 39 = .ok (.ireturn, 1) := dk_172 (dk_at dksX0_sorts_1 15 rfl rfl)
abbrev cX0_asked : ByteArray := prog_1_method_67_code
def yX0_asked : MethodName := ⟨RX0, "asked", "(I)I"⟩
def dkwX0_asked_1 : List UInt8 := [180, 1, 1, 180, 1, 39, 158, 0, 8, 16, 254, 167, 0, 4, 3, 172]
abbrev dktX0_asked_1 : List UInt8 := dkwX0_asked_1 ++ []
def dkwX0_asked_0 : List UInt8 := [42, 27, 182, 0, 247, 154, 0, 7, 2, 167, 0, 29, 42, 180, 0, 148, 27, 182, 0, 250, 192, 0, 242]
abbrev dktX0_asked_0 : List UInt8 := dkwX0_asked_0 ++ dktX0_asked_1
theorem dksX0_asked_0 : cX0_asked.data.toList.drop 0 = dktX0_asked_0 := by decide +kernel
theorem dksX0_asked_1 : cX0_asked.data.toList.drop 23 = dktX0_asked_1 := dk_seg dksX0_asked_0 23 rfl rfl
theorem dX0_asked_0 : decode cX0_asked 0 = .ok (.aload_n 0, 1) := dk_42 (dk_at dksX0_asked_0 0 rfl rfl)
theorem dX0_asked_1 : decode cX0_asked 1 = .ok (.iload_n 1, 1) := dk_27 (dk_at dksX0_asked_0 1 rfl rfl)
theorem dX0_asked_2 : decode cX0_asked 2 = .ok (.invokevirtual 247, 3) := dk_182 0 247 (dk_at dksX0_asked_0 2 rfl rfl)
theorem dX0_asked_5 : decode cX0_asked 5 = .ok (.ifCond .ne 7, 3) := dk_154 0 7 (dk_at dksX0_asked_0 5 rfl rfl)
theorem dX0_asked_8 : decode cX0_asked 8 = .ok (.iconst (-1), 1) := dk_2 (dk_at dksX0_asked_0 8 rfl rfl)
theorem dX0_asked_9 : decode cX0_asked 9 = .ok (.goto 29, 3) := dk_167 0 29 (dk_at dksX0_asked_0 9 rfl rfl)
theorem dX0_asked_12 : decode cX0_asked 12 = .ok (.aload_n 0, 1) := dk_42 (dk_at dksX0_asked_0 12 rfl rfl)
theorem dX0_asked_13 : decode cX0_asked 13 = .ok (.getfield 148, 3) := dk_180 0 148 (dk_at dksX0_asked_0 13 rfl rfl)
theorem dX0_asked_16 : decode cX0_asked 16 = .ok (.iload_n 1, 1) := dk_27 (dk_at dksX0_asked_0 16 rfl rfl)
theorem dX0_asked_17 : decode cX0_asked 17 = .ok (.invokevirtual 250, 3) := dk_182 0 250 (dk_at dksX0_asked_0 17 rfl rfl)
theorem dX0_asked_20 : decode cX0_asked 20 = .ok (.checkcast 242, 3) := dk_192 0 242 (dk_at dksX0_asked_0 20 rfl rfl)
theorem dX0_asked_23 : decode cX0_asked 23 = .ok (.getfield 257, 3) := dk_180 1 1 (dk_at dksX0_asked_1 0 rfl rfl)
theorem dX0_asked_26 : decode cX0_asked 26 = .ok (.getfield 295, 3) := dk_180 1 39 (dk_at dksX0_asked_1 3 rfl rfl)
theorem dX0_asked_29 : decode cX0_asked 29 = .ok (.ifCond .le 8, 3) := dk_158 0 8 (dk_at dksX0_asked_1 6 rfl rfl)
theorem dX0_asked_32 : decode cX0_asked 32 = .ok (.bipush (-2), 2) := dk_16 254 (dk_at dksX0_asked_1 9 rfl rfl)
theorem dX0_asked_34 : decode cX0_asked 34 = .ok (.goto 4, 3) := dk_167 0 4 (dk_at dksX0_asked_1 11 rfl rfl)
theorem dX0_asked_37 : decode cX0_asked 37 = .ok (.iconst 0, 1) := dk_3 (dk_at dksX0_asked_1 14 rfl rfl)
theorem dX0_asked_38 : decode cX0_asked 38 = .ok (.ireturn, 1) := dk_172 (dk_at dksX0_asked_1 15 rfl rfl)
abbrev cX0_failing : ByteArray := prog_1_method_66_code
def yX0_failing : MethodName := ⟨RX0, "failing", "(LLadderLots$Ladder;I)I"⟩
def dkwX0_failing_1 : List UInt8 := [184, 1, 155, 154, 0, 6, 132, 2, 1, 132, 3, 1, 167, 255, 224, 28, 172]
abbrev dktX0_failing_1 : List UInt8 := dkwX0_failing_1 ++ []
def dkwX0_failing_0 : List UInt8 := [3, 61, 3, 62, 29, 4, 42, 180, 0, 254, 120, 162, 0, 28, 42, 29, 27, 184, 1, 152, 42, 180, 0, 254]
abbrev dktX0_failing_0 : List UInt8 := dkwX0_failing_0 ++ dktX0_failing_1
theorem dksX0_failing_0 : cX0_failing.data.toList.drop 0 = dktX0_failing_0 := by decide +kernel
theorem dksX0_failing_1 : cX0_failing.data.toList.drop 24 = dktX0_failing_1 := dk_seg dksX0_failing_0 24 rfl rfl
theorem dX0_failing_0 : decode cX0_failing 0 = .ok (.iconst 0, 1) := dk_3 (dk_at dksX0_failing_0 0 rfl rfl)
theorem dX0_failing_1 : decode cX0_failing 1 = .ok (.istore_n 2, 1) := dk_61 (dk_at dksX0_failing_0 1 rfl rfl)
theorem dX0_failing_2 : decode cX0_failing 2 = .ok (.iconst 0, 1) := dk_3 (dk_at dksX0_failing_0 2 rfl rfl)
theorem dX0_failing_3 : decode cX0_failing 3 = .ok (.istore_n 3, 1) := dk_62 (dk_at dksX0_failing_0 3 rfl rfl)
theorem dX0_failing_4 : decode cX0_failing 4 = .ok (.iload_n 3, 1) := dk_29 (dk_at dksX0_failing_0 4 rfl rfl)
theorem dX0_failing_5 : decode cX0_failing 5 = .ok (.iconst 1, 1) := dk_4 (dk_at dksX0_failing_0 5 rfl rfl)
theorem dX0_failing_6 : decode cX0_failing 6 = .ok (.aload_n 0, 1) := dk_42 (dk_at dksX0_failing_0 6 rfl rfl)
theorem dX0_failing_7 : decode cX0_failing 7 = .ok (.getfield 254, 3) := dk_180 0 254 (dk_at dksX0_failing_0 7 rfl rfl)
theorem dX0_failing_10 : decode cX0_failing 10 = .ok (.ishl, 1) := dk_120 (dk_at dksX0_failing_0 10 rfl rfl)
theorem dX0_failing_11 : decode cX0_failing 11 = .ok (.if_icmp .ge 28, 3) := dk_162 0 28 (dk_at dksX0_failing_0 11 rfl rfl)
theorem dX0_failing_14 : decode cX0_failing 14 = .ok (.aload_n 0, 1) := dk_42 (dk_at dksX0_failing_0 14 rfl rfl)
theorem dX0_failing_15 : decode cX0_failing 15 = .ok (.iload_n 3, 1) := dk_29 (dk_at dksX0_failing_0 15 rfl rfl)
theorem dX0_failing_16 : decode cX0_failing 16 = .ok (.iload_n 1, 1) := dk_27 (dk_at dksX0_failing_0 16 rfl rfl)
theorem dX0_failing_17 : decode cX0_failing 17 = .ok (.invokestatic 408, 3) := dk_184 1 152 (dk_at dksX0_failing_0 17 rfl rfl)
theorem dX0_failing_20 : decode cX0_failing 20 = .ok (.aload_n 0, 1) := dk_42 (dk_at dksX0_failing_0 20 rfl rfl)
theorem dX0_failing_21 : decode cX0_failing 21 = .ok (.getfield 254, 3) := dk_180 0 254 (dk_at dksX0_failing_0 21 rfl rfl)
theorem dX0_failing_24 : decode cX0_failing 24 = .ok (.invokestatic 411, 3) := dk_184 1 155 (dk_at dksX0_failing_1 0 rfl rfl)
theorem dX0_failing_27 : decode cX0_failing 27 = .ok (.ifCond .ne 6, 3) := dk_154 0 6 (dk_at dksX0_failing_1 3 rfl rfl)
theorem dX0_failing_30 : decode cX0_failing 30 = .ok (.iinc 2 1, 3) := dk_132 2 1 (dk_at dksX0_failing_1 6 rfl rfl)
theorem dX0_failing_33 : decode cX0_failing 33 = .ok (.iinc 3 1, 3) := dk_132 3 1 (dk_at dksX0_failing_1 9 rfl rfl)
theorem dX0_failing_36 : decode cX0_failing 36 = .ok (.goto (-32), 3) := dk_167 255 224 (dk_at dksX0_failing_1 12 rfl rfl)
theorem dX0_failing_39 : decode cX0_failing 39 = .ok (.iload_n 2, 1) := dk_28 (dk_at dksX0_failing_1 15 rfl rfl)
theorem dX0_failing_40 : decode cX0_failing 40 = .ok (.ireturn, 1) := dk_172 (dk_at dksX0_failing_1 16 rfl rfl)
abbrev cX0_bitsDown : ByteArray := prog_1_method_64_code
def yX0_bitsDown : MethodName := ⟨RX0, "bitsDown", "(LLadderLots$Ladder;II)I"⟩
def dkwX0_bitsDown_1 : List UInt8 := [182, 1, 51, 29, 184, 1, 146, 62, 132, 4, 1, 167, 255, 227, 29, 172]
abbrev dktX0_bitsDown_1 : List UInt8 := dkwX0_bitsDown_1 ++ []
def dkwX0_bitsDown_0 : List UInt8 := [27, 62, 3, 54, 4, 21, 4, 42, 182, 1, 38, 162, 0, 26, 21, 4, 28, 159, 0, 14, 42, 21, 4]
abbrev dktX0_bitsDown_0 : List UInt8 := dkwX0_bitsDown_0 ++ dktX0_bitsDown_1
theorem dksX0_bitsDown_0 : cX0_bitsDown.data.toList.drop 0 = dktX0_bitsDown_0 := by decide +kernel
theorem dksX0_bitsDown_1 : cX0_bitsDown.data.toList.drop 23 = dktX0_bitsDown_1 := dk_seg dksX0_bitsDown_0 23 rfl rfl
theorem dX0_bitsDown_0 : decode cX0_bitsDown 0 = .ok (.iload_n 1, 1) := dk_27 (dk_at dksX0_bitsDown_0 0 rfl rfl)
theorem dX0_bitsDown_1 : decode cX0_bitsDown 1 = .ok (.istore_n 3, 1) := dk_62 (dk_at dksX0_bitsDown_0 1 rfl rfl)
theorem dX0_bitsDown_2 : decode cX0_bitsDown 2 = .ok (.iconst 0, 1) := dk_3 (dk_at dksX0_bitsDown_0 2 rfl rfl)
theorem dX0_bitsDown_3 : decode cX0_bitsDown 3 = .ok (.istore 4, 2) := dk_54 4 (dk_at dksX0_bitsDown_0 3 rfl rfl)
theorem dX0_bitsDown_5 : decode cX0_bitsDown 5 = .ok (.iload 4, 2) := dk_21 4 (dk_at dksX0_bitsDown_0 5 rfl rfl)
theorem dX0_bitsDown_7 : decode cX0_bitsDown 7 = .ok (.aload_n 0, 1) := dk_42 (dk_at dksX0_bitsDown_0 7 rfl rfl)
theorem dX0_bitsDown_8 : decode cX0_bitsDown 8 = .ok (.invokevirtual 294, 3) := dk_182 1 38 (dk_at dksX0_bitsDown_0 8 rfl rfl)
theorem dX0_bitsDown_11 : decode cX0_bitsDown 11 = .ok (.if_icmp .ge 26, 3) := dk_162 0 26 (dk_at dksX0_bitsDown_0 11 rfl rfl)
theorem dX0_bitsDown_14 : decode cX0_bitsDown 14 = .ok (.iload 4, 2) := dk_21 4 (dk_at dksX0_bitsDown_0 14 rfl rfl)
theorem dX0_bitsDown_16 : decode cX0_bitsDown 16 = .ok (.iload_n 2, 1) := dk_28 (dk_at dksX0_bitsDown_0 16 rfl rfl)
theorem dX0_bitsDown_17 : decode cX0_bitsDown 17 = .ok (.if_icmp .eq 14, 3) := dk_159 0 14 (dk_at dksX0_bitsDown_0 17 rfl rfl)
theorem dX0_bitsDown_20 : decode cX0_bitsDown 20 = .ok (.aload_n 0, 1) := dk_42 (dk_at dksX0_bitsDown_0 20 rfl rfl)
theorem dX0_bitsDown_21 : decode cX0_bitsDown 21 = .ok (.iload 4, 2) := dk_21 4 (dk_at dksX0_bitsDown_0 21 rfl rfl)
theorem dX0_bitsDown_23 : decode cX0_bitsDown 23 = .ok (.invokevirtual 307, 3) := dk_182 1 51 (dk_at dksX0_bitsDown_1 0 rfl rfl)
theorem dX0_bitsDown_26 : decode cX0_bitsDown 26 = .ok (.iload_n 3, 1) := dk_29 (dk_at dksX0_bitsDown_1 3 rfl rfl)
theorem dX0_bitsDown_27 : decode cX0_bitsDown 27 = .ok (.invokestatic 402, 3) := dk_184 1 146 (dk_at dksX0_bitsDown_1 4 rfl rfl)
theorem dX0_bitsDown_30 : decode cX0_bitsDown 30 = .ok (.istore_n 3, 1) := dk_62 (dk_at dksX0_bitsDown_1 7 rfl rfl)
theorem dX0_bitsDown_31 : decode cX0_bitsDown 31 = .ok (.iinc 4 1, 3) := dk_132 4 1 (dk_at dksX0_bitsDown_1 8 rfl rfl)
theorem dX0_bitsDown_34 : decode cX0_bitsDown 34 = .ok (.goto (-29), 3) := dk_167 255 227 (dk_at dksX0_bitsDown_1 11 rfl rfl)
theorem dX0_bitsDown_37 : decode cX0_bitsDown 37 = .ok (.iload_n 3, 1) := dk_29 (dk_at dksX0_bitsDown_1 14 rfl rfl)
theorem dX0_bitsDown_38 : decode cX0_bitsDown 38 = .ok (.ireturn, 1) := dk_172 (dk_at dksX0_bitsDown_1 15 rfl rfl)
abbrev cX0_bitsAfter : ByteArray := prog_1_method_63_code
def yX0_bitsAfter : MethodName := ⟨RX0, "bitsAfter", "(LLadderLots$Step;I)I"⟩
def dkwX0_bitsAfter_2 : List UInt8 := [27, 172]
abbrev dktX0_bitsAfter_2 : List UInt8 := dkwX0_bitsAfter_2 ++ []
def dkwX0_bitsAfter_1 : List UInt8 := [159, 0, 24, 42, 28, 29, 3, 182, 1, 142, 153, 0, 14, 27, 6, 42, 180, 1, 55, 120, 130, 167, 0, 4]
abbrev dktX0_bitsAfter_1 : List UInt8 := dkwX0_bitsAfter_1 ++ dktX0_bitsAfter_2
def dkwX0_bitsAfter_0 : List UInt8 := [27, 42, 180, 1, 55, 122, 4, 126, 61, 27, 42, 180, 1, 55, 4, 96, 122, 4, 126, 62, 28, 29]
abbrev dktX0_bitsAfter_0 : List UInt8 := dkwX0_bitsAfter_0 ++ dktX0_bitsAfter_1
theorem dksX0_bitsAfter_0 : cX0_bitsAfter.data.toList.drop 0 = dktX0_bitsAfter_0 := by decide +kernel
theorem dksX0_bitsAfter_1 : cX0_bitsAfter.data.toList.drop 22 = dktX0_bitsAfter_1 := dk_seg dksX0_bitsAfter_0 22 rfl rfl
theorem dksX0_bitsAfter_2 : cX0_bitsAfter.data.toList.drop 46 = dktX0_bitsAfter_2 := dk_seg dksX0_bitsAfter_1 24 rfl rfl
theorem dX0_bitsAfter_0 : decode cX0_bitsAfter 0 = .ok (.iload_n 1, 1) := dk_27 (dk_at dksX0_bitsAfter_0 0 rfl rfl)
theorem dX0_bitsAfter_1 : decode cX0_bitsAfter 1 = .ok (.aload_n 0, 1) := dk_42 (dk_at dksX0_bitsAfter_0 1 rfl rfl)
theorem dX0_bitsAfter_2 : decode cX0_bitsAfter 2 = .ok (.getfield 311, 3) := dk_180 1 55 (dk_at dksX0_bitsAfter_0 2 rfl rfl)
theorem dX0_bitsAfter_5 : decode cX0_bitsAfter 5 = .ok (.ishr, 1) := dk_122 (dk_at dksX0_bitsAfter_0 5 rfl rfl)
theorem dX0_bitsAfter_6 : decode cX0_bitsAfter 6 = .ok (.iconst 1, 1) := dk_4 (dk_at dksX0_bitsAfter_0 6 rfl rfl)
theorem dX0_bitsAfter_7 : decode cX0_bitsAfter 7 = .ok (.iand, 1) := dk_126 (dk_at dksX0_bitsAfter_0 7 rfl rfl)
theorem dX0_bitsAfter_8 : decode cX0_bitsAfter 8 = .ok (.istore_n 2, 1) := dk_61 (dk_at dksX0_bitsAfter_0 8 rfl rfl)
theorem dX0_bitsAfter_9 : decode cX0_bitsAfter 9 = .ok (.iload_n 1, 1) := dk_27 (dk_at dksX0_bitsAfter_0 9 rfl rfl)
theorem dX0_bitsAfter_10 : decode cX0_bitsAfter 10 = .ok (.aload_n 0, 1) := dk_42 (dk_at dksX0_bitsAfter_0 10 rfl rfl)
theorem dX0_bitsAfter_11 : decode cX0_bitsAfter 11 = .ok (.getfield 311, 3) := dk_180 1 55 (dk_at dksX0_bitsAfter_0 11 rfl rfl)
theorem dX0_bitsAfter_14 : decode cX0_bitsAfter 14 = .ok (.iconst 1, 1) := dk_4 (dk_at dksX0_bitsAfter_0 14 rfl rfl)
theorem dX0_bitsAfter_15 : decode cX0_bitsAfter 15 = .ok (.iadd, 1) := dk_96 (dk_at dksX0_bitsAfter_0 15 rfl rfl)
theorem dX0_bitsAfter_16 : decode cX0_bitsAfter 16 = .ok (.ishr, 1) := dk_122 (dk_at dksX0_bitsAfter_0 16 rfl rfl)
theorem dX0_bitsAfter_17 : decode cX0_bitsAfter 17 = .ok (.iconst 1, 1) := dk_4 (dk_at dksX0_bitsAfter_0 17 rfl rfl)
theorem dX0_bitsAfter_18 : decode cX0_bitsAfter 18 = .ok (.iand, 1) := dk_126 (dk_at dksX0_bitsAfter_0 18 rfl rfl)
theorem dX0_bitsAfter_19 : decode cX0_bitsAfter 19 = .ok (.istore_n 3, 1) := dk_62 (dk_at dksX0_bitsAfter_0 19 rfl rfl)
theorem dX0_bitsAfter_20 : decode cX0_bitsAfter 20 = .ok (.iload_n 2, 1) := dk_28 (dk_at dksX0_bitsAfter_0 20 rfl rfl)
theorem dX0_bitsAfter_21 : decode cX0_bitsAfter 21 = .ok (.iload_n 3, 1) := dk_29 (dk_at dksX0_bitsAfter_0 21 rfl rfl)
theorem dX0_bitsAfter_22 : decode cX0_bitsAfter 22 = .ok (.if_icmp .eq 24, 3) := dk_159 0 24 (dk_at dksX0_bitsAfter_1 0 rfl rfl)
theorem dX0_bitsAfter_25 : decode cX0_bitsAfter 25 = .ok (.aload_n 0, 1) := dk_42 (dk_at dksX0_bitsAfter_1 3 rfl rfl)
theorem dX0_bitsAfter_26 : decode cX0_bitsAfter 26 = .ok (.iload_n 2, 1) := dk_28 (dk_at dksX0_bitsAfter_1 4 rfl rfl)
theorem dX0_bitsAfter_27 : decode cX0_bitsAfter 27 = .ok (.iload_n 3, 1) := dk_29 (dk_at dksX0_bitsAfter_1 5 rfl rfl)
theorem dX0_bitsAfter_28 : decode cX0_bitsAfter 28 = .ok (.iconst 0, 1) := dk_3 (dk_at dksX0_bitsAfter_1 6 rfl rfl)
theorem dX0_bitsAfter_29 : decode cX0_bitsAfter 29 = .ok (.invokevirtual 398, 3) := dk_182 1 142 (dk_at dksX0_bitsAfter_1 7 rfl rfl)
theorem dX0_bitsAfter_32 : decode cX0_bitsAfter 32 = .ok (.ifCond .eq 14, 3) := dk_153 0 14 (dk_at dksX0_bitsAfter_1 10 rfl rfl)
theorem dX0_bitsAfter_35 : decode cX0_bitsAfter 35 = .ok (.iload_n 1, 1) := dk_27 (dk_at dksX0_bitsAfter_1 13 rfl rfl)
theorem dX0_bitsAfter_36 : decode cX0_bitsAfter 36 = .ok (.iconst 3, 1) := dk_6 (dk_at dksX0_bitsAfter_1 14 rfl rfl)
theorem dX0_bitsAfter_37 : decode cX0_bitsAfter 37 = .ok (.aload_n 0, 1) := dk_42 (dk_at dksX0_bitsAfter_1 15 rfl rfl)
theorem dX0_bitsAfter_38 : decode cX0_bitsAfter 38 = .ok (.getfield 311, 3) := dk_180 1 55 (dk_at dksX0_bitsAfter_1 16 rfl rfl)
theorem dX0_bitsAfter_41 : decode cX0_bitsAfter 41 = .ok (.ishl, 1) := dk_120 (dk_at dksX0_bitsAfter_1 19 rfl rfl)
theorem dX0_bitsAfter_42 : decode cX0_bitsAfter 42 = .ok (.ixor, 1) := dk_130 (dk_at dksX0_bitsAfter_1 20 rfl rfl)
theorem dX0_bitsAfter_43 : decode cX0_bitsAfter 43 = .ok (.goto 4, 3) := dk_167 0 4 (dk_at dksX0_bitsAfter_1 21 rfl rfl)
theorem dX0_bitsAfter_46 : decode cX0_bitsAfter 46 = .ok (.iload_n 1, 1) := dk_27 (dk_at dksX0_bitsAfter_2 0 rfl rfl)
theorem dX0_bitsAfter_47 : decode cX0_bitsAfter 47 = .ok (.ireturn, 1) := dk_172 (dk_at dksX0_bitsAfter_2 1 rfl rfl)
abbrev cX0_isSorted : ByteArray := prog_1_method_65_code
def yX0_isSorted : MethodName := ⟨RX0, "isSorted", "(II)Z"⟩
def dkwX0_isSorted_0 : List UInt8 := [26, 184, 1, 149, 61, 26, 4, 28, 120, 4, 100, 27, 28, 100, 120, 160, 0, 7, 4, 167, 0, 4, 3, 172]
abbrev dktX0_isSorted_0 : List UInt8 := dkwX0_isSorted_0 ++ []
theorem dksX0_isSorted_0 : cX0_isSorted.data.toList.drop 0 = dktX0_isSorted_0 := by decide +kernel
theorem dX0_isSorted_0 : decode cX0_isSorted 0 = .ok (.iload_n 0, 1) := dk_26 (dk_at dksX0_isSorted_0 0 rfl rfl)
theorem dX0_isSorted_1 : decode cX0_isSorted 1 = .ok (.invokestatic 405, 3) := dk_184 1 149 (dk_at dksX0_isSorted_0 1 rfl rfl)
theorem dX0_isSorted_4 : decode cX0_isSorted 4 = .ok (.istore_n 2, 1) := dk_61 (dk_at dksX0_isSorted_0 4 rfl rfl)
theorem dX0_isSorted_5 : decode cX0_isSorted 5 = .ok (.iload_n 0, 1) := dk_26 (dk_at dksX0_isSorted_0 5 rfl rfl)
theorem dX0_isSorted_6 : decode cX0_isSorted 6 = .ok (.iconst 1, 1) := dk_4 (dk_at dksX0_isSorted_0 6 rfl rfl)
theorem dX0_isSorted_7 : decode cX0_isSorted 7 = .ok (.iload_n 2, 1) := dk_28 (dk_at dksX0_isSorted_0 7 rfl rfl)
theorem dX0_isSorted_8 : decode cX0_isSorted 8 = .ok (.ishl, 1) := dk_120 (dk_at dksX0_isSorted_0 8 rfl rfl)
theorem dX0_isSorted_9 : decode cX0_isSorted 9 = .ok (.iconst 1, 1) := dk_4 (dk_at dksX0_isSorted_0 9 rfl rfl)
theorem dX0_isSorted_10 : decode cX0_isSorted 10 = .ok (.isub, 1) := dk_100 (dk_at dksX0_isSorted_0 10 rfl rfl)
theorem dX0_isSorted_11 : decode cX0_isSorted 11 = .ok (.iload_n 1, 1) := dk_27 (dk_at dksX0_isSorted_0 11 rfl rfl)
theorem dX0_isSorted_12 : decode cX0_isSorted 12 = .ok (.iload_n 2, 1) := dk_28 (dk_at dksX0_isSorted_0 12 rfl rfl)
theorem dX0_isSorted_13 : decode cX0_isSorted 13 = .ok (.isub, 1) := dk_100 (dk_at dksX0_isSorted_0 13 rfl rfl)
theorem dX0_isSorted_14 : decode cX0_isSorted 14 = .ok (.ishl, 1) := dk_120 (dk_at dksX0_isSorted_0 14 rfl rfl)
theorem dX0_isSorted_15 : decode cX0_isSorted 15 = .ok (.if_icmp .ne 7, 3) := dk_160 0 7 (dk_at dksX0_isSorted_0 15 rfl rfl)
theorem dX0_isSorted_18 : decode cX0_isSorted 18 = .ok (.iconst 1, 1) := dk_4 (dk_at dksX0_isSorted_0 18 rfl rfl)
theorem dX0_isSorted_19 : decode cX0_isSorted 19 = .ok (.goto 4, 3) := dk_167 0 4 (dk_at dksX0_isSorted_0 19 rfl rfl)
theorem dX0_isSorted_22 : decode cX0_isSorted 22 = .ok (.iconst 0, 1) := dk_3 (dk_at dksX0_isSorted_0 22 rfl rfl)
theorem dX0_isSorted_23 : decode cX0_isSorted 23 = .ok (.ireturn, 1) := dk_172 (dk_at dksX0_isSorted_0 23 rfl rfl)
abbrev cX0_unsorted : ByteArray := prog_1_method_69_code
def yX0_unsorted : MethodName := ⟨RX0, "unsorted", "(I)I"⟩
def dkwX0_unsorted_3 : List UInt8 := [132, 4, 1, 167, 255, 227, 29, 172]
abbrev dktX0_unsorted_3 : List UInt8 := dkwX0_unsorted_3 ++ []
def dkwX0_unsorted_2 : List UInt8 := [180, 0, 7, 180, 0, 17, 162, 0, 23, 42, 44, 21, 4, 3, 182, 1, 84, 153, 0, 6, 132, 3, 1]
abbrev dktX0_unsorted_2 : List UInt8 := dkwX0_unsorted_2 ++ dktX0_unsorted_3
def dkwX0_unsorted_1 : List UInt8 := [192, 0, 242, 77, 42, 180, 0, 7, 44, 180, 0, 254, 182, 0, 11, 3, 62, 3, 54, 4, 21, 4, 42]
abbrev dktX0_unsorted_1 : List UInt8 := dkwX0_unsorted_1 ++ dktX0_unsorted_2
def dkwX0_unsorted_0 : List UInt8 := [42, 27, 182, 1, 158, 156, 0, 9, 42, 27, 182, 1, 158, 172, 42, 180, 0, 148, 27, 182, 0, 250]
abbrev dktX0_unsorted_0 : List UInt8 := dkwX0_unsorted_0 ++ dktX0_unsorted_1
theorem dksX0_unsorted_0 : cX0_unsorted.data.toList.drop 0 = dktX0_unsorted_0 := by decide +kernel
theorem dksX0_unsorted_1 : cX0_unsorted.data.toList.drop 22 = dktX0_unsorted_1 := dk_seg dksX0_unsorted_0 22 rfl rfl
theorem dksX0_unsorted_2 : cX0_unsorted.data.toList.drop 45 = dktX0_unsorted_2 := dk_seg dksX0_unsorted_1 23 rfl rfl
theorem dksX0_unsorted_3 : cX0_unsorted.data.toList.drop 68 = dktX0_unsorted_3 := dk_seg dksX0_unsorted_2 23 rfl rfl
theorem dX0_unsorted_0 : decode cX0_unsorted 0 = .ok (.aload_n 0, 1) := dk_42 (dk_at dksX0_unsorted_0 0 rfl rfl)
theorem dX0_unsorted_1 : decode cX0_unsorted 1 = .ok (.iload_n 1, 1) := dk_27 (dk_at dksX0_unsorted_0 1 rfl rfl)
theorem dX0_unsorted_2 : decode cX0_unsorted 2 = .ok (.invokevirtual 414, 3) := dk_182 1 158 (dk_at dksX0_unsorted_0 2 rfl rfl)
theorem dX0_unsorted_5 : decode cX0_unsorted 5 = .ok (.ifCond .ge 9, 3) := dk_156 0 9 (dk_at dksX0_unsorted_0 5 rfl rfl)
theorem dX0_unsorted_8 : decode cX0_unsorted 8 = .ok (.aload_n 0, 1) := dk_42 (dk_at dksX0_unsorted_0 8 rfl rfl)
theorem dX0_unsorted_9 : decode cX0_unsorted 9 = .ok (.iload_n 1, 1) := dk_27 (dk_at dksX0_unsorted_0 9 rfl rfl)
theorem dX0_unsorted_10 : decode cX0_unsorted 10 = .ok (.invokevirtual 414, 3) := dk_182 1 158 (dk_at dksX0_unsorted_0 10 rfl rfl)
theorem dX0_unsorted_13 : decode cX0_unsorted 13 = .ok (.ireturn, 1) := dk_172 (dk_at dksX0_unsorted_0 13 rfl rfl)
theorem dX0_unsorted_14 : decode cX0_unsorted 14 = .ok (.aload_n 0, 1) := dk_42 (dk_at dksX0_unsorted_0 14 rfl rfl)
theorem dX0_unsorted_15 : decode cX0_unsorted 15 = .ok (.getfield 148, 3) := dk_180 0 148 (dk_at dksX0_unsorted_0 15 rfl rfl)
theorem dX0_unsorted_18 : decode cX0_unsorted 18 = .ok (.iload_n 1, 1) := dk_27 (dk_at dksX0_unsorted_0 18 rfl rfl)
theorem dX0_unsorted_19 : decode cX0_unsorted 19 = .ok (.invokevirtual 250, 3) := dk_182 0 250 (dk_at dksX0_unsorted_0 19 rfl rfl)
theorem dX0_unsorted_22 : decode cX0_unsorted 22 = .ok (.checkcast 242, 3) := dk_192 0 242 (dk_at dksX0_unsorted_1 0 rfl rfl)
theorem dX0_unsorted_25 : decode cX0_unsorted 25 = .ok (.astore_n 2, 1) := dk_77 (dk_at dksX0_unsorted_1 3 rfl rfl)
theorem dX0_unsorted_26 : decode cX0_unsorted 26 = .ok (.aload_n 0, 1) := dk_42 (dk_at dksX0_unsorted_1 4 rfl rfl)
theorem dX0_unsorted_27 : decode cX0_unsorted 27 = .ok (.getfield 7, 3) := dk_180 0 7 (dk_at dksX0_unsorted_1 5 rfl rfl)
theorem dX0_unsorted_30 : decode cX0_unsorted 30 = .ok (.aload_n 2, 1) := dk_44 (dk_at dksX0_unsorted_1 8 rfl rfl)
theorem dX0_unsorted_31 : decode cX0_unsorted 31 = .ok (.getfield 254, 3) := dk_180 0 254 (dk_at dksX0_unsorted_1 9 rfl rfl)
theorem dX0_unsorted_34 : decode cX0_unsorted 34 = .ok (.invokevirtual 11, 3) := dk_182 0 11 (dk_at dksX0_unsorted_1 12 rfl rfl)
theorem dX0_unsorted_37 : decode cX0_unsorted 37 = .ok (.iconst 0, 1) := dk_3 (dk_at dksX0_unsorted_1 15 rfl rfl)
theorem dX0_unsorted_38 : decode cX0_unsorted 38 = .ok (.istore_n 3, 1) := dk_62 (dk_at dksX0_unsorted_1 16 rfl rfl)
theorem dX0_unsorted_39 : decode cX0_unsorted 39 = .ok (.iconst 0, 1) := dk_3 (dk_at dksX0_unsorted_1 17 rfl rfl)
theorem dX0_unsorted_40 : decode cX0_unsorted 40 = .ok (.istore 4, 2) := dk_54 4 (dk_at dksX0_unsorted_1 18 rfl rfl)
theorem dX0_unsorted_42 : decode cX0_unsorted 42 = .ok (.iload 4, 2) := dk_21 4 (dk_at dksX0_unsorted_1 20 rfl rfl)
theorem dX0_unsorted_44 : decode cX0_unsorted 44 = .ok (.aload_n 0, 1) := dk_42 (dk_at dksX0_unsorted_1 22 rfl rfl)
theorem dX0_unsorted_45 : decode cX0_unsorted 45 = .ok (.getfield 7, 3) := dk_180 0 7 (dk_at dksX0_unsorted_2 0 rfl rfl)
theorem dX0_unsorted_48 : decode cX0_unsorted 48 = .ok (.getfield 17, 3) := dk_180 0 17 (dk_at dksX0_unsorted_2 3 rfl rfl)
theorem dX0_unsorted_51 : decode cX0_unsorted 51 = .ok (.if_icmp .ge 23, 3) := dk_162 0 23 (dk_at dksX0_unsorted_2 6 rfl rfl)
theorem dX0_unsorted_54 : decode cX0_unsorted 54 = .ok (.aload_n 0, 1) := dk_42 (dk_at dksX0_unsorted_2 9 rfl rfl)
theorem dX0_unsorted_55 : decode cX0_unsorted 55 = .ok (.aload_n 2, 1) := dk_44 (dk_at dksX0_unsorted_2 10 rfl rfl)
theorem dX0_unsorted_56 : decode cX0_unsorted 56 = .ok (.iload 4, 2) := dk_21 4 (dk_at dksX0_unsorted_2 11 rfl rfl)
theorem dX0_unsorted_58 : decode cX0_unsorted 58 = .ok (.iconst 0, 1) := dk_3 (dk_at dksX0_unsorted_2 13 rfl rfl)
theorem dX0_unsorted_59 : decode cX0_unsorted 59 = .ok (.invokevirtual 340, 3) := dk_182 1 84 (dk_at dksX0_unsorted_2 14 rfl rfl)
theorem dX0_unsorted_62 : decode cX0_unsorted 62 = .ok (.ifCond .eq 6, 3) := dk_153 0 6 (dk_at dksX0_unsorted_2 17 rfl rfl)
theorem dX0_unsorted_65 : decode cX0_unsorted 65 = .ok (.iinc 3 1, 3) := dk_132 3 1 (dk_at dksX0_unsorted_2 20 rfl rfl)
theorem dX0_unsorted_68 : decode cX0_unsorted 68 = .ok (.iinc 4 1, 3) := dk_132 4 1 (dk_at dksX0_unsorted_3 0 rfl rfl)
theorem dX0_unsorted_71 : decode cX0_unsorted 71 = .ok (.goto (-29), 3) := dk_167 255 227 (dk_at dksX0_unsorted_3 3 rfl rfl)
theorem dX0_unsorted_74 : decode cX0_unsorted 74 = .ok (.iload_n 3, 1) := dk_29 (dk_at dksX0_unsorted_3 6 rfl rfl)
theorem dX0_unsorted_75 : decode cX0_unsorted 75 = .ok (.ireturn, 1) := dk_172 (dk_at dksX0_unsorted_3 7 rfl rfl)
abbrev cX0_fails : ByteArray := prog_1_method_70_code
def yX0_fails : MethodName := ⟨RX0, "fails", "(I)I"⟩
def dkwX0_fails_1 : List UInt8 := [192, 0, 242, 2, 184, 1, 161, 172]
abbrev dktX0_fails_1 : List UInt8 := dkwX0_fails_1 ++ []
def dkwX0_fails_0 : List UInt8 := [42, 27, 182, 1, 158, 156, 0, 11, 42, 27, 182, 1, 158, 167, 0, 18, 42, 180, 0, 148, 27, 182, 0, 250]
abbrev dktX0_fails_0 : List UInt8 := dkwX0_fails_0 ++ dktX0_fails_1
theorem dksX0_fails_0 : cX0_fails.data.toList.drop 0 = dktX0_fails_0 := by decide +kernel
theorem dksX0_fails_1 : cX0_fails.data.toList.drop 24 = dktX0_fails_1 := dk_seg dksX0_fails_0 24 rfl rfl
theorem dX0_fails_0 : decode cX0_fails 0 = .ok (.aload_n 0, 1) := dk_42 (dk_at dksX0_fails_0 0 rfl rfl)
theorem dX0_fails_1 : decode cX0_fails 1 = .ok (.iload_n 1, 1) := dk_27 (dk_at dksX0_fails_0 1 rfl rfl)
theorem dX0_fails_2 : decode cX0_fails 2 = .ok (.invokevirtual 414, 3) := dk_182 1 158 (dk_at dksX0_fails_0 2 rfl rfl)
theorem dX0_fails_5 : decode cX0_fails 5 = .ok (.ifCond .ge 11, 3) := dk_156 0 11 (dk_at dksX0_fails_0 5 rfl rfl)
theorem dX0_fails_8 : decode cX0_fails 8 = .ok (.aload_n 0, 1) := dk_42 (dk_at dksX0_fails_0 8 rfl rfl)
theorem dX0_fails_9 : decode cX0_fails 9 = .ok (.iload_n 1, 1) := dk_27 (dk_at dksX0_fails_0 9 rfl rfl)
theorem dX0_fails_10 : decode cX0_fails 10 = .ok (.invokevirtual 414, 3) := dk_182 1 158 (dk_at dksX0_fails_0 10 rfl rfl)
theorem dX0_fails_13 : decode cX0_fails 13 = .ok (.goto 18, 3) := dk_167 0 18 (dk_at dksX0_fails_0 13 rfl rfl)
theorem dX0_fails_16 : decode cX0_fails 16 = .ok (.aload_n 0, 1) := dk_42 (dk_at dksX0_fails_0 16 rfl rfl)
theorem dX0_fails_17 : decode cX0_fails 17 = .ok (.getfield 148, 3) := dk_180 0 148 (dk_at dksX0_fails_0 17 rfl rfl)
theorem dX0_fails_20 : decode cX0_fails 20 = .ok (.iload_n 1, 1) := dk_27 (dk_at dksX0_fails_0 20 rfl rfl)
theorem dX0_fails_21 : decode cX0_fails 21 = .ok (.invokevirtual 250, 3) := dk_182 0 250 (dk_at dksX0_fails_0 21 rfl rfl)
theorem dX0_fails_24 : decode cX0_fails 24 = .ok (.checkcast 242, 3) := dk_192 0 242 (dk_at dksX0_fails_1 0 rfl rfl)
theorem dX0_fails_27 : decode cX0_fails 27 = .ok (.iconst (-1), 1) := dk_2 (dk_at dksX0_fails_1 3 rfl rfl)
theorem dX0_fails_28 : decode cX0_fails 28 = .ok (.invokestatic 417, 3) := dk_184 1 161 (dk_at dksX0_fails_1 4 rfl rfl)
theorem dX0_fails_31 : decode cX0_fails 31 = .ok (.ireturn, 1) := dk_172 (dk_at dksX0_fails_1 7 rfl rfl)
abbrev cX0_firstFail : ByteArray := prog_1_method_71_code
def yX0_firstFail : MethodName := ⟨RX0, "firstFail", "(I)I"⟩
def dkwX0_firstFail_2 : List UInt8 := [180, 0, 254, 184, 1, 155, 154, 0, 5, 29, 172, 132, 3, 1, 167, 255, 225, 16, 253, 172]
abbrev dktX0_firstFail_2 : List UInt8 := dkwX0_firstFail_2 ++ []
def dkwX0_firstFail_1 : List UInt8 := [192, 0, 242, 77, 3, 62, 29, 4, 44, 180, 0, 254, 120, 162, 0, 27, 44, 29, 2, 184, 1, 152, 44]
abbrev dktX0_firstFail_1 : List UInt8 := dkwX0_firstFail_1 ++ dktX0_firstFail_2
def dkwX0_firstFail_0 : List UInt8 := [42, 27, 182, 1, 158, 156, 0, 9, 42, 27, 182, 1, 158, 172, 42, 180, 0, 148, 27, 182, 0, 250]
abbrev dktX0_firstFail_0 : List UInt8 := dkwX0_firstFail_0 ++ dktX0_firstFail_1
theorem dksX0_firstFail_0 : cX0_firstFail.data.toList.drop 0 = dktX0_firstFail_0 := by decide +kernel
theorem dksX0_firstFail_1 : cX0_firstFail.data.toList.drop 22 = dktX0_firstFail_1 := dk_seg dksX0_firstFail_0 22 rfl rfl
theorem dksX0_firstFail_2 : cX0_firstFail.data.toList.drop 45 = dktX0_firstFail_2 := dk_seg dksX0_firstFail_1 23 rfl rfl
theorem dX0_firstFail_0 : decode cX0_firstFail 0 = .ok (.aload_n 0, 1) := dk_42 (dk_at dksX0_firstFail_0 0 rfl rfl)
theorem dX0_firstFail_1 : decode cX0_firstFail 1 = .ok (.iload_n 1, 1) := dk_27 (dk_at dksX0_firstFail_0 1 rfl rfl)
theorem dX0_firstFail_2 : decode cX0_firstFail 2 = .ok (.invokevirtual 414, 3) := dk_182 1 158 (dk_at dksX0_firstFail_0 2 rfl rfl)
theorem dX0_firstFail_5 : decode cX0_firstFail 5 = .ok (.ifCond .ge 9, 3) := dk_156 0 9 (dk_at dksX0_firstFail_0 5 rfl rfl)
theorem dX0_firstFail_8 : decode cX0_firstFail 8 = .ok (.aload_n 0, 1) := dk_42 (dk_at dksX0_firstFail_0 8 rfl rfl)
theorem dX0_firstFail_9 : decode cX0_firstFail 9 = .ok (.iload_n 1, 1) := dk_27 (dk_at dksX0_firstFail_0 9 rfl rfl)
theorem dX0_firstFail_10 : decode cX0_firstFail 10 = .ok (.invokevirtual 414, 3) := dk_182 1 158 (dk_at dksX0_firstFail_0 10 rfl rfl)
theorem dX0_firstFail_13 : decode cX0_firstFail 13 = .ok (.ireturn, 1) := dk_172 (dk_at dksX0_firstFail_0 13 rfl rfl)
theorem dX0_firstFail_14 : decode cX0_firstFail 14 = .ok (.aload_n 0, 1) := dk_42 (dk_at dksX0_firstFail_0 14 rfl rfl)
theorem dX0_firstFail_15 : decode cX0_firstFail 15 = .ok (.getfield 148, 3) := dk_180 0 148 (dk_at dksX0_firstFail_0 15 rfl rfl)
theorem dX0_firstFail_18 : decode cX0_firstFail 18 = .ok (.iload_n 1, 1) := dk_27 (dk_at dksX0_firstFail_0 18 rfl rfl)
theorem dX0_firstFail_19 : decode cX0_firstFail 19 = .ok (.invokevirtual 250, 3) := dk_182 0 250 (dk_at dksX0_firstFail_0 19 rfl rfl)
theorem dX0_firstFail_22 : decode cX0_firstFail 22 = .ok (.checkcast 242, 3) := dk_192 0 242 (dk_at dksX0_firstFail_1 0 rfl rfl)
theorem dX0_firstFail_25 : decode cX0_firstFail 25 = .ok (.astore_n 2, 1) := dk_77 (dk_at dksX0_firstFail_1 3 rfl rfl)
theorem dX0_firstFail_26 : decode cX0_firstFail 26 = .ok (.iconst 0, 1) := dk_3 (dk_at dksX0_firstFail_1 4 rfl rfl)
theorem dX0_firstFail_27 : decode cX0_firstFail 27 = .ok (.istore_n 3, 1) := dk_62 (dk_at dksX0_firstFail_1 5 rfl rfl)
theorem dX0_firstFail_28 : decode cX0_firstFail 28 = .ok (.iload_n 3, 1) := dk_29 (dk_at dksX0_firstFail_1 6 rfl rfl)
theorem dX0_firstFail_29 : decode cX0_firstFail 29 = .ok (.iconst 1, 1) := dk_4 (dk_at dksX0_firstFail_1 7 rfl rfl)
theorem dX0_firstFail_30 : decode cX0_firstFail 30 = .ok (.aload_n 2, 1) := dk_44 (dk_at dksX0_firstFail_1 8 rfl rfl)
theorem dX0_firstFail_31 : decode cX0_firstFail 31 = .ok (.getfield 254, 3) := dk_180 0 254 (dk_at dksX0_firstFail_1 9 rfl rfl)
theorem dX0_firstFail_34 : decode cX0_firstFail 34 = .ok (.ishl, 1) := dk_120 (dk_at dksX0_firstFail_1 12 rfl rfl)
theorem dX0_firstFail_35 : decode cX0_firstFail 35 = .ok (.if_icmp .ge 27, 3) := dk_162 0 27 (dk_at dksX0_firstFail_1 13 rfl rfl)
theorem dX0_firstFail_38 : decode cX0_firstFail 38 = .ok (.aload_n 2, 1) := dk_44 (dk_at dksX0_firstFail_1 16 rfl rfl)
theorem dX0_firstFail_39 : decode cX0_firstFail 39 = .ok (.iload_n 3, 1) := dk_29 (dk_at dksX0_firstFail_1 17 rfl rfl)
theorem dX0_firstFail_40 : decode cX0_firstFail 40 = .ok (.iconst (-1), 1) := dk_2 (dk_at dksX0_firstFail_1 18 rfl rfl)
theorem dX0_firstFail_41 : decode cX0_firstFail 41 = .ok (.invokestatic 408, 3) := dk_184 1 152 (dk_at dksX0_firstFail_1 19 rfl rfl)
theorem dX0_firstFail_44 : decode cX0_firstFail 44 = .ok (.aload_n 2, 1) := dk_44 (dk_at dksX0_firstFail_1 22 rfl rfl)
theorem dX0_firstFail_45 : decode cX0_firstFail 45 = .ok (.getfield 254, 3) := dk_180 0 254 (dk_at dksX0_firstFail_2 0 rfl rfl)
theorem dX0_firstFail_48 : decode cX0_firstFail 48 = .ok (.invokestatic 411, 3) := dk_184 1 155 (dk_at dksX0_firstFail_2 3 rfl rfl)
theorem dX0_firstFail_51 : decode cX0_firstFail 51 = .ok (.ifCond .ne 5, 3) := dk_154 0 5 (dk_at dksX0_firstFail_2 6 rfl rfl)
theorem dX0_firstFail_54 : decode cX0_firstFail 54 = .ok (.iload_n 3, 1) := dk_29 (dk_at dksX0_firstFail_2 9 rfl rfl)
theorem dX0_firstFail_55 : decode cX0_firstFail 55 = .ok (.ireturn, 1) := dk_172 (dk_at dksX0_firstFail_2 10 rfl rfl)
theorem dX0_firstFail_56 : decode cX0_firstFail 56 = .ok (.iinc 3 1, 3) := dk_132 3 1 (dk_at dksX0_firstFail_2 11 rfl rfl)
theorem dX0_firstFail_59 : decode cX0_firstFail 59 = .ok (.goto (-31), 3) := dk_167 255 225 (dk_at dksX0_firstFail_2 14 rfl rfl)
theorem dX0_firstFail_62 : decode cX0_firstFail 62 = .ok (.bipush (-3), 2) := dk_16 253 (dk_at dksX0_firstFail_2 17 rfl rfl)
theorem dX0_firstFail_64 : decode cX0_firstFail 64 = .ok (.ireturn, 1) := dk_172 (dk_at dksX0_firstFail_2 19 rfl rfl)
abbrev cX0_idle : ByteArray := prog_1_method_72_code
def yX0_idle : MethodName := ⟨RX0, "idle", "(II)I"⟩
def dkwX0_idle_5 : List UInt8 := [172]
abbrev dktX0_idle_5 : List UInt8 := dkwX0_idle_5 ++ []
def dkwX0_idle_4 : List UInt8 := [167, 255, 234, 25, 4, 21, 6, 184, 1, 146, 21, 6, 159, 0, 5, 3, 172, 132, 5, 1, 167, 255, 196, 4]
abbrev dktX0_idle_4 : List UInt8 := dkwX0_idle_4 ++ dktX0_idle_5
def dkwX0_idle_3 : List UInt8 := [54, 7, 21, 7, 28, 162, 0, 22, 45, 21, 7, 182, 1, 51, 21, 6, 184, 1, 146, 54, 6, 132, 7, 1]
abbrev dktX0_idle_3 : List UInt8 := dkwX0_idle_3 ++ dktX0_idle_4
def dkwX0_idle_2 : List UInt8 := [154, 0, 5, 3, 172, 3, 54, 5, 21, 5, 4, 45, 180, 0, 254, 120, 162, 0, 55, 21, 5, 54, 6, 3]
abbrev dktX0_idle_2 : List UInt8 := dkwX0_idle_2 ++ dktX0_idle_3
def dkwX0_idle_1 : List UInt8 := [180, 0, 148, 27, 182, 0, 250, 192, 0, 242, 78, 45, 28, 182, 1, 51, 58, 4, 25, 4, 182, 1, 58]
abbrev dktX0_idle_1 : List UInt8 := dkwX0_idle_1 ++ dktX0_idle_2
def dkwX0_idle_0 : List UInt8 := [42, 27, 28, 182, 1, 48, 154, 0, 5, 2, 172, 42, 27, 182, 1, 158, 156, 0, 6, 16, 254, 172, 42]
abbrev dktX0_idle_0 : List UInt8 := dkwX0_idle_0 ++ dktX0_idle_1
theorem dksX0_idle_0 : cX0_idle.data.toList.drop 0 = dktX0_idle_0 := by decide +kernel
theorem dksX0_idle_1 : cX0_idle.data.toList.drop 23 = dktX0_idle_1 := dk_seg dksX0_idle_0 23 rfl rfl
theorem dksX0_idle_2 : cX0_idle.data.toList.drop 46 = dktX0_idle_2 := dk_seg dksX0_idle_1 23 rfl rfl
theorem dksX0_idle_3 : cX0_idle.data.toList.drop 70 = dktX0_idle_3 := dk_seg dksX0_idle_2 24 rfl rfl
theorem dksX0_idle_4 : cX0_idle.data.toList.drop 94 = dktX0_idle_4 := dk_seg dksX0_idle_3 24 rfl rfl
theorem dksX0_idle_5 : cX0_idle.data.toList.drop 118 = dktX0_idle_5 := dk_seg dksX0_idle_4 24 rfl rfl
theorem dX0_idle_0 : decode cX0_idle 0 = .ok (.aload_n 0, 1) := dk_42 (dk_at dksX0_idle_0 0 rfl rfl)
theorem dX0_idle_1 : decode cX0_idle 1 = .ok (.iload_n 1, 1) := dk_27 (dk_at dksX0_idle_0 1 rfl rfl)
theorem dX0_idle_2 : decode cX0_idle 2 = .ok (.iload_n 2, 1) := dk_28 (dk_at dksX0_idle_0 2 rfl rfl)
theorem dX0_idle_3 : decode cX0_idle 3 = .ok (.invokevirtual 304, 3) := dk_182 1 48 (dk_at dksX0_idle_0 3 rfl rfl)
theorem dX0_idle_6 : decode cX0_idle 6 = .ok (.ifCond .ne 5, 3) := dk_154 0 5 (dk_at dksX0_idle_0 6 rfl rfl)
theorem dX0_idle_9 : decode cX0_idle 9 = .ok (.iconst (-1), 1) := dk_2 (dk_at dksX0_idle_0 9 rfl rfl)
theorem dX0_idle_10 : decode cX0_idle 10 = .ok (.ireturn, 1) := dk_172 (dk_at dksX0_idle_0 10 rfl rfl)
theorem dX0_idle_11 : decode cX0_idle 11 = .ok (.aload_n 0, 1) := dk_42 (dk_at dksX0_idle_0 11 rfl rfl)
theorem dX0_idle_12 : decode cX0_idle 12 = .ok (.iload_n 1, 1) := dk_27 (dk_at dksX0_idle_0 12 rfl rfl)
theorem dX0_idle_13 : decode cX0_idle 13 = .ok (.invokevirtual 414, 3) := dk_182 1 158 (dk_at dksX0_idle_0 13 rfl rfl)
theorem dX0_idle_16 : decode cX0_idle 16 = .ok (.ifCond .ge 6, 3) := dk_156 0 6 (dk_at dksX0_idle_0 16 rfl rfl)
theorem dX0_idle_19 : decode cX0_idle 19 = .ok (.bipush (-2), 2) := dk_16 254 (dk_at dksX0_idle_0 19 rfl rfl)
theorem dX0_idle_21 : decode cX0_idle 21 = .ok (.ireturn, 1) := dk_172 (dk_at dksX0_idle_0 21 rfl rfl)
theorem dX0_idle_22 : decode cX0_idle 22 = .ok (.aload_n 0, 1) := dk_42 (dk_at dksX0_idle_0 22 rfl rfl)
theorem dX0_idle_23 : decode cX0_idle 23 = .ok (.getfield 148, 3) := dk_180 0 148 (dk_at dksX0_idle_1 0 rfl rfl)
theorem dX0_idle_26 : decode cX0_idle 26 = .ok (.iload_n 1, 1) := dk_27 (dk_at dksX0_idle_1 3 rfl rfl)
theorem dX0_idle_27 : decode cX0_idle 27 = .ok (.invokevirtual 250, 3) := dk_182 0 250 (dk_at dksX0_idle_1 4 rfl rfl)
theorem dX0_idle_30 : decode cX0_idle 30 = .ok (.checkcast 242, 3) := dk_192 0 242 (dk_at dksX0_idle_1 7 rfl rfl)
theorem dX0_idle_33 : decode cX0_idle 33 = .ok (.astore_n 3, 1) := dk_78 (dk_at dksX0_idle_1 10 rfl rfl)
theorem dX0_idle_34 : decode cX0_idle 34 = .ok (.aload_n 3, 1) := dk_45 (dk_at dksX0_idle_1 11 rfl rfl)
theorem dX0_idle_35 : decode cX0_idle 35 = .ok (.iload_n 2, 1) := dk_28 (dk_at dksX0_idle_1 12 rfl rfl)
theorem dX0_idle_36 : decode cX0_idle 36 = .ok (.invokevirtual 307, 3) := dk_182 1 51 (dk_at dksX0_idle_1 13 rfl rfl)
theorem dX0_idle_39 : decode cX0_idle 39 = .ok (.astore 4, 2) := dk_58 4 (dk_at dksX0_idle_1 16 rfl rfl)
theorem dX0_idle_41 : decode cX0_idle 41 = .ok (.aload 4, 2) := dk_25 4 (dk_at dksX0_idle_1 18 rfl rfl)
theorem dX0_idle_43 : decode cX0_idle 43 = .ok (.invokevirtual 314, 3) := dk_182 1 58 (dk_at dksX0_idle_1 20 rfl rfl)
theorem dX0_idle_46 : decode cX0_idle 46 = .ok (.ifCond .ne 5, 3) := dk_154 0 5 (dk_at dksX0_idle_2 0 rfl rfl)
theorem dX0_idle_49 : decode cX0_idle 49 = .ok (.iconst 0, 1) := dk_3 (dk_at dksX0_idle_2 3 rfl rfl)
theorem dX0_idle_50 : decode cX0_idle 50 = .ok (.ireturn, 1) := dk_172 (dk_at dksX0_idle_2 4 rfl rfl)
theorem dX0_idle_51 : decode cX0_idle 51 = .ok (.iconst 0, 1) := dk_3 (dk_at dksX0_idle_2 5 rfl rfl)
theorem dX0_idle_52 : decode cX0_idle 52 = .ok (.istore 5, 2) := dk_54 5 (dk_at dksX0_idle_2 6 rfl rfl)
theorem dX0_idle_54 : decode cX0_idle 54 = .ok (.iload 5, 2) := dk_21 5 (dk_at dksX0_idle_2 8 rfl rfl)
theorem dX0_idle_56 : decode cX0_idle 56 = .ok (.iconst 1, 1) := dk_4 (dk_at dksX0_idle_2 10 rfl rfl)
theorem dX0_idle_57 : decode cX0_idle 57 = .ok (.aload_n 3, 1) := dk_45 (dk_at dksX0_idle_2 11 rfl rfl)
theorem dX0_idle_58 : decode cX0_idle 58 = .ok (.getfield 254, 3) := dk_180 0 254 (dk_at dksX0_idle_2 12 rfl rfl)
theorem dX0_idle_61 : decode cX0_idle 61 = .ok (.ishl, 1) := dk_120 (dk_at dksX0_idle_2 15 rfl rfl)
theorem dX0_idle_62 : decode cX0_idle 62 = .ok (.if_icmp .ge 55, 3) := dk_162 0 55 (dk_at dksX0_idle_2 16 rfl rfl)
theorem dX0_idle_65 : decode cX0_idle 65 = .ok (.iload 5, 2) := dk_21 5 (dk_at dksX0_idle_2 19 rfl rfl)
theorem dX0_idle_67 : decode cX0_idle 67 = .ok (.istore 6, 2) := dk_54 6 (dk_at dksX0_idle_2 21 rfl rfl)
theorem dX0_idle_69 : decode cX0_idle 69 = .ok (.iconst 0, 1) := dk_3 (dk_at dksX0_idle_2 23 rfl rfl)
theorem dX0_idle_70 : decode cX0_idle 70 = .ok (.istore 7, 2) := dk_54 7 (dk_at dksX0_idle_3 0 rfl rfl)
theorem dX0_idle_72 : decode cX0_idle 72 = .ok (.iload 7, 2) := dk_21 7 (dk_at dksX0_idle_3 2 rfl rfl)
theorem dX0_idle_74 : decode cX0_idle 74 = .ok (.iload_n 2, 1) := dk_28 (dk_at dksX0_idle_3 4 rfl rfl)
theorem dX0_idle_75 : decode cX0_idle 75 = .ok (.if_icmp .ge 22, 3) := dk_162 0 22 (dk_at dksX0_idle_3 5 rfl rfl)
theorem dX0_idle_78 : decode cX0_idle 78 = .ok (.aload_n 3, 1) := dk_45 (dk_at dksX0_idle_3 8 rfl rfl)
theorem dX0_idle_79 : decode cX0_idle 79 = .ok (.iload 7, 2) := dk_21 7 (dk_at dksX0_idle_3 9 rfl rfl)
theorem dX0_idle_81 : decode cX0_idle 81 = .ok (.invokevirtual 307, 3) := dk_182 1 51 (dk_at dksX0_idle_3 11 rfl rfl)
theorem dX0_idle_84 : decode cX0_idle 84 = .ok (.iload 6, 2) := dk_21 6 (dk_at dksX0_idle_3 14 rfl rfl)
theorem dX0_idle_86 : decode cX0_idle 86 = .ok (.invokestatic 402, 3) := dk_184 1 146 (dk_at dksX0_idle_3 16 rfl rfl)
theorem dX0_idle_89 : decode cX0_idle 89 = .ok (.istore 6, 2) := dk_54 6 (dk_at dksX0_idle_3 19 rfl rfl)
theorem dX0_idle_91 : decode cX0_idle 91 = .ok (.iinc 7 1, 3) := dk_132 7 1 (dk_at dksX0_idle_3 21 rfl rfl)
theorem dX0_idle_94 : decode cX0_idle 94 = .ok (.goto (-22), 3) := dk_167 255 234 (dk_at dksX0_idle_4 0 rfl rfl)
theorem dX0_idle_97 : decode cX0_idle 97 = .ok (.aload 4, 2) := dk_25 4 (dk_at dksX0_idle_4 3 rfl rfl)
theorem dX0_idle_99 : decode cX0_idle 99 = .ok (.iload 6, 2) := dk_21 6 (dk_at dksX0_idle_4 5 rfl rfl)
theorem dX0_idle_101 : decode cX0_idle 101 = .ok (.invokestatic 402, 3) := dk_184 1 146 (dk_at dksX0_idle_4 7 rfl rfl)
theorem dX0_idle_104 : decode cX0_idle 104 = .ok (.iload 6, 2) := dk_21 6 (dk_at dksX0_idle_4 10 rfl rfl)
theorem dX0_idle_106 : decode cX0_idle 106 = .ok (.if_icmp .eq 5, 3) := dk_159 0 5 (dk_at dksX0_idle_4 12 rfl rfl)
theorem dX0_idle_109 : decode cX0_idle 109 = .ok (.iconst 0, 1) := dk_3 (dk_at dksX0_idle_4 15 rfl rfl)
theorem dX0_idle_110 : decode cX0_idle 110 = .ok (.ireturn, 1) := dk_172 (dk_at dksX0_idle_4 16 rfl rfl)
theorem dX0_idle_111 : decode cX0_idle 111 = .ok (.iinc 5 1, 3) := dk_132 5 1 (dk_at dksX0_idle_4 17 rfl rfl)
theorem dX0_idle_114 : decode cX0_idle 114 = .ok (.goto (-60), 3) := dk_167 255 196 (dk_at dksX0_idle_4 20 rfl rfl)
theorem dX0_idle_117 : decode cX0_idle 117 = .ok (.iconst 1, 1) := dk_4 (dk_at dksX0_idle_4 23 rfl rfl)
theorem dX0_idle_118 : decode cX0_idle 118 = .ok (.ireturn, 1) := dk_172 (dk_at dksX0_idle_5 0 rfl rfl)
abbrev cX0_needed : ByteArray := prog_1_method_73_code
def yX0_needed : MethodName := ⟨RX0, "needed", "(II)I"⟩
def dkwX0_needed_1 : List UInt8 := [180, 0, 148, 27, 182, 0, 250, 192, 0, 242, 28, 184, 1, 161, 158, 0, 7, 4, 167, 0, 4, 3, 172]
abbrev dktX0_needed_1 : List UInt8 := dkwX0_needed_1 ++ []
def dkwX0_needed_0 : List UInt8 := [42, 27, 28, 182, 1, 48, 154, 0, 5, 2, 172, 42, 27, 182, 1, 158, 156, 0, 6, 16, 254, 172, 42]
abbrev dktX0_needed_0 : List UInt8 := dkwX0_needed_0 ++ dktX0_needed_1
theorem dksX0_needed_0 : cX0_needed.data.toList.drop 0 = dktX0_needed_0 := by decide +kernel
theorem dksX0_needed_1 : cX0_needed.data.toList.drop 23 = dktX0_needed_1 := dk_seg dksX0_needed_0 23 rfl rfl
theorem dX0_needed_0 : decode cX0_needed 0 = .ok (.aload_n 0, 1) := dk_42 (dk_at dksX0_needed_0 0 rfl rfl)
theorem dX0_needed_1 : decode cX0_needed 1 = .ok (.iload_n 1, 1) := dk_27 (dk_at dksX0_needed_0 1 rfl rfl)
theorem dX0_needed_2 : decode cX0_needed 2 = .ok (.iload_n 2, 1) := dk_28 (dk_at dksX0_needed_0 2 rfl rfl)
theorem dX0_needed_3 : decode cX0_needed 3 = .ok (.invokevirtual 304, 3) := dk_182 1 48 (dk_at dksX0_needed_0 3 rfl rfl)
theorem dX0_needed_6 : decode cX0_needed 6 = .ok (.ifCond .ne 5, 3) := dk_154 0 5 (dk_at dksX0_needed_0 6 rfl rfl)
theorem dX0_needed_9 : decode cX0_needed 9 = .ok (.iconst (-1), 1) := dk_2 (dk_at dksX0_needed_0 9 rfl rfl)
theorem dX0_needed_10 : decode cX0_needed 10 = .ok (.ireturn, 1) := dk_172 (dk_at dksX0_needed_0 10 rfl rfl)
theorem dX0_needed_11 : decode cX0_needed 11 = .ok (.aload_n 0, 1) := dk_42 (dk_at dksX0_needed_0 11 rfl rfl)
theorem dX0_needed_12 : decode cX0_needed 12 = .ok (.iload_n 1, 1) := dk_27 (dk_at dksX0_needed_0 12 rfl rfl)
theorem dX0_needed_13 : decode cX0_needed 13 = .ok (.invokevirtual 414, 3) := dk_182 1 158 (dk_at dksX0_needed_0 13 rfl rfl)
theorem dX0_needed_16 : decode cX0_needed 16 = .ok (.ifCond .ge 6, 3) := dk_156 0 6 (dk_at dksX0_needed_0 16 rfl rfl)
theorem dX0_needed_19 : decode cX0_needed 19 = .ok (.bipush (-2), 2) := dk_16 254 (dk_at dksX0_needed_0 19 rfl rfl)
theorem dX0_needed_21 : decode cX0_needed 21 = .ok (.ireturn, 1) := dk_172 (dk_at dksX0_needed_0 21 rfl rfl)
theorem dX0_needed_22 : decode cX0_needed 22 = .ok (.aload_n 0, 1) := dk_42 (dk_at dksX0_needed_0 22 rfl rfl)
theorem dX0_needed_23 : decode cX0_needed 23 = .ok (.getfield 148, 3) := dk_180 0 148 (dk_at dksX0_needed_1 0 rfl rfl)
theorem dX0_needed_26 : decode cX0_needed 26 = .ok (.iload_n 1, 1) := dk_27 (dk_at dksX0_needed_1 3 rfl rfl)
theorem dX0_needed_27 : decode cX0_needed 27 = .ok (.invokevirtual 250, 3) := dk_182 0 250 (dk_at dksX0_needed_1 4 rfl rfl)
theorem dX0_needed_30 : decode cX0_needed 30 = .ok (.checkcast 242, 3) := dk_192 0 242 (dk_at dksX0_needed_1 7 rfl rfl)
theorem dX0_needed_33 : decode cX0_needed 33 = .ok (.iload_n 2, 1) := dk_28 (dk_at dksX0_needed_1 10 rfl rfl)
theorem dX0_needed_34 : decode cX0_needed 34 = .ok (.invokestatic 417, 3) := dk_184 1 161 (dk_at dksX0_needed_1 11 rfl rfl)
theorem dX0_needed_37 : decode cX0_needed 37 = .ok (.ifCond .le 7, 3) := dk_158 0 7 (dk_at dksX0_needed_1 14 rfl rfl)
theorem dX0_needed_40 : decode cX0_needed 40 = .ok (.iconst 1, 1) := dk_4 (dk_at dksX0_needed_1 17 rfl rfl)
theorem dX0_needed_41 : decode cX0_needed 41 = .ok (.goto 4, 3) := dk_167 0 4 (dk_at dksX0_needed_1 18 rfl rfl)
theorem dX0_needed_44 : decode cX0_needed 44 = .ok (.iconst 0, 1) := dk_3 (dk_at dksX0_needed_1 21 rfl rfl)
theorem dX0_needed_45 : decode cX0_needed 45 = .ok (.ireturn, 1) := dk_172 (dk_at dksX0_needed_1 22 rfl rfl)
abbrev cX0_mend : ByteArray := prog_1_method_79_code
def yX0_mend : MethodName := ⟨RX0, "mend", "(I)I"⟩
def dkwX0_mend_2 : List UInt8 := [182, 1, 181, 172]
abbrev dktX0_mend_2 : List UInt8 := dkwX0_mend_2 ++ []
def dkwX0_mend_1 : List UInt8 := [192, 0, 242, 77, 44, 180, 0, 254, 8, 164, 0, 8, 16, 253, 167, 0, 12, 42, 42, 44, 182, 1, 178]
abbrev dktX0_mend_1 : List UInt8 := dkwX0_mend_1 ++ dktX0_mend_2
def dkwX0_mend_0 : List UInt8 := [42, 27, 182, 1, 158, 156, 0, 9, 42, 27, 182, 1, 158, 172, 42, 180, 0, 148, 27, 182, 0, 250]
abbrev dktX0_mend_0 : List UInt8 := dkwX0_mend_0 ++ dktX0_mend_1
theorem dksX0_mend_0 : cX0_mend.data.toList.drop 0 = dktX0_mend_0 := by decide +kernel
theorem dksX0_mend_1 : cX0_mend.data.toList.drop 22 = dktX0_mend_1 := dk_seg dksX0_mend_0 22 rfl rfl
theorem dksX0_mend_2 : cX0_mend.data.toList.drop 45 = dktX0_mend_2 := dk_seg dksX0_mend_1 23 rfl rfl
theorem dX0_mend_0 : decode cX0_mend 0 = .ok (.aload_n 0, 1) := dk_42 (dk_at dksX0_mend_0 0 rfl rfl)
theorem dX0_mend_1 : decode cX0_mend 1 = .ok (.iload_n 1, 1) := dk_27 (dk_at dksX0_mend_0 1 rfl rfl)
theorem dX0_mend_2 : decode cX0_mend 2 = .ok (.invokevirtual 414, 3) := dk_182 1 158 (dk_at dksX0_mend_0 2 rfl rfl)
theorem dX0_mend_5 : decode cX0_mend 5 = .ok (.ifCond .ge 9, 3) := dk_156 0 9 (dk_at dksX0_mend_0 5 rfl rfl)
theorem dX0_mend_8 : decode cX0_mend 8 = .ok (.aload_n 0, 1) := dk_42 (dk_at dksX0_mend_0 8 rfl rfl)
theorem dX0_mend_9 : decode cX0_mend 9 = .ok (.iload_n 1, 1) := dk_27 (dk_at dksX0_mend_0 9 rfl rfl)
theorem dX0_mend_10 : decode cX0_mend 10 = .ok (.invokevirtual 414, 3) := dk_182 1 158 (dk_at dksX0_mend_0 10 rfl rfl)
theorem dX0_mend_13 : decode cX0_mend 13 = .ok (.ireturn, 1) := dk_172 (dk_at dksX0_mend_0 13 rfl rfl)
theorem dX0_mend_14 : decode cX0_mend 14 = .ok (.aload_n 0, 1) := dk_42 (dk_at dksX0_mend_0 14 rfl rfl)
theorem dX0_mend_15 : decode cX0_mend 15 = .ok (.getfield 148, 3) := dk_180 0 148 (dk_at dksX0_mend_0 15 rfl rfl)
theorem dX0_mend_18 : decode cX0_mend 18 = .ok (.iload_n 1, 1) := dk_27 (dk_at dksX0_mend_0 18 rfl rfl)
theorem dX0_mend_19 : decode cX0_mend 19 = .ok (.invokevirtual 250, 3) := dk_182 0 250 (dk_at dksX0_mend_0 19 rfl rfl)
theorem dX0_mend_22 : decode cX0_mend 22 = .ok (.checkcast 242, 3) := dk_192 0 242 (dk_at dksX0_mend_1 0 rfl rfl)
theorem dX0_mend_25 : decode cX0_mend 25 = .ok (.astore_n 2, 1) := dk_77 (dk_at dksX0_mend_1 3 rfl rfl)
theorem dX0_mend_26 : decode cX0_mend 26 = .ok (.aload_n 2, 1) := dk_44 (dk_at dksX0_mend_1 4 rfl rfl)
theorem dX0_mend_27 : decode cX0_mend 27 = .ok (.getfield 254, 3) := dk_180 0 254 (dk_at dksX0_mend_1 5 rfl rfl)
theorem dX0_mend_30 : decode cX0_mend 30 = .ok (.iconst 5, 1) := dk_8 (dk_at dksX0_mend_1 8 rfl rfl)
theorem dX0_mend_31 : decode cX0_mend 31 = .ok (.if_icmp .le 8, 3) := dk_164 0 8 (dk_at dksX0_mend_1 9 rfl rfl)
theorem dX0_mend_34 : decode cX0_mend 34 = .ok (.bipush (-3), 2) := dk_16 253 (dk_at dksX0_mend_1 12 rfl rfl)
theorem dX0_mend_36 : decode cX0_mend 36 = .ok (.goto 12, 3) := dk_167 0 12 (dk_at dksX0_mend_1 14 rfl rfl)
theorem dX0_mend_39 : decode cX0_mend 39 = .ok (.aload_n 0, 1) := dk_42 (dk_at dksX0_mend_1 17 rfl rfl)
theorem dX0_mend_40 : decode cX0_mend 40 = .ok (.aload_n 0, 1) := dk_42 (dk_at dksX0_mend_1 18 rfl rfl)
theorem dX0_mend_41 : decode cX0_mend 41 = .ok (.aload_n 2, 1) := dk_44 (dk_at dksX0_mend_1 19 rfl rfl)
theorem dX0_mend_42 : decode cX0_mend 42 = .ok (.invokevirtual 434, 3) := dk_182 1 178 (dk_at dksX0_mend_1 20 rfl rfl)
theorem dX0_mend_45 : decode cX0_mend 45 = .ok (.invokevirtual 437, 3) := dk_182 1 181 (dk_at dksX0_mend_2 0 rfl rfl)
theorem dX0_mend_48 : decode cX0_mend 48 = .ok (.ireturn, 1) := dk_172 (dk_at dksX0_mend_2 3 rfl rfl)
abbrev cX0_mends : ByteArray := prog_1_method_77_code
def yX0_mends : MethodName := ⟨RX0, "mends", "(LLadderLots$Ladder;)I"⟩
def dkwX0_mends_7 : List UInt8 := [96, 181, 1, 165, 132, 4, 1, 167, 255, 165, 132, 3, 1, 167, 255, 130, 2, 172]
abbrev dktX0_mends_7 : List UInt8 := dkwX0_mends_7 ++ []
def dkwX0_mends_6 : List UInt8 := [42, 180, 1, 165, 29, 79, 42, 180, 0, 196, 42, 180, 1, 165, 21, 4, 145, 84, 42, 89, 180, 1, 165, 4]
abbrev dktX0_mends_6 : List UInt8 := dkwX0_mends_6 ++ dktX0_mends_7
def dkwX0_mends_5 : List UInt8 := [182, 1, 175, 153, 0, 6, 167, 0, 46, 42, 180, 0, 190, 42, 180, 1, 165, 21, 5, 79, 42, 180, 0, 193]
abbrev dktX0_mends_5 : List UInt8 := dkwX0_mends_5 ++ dktX0_mends_6
def dkwX0_mends_4 : List UInt8 := [180, 0, 190, 29, 46, 42, 180, 0, 205, 21, 4, 50, 43, 180, 0, 254, 184, 1, 171, 54, 5, 42, 21, 5]
abbrev dktX0_mends_4 : List UInt8 := dkwX0_mends_4 ++ dktX0_mends_5
def dkwX0_mends_3 : List UInt8 := [184, 1, 168, 153, 0, 5, 29, 172, 3, 54, 4, 21, 4, 4, 96, 43, 180, 0, 254, 162, 0, 86, 42]
abbrev dktX0_mends_3 : List UInt8 := dkwX0_mends_3 ++ dktX0_mends_4
def dkwX0_mends_2 : List UInt8 := [2, 79, 3, 62, 29, 42, 180, 1, 165, 162, 0, 124, 42, 180, 0, 190, 29, 46, 43, 180, 0, 254]
abbrev dktX0_mends_2 : List UInt8 := dkwX0_mends_2 ++ dktX0_mends_3
def dkwX0_mends_1 : List UInt8 := [61, 132, 3, 1, 167, 255, 232, 42, 4, 181, 1, 165, 42, 180, 0, 190, 3, 28, 79, 42, 180, 0, 193, 3]
abbrev dktX0_mends_1 : List UInt8 := dkwX0_mends_1 ++ dktX0_mends_2
def dkwX0_mends_0 : List UInt8 := [3, 61, 3, 62, 29, 4, 43, 180, 0, 254, 120, 162, 0, 20, 28, 4, 43, 29, 2, 184, 1, 152, 120, 128]
abbrev dktX0_mends_0 : List UInt8 := dkwX0_mends_0 ++ dktX0_mends_1
theorem dksX0_mends_0 : cX0_mends.data.toList.drop 0 = dktX0_mends_0 := by decide +kernel
theorem dksX0_mends_1 : cX0_mends.data.toList.drop 24 = dktX0_mends_1 := dk_seg dksX0_mends_0 24 rfl rfl
theorem dksX0_mends_2 : cX0_mends.data.toList.drop 48 = dktX0_mends_2 := dk_seg dksX0_mends_1 24 rfl rfl
theorem dksX0_mends_3 : cX0_mends.data.toList.drop 70 = dktX0_mends_3 := dk_seg dksX0_mends_2 22 rfl rfl
theorem dksX0_mends_4 : cX0_mends.data.toList.drop 93 = dktX0_mends_4 := dk_seg dksX0_mends_3 23 rfl rfl
theorem dksX0_mends_5 : cX0_mends.data.toList.drop 117 = dktX0_mends_5 := dk_seg dksX0_mends_4 24 rfl rfl
theorem dksX0_mends_6 : cX0_mends.data.toList.drop 141 = dktX0_mends_6 := dk_seg dksX0_mends_5 24 rfl rfl
theorem dksX0_mends_7 : cX0_mends.data.toList.drop 165 = dktX0_mends_7 := dk_seg dksX0_mends_6 24 rfl rfl
theorem dX0_mends_0 : decode cX0_mends 0 = .ok (.iconst 0, 1) := dk_3 (dk_at dksX0_mends_0 0 rfl rfl)
theorem dX0_mends_1 : decode cX0_mends 1 = .ok (.istore_n 2, 1) := dk_61 (dk_at dksX0_mends_0 1 rfl rfl)
theorem dX0_mends_2 : decode cX0_mends 2 = .ok (.iconst 0, 1) := dk_3 (dk_at dksX0_mends_0 2 rfl rfl)
theorem dX0_mends_3 : decode cX0_mends 3 = .ok (.istore_n 3, 1) := dk_62 (dk_at dksX0_mends_0 3 rfl rfl)
theorem dX0_mends_4 : decode cX0_mends 4 = .ok (.iload_n 3, 1) := dk_29 (dk_at dksX0_mends_0 4 rfl rfl)
theorem dX0_mends_5 : decode cX0_mends 5 = .ok (.iconst 1, 1) := dk_4 (dk_at dksX0_mends_0 5 rfl rfl)
theorem dX0_mends_6 : decode cX0_mends 6 = .ok (.aload_n 1, 1) := dk_43 (dk_at dksX0_mends_0 6 rfl rfl)
theorem dX0_mends_7 : decode cX0_mends 7 = .ok (.getfield 254, 3) := dk_180 0 254 (dk_at dksX0_mends_0 7 rfl rfl)
theorem dX0_mends_10 : decode cX0_mends 10 = .ok (.ishl, 1) := dk_120 (dk_at dksX0_mends_0 10 rfl rfl)
theorem dX0_mends_11 : decode cX0_mends 11 = .ok (.if_icmp .ge 20, 3) := dk_162 0 20 (dk_at dksX0_mends_0 11 rfl rfl)
theorem dX0_mends_14 : decode cX0_mends 14 = .ok (.iload_n 2, 1) := dk_28 (dk_at dksX0_mends_0 14 rfl rfl)
theorem dX0_mends_15 : decode cX0_mends 15 = .ok (.iconst 1, 1) := dk_4 (dk_at dksX0_mends_0 15 rfl rfl)
theorem dX0_mends_16 : decode cX0_mends 16 = .ok (.aload_n 1, 1) := dk_43 (dk_at dksX0_mends_0 16 rfl rfl)
theorem dX0_mends_17 : decode cX0_mends 17 = .ok (.iload_n 3, 1) := dk_29 (dk_at dksX0_mends_0 17 rfl rfl)
theorem dX0_mends_18 : decode cX0_mends 18 = .ok (.iconst (-1), 1) := dk_2 (dk_at dksX0_mends_0 18 rfl rfl)
theorem dX0_mends_19 : decode cX0_mends 19 = .ok (.invokestatic 408, 3) := dk_184 1 152 (dk_at dksX0_mends_0 19 rfl rfl)
theorem dX0_mends_22 : decode cX0_mends 22 = .ok (.ishl, 1) := dk_120 (dk_at dksX0_mends_0 22 rfl rfl)
theorem dX0_mends_23 : decode cX0_mends 23 = .ok (.ior, 1) := dk_128 (dk_at dksX0_mends_0 23 rfl rfl)
theorem dX0_mends_24 : decode cX0_mends 24 = .ok (.istore_n 2, 1) := dk_61 (dk_at dksX0_mends_1 0 rfl rfl)
theorem dX0_mends_25 : decode cX0_mends 25 = .ok (.iinc 3 1, 3) := dk_132 3 1 (dk_at dksX0_mends_1 1 rfl rfl)
theorem dX0_mends_28 : decode cX0_mends 28 = .ok (.goto (-24), 3) := dk_167 255 232 (dk_at dksX0_mends_1 4 rfl rfl)
theorem dX0_mends_31 : decode cX0_mends 31 = .ok (.aload_n 0, 1) := dk_42 (dk_at dksX0_mends_1 7 rfl rfl)
theorem dX0_mends_32 : decode cX0_mends 32 = .ok (.iconst 1, 1) := dk_4 (dk_at dksX0_mends_1 8 rfl rfl)
theorem dX0_mends_33 : decode cX0_mends 33 = .ok (.putfield 421, 3) := dk_181 1 165 (dk_at dksX0_mends_1 9 rfl rfl)
theorem dX0_mends_36 : decode cX0_mends 36 = .ok (.aload_n 0, 1) := dk_42 (dk_at dksX0_mends_1 12 rfl rfl)
theorem dX0_mends_37 : decode cX0_mends 37 = .ok (.getfield 190, 3) := dk_180 0 190 (dk_at dksX0_mends_1 13 rfl rfl)
theorem dX0_mends_40 : decode cX0_mends 40 = .ok (.iconst 0, 1) := dk_3 (dk_at dksX0_mends_1 16 rfl rfl)
theorem dX0_mends_41 : decode cX0_mends 41 = .ok (.iload_n 2, 1) := dk_28 (dk_at dksX0_mends_1 17 rfl rfl)
theorem dX0_mends_42 : decode cX0_mends 42 = .ok (.iastore, 1) := dk_79 (dk_at dksX0_mends_1 18 rfl rfl)
theorem dX0_mends_43 : decode cX0_mends 43 = .ok (.aload_n 0, 1) := dk_42 (dk_at dksX0_mends_1 19 rfl rfl)
theorem dX0_mends_44 : decode cX0_mends 44 = .ok (.getfield 193, 3) := dk_180 0 193 (dk_at dksX0_mends_1 20 rfl rfl)
theorem dX0_mends_47 : decode cX0_mends 47 = .ok (.iconst 0, 1) := dk_3 (dk_at dksX0_mends_1 23 rfl rfl)
theorem dX0_mends_48 : decode cX0_mends 48 = .ok (.iconst (-1), 1) := dk_2 (dk_at dksX0_mends_2 0 rfl rfl)
theorem dX0_mends_49 : decode cX0_mends 49 = .ok (.iastore, 1) := dk_79 (dk_at dksX0_mends_2 1 rfl rfl)
theorem dX0_mends_50 : decode cX0_mends 50 = .ok (.iconst 0, 1) := dk_3 (dk_at dksX0_mends_2 2 rfl rfl)
theorem dX0_mends_51 : decode cX0_mends 51 = .ok (.istore_n 3, 1) := dk_62 (dk_at dksX0_mends_2 3 rfl rfl)
theorem dX0_mends_52 : decode cX0_mends 52 = .ok (.iload_n 3, 1) := dk_29 (dk_at dksX0_mends_2 4 rfl rfl)
theorem dX0_mends_53 : decode cX0_mends 53 = .ok (.aload_n 0, 1) := dk_42 (dk_at dksX0_mends_2 5 rfl rfl)
theorem dX0_mends_54 : decode cX0_mends 54 = .ok (.getfield 421, 3) := dk_180 1 165 (dk_at dksX0_mends_2 6 rfl rfl)
theorem dX0_mends_57 : decode cX0_mends 57 = .ok (.if_icmp .ge 124, 3) := dk_162 0 124 (dk_at dksX0_mends_2 9 rfl rfl)
theorem dX0_mends_60 : decode cX0_mends 60 = .ok (.aload_n 0, 1) := dk_42 (dk_at dksX0_mends_2 12 rfl rfl)
theorem dX0_mends_61 : decode cX0_mends 61 = .ok (.getfield 190, 3) := dk_180 0 190 (dk_at dksX0_mends_2 13 rfl rfl)
theorem dX0_mends_64 : decode cX0_mends 64 = .ok (.iload_n 3, 1) := dk_29 (dk_at dksX0_mends_2 16 rfl rfl)
theorem dX0_mends_65 : decode cX0_mends 65 = .ok (.iaload, 1) := dk_46 (dk_at dksX0_mends_2 17 rfl rfl)
theorem dX0_mends_66 : decode cX0_mends 66 = .ok (.aload_n 1, 1) := dk_43 (dk_at dksX0_mends_2 18 rfl rfl)
theorem dX0_mends_67 : decode cX0_mends 67 = .ok (.getfield 254, 3) := dk_180 0 254 (dk_at dksX0_mends_2 19 rfl rfl)
theorem dX0_mends_70 : decode cX0_mends 70 = .ok (.invokestatic 424, 3) := dk_184 1 168 (dk_at dksX0_mends_3 0 rfl rfl)
theorem dX0_mends_73 : decode cX0_mends 73 = .ok (.ifCond .eq 5, 3) := dk_153 0 5 (dk_at dksX0_mends_3 3 rfl rfl)
theorem dX0_mends_76 : decode cX0_mends 76 = .ok (.iload_n 3, 1) := dk_29 (dk_at dksX0_mends_3 6 rfl rfl)
theorem dX0_mends_77 : decode cX0_mends 77 = .ok (.ireturn, 1) := dk_172 (dk_at dksX0_mends_3 7 rfl rfl)
theorem dX0_mends_78 : decode cX0_mends 78 = .ok (.iconst 0, 1) := dk_3 (dk_at dksX0_mends_3 8 rfl rfl)
theorem dX0_mends_79 : decode cX0_mends 79 = .ok (.istore 4, 2) := dk_54 4 (dk_at dksX0_mends_3 9 rfl rfl)
theorem dX0_mends_81 : decode cX0_mends 81 = .ok (.iload 4, 2) := dk_21 4 (dk_at dksX0_mends_3 11 rfl rfl)
theorem dX0_mends_83 : decode cX0_mends 83 = .ok (.iconst 1, 1) := dk_4 (dk_at dksX0_mends_3 13 rfl rfl)
theorem dX0_mends_84 : decode cX0_mends 84 = .ok (.iadd, 1) := dk_96 (dk_at dksX0_mends_3 14 rfl rfl)
theorem dX0_mends_85 : decode cX0_mends 85 = .ok (.aload_n 1, 1) := dk_43 (dk_at dksX0_mends_3 15 rfl rfl)
theorem dX0_mends_86 : decode cX0_mends 86 = .ok (.getfield 254, 3) := dk_180 0 254 (dk_at dksX0_mends_3 16 rfl rfl)
theorem dX0_mends_89 : decode cX0_mends 89 = .ok (.if_icmp .ge 86, 3) := dk_162 0 86 (dk_at dksX0_mends_3 19 rfl rfl)
theorem dX0_mends_92 : decode cX0_mends 92 = .ok (.aload_n 0, 1) := dk_42 (dk_at dksX0_mends_3 22 rfl rfl)
theorem dX0_mends_93 : decode cX0_mends 93 = .ok (.getfield 190, 3) := dk_180 0 190 (dk_at dksX0_mends_4 0 rfl rfl)
theorem dX0_mends_96 : decode cX0_mends 96 = .ok (.iload_n 3, 1) := dk_29 (dk_at dksX0_mends_4 3 rfl rfl)
theorem dX0_mends_97 : decode cX0_mends 97 = .ok (.iaload, 1) := dk_46 (dk_at dksX0_mends_4 4 rfl rfl)
theorem dX0_mends_98 : decode cX0_mends 98 = .ok (.aload_n 0, 1) := dk_42 (dk_at dksX0_mends_4 5 rfl rfl)
theorem dX0_mends_99 : decode cX0_mends 99 = .ok (.getfield 205, 3) := dk_180 0 205 (dk_at dksX0_mends_4 6 rfl rfl)
theorem dX0_mends_102 : decode cX0_mends 102 = .ok (.iload 4, 2) := dk_21 4 (dk_at dksX0_mends_4 9 rfl rfl)
theorem dX0_mends_104 : decode cX0_mends 104 = .ok (.aaload, 1) := dk_50 (dk_at dksX0_mends_4 11 rfl rfl)
theorem dX0_mends_105 : decode cX0_mends 105 = .ok (.aload_n 1, 1) := dk_43 (dk_at dksX0_mends_4 12 rfl rfl)
theorem dX0_mends_106 : decode cX0_mends 106 = .ok (.getfield 254, 3) := dk_180 0 254 (dk_at dksX0_mends_4 13 rfl rfl)
theorem dX0_mends_109 : decode cX0_mends 109 = .ok (.invokestatic 427, 3) := dk_184 1 171 (dk_at dksX0_mends_4 16 rfl rfl)
theorem dX0_mends_112 : decode cX0_mends 112 = .ok (.istore 5, 2) := dk_54 5 (dk_at dksX0_mends_4 19 rfl rfl)
theorem dX0_mends_114 : decode cX0_mends 114 = .ok (.aload_n 0, 1) := dk_42 (dk_at dksX0_mends_4 21 rfl rfl)
theorem dX0_mends_115 : decode cX0_mends 115 = .ok (.iload 5, 2) := dk_21 5 (dk_at dksX0_mends_4 22 rfl rfl)
theorem dX0_mends_117 : decode cX0_mends 117 = .ok (.invokevirtual 431, 3) := dk_182 1 175 (dk_at dksX0_mends_5 0 rfl rfl)
theorem dX0_mends_120 : decode cX0_mends 120 = .ok (.ifCond .eq 6, 3) := dk_153 0 6 (dk_at dksX0_mends_5 3 rfl rfl)
theorem dX0_mends_123 : decode cX0_mends 123 = .ok (.goto 46, 3) := dk_167 0 46 (dk_at dksX0_mends_5 6 rfl rfl)
theorem dX0_mends_126 : decode cX0_mends 126 = .ok (.aload_n 0, 1) := dk_42 (dk_at dksX0_mends_5 9 rfl rfl)
theorem dX0_mends_127 : decode cX0_mends 127 = .ok (.getfield 190, 3) := dk_180 0 190 (dk_at dksX0_mends_5 10 rfl rfl)
theorem dX0_mends_130 : decode cX0_mends 130 = .ok (.aload_n 0, 1) := dk_42 (dk_at dksX0_mends_5 13 rfl rfl)
theorem dX0_mends_131 : decode cX0_mends 131 = .ok (.getfield 421, 3) := dk_180 1 165 (dk_at dksX0_mends_5 14 rfl rfl)
theorem dX0_mends_134 : decode cX0_mends 134 = .ok (.iload 5, 2) := dk_21 5 (dk_at dksX0_mends_5 17 rfl rfl)
theorem dX0_mends_136 : decode cX0_mends 136 = .ok (.iastore, 1) := dk_79 (dk_at dksX0_mends_5 19 rfl rfl)
theorem dX0_mends_137 : decode cX0_mends 137 = .ok (.aload_n 0, 1) := dk_42 (dk_at dksX0_mends_5 20 rfl rfl)
theorem dX0_mends_138 : decode cX0_mends 138 = .ok (.getfield 193, 3) := dk_180 0 193 (dk_at dksX0_mends_5 21 rfl rfl)
theorem dX0_mends_141 : decode cX0_mends 141 = .ok (.aload_n 0, 1) := dk_42 (dk_at dksX0_mends_6 0 rfl rfl)
theorem dX0_mends_142 : decode cX0_mends 142 = .ok (.getfield 421, 3) := dk_180 1 165 (dk_at dksX0_mends_6 1 rfl rfl)
theorem dX0_mends_145 : decode cX0_mends 145 = .ok (.iload_n 3, 1) := dk_29 (dk_at dksX0_mends_6 4 rfl rfl)
theorem dX0_mends_146 : decode cX0_mends 146 = .ok (.iastore, 1) := dk_79 (dk_at dksX0_mends_6 5 rfl rfl)
theorem dX0_mends_147 : decode cX0_mends 147 = .ok (.aload_n 0, 1) := dk_42 (dk_at dksX0_mends_6 6 rfl rfl)
theorem dX0_mends_148 : decode cX0_mends 148 = .ok (.getfield 196, 3) := dk_180 0 196 (dk_at dksX0_mends_6 7 rfl rfl)
theorem dX0_mends_151 : decode cX0_mends 151 = .ok (.aload_n 0, 1) := dk_42 (dk_at dksX0_mends_6 10 rfl rfl)
theorem dX0_mends_152 : decode cX0_mends 152 = .ok (.getfield 421, 3) := dk_180 1 165 (dk_at dksX0_mends_6 11 rfl rfl)
theorem dX0_mends_155 : decode cX0_mends 155 = .ok (.iload 4, 2) := dk_21 4 (dk_at dksX0_mends_6 14 rfl rfl)
theorem dX0_mends_157 : decode cX0_mends 157 = .ok (.i2b, 1) := dk_145 (dk_at dksX0_mends_6 16 rfl rfl)
theorem dX0_mends_158 : decode cX0_mends 158 = .ok (.bastore, 1) := dk_84 (dk_at dksX0_mends_6 17 rfl rfl)
theorem dX0_mends_159 : decode cX0_mends 159 = .ok (.aload_n 0, 1) := dk_42 (dk_at dksX0_mends_6 18 rfl rfl)
theorem dX0_mends_160 : decode cX0_mends 160 = .ok (.dup, 1) := dk_89 (dk_at dksX0_mends_6 19 rfl rfl)
theorem dX0_mends_161 : decode cX0_mends 161 = .ok (.getfield 421, 3) := dk_180 1 165 (dk_at dksX0_mends_6 20 rfl rfl)
theorem dX0_mends_164 : decode cX0_mends 164 = .ok (.iconst 1, 1) := dk_4 (dk_at dksX0_mends_6 23 rfl rfl)
theorem dX0_mends_165 : decode cX0_mends 165 = .ok (.iadd, 1) := dk_96 (dk_at dksX0_mends_7 0 rfl rfl)
theorem dX0_mends_166 : decode cX0_mends 166 = .ok (.putfield 421, 3) := dk_181 1 165 (dk_at dksX0_mends_7 1 rfl rfl)
theorem dX0_mends_169 : decode cX0_mends 169 = .ok (.iinc 4 1, 3) := dk_132 4 1 (dk_at dksX0_mends_7 4 rfl rfl)
theorem dX0_mends_172 : decode cX0_mends 172 = .ok (.goto (-91), 3) := dk_167 255 165 (dk_at dksX0_mends_7 7 rfl rfl)
theorem dX0_mends_175 : decode cX0_mends 175 = .ok (.iinc 3 1, 3) := dk_132 3 1 (dk_at dksX0_mends_7 10 rfl rfl)
theorem dX0_mends_178 : decode cX0_mends 178 = .ok (.goto (-126), 3) := dk_167 255 130 (dk_at dksX0_mends_7 13 rfl rfl)
theorem dX0_mends_181 : decode cX0_mends 181 = .ok (.iconst (-1), 1) := dk_2 (dk_at dksX0_mends_7 16 rfl rfl)
theorem dX0_mends_182 : decode cX0_mends 182 = .ok (.ireturn, 1) := dk_172 (dk_at dksX0_mends_7 17 rfl rfl)
abbrev cX0_areSorted : ByteArray := prog_1_method_75_code
def yX0_areSorted : MethodName := ⟨RX0, "areSorted", "(II)Z"⟩
def dkwX0_areSorted_1 : List UInt8 := [154, 0, 5, 3, 172, 132, 2, 1, 167, 255, 227, 4, 172]
abbrev dktX0_areSorted_1 : List UInt8 := dkwX0_areSorted_1 ++ []
def dkwX0_areSorted_0 : List UInt8 := [3, 61, 28, 4, 27, 120, 162, 0, 28, 26, 28, 124, 4, 126, 4, 160, 0, 13, 28, 27, 184, 1, 155]
abbrev dktX0_areSorted_0 : List UInt8 := dkwX0_areSorted_0 ++ dktX0_areSorted_1
theorem dksX0_areSorted_0 : cX0_areSorted.data.toList.drop 0 = dktX0_areSorted_0 := by decide +kernel
theorem dksX0_areSorted_1 : cX0_areSorted.data.toList.drop 23 = dktX0_areSorted_1 := dk_seg dksX0_areSorted_0 23 rfl rfl
theorem dX0_areSorted_0 : decode cX0_areSorted 0 = .ok (.iconst 0, 1) := dk_3 (dk_at dksX0_areSorted_0 0 rfl rfl)
theorem dX0_areSorted_1 : decode cX0_areSorted 1 = .ok (.istore_n 2, 1) := dk_61 (dk_at dksX0_areSorted_0 1 rfl rfl)
theorem dX0_areSorted_2 : decode cX0_areSorted 2 = .ok (.iload_n 2, 1) := dk_28 (dk_at dksX0_areSorted_0 2 rfl rfl)
theorem dX0_areSorted_3 : decode cX0_areSorted 3 = .ok (.iconst 1, 1) := dk_4 (dk_at dksX0_areSorted_0 3 rfl rfl)
theorem dX0_areSorted_4 : decode cX0_areSorted 4 = .ok (.iload_n 1, 1) := dk_27 (dk_at dksX0_areSorted_0 4 rfl rfl)
theorem dX0_areSorted_5 : decode cX0_areSorted 5 = .ok (.ishl, 1) := dk_120 (dk_at dksX0_areSorted_0 5 rfl rfl)
theorem dX0_areSorted_6 : decode cX0_areSorted 6 = .ok (.if_icmp .ge 28, 3) := dk_162 0 28 (dk_at dksX0_areSorted_0 6 rfl rfl)
theorem dX0_areSorted_9 : decode cX0_areSorted 9 = .ok (.iload_n 0, 1) := dk_26 (dk_at dksX0_areSorted_0 9 rfl rfl)
theorem dX0_areSorted_10 : decode cX0_areSorted 10 = .ok (.iload_n 2, 1) := dk_28 (dk_at dksX0_areSorted_0 10 rfl rfl)
theorem dX0_areSorted_11 : decode cX0_areSorted 11 = .ok (.iushr, 1) := dk_124 (dk_at dksX0_areSorted_0 11 rfl rfl)
theorem dX0_areSorted_12 : decode cX0_areSorted 12 = .ok (.iconst 1, 1) := dk_4 (dk_at dksX0_areSorted_0 12 rfl rfl)
theorem dX0_areSorted_13 : decode cX0_areSorted 13 = .ok (.iand, 1) := dk_126 (dk_at dksX0_areSorted_0 13 rfl rfl)
theorem dX0_areSorted_14 : decode cX0_areSorted 14 = .ok (.iconst 1, 1) := dk_4 (dk_at dksX0_areSorted_0 14 rfl rfl)
theorem dX0_areSorted_15 : decode cX0_areSorted 15 = .ok (.if_icmp .ne 13, 3) := dk_160 0 13 (dk_at dksX0_areSorted_0 15 rfl rfl)
theorem dX0_areSorted_18 : decode cX0_areSorted 18 = .ok (.iload_n 2, 1) := dk_28 (dk_at dksX0_areSorted_0 18 rfl rfl)
theorem dX0_areSorted_19 : decode cX0_areSorted 19 = .ok (.iload_n 1, 1) := dk_27 (dk_at dksX0_areSorted_0 19 rfl rfl)
theorem dX0_areSorted_20 : decode cX0_areSorted 20 = .ok (.invokestatic 411, 3) := dk_184 1 155 (dk_at dksX0_areSorted_0 20 rfl rfl)
theorem dX0_areSorted_23 : decode cX0_areSorted 23 = .ok (.ifCond .ne 5, 3) := dk_154 0 5 (dk_at dksX0_areSorted_1 0 rfl rfl)
theorem dX0_areSorted_26 : decode cX0_areSorted 26 = .ok (.iconst 0, 1) := dk_3 (dk_at dksX0_areSorted_1 3 rfl rfl)
theorem dX0_areSorted_27 : decode cX0_areSorted 27 = .ok (.ireturn, 1) := dk_172 (dk_at dksX0_areSorted_1 4 rfl rfl)
theorem dX0_areSorted_28 : decode cX0_areSorted 28 = .ok (.iinc 2 1, 3) := dk_132 2 1 (dk_at dksX0_areSorted_1 5 rfl rfl)
theorem dX0_areSorted_31 : decode cX0_areSorted 31 = .ok (.goto (-29), 3) := dk_167 255 227 (dk_at dksX0_areSorted_1 8 rfl rfl)
theorem dX0_areSorted_34 : decode cX0_areSorted 34 = .ok (.iconst 1, 1) := dk_4 (dk_at dksX0_areSorted_1 11 rfl rfl)
theorem dX0_areSorted_35 : decode cX0_areSorted 35 = .ok (.ireturn, 1) := dk_172 (dk_at dksX0_areSorted_1 12 rfl rfl)
abbrev cX0_setAfter : ByteArray := prog_1_method_74_code
def yX0_setAfter : MethodName := ⟨RX0, "setAfter", "(ILLadderLots$Step;I)I"⟩
def dkwX0_setAfter_1 : List UInt8 := [4, 43, 21, 4, 184, 1, 146, 120, 128, 62, 132, 4, 1, 167, 255, 224, 29, 172]
abbrev dktX0_setAfter_1 : List UInt8 := dkwX0_setAfter_1 ++ []
def dkwX0_setAfter_0 : List UInt8 := [3, 62, 3, 54, 4, 21, 4, 4, 28, 120, 162, 0, 30, 26, 21, 4, 124, 4, 126, 4, 160, 0, 14, 29]
abbrev dktX0_setAfter_0 : List UInt8 := dkwX0_setAfter_0 ++ dktX0_setAfter_1
theorem dksX0_setAfter_0 : cX0_setAfter.data.toList.drop 0 = dktX0_setAfter_0 := by decide +kernel
theorem dksX0_setAfter_1 : cX0_setAfter.data.toList.drop 24 = dktX0_setAfter_1 := dk_seg dksX0_setAfter_0 24 rfl rfl
theorem dX0_setAfter_0 : decode cX0_setAfter 0 = .ok (.iconst 0, 1) := dk_3 (dk_at dksX0_setAfter_0 0 rfl rfl)
theorem dX0_setAfter_1 : decode cX0_setAfter 1 = .ok (.istore_n 3, 1) := dk_62 (dk_at dksX0_setAfter_0 1 rfl rfl)
theorem dX0_setAfter_2 : decode cX0_setAfter 2 = .ok (.iconst 0, 1) := dk_3 (dk_at dksX0_setAfter_0 2 rfl rfl)
theorem dX0_setAfter_3 : decode cX0_setAfter 3 = .ok (.istore 4, 2) := dk_54 4 (dk_at dksX0_setAfter_0 3 rfl rfl)
theorem dX0_setAfter_5 : decode cX0_setAfter 5 = .ok (.iload 4, 2) := dk_21 4 (dk_at dksX0_setAfter_0 5 rfl rfl)
theorem dX0_setAfter_7 : decode cX0_setAfter 7 = .ok (.iconst 1, 1) := dk_4 (dk_at dksX0_setAfter_0 7 rfl rfl)
theorem dX0_setAfter_8 : decode cX0_setAfter 8 = .ok (.iload_n 2, 1) := dk_28 (dk_at dksX0_setAfter_0 8 rfl rfl)
theorem dX0_setAfter_9 : decode cX0_setAfter 9 = .ok (.ishl, 1) := dk_120 (dk_at dksX0_setAfter_0 9 rfl rfl)
theorem dX0_setAfter_10 : decode cX0_setAfter 10 = .ok (.if_icmp .ge 30, 3) := dk_162 0 30 (dk_at dksX0_setAfter_0 10 rfl rfl)
theorem dX0_setAfter_13 : decode cX0_setAfter 13 = .ok (.iload_n 0, 1) := dk_26 (dk_at dksX0_setAfter_0 13 rfl rfl)
theorem dX0_setAfter_14 : decode cX0_setAfter 14 = .ok (.iload 4, 2) := dk_21 4 (dk_at dksX0_setAfter_0 14 rfl rfl)
theorem dX0_setAfter_16 : decode cX0_setAfter 16 = .ok (.iushr, 1) := dk_124 (dk_at dksX0_setAfter_0 16 rfl rfl)
theorem dX0_setAfter_17 : decode cX0_setAfter 17 = .ok (.iconst 1, 1) := dk_4 (dk_at dksX0_setAfter_0 17 rfl rfl)
theorem dX0_setAfter_18 : decode cX0_setAfter 18 = .ok (.iand, 1) := dk_126 (dk_at dksX0_setAfter_0 18 rfl rfl)
theorem dX0_setAfter_19 : decode cX0_setAfter 19 = .ok (.iconst 1, 1) := dk_4 (dk_at dksX0_setAfter_0 19 rfl rfl)
theorem dX0_setAfter_20 : decode cX0_setAfter 20 = .ok (.if_icmp .ne 14, 3) := dk_160 0 14 (dk_at dksX0_setAfter_0 20 rfl rfl)
theorem dX0_setAfter_23 : decode cX0_setAfter 23 = .ok (.iload_n 3, 1) := dk_29 (dk_at dksX0_setAfter_0 23 rfl rfl)
theorem dX0_setAfter_24 : decode cX0_setAfter 24 = .ok (.iconst 1, 1) := dk_4 (dk_at dksX0_setAfter_1 0 rfl rfl)
theorem dX0_setAfter_25 : decode cX0_setAfter 25 = .ok (.aload_n 1, 1) := dk_43 (dk_at dksX0_setAfter_1 1 rfl rfl)
theorem dX0_setAfter_26 : decode cX0_setAfter 26 = .ok (.iload 4, 2) := dk_21 4 (dk_at dksX0_setAfter_1 2 rfl rfl)
theorem dX0_setAfter_28 : decode cX0_setAfter 28 = .ok (.invokestatic 402, 3) := dk_184 1 146 (dk_at dksX0_setAfter_1 4 rfl rfl)
theorem dX0_setAfter_31 : decode cX0_setAfter 31 = .ok (.ishl, 1) := dk_120 (dk_at dksX0_setAfter_1 7 rfl rfl)
theorem dX0_setAfter_32 : decode cX0_setAfter 32 = .ok (.ior, 1) := dk_128 (dk_at dksX0_setAfter_1 8 rfl rfl)
theorem dX0_setAfter_33 : decode cX0_setAfter 33 = .ok (.istore_n 3, 1) := dk_62 (dk_at dksX0_setAfter_1 9 rfl rfl)
theorem dX0_setAfter_34 : decode cX0_setAfter 34 = .ok (.iinc 4 1, 3) := dk_132 4 1 (dk_at dksX0_setAfter_1 10 rfl rfl)
theorem dX0_setAfter_37 : decode cX0_setAfter 37 = .ok (.goto (-32), 3) := dk_167 255 224 (dk_at dksX0_setAfter_1 13 rfl rfl)
theorem dX0_setAfter_40 : decode cX0_setAfter 40 = .ok (.iload_n 3, 1) := dk_29 (dk_at dksX0_setAfter_1 16 rfl rfl)
theorem dX0_setAfter_41 : decode cX0_setAfter 41 = .ok (.ireturn, 1) := dk_172 (dk_at dksX0_setAfter_1 17 rfl rfl)
abbrev cX0_isFound : ByteArray := prog_1_method_76_code
def yX0_isFound : MethodName := ⟨RX0, "isFound", "(I)Z"⟩
def dkwX0_isFound_1 : List UInt8 := [132, 2, 1, 167, 255, 233, 3, 172]
abbrev dktX0_isFound_1 : List UInt8 := dkwX0_isFound_1 ++ []
def dkwX0_isFound_0 : List UInt8 := [3, 61, 28, 42, 180, 1, 165, 162, 0, 21, 42, 180, 0, 190, 28, 46, 27, 160, 0, 5, 4, 172]
abbrev dktX0_isFound_0 : List UInt8 := dkwX0_isFound_0 ++ dktX0_isFound_1
theorem dksX0_isFound_0 : cX0_isFound.data.toList.drop 0 = dktX0_isFound_0 := by decide +kernel
theorem dksX0_isFound_1 : cX0_isFound.data.toList.drop 22 = dktX0_isFound_1 := dk_seg dksX0_isFound_0 22 rfl rfl
theorem dX0_isFound_0 : decode cX0_isFound 0 = .ok (.iconst 0, 1) := dk_3 (dk_at dksX0_isFound_0 0 rfl rfl)
theorem dX0_isFound_1 : decode cX0_isFound 1 = .ok (.istore_n 2, 1) := dk_61 (dk_at dksX0_isFound_0 1 rfl rfl)
theorem dX0_isFound_2 : decode cX0_isFound 2 = .ok (.iload_n 2, 1) := dk_28 (dk_at dksX0_isFound_0 2 rfl rfl)
theorem dX0_isFound_3 : decode cX0_isFound 3 = .ok (.aload_n 0, 1) := dk_42 (dk_at dksX0_isFound_0 3 rfl rfl)
theorem dX0_isFound_4 : decode cX0_isFound 4 = .ok (.getfield 421, 3) := dk_180 1 165 (dk_at dksX0_isFound_0 4 rfl rfl)
theorem dX0_isFound_7 : decode cX0_isFound 7 = .ok (.if_icmp .ge 21, 3) := dk_162 0 21 (dk_at dksX0_isFound_0 7 rfl rfl)
theorem dX0_isFound_10 : decode cX0_isFound 10 = .ok (.aload_n 0, 1) := dk_42 (dk_at dksX0_isFound_0 10 rfl rfl)
theorem dX0_isFound_11 : decode cX0_isFound 11 = .ok (.getfield 190, 3) := dk_180 0 190 (dk_at dksX0_isFound_0 11 rfl rfl)
theorem dX0_isFound_14 : decode cX0_isFound 14 = .ok (.iload_n 2, 1) := dk_28 (dk_at dksX0_isFound_0 14 rfl rfl)
theorem dX0_isFound_15 : decode cX0_isFound 15 = .ok (.iaload, 1) := dk_46 (dk_at dksX0_isFound_0 15 rfl rfl)
theorem dX0_isFound_16 : decode cX0_isFound 16 = .ok (.iload_n 1, 1) := dk_27 (dk_at dksX0_isFound_0 16 rfl rfl)
theorem dX0_isFound_17 : decode cX0_isFound 17 = .ok (.if_icmp .ne 5, 3) := dk_160 0 5 (dk_at dksX0_isFound_0 17 rfl rfl)
theorem dX0_isFound_20 : decode cX0_isFound 20 = .ok (.iconst 1, 1) := dk_4 (dk_at dksX0_isFound_0 20 rfl rfl)
theorem dX0_isFound_21 : decode cX0_isFound 21 = .ok (.ireturn, 1) := dk_172 (dk_at dksX0_isFound_0 21 rfl rfl)
theorem dX0_isFound_22 : decode cX0_isFound 22 = .ok (.iinc 2 1, 3) := dk_132 2 1 (dk_at dksX0_isFound_1 0 rfl rfl)
theorem dX0_isFound_25 : decode cX0_isFound 25 = .ok (.goto (-23), 3) := dk_167 255 233 (dk_at dksX0_isFound_1 3 rfl rfl)
theorem dX0_isFound_28 : decode cX0_isFound 28 = .ok (.iconst 0, 1) := dk_3 (dk_at dksX0_isFound_1 6 rfl rfl)
theorem dX0_isFound_29 : decode cX0_isFound 29 = .ok (.ireturn, 1) := dk_172 (dk_at dksX0_isFound_1 7 rfl rfl)
abbrev cX0_gatesTo : ByteArray := prog_1_method_78_code
def yX0_gatesTo : MethodName := ⟨RX0, "gatesTo", "(I)I"⟩
def dkwX0_gatesTo_1 : List UInt8 := [167, 255, 236, 28, 172]
abbrev dktX0_gatesTo_1 : List UInt8 := dkwX0_gatesTo_1 ++ []
def dkwX0_gatesTo_0 : List UInt8 := [3, 61, 27, 62, 42, 180, 0, 193, 29, 46, 2, 159, 0, 16, 132, 2, 1, 42, 180, 0, 193, 29, 46, 62]
abbrev dktX0_gatesTo_0 : List UInt8 := dkwX0_gatesTo_0 ++ dktX0_gatesTo_1
theorem dksX0_gatesTo_0 : cX0_gatesTo.data.toList.drop 0 = dktX0_gatesTo_0 := by decide +kernel
theorem dksX0_gatesTo_1 : cX0_gatesTo.data.toList.drop 24 = dktX0_gatesTo_1 := dk_seg dksX0_gatesTo_0 24 rfl rfl
theorem dX0_gatesTo_0 : decode cX0_gatesTo 0 = .ok (.iconst 0, 1) := dk_3 (dk_at dksX0_gatesTo_0 0 rfl rfl)
theorem dX0_gatesTo_1 : decode cX0_gatesTo 1 = .ok (.istore_n 2, 1) := dk_61 (dk_at dksX0_gatesTo_0 1 rfl rfl)
theorem dX0_gatesTo_2 : decode cX0_gatesTo 2 = .ok (.iload_n 1, 1) := dk_27 (dk_at dksX0_gatesTo_0 2 rfl rfl)
theorem dX0_gatesTo_3 : decode cX0_gatesTo 3 = .ok (.istore_n 3, 1) := dk_62 (dk_at dksX0_gatesTo_0 3 rfl rfl)
theorem dX0_gatesTo_4 : decode cX0_gatesTo 4 = .ok (.aload_n 0, 1) := dk_42 (dk_at dksX0_gatesTo_0 4 rfl rfl)
theorem dX0_gatesTo_5 : decode cX0_gatesTo 5 = .ok (.getfield 193, 3) := dk_180 0 193 (dk_at dksX0_gatesTo_0 5 rfl rfl)
theorem dX0_gatesTo_8 : decode cX0_gatesTo 8 = .ok (.iload_n 3, 1) := dk_29 (dk_at dksX0_gatesTo_0 8 rfl rfl)
theorem dX0_gatesTo_9 : decode cX0_gatesTo 9 = .ok (.iaload, 1) := dk_46 (dk_at dksX0_gatesTo_0 9 rfl rfl)
theorem dX0_gatesTo_10 : decode cX0_gatesTo 10 = .ok (.iconst (-1), 1) := dk_2 (dk_at dksX0_gatesTo_0 10 rfl rfl)
theorem dX0_gatesTo_11 : decode cX0_gatesTo 11 = .ok (.if_icmp .eq 16, 3) := dk_159 0 16 (dk_at dksX0_gatesTo_0 11 rfl rfl)
theorem dX0_gatesTo_14 : decode cX0_gatesTo 14 = .ok (.iinc 2 1, 3) := dk_132 2 1 (dk_at dksX0_gatesTo_0 14 rfl rfl)
theorem dX0_gatesTo_17 : decode cX0_gatesTo 17 = .ok (.aload_n 0, 1) := dk_42 (dk_at dksX0_gatesTo_0 17 rfl rfl)
theorem dX0_gatesTo_18 : decode cX0_gatesTo 18 = .ok (.getfield 193, 3) := dk_180 0 193 (dk_at dksX0_gatesTo_0 18 rfl rfl)
theorem dX0_gatesTo_21 : decode cX0_gatesTo 21 = .ok (.iload_n 3, 1) := dk_29 (dk_at dksX0_gatesTo_0 21 rfl rfl)
theorem dX0_gatesTo_22 : decode cX0_gatesTo 22 = .ok (.iaload, 1) := dk_46 (dk_at dksX0_gatesTo_0 22 rfl rfl)
theorem dX0_gatesTo_23 : decode cX0_gatesTo 23 = .ok (.istore_n 3, 1) := dk_62 (dk_at dksX0_gatesTo_0 23 rfl rfl)
theorem dX0_gatesTo_24 : decode cX0_gatesTo 24 = .ok (.goto (-20), 3) := dk_167 255 236 (dk_at dksX0_gatesTo_1 0 rfl rfl)
theorem dX0_gatesTo_27 : decode cX0_gatesTo 27 = .ok (.iload_n 2, 1) := dk_28 (dk_at dksX0_gatesTo_1 3 rfl rfl)
theorem dX0_gatesTo_28 : decode cX0_gatesTo 28 = .ok (.ireturn, 1) := dk_172 (dk_at dksX0_gatesTo_1 4 rfl rfl)
abbrev cX0_mendAt : ByteArray := prog_1_method_80_code
def yX0_mendAt : MethodName := ⟨RX0, "mendAt", "(II)I"⟩
def dkwX0_mendAt_4 : List UInt8 := [180, 0, 196, 29, 51, 172]
abbrev dktX0_mendAt_4 : List UInt8 := dkwX0_mendAt_4 ++ []
def dkwX0_mendAt_3 : List UInt8 := [54, 5, 21, 5, 28, 164, 0, 16, 42, 180, 0, 193, 29, 46, 62, 132, 5, 255, 167, 255, 240, 42]
abbrev dktX0_mendAt_3 : List UInt8 := dkwX0_mendAt_3 ++ dktX0_mendAt_4
def dkwX0_mendAt_2 : List UInt8 := [182, 1, 181, 54, 4, 28, 3, 21, 4, 4, 100, 184, 0, 3, 154, 0, 5, 2, 172, 21, 4, 4, 100]
abbrev dktX0_mendAt_2 : List UInt8 := dkwX0_mendAt_2 ++ dktX0_mendAt_3
def dkwX0_mendAt_1 : List UInt8 := [164, 0, 5, 2, 172, 42, 42, 180, 0, 148, 27, 182, 0, 250, 192, 0, 242, 182, 1, 178, 62, 42, 29]
abbrev dktX0_mendAt_1 : List UInt8 := dkwX0_mendAt_1 ++ dktX0_mendAt_2
def dkwX0_mendAt_0 : List UInt8 := [42, 27, 182, 1, 158, 155, 0, 21, 42, 180, 0, 148, 27, 182, 0, 250, 192, 0, 242, 180, 0, 254, 8]
abbrev dktX0_mendAt_0 : List UInt8 := dkwX0_mendAt_0 ++ dktX0_mendAt_1
theorem dksX0_mendAt_0 : cX0_mendAt.data.toList.drop 0 = dktX0_mendAt_0 := by decide +kernel
theorem dksX0_mendAt_1 : cX0_mendAt.data.toList.drop 23 = dktX0_mendAt_1 := dk_seg dksX0_mendAt_0 23 rfl rfl
theorem dksX0_mendAt_2 : cX0_mendAt.data.toList.drop 46 = dktX0_mendAt_2 := dk_seg dksX0_mendAt_1 23 rfl rfl
theorem dksX0_mendAt_3 : cX0_mendAt.data.toList.drop 69 = dktX0_mendAt_3 := dk_seg dksX0_mendAt_2 23 rfl rfl
theorem dksX0_mendAt_4 : cX0_mendAt.data.toList.drop 91 = dktX0_mendAt_4 := dk_seg dksX0_mendAt_3 22 rfl rfl
theorem dX0_mendAt_0 : decode cX0_mendAt 0 = .ok (.aload_n 0, 1) := dk_42 (dk_at dksX0_mendAt_0 0 rfl rfl)
theorem dX0_mendAt_1 : decode cX0_mendAt 1 = .ok (.iload_n 1, 1) := dk_27 (dk_at dksX0_mendAt_0 1 rfl rfl)
theorem dX0_mendAt_2 : decode cX0_mendAt 2 = .ok (.invokevirtual 414, 3) := dk_182 1 158 (dk_at dksX0_mendAt_0 2 rfl rfl)
theorem dX0_mendAt_5 : decode cX0_mendAt 5 = .ok (.ifCond .lt 21, 3) := dk_155 0 21 (dk_at dksX0_mendAt_0 5 rfl rfl)
theorem dX0_mendAt_8 : decode cX0_mendAt 8 = .ok (.aload_n 0, 1) := dk_42 (dk_at dksX0_mendAt_0 8 rfl rfl)
theorem dX0_mendAt_9 : decode cX0_mendAt 9 = .ok (.getfield 148, 3) := dk_180 0 148 (dk_at dksX0_mendAt_0 9 rfl rfl)
theorem dX0_mendAt_12 : decode cX0_mendAt 12 = .ok (.iload_n 1, 1) := dk_27 (dk_at dksX0_mendAt_0 12 rfl rfl)
theorem dX0_mendAt_13 : decode cX0_mendAt 13 = .ok (.invokevirtual 250, 3) := dk_182 0 250 (dk_at dksX0_mendAt_0 13 rfl rfl)
theorem dX0_mendAt_16 : decode cX0_mendAt 16 = .ok (.checkcast 242, 3) := dk_192 0 242 (dk_at dksX0_mendAt_0 16 rfl rfl)
theorem dX0_mendAt_19 : decode cX0_mendAt 19 = .ok (.getfield 254, 3) := dk_180 0 254 (dk_at dksX0_mendAt_0 19 rfl rfl)
theorem dX0_mendAt_22 : decode cX0_mendAt 22 = .ok (.iconst 5, 1) := dk_8 (dk_at dksX0_mendAt_0 22 rfl rfl)
theorem dX0_mendAt_23 : decode cX0_mendAt 23 = .ok (.if_icmp .le 5, 3) := dk_164 0 5 (dk_at dksX0_mendAt_1 0 rfl rfl)
theorem dX0_mendAt_26 : decode cX0_mendAt 26 = .ok (.iconst (-1), 1) := dk_2 (dk_at dksX0_mendAt_1 3 rfl rfl)
theorem dX0_mendAt_27 : decode cX0_mendAt 27 = .ok (.ireturn, 1) := dk_172 (dk_at dksX0_mendAt_1 4 rfl rfl)
theorem dX0_mendAt_28 : decode cX0_mendAt 28 = .ok (.aload_n 0, 1) := dk_42 (dk_at dksX0_mendAt_1 5 rfl rfl)
theorem dX0_mendAt_29 : decode cX0_mendAt 29 = .ok (.aload_n 0, 1) := dk_42 (dk_at dksX0_mendAt_1 6 rfl rfl)
theorem dX0_mendAt_30 : decode cX0_mendAt 30 = .ok (.getfield 148, 3) := dk_180 0 148 (dk_at dksX0_mendAt_1 7 rfl rfl)
theorem dX0_mendAt_33 : decode cX0_mendAt 33 = .ok (.iload_n 1, 1) := dk_27 (dk_at dksX0_mendAt_1 10 rfl rfl)
theorem dX0_mendAt_34 : decode cX0_mendAt 34 = .ok (.invokevirtual 250, 3) := dk_182 0 250 (dk_at dksX0_mendAt_1 11 rfl rfl)
theorem dX0_mendAt_37 : decode cX0_mendAt 37 = .ok (.checkcast 242, 3) := dk_192 0 242 (dk_at dksX0_mendAt_1 14 rfl rfl)
theorem dX0_mendAt_40 : decode cX0_mendAt 40 = .ok (.invokevirtual 434, 3) := dk_182 1 178 (dk_at dksX0_mendAt_1 17 rfl rfl)
theorem dX0_mendAt_43 : decode cX0_mendAt 43 = .ok (.istore_n 3, 1) := dk_62 (dk_at dksX0_mendAt_1 20 rfl rfl)
theorem dX0_mendAt_44 : decode cX0_mendAt 44 = .ok (.aload_n 0, 1) := dk_42 (dk_at dksX0_mendAt_1 21 rfl rfl)
theorem dX0_mendAt_45 : decode cX0_mendAt 45 = .ok (.iload_n 3, 1) := dk_29 (dk_at dksX0_mendAt_1 22 rfl rfl)
theorem dX0_mendAt_46 : decode cX0_mendAt 46 = .ok (.invokevirtual 437, 3) := dk_182 1 181 (dk_at dksX0_mendAt_2 0 rfl rfl)
theorem dX0_mendAt_49 : decode cX0_mendAt 49 = .ok (.istore 4, 2) := dk_54 4 (dk_at dksX0_mendAt_2 3 rfl rfl)
theorem dX0_mendAt_51 : decode cX0_mendAt 51 = .ok (.iload_n 2, 1) := dk_28 (dk_at dksX0_mendAt_2 5 rfl rfl)
theorem dX0_mendAt_52 : decode cX0_mendAt 52 = .ok (.iconst 0, 1) := dk_3 (dk_at dksX0_mendAt_2 6 rfl rfl)
theorem dX0_mendAt_53 : decode cX0_mendAt 53 = .ok (.iload 4, 2) := dk_21 4 (dk_at dksX0_mendAt_2 7 rfl rfl)
theorem dX0_mendAt_55 : decode cX0_mendAt 55 = .ok (.iconst 1, 1) := dk_4 (dk_at dksX0_mendAt_2 9 rfl rfl)
theorem dX0_mendAt_56 : decode cX0_mendAt 56 = .ok (.isub, 1) := dk_100 (dk_at dksX0_mendAt_2 10 rfl rfl)
theorem dX0_mendAt_57 : decode cX0_mendAt 57 = .ok (.invokestatic 3, 3) := dk_184 0 3 (dk_at dksX0_mendAt_2 11 rfl rfl)
theorem dX0_mendAt_60 : decode cX0_mendAt 60 = .ok (.ifCond .ne 5, 3) := dk_154 0 5 (dk_at dksX0_mendAt_2 14 rfl rfl)
theorem dX0_mendAt_63 : decode cX0_mendAt 63 = .ok (.iconst (-1), 1) := dk_2 (dk_at dksX0_mendAt_2 17 rfl rfl)
theorem dX0_mendAt_64 : decode cX0_mendAt 64 = .ok (.ireturn, 1) := dk_172 (dk_at dksX0_mendAt_2 18 rfl rfl)
theorem dX0_mendAt_65 : decode cX0_mendAt 65 = .ok (.iload 4, 2) := dk_21 4 (dk_at dksX0_mendAt_2 19 rfl rfl)
theorem dX0_mendAt_67 : decode cX0_mendAt 67 = .ok (.iconst 1, 1) := dk_4 (dk_at dksX0_mendAt_2 21 rfl rfl)
theorem dX0_mendAt_68 : decode cX0_mendAt 68 = .ok (.isub, 1) := dk_100 (dk_at dksX0_mendAt_2 22 rfl rfl)
theorem dX0_mendAt_69 : decode cX0_mendAt 69 = .ok (.istore 5, 2) := dk_54 5 (dk_at dksX0_mendAt_3 0 rfl rfl)
theorem dX0_mendAt_71 : decode cX0_mendAt 71 = .ok (.iload 5, 2) := dk_21 5 (dk_at dksX0_mendAt_3 2 rfl rfl)
theorem dX0_mendAt_73 : decode cX0_mendAt 73 = .ok (.iload_n 2, 1) := dk_28 (dk_at dksX0_mendAt_3 4 rfl rfl)
theorem dX0_mendAt_74 : decode cX0_mendAt 74 = .ok (.if_icmp .le 16, 3) := dk_164 0 16 (dk_at dksX0_mendAt_3 5 rfl rfl)
theorem dX0_mendAt_77 : decode cX0_mendAt 77 = .ok (.aload_n 0, 1) := dk_42 (dk_at dksX0_mendAt_3 8 rfl rfl)
theorem dX0_mendAt_78 : decode cX0_mendAt 78 = .ok (.getfield 193, 3) := dk_180 0 193 (dk_at dksX0_mendAt_3 9 rfl rfl)
theorem dX0_mendAt_81 : decode cX0_mendAt 81 = .ok (.iload_n 3, 1) := dk_29 (dk_at dksX0_mendAt_3 12 rfl rfl)
theorem dX0_mendAt_82 : decode cX0_mendAt 82 = .ok (.iaload, 1) := dk_46 (dk_at dksX0_mendAt_3 13 rfl rfl)
theorem dX0_mendAt_83 : decode cX0_mendAt 83 = .ok (.istore_n 3, 1) := dk_62 (dk_at dksX0_mendAt_3 14 rfl rfl)
theorem dX0_mendAt_84 : decode cX0_mendAt 84 = .ok (.iinc 5 (-1), 3) := dk_132 5 255 (dk_at dksX0_mendAt_3 15 rfl rfl)
theorem dX0_mendAt_87 : decode cX0_mendAt 87 = .ok (.goto (-16), 3) := dk_167 255 240 (dk_at dksX0_mendAt_3 18 rfl rfl)
theorem dX0_mendAt_90 : decode cX0_mendAt 90 = .ok (.aload_n 0, 1) := dk_42 (dk_at dksX0_mendAt_3 21 rfl rfl)
theorem dX0_mendAt_91 : decode cX0_mendAt 91 = .ok (.getfield 196, 3) := dk_180 0 196 (dk_at dksX0_mendAt_4 0 rfl rfl)
theorem dX0_mendAt_94 : decode cX0_mendAt 94 = .ok (.iload_n 3, 1) := dk_29 (dk_at dksX0_mendAt_4 3 rfl rfl)
theorem dX0_mendAt_95 : decode cX0_mendAt 95 = .ok (.baload, 1) := dk_51 (dk_at dksX0_mendAt_4 4 rfl rfl)
theorem dX0_mendAt_96 : decode cX0_mendAt 96 = .ok (.ireturn, 1) := dk_172 (dk_at dksX0_mendAt_4 5 rfl rfl)
abbrev cX0_unlike : ByteArray := prog_1_method_81_code
def yX0_unlike : MethodName := ⟨RX0, "unlike", "(II)I"⟩
def dkwX0_unlike_5 : List UInt8 := [21, 6, 3, 182, 1, 84, 159, 0, 6, 132, 5, 1, 132, 6, 1, 167, 255, 218, 21, 5, 172]
abbrev dktX0_unlike_5 : List UInt8 := dkwX0_unlike_5 ++ []
def dkwX0_unlike_4 : List UInt8 := [21, 6, 42, 180, 0, 7, 180, 0, 17, 162, 0, 32, 42, 45, 21, 6, 3, 182, 1, 84, 42, 25, 4]
abbrev dktX0_unlike_4 : List UInt8 := dkwX0_unlike_4 ++ dktX0_unlike_5
def dkwX0_unlike_3 : List UInt8 := [159, 0, 6, 16, 254, 172, 42, 180, 0, 7, 45, 180, 0, 254, 182, 0, 11, 3, 54, 5, 3, 54, 6]
abbrev dktX0_unlike_3 : List UInt8 := dkwX0_unlike_3 ++ dktX0_unlike_4
def dkwX0_unlike_2 : List UInt8 := [182, 1, 158, 155, 0, 23, 42, 28, 182, 1, 158, 155, 0, 15, 45, 180, 0, 254, 25, 4, 180, 0, 254]
abbrev dktX0_unlike_2 : List UInt8 := dkwX0_unlike_2 ++ dktX0_unlike_3
def dkwX0_unlike_1 : List UInt8 := [182, 0, 250, 192, 0, 242, 78, 42, 180, 0, 148, 28, 182, 0, 250, 192, 0, 242, 58, 4, 42, 27]
abbrev dktX0_unlike_1 : List UInt8 := dkwX0_unlike_1 ++ dktX0_unlike_2
def dkwX0_unlike_0 : List UInt8 := [42, 27, 182, 0, 247, 153, 0, 11, 42, 28, 182, 0, 247, 154, 0, 5, 2, 172, 42, 180, 0, 148, 27]
abbrev dktX0_unlike_0 : List UInt8 := dkwX0_unlike_0 ++ dktX0_unlike_1
theorem dksX0_unlike_0 : cX0_unlike.data.toList.drop 0 = dktX0_unlike_0 := by decide +kernel
theorem dksX0_unlike_1 : cX0_unlike.data.toList.drop 23 = dktX0_unlike_1 := dk_seg dksX0_unlike_0 23 rfl rfl
theorem dksX0_unlike_2 : cX0_unlike.data.toList.drop 45 = dktX0_unlike_2 := dk_seg dksX0_unlike_1 22 rfl rfl
theorem dksX0_unlike_3 : cX0_unlike.data.toList.drop 68 = dktX0_unlike_3 := dk_seg dksX0_unlike_2 23 rfl rfl
theorem dksX0_unlike_4 : cX0_unlike.data.toList.drop 91 = dktX0_unlike_4 := dk_seg dksX0_unlike_3 23 rfl rfl
theorem dksX0_unlike_5 : cX0_unlike.data.toList.drop 114 = dktX0_unlike_5 := dk_seg dksX0_unlike_4 23 rfl rfl
theorem dX0_unlike_0 : decode cX0_unlike 0 = .ok (.aload_n 0, 1) := dk_42 (dk_at dksX0_unlike_0 0 rfl rfl)
theorem dX0_unlike_1 : decode cX0_unlike 1 = .ok (.iload_n 1, 1) := dk_27 (dk_at dksX0_unlike_0 1 rfl rfl)
theorem dX0_unlike_2 : decode cX0_unlike 2 = .ok (.invokevirtual 247, 3) := dk_182 0 247 (dk_at dksX0_unlike_0 2 rfl rfl)
theorem dX0_unlike_5 : decode cX0_unlike 5 = .ok (.ifCond .eq 11, 3) := dk_153 0 11 (dk_at dksX0_unlike_0 5 rfl rfl)
theorem dX0_unlike_8 : decode cX0_unlike 8 = .ok (.aload_n 0, 1) := dk_42 (dk_at dksX0_unlike_0 8 rfl rfl)
theorem dX0_unlike_9 : decode cX0_unlike 9 = .ok (.iload_n 2, 1) := dk_28 (dk_at dksX0_unlike_0 9 rfl rfl)
theorem dX0_unlike_10 : decode cX0_unlike 10 = .ok (.invokevirtual 247, 3) := dk_182 0 247 (dk_at dksX0_unlike_0 10 rfl rfl)
theorem dX0_unlike_13 : decode cX0_unlike 13 = .ok (.ifCond .ne 5, 3) := dk_154 0 5 (dk_at dksX0_unlike_0 13 rfl rfl)
theorem dX0_unlike_16 : decode cX0_unlike 16 = .ok (.iconst (-1), 1) := dk_2 (dk_at dksX0_unlike_0 16 rfl rfl)
theorem dX0_unlike_17 : decode cX0_unlike 17 = .ok (.ireturn, 1) := dk_172 (dk_at dksX0_unlike_0 17 rfl rfl)
theorem dX0_unlike_18 : decode cX0_unlike 18 = .ok (.aload_n 0, 1) := dk_42 (dk_at dksX0_unlike_0 18 rfl rfl)
theorem dX0_unlike_19 : decode cX0_unlike 19 = .ok (.getfield 148, 3) := dk_180 0 148 (dk_at dksX0_unlike_0 19 rfl rfl)
theorem dX0_unlike_22 : decode cX0_unlike 22 = .ok (.iload_n 1, 1) := dk_27 (dk_at dksX0_unlike_0 22 rfl rfl)
theorem dX0_unlike_23 : decode cX0_unlike 23 = .ok (.invokevirtual 250, 3) := dk_182 0 250 (dk_at dksX0_unlike_1 0 rfl rfl)
theorem dX0_unlike_26 : decode cX0_unlike 26 = .ok (.checkcast 242, 3) := dk_192 0 242 (dk_at dksX0_unlike_1 3 rfl rfl)
theorem dX0_unlike_29 : decode cX0_unlike 29 = .ok (.astore_n 3, 1) := dk_78 (dk_at dksX0_unlike_1 6 rfl rfl)
theorem dX0_unlike_30 : decode cX0_unlike 30 = .ok (.aload_n 0, 1) := dk_42 (dk_at dksX0_unlike_1 7 rfl rfl)
theorem dX0_unlike_31 : decode cX0_unlike 31 = .ok (.getfield 148, 3) := dk_180 0 148 (dk_at dksX0_unlike_1 8 rfl rfl)
theorem dX0_unlike_34 : decode cX0_unlike 34 = .ok (.iload_n 2, 1) := dk_28 (dk_at dksX0_unlike_1 11 rfl rfl)
theorem dX0_unlike_35 : decode cX0_unlike 35 = .ok (.invokevirtual 250, 3) := dk_182 0 250 (dk_at dksX0_unlike_1 12 rfl rfl)
theorem dX0_unlike_38 : decode cX0_unlike 38 = .ok (.checkcast 242, 3) := dk_192 0 242 (dk_at dksX0_unlike_1 15 rfl rfl)
theorem dX0_unlike_41 : decode cX0_unlike 41 = .ok (.astore 4, 2) := dk_58 4 (dk_at dksX0_unlike_1 18 rfl rfl)
theorem dX0_unlike_43 : decode cX0_unlike 43 = .ok (.aload_n 0, 1) := dk_42 (dk_at dksX0_unlike_1 20 rfl rfl)
theorem dX0_unlike_44 : decode cX0_unlike 44 = .ok (.iload_n 1, 1) := dk_27 (dk_at dksX0_unlike_1 21 rfl rfl)
theorem dX0_unlike_45 : decode cX0_unlike 45 = .ok (.invokevirtual 414, 3) := dk_182 1 158 (dk_at dksX0_unlike_2 0 rfl rfl)
theorem dX0_unlike_48 : decode cX0_unlike 48 = .ok (.ifCond .lt 23, 3) := dk_155 0 23 (dk_at dksX0_unlike_2 3 rfl rfl)
theorem dX0_unlike_51 : decode cX0_unlike 51 = .ok (.aload_n 0, 1) := dk_42 (dk_at dksX0_unlike_2 6 rfl rfl)
theorem dX0_unlike_52 : decode cX0_unlike 52 = .ok (.iload_n 2, 1) := dk_28 (dk_at dksX0_unlike_2 7 rfl rfl)
theorem dX0_unlike_53 : decode cX0_unlike 53 = .ok (.invokevirtual 414, 3) := dk_182 1 158 (dk_at dksX0_unlike_2 8 rfl rfl)
theorem dX0_unlike_56 : decode cX0_unlike 56 = .ok (.ifCond .lt 15, 3) := dk_155 0 15 (dk_at dksX0_unlike_2 11 rfl rfl)
theorem dX0_unlike_59 : decode cX0_unlike 59 = .ok (.aload_n 3, 1) := dk_45 (dk_at dksX0_unlike_2 14 rfl rfl)
theorem dX0_unlike_60 : decode cX0_unlike 60 = .ok (.getfield 254, 3) := dk_180 0 254 (dk_at dksX0_unlike_2 15 rfl rfl)
theorem dX0_unlike_63 : decode cX0_unlike 63 = .ok (.aload 4, 2) := dk_25 4 (dk_at dksX0_unlike_2 18 rfl rfl)
theorem dX0_unlike_65 : decode cX0_unlike 65 = .ok (.getfield 254, 3) := dk_180 0 254 (dk_at dksX0_unlike_2 20 rfl rfl)
theorem dX0_unlike_68 : decode cX0_unlike 68 = .ok (.if_icmp .eq 6, 3) := dk_159 0 6 (dk_at dksX0_unlike_3 0 rfl rfl)
theorem dX0_unlike_71 : decode cX0_unlike 71 = .ok (.bipush (-2), 2) := dk_16 254 (dk_at dksX0_unlike_3 3 rfl rfl)
theorem dX0_unlike_73 : decode cX0_unlike 73 = .ok (.ireturn, 1) := dk_172 (dk_at dksX0_unlike_3 5 rfl rfl)
theorem dX0_unlike_74 : decode cX0_unlike 74 = .ok (.aload_n 0, 1) := dk_42 (dk_at dksX0_unlike_3 6 rfl rfl)
theorem dX0_unlike_75 : decode cX0_unlike 75 = .ok (.getfield 7, 3) := dk_180 0 7 (dk_at dksX0_unlike_3 7 rfl rfl)
theorem dX0_unlike_78 : decode cX0_unlike 78 = .ok (.aload_n 3, 1) := dk_45 (dk_at dksX0_unlike_3 10 rfl rfl)
theorem dX0_unlike_79 : decode cX0_unlike 79 = .ok (.getfield 254, 3) := dk_180 0 254 (dk_at dksX0_unlike_3 11 rfl rfl)
theorem dX0_unlike_82 : decode cX0_unlike 82 = .ok (.invokevirtual 11, 3) := dk_182 0 11 (dk_at dksX0_unlike_3 14 rfl rfl)
theorem dX0_unlike_85 : decode cX0_unlike 85 = .ok (.iconst 0, 1) := dk_3 (dk_at dksX0_unlike_3 17 rfl rfl)
theorem dX0_unlike_86 : decode cX0_unlike 86 = .ok (.istore 5, 2) := dk_54 5 (dk_at dksX0_unlike_3 18 rfl rfl)
theorem dX0_unlike_88 : decode cX0_unlike 88 = .ok (.iconst 0, 1) := dk_3 (dk_at dksX0_unlike_3 20 rfl rfl)
theorem dX0_unlike_89 : decode cX0_unlike 89 = .ok (.istore 6, 2) := dk_54 6 (dk_at dksX0_unlike_3 21 rfl rfl)
theorem dX0_unlike_91 : decode cX0_unlike 91 = .ok (.iload 6, 2) := dk_21 6 (dk_at dksX0_unlike_4 0 rfl rfl)
theorem dX0_unlike_93 : decode cX0_unlike 93 = .ok (.aload_n 0, 1) := dk_42 (dk_at dksX0_unlike_4 2 rfl rfl)
theorem dX0_unlike_94 : decode cX0_unlike 94 = .ok (.getfield 7, 3) := dk_180 0 7 (dk_at dksX0_unlike_4 3 rfl rfl)
theorem dX0_unlike_97 : decode cX0_unlike 97 = .ok (.getfield 17, 3) := dk_180 0 17 (dk_at dksX0_unlike_4 6 rfl rfl)
theorem dX0_unlike_100 : decode cX0_unlike 100 = .ok (.if_icmp .ge 32, 3) := dk_162 0 32 (dk_at dksX0_unlike_4 9 rfl rfl)
theorem dX0_unlike_103 : decode cX0_unlike 103 = .ok (.aload_n 0, 1) := dk_42 (dk_at dksX0_unlike_4 12 rfl rfl)
theorem dX0_unlike_104 : decode cX0_unlike 104 = .ok (.aload_n 3, 1) := dk_45 (dk_at dksX0_unlike_4 13 rfl rfl)
theorem dX0_unlike_105 : decode cX0_unlike 105 = .ok (.iload 6, 2) := dk_21 6 (dk_at dksX0_unlike_4 14 rfl rfl)
theorem dX0_unlike_107 : decode cX0_unlike 107 = .ok (.iconst 0, 1) := dk_3 (dk_at dksX0_unlike_4 16 rfl rfl)
theorem dX0_unlike_108 : decode cX0_unlike 108 = .ok (.invokevirtual 340, 3) := dk_182 1 84 (dk_at dksX0_unlike_4 17 rfl rfl)
theorem dX0_unlike_111 : decode cX0_unlike 111 = .ok (.aload_n 0, 1) := dk_42 (dk_at dksX0_unlike_4 20 rfl rfl)
theorem dX0_unlike_112 : decode cX0_unlike 112 = .ok (.aload 4, 2) := dk_25 4 (dk_at dksX0_unlike_4 21 rfl rfl)
theorem dX0_unlike_114 : decode cX0_unlike 114 = .ok (.iload 6, 2) := dk_21 6 (dk_at dksX0_unlike_5 0 rfl rfl)
theorem dX0_unlike_116 : decode cX0_unlike 116 = .ok (.iconst 0, 1) := dk_3 (dk_at dksX0_unlike_5 2 rfl rfl)
theorem dX0_unlike_117 : decode cX0_unlike 117 = .ok (.invokevirtual 340, 3) := dk_182 1 84 (dk_at dksX0_unlike_5 3 rfl rfl)
theorem dX0_unlike_120 : decode cX0_unlike 120 = .ok (.if_icmp .eq 6, 3) := dk_159 0 6 (dk_at dksX0_unlike_5 6 rfl rfl)
theorem dX0_unlike_123 : decode cX0_unlike 123 = .ok (.iinc 5 1, 3) := dk_132 5 1 (dk_at dksX0_unlike_5 9 rfl rfl)
theorem dX0_unlike_126 : decode cX0_unlike 126 = .ok (.iinc 6 1, 3) := dk_132 6 1 (dk_at dksX0_unlike_5 12 rfl rfl)
theorem dX0_unlike_129 : decode cX0_unlike 129 = .ok (.goto (-38), 3) := dk_167 255 218 (dk_at dksX0_unlike_5 15 rfl rfl)
theorem dX0_unlike_132 : decode cX0_unlike 132 = .ok (.iload 5, 2) := dk_21 5 (dk_at dksX0_unlike_5 18 rfl rfl)
theorem dX0_unlike_134 : decode cX0_unlike 134 = .ok (.ireturn, 1) := dk_172 (dk_at dksX0_unlike_5 20 rfl rfl)
abbrev cX0_count : ByteArray := prog_1_method_82_code
def yX0_count : MethodName := ⟨RX0, "count", "(I)I"⟩
def dkwX0_count_2 : List UInt8 := [42, 180, 0, 148, 182, 0, 215, 172, 42, 180, 0, 239, 172, 42, 180, 0, 129, 180, 1, 184, 172, 2, 172]
abbrev dktX0_count_2 : List UInt8 := dkwX0_count_2 ++ []
def dkwX0_count_1 : List UInt8 := [170, 0, 0, 0, 0, 0, 48, 0, 0, 0, 0, 0, 0, 0, 2, 0, 0, 0, 27, 0, 0, 0, 35, 0, 0, 0, 40]
abbrev dktX0_count_1 : List UInt8 := dkwX0_count_1 ++ dktX0_count_2
def dkwX0_count_0 : List UInt8 := [27]
abbrev dktX0_count_0 : List UInt8 := dkwX0_count_0 ++ dktX0_count_1
theorem dksX0_count_0 : cX0_count.data.toList.drop 0 = dktX0_count_0 := by decide +kernel
theorem dksX0_count_1 : cX0_count.data.toList.drop 1 = dktX0_count_1 := dk_seg dksX0_count_0 1 rfl rfl
theorem dksX0_count_2 : cX0_count.data.toList.drop 28 = dktX0_count_2 := dk_seg dksX0_count_1 27 rfl rfl
theorem dX0_count_0 : decode cX0_count 0 = .ok (.iload_n 1, 1) := dk_27 (dk_at dksX0_count_0 0 rfl rfl)
theorem dX0_count_1 : decode cX0_count 1 = .ok (.tableswitch 48 0 2 #[27, 35, 40], 27) := by decide +kernel
theorem dX0_count_28 : decode cX0_count 28 = .ok (.aload_n 0, 1) := dk_42 (dk_at dksX0_count_2 0 rfl rfl)
theorem dX0_count_29 : decode cX0_count 29 = .ok (.getfield 148, 3) := dk_180 0 148 (dk_at dksX0_count_2 1 rfl rfl)
theorem dX0_count_32 : decode cX0_count 32 = .ok (.invokevirtual 215, 3) := dk_182 0 215 (dk_at dksX0_count_2 4 rfl rfl)
theorem dX0_count_35 : decode cX0_count 35 = .ok (.ireturn, 1) := dk_172 (dk_at dksX0_count_2 7 rfl rfl)
theorem dX0_count_36 : decode cX0_count 36 = .ok (.aload_n 0, 1) := dk_42 (dk_at dksX0_count_2 8 rfl rfl)
theorem dX0_count_37 : decode cX0_count 37 = .ok (.getfield 239, 3) := dk_180 0 239 (dk_at dksX0_count_2 9 rfl rfl)
theorem dX0_count_40 : decode cX0_count 40 = .ok (.ireturn, 1) := dk_172 (dk_at dksX0_count_2 12 rfl rfl)
theorem dX0_count_41 : decode cX0_count 41 = .ok (.aload_n 0, 1) := dk_42 (dk_at dksX0_count_2 13 rfl rfl)
theorem dX0_count_42 : decode cX0_count 42 = .ok (.getfield 129, 3) := dk_180 0 129 (dk_at dksX0_count_2 14 rfl rfl)
theorem dX0_count_45 : decode cX0_count 45 = .ok (.getfield 440, 3) := dk_180 1 184 (dk_at dksX0_count_2 17 rfl rfl)
theorem dX0_count_48 : decode cX0_count 48 = .ok (.ireturn, 1) := dk_172 (dk_at dksX0_count_2 20 rfl rfl)
theorem dX0_count_49 : decode cX0_count 49 = .ok (.iconst (-1), 1) := dk_2 (dk_at dksX0_count_2 21 rfl rfl)
theorem dX0_count_50 : decode cX0_count 50 = .ok (.ireturn, 1) := dk_172 (dk_at dksX0_count_2 22 rfl rfl)
theorem q119 : (Jvm.Cond.initialized "LadderLots") ∈ lw_all := lw_g (lw_at lw_m1 1 rfl) rfl
theorem q149 : (Jvm.Cond.instanceMethod ({ cls := "LadderLots", name := "digit", desc := "(III)I" } : Jvm.MethodName)) ∈ lw_all := lw_g (lw_at lw_m1 31 rfl) rfl
theorem q150 : (Jvm.Cond.selects "LadderLots" ({ cls := "LadderLots", name := "digit", desc := "(III)I" } : Jvm.MethodName) ({ cls := "LadderLots", name := "digit", desc := "(III)I" } : Jvm.MethodName)) ∈ lw_all := lw_g (lw_at lw_m1 32 rfl) rfl
theorem q151 : (Jvm.Cond.code ({ cls := "LadderLots", name := "digit", desc := "(III)I" } : Jvm.MethodName) prog_1_method_4_code (4 : Nat) (Option.some Jvm.ClassFile.FieldType.int)) ∈ lw_all := lw_g (lw_at lw_m1 33 rfl) rfl
theorem q152 : (Jvm.Cond.methodLink "LadderLots" (43 : Nat) ({ cls := "LadderLots", name := "isOrder", desc := "(II)Z" } : Jvm.MethodName)) ∈ lw_all := lw_g (lw_at lw_m1 34 rfl) rfl
theorem q153 : (Jvm.Cond.privateMethod ({ cls := "LadderLots", name := "isOrder", desc := "(II)Z" } : Jvm.MethodName)) ∈ lw_tbl := lw_at lw_m1 35 rfl
theorem q154 : (Jvm.Cond.instanceMethod ({ cls := "LadderLots", name := "isOrder", desc := "(II)Z" } : Jvm.MethodName)) ∈ lw_all := lw_g (lw_at lw_m1 36 rfl) rfl
theorem q155 : (Jvm.Cond.instantiable "LadderLots" (30 : Nat)) ∈ lw_all := lw_g (lw_at lw_m1 37 rfl) rfl
theorem q156 : (Jvm.Cond.code ({ cls := "LadderLots", name := "isOrder", desc := "(II)Z" } : Jvm.MethodName) prog_1_method_2_code (3 : Nat) (Option.some Jvm.ClassFile.FieldType.boolean)) ∈ lw_all := lw_g (lw_at lw_m1 38 rfl) rfl
theorem q157 : (Jvm.Cond.methodLink "LadderLots" (3 : Nat) ({ cls := "LadderLots", name := "within", desc := "(III)Z" } : Jvm.MethodName)) ∈ lw_all := lw_g (lw_at lw_m1 39 rfl) rfl
theorem q158 : (Jvm.Cond.static ({ cls := "LadderLots", name := "within", desc := "(III)Z" } : Jvm.MethodName)) ∈ lw_all := lw_g (lw_at lw_m1 40 rfl) rfl
theorem q159 : (Jvm.Cond.code ({ cls := "LadderLots", name := "within", desc := "(III)Z" } : Jvm.MethodName) prog_1_method_1_code (3 : Nat) (Option.some Jvm.ClassFile.FieldType.boolean)) ∈ lw_all := lw_g (lw_at lw_m1 41 rfl) rfl
theorem q160 : (Jvm.Cond.methodLink "LadderLots" (11 : Nat) ({ cls := "LadderLots$Orders", name := "of", desc := "(I)V" } : Jvm.MethodName)) ∈ lw_all := lw_g (lw_at lw_m1 42 rfl) rfl
theorem q181 : (Jvm.Cond.methodLink "LadderLots" (46 : Nat) ({ cls := "LadderLots$Orders", name := "digit", desc := "(II)I" } : Jvm.MethodName)) ∈ lw_all := lw_g (lw_at lw_m1 63 rfl) rfl
theorem q186 : (Jvm.Cond.instanceMethod ({ cls := "LadderLots", name := "fewest", desc := "(II)I" } : Jvm.MethodName)) ∈ lw_all := lw_g (lw_at lw_m1 68 rfl) rfl
theorem q187 : (Jvm.Cond.selects "LadderLots" ({ cls := "LadderLots", name := "fewest", desc := "(II)I" } : Jvm.MethodName) ({ cls := "LadderLots", name := "fewest", desc := "(II)I" } : Jvm.MethodName)) ∈ lw_all := lw_g (lw_at lw_m1 69 rfl) rfl
theorem q188 : (Jvm.Cond.code ({ cls := "LadderLots", name := "fewest", desc := "(II)I" } : Jvm.MethodName) prog_1_method_5_code (3 : Nat) (Option.some Jvm.ClassFile.FieldType.int)) ∈ lw_all := lw_g (lw_at lw_m1 70 rfl) rfl
theorem q189 : (Jvm.Cond.methodLink "LadderLots" (49 : Nat) ({ cls := "LadderLots$Orders", name := "inversions", desc := "(I)I" } : Jvm.MethodName)) ∈ lw_all := lw_g (lw_at lw_m1 71 rfl) rfl
theorem q195 : (Jvm.Cond.instanceMethod ({ cls := "LadderLots", name := "ladders", desc := "(II)J" } : Jvm.MethodName)) ∈ lw_all := lw_g (lw_at lw_m1 77 rfl) rfl
theorem q196 : (Jvm.Cond.selects "LadderLots" ({ cls := "LadderLots", name := "ladders", desc := "(II)J" } : Jvm.MethodName) ({ cls := "LadderLots", name := "ladders", desc := "(II)J" } : Jvm.MethodName)) ∈ lw_all := lw_g (lw_at lw_m1 78 rfl) rfl
theorem q197 : (Jvm.Cond.code ({ cls := "LadderLots", name := "ladders", desc := "(II)J" } : Jvm.MethodName) prog_1_method_6_code (3 : Nat) (Option.some Jvm.ClassFile.FieldType.long)) ∈ lw_all := lw_g (lw_at lw_m1 79 rfl) rfl
theorem q198 : (Jvm.Cond.methodLink "LadderLots" (39 : Nat) ({ cls := "LadderLots", name := "leastsFrom", desc := "(I)J" } : Jvm.MethodName)) ∈ lw_all := lw_g (lw_at lw_m1 80 rfl) rfl
theorem q199 : (Jvm.Cond.privateMethod ({ cls := "LadderLots", name := "leastsFrom", desc := "(I)J" } : Jvm.MethodName)) ∈ lw_tbl := lw_at lw_m1 81 rfl
theorem q200 : (Jvm.Cond.instanceMethod ({ cls := "LadderLots", name := "leastsFrom", desc := "(I)J" } : Jvm.MethodName)) ∈ lw_all := lw_g (lw_at lw_m1 82 rfl) rfl
theorem q201 : (Jvm.Cond.code ({ cls := "LadderLots", name := "leastsFrom", desc := "(I)J" } : Jvm.MethodName) prog_1_method_3_code (5 : Nat) (Option.some Jvm.ClassFile.FieldType.long)) ∈ lw_all := lw_g (lw_at lw_m1 83 rfl) rfl
theorem q202 : (Jvm.Cond.methodLink "LadderLots" (31 : Nat) ({ cls := "LadderLots$Orders", name := "canBegin", desc := "(II)Z" } : Jvm.MethodName)) ∈ lw_all := lw_g (lw_at lw_m1 84 rfl) rfl
theorem q210 : (Jvm.Cond.methodLink "LadderLots" (35 : Nat) ({ cls := "LadderLots$Orders", name := "renamed", desc := "(II)I" } : Jvm.MethodName)) ∈ lw_all := lw_g (lw_at lw_m1 92 rfl) rfl
theorem q214 : (Jvm.Cond.constantLong "LadderLots" (53 : Nat) (-1 : Int64)) ∈ lw_all := lw_g (lw_at lw_m1 96 rfl) rfl
theorem q216 : (Jvm.Cond.instanceMethod ({ cls := "LadderLots", name := "rung", desc := "(IIJI)I" } : Jvm.MethodName)) ∈ lw_all := lw_g (lw_at lw_m1 98 rfl) rfl
theorem q217 : (Jvm.Cond.selects "LadderLots" ({ cls := "LadderLots", name := "rung", desc := "(IIJI)I" } : Jvm.MethodName) ({ cls := "LadderLots", name := "rung", desc := "(IIJI)I" } : Jvm.MethodName)) ∈ lw_all := lw_g (lw_at lw_m1 99 rfl) rfl
theorem q218 : (Jvm.Cond.code ({ cls := "LadderLots", name := "rung", desc := "(IIJI)I" } : Jvm.MethodName) prog_1_method_9_code (6 : Nat) (Option.some Jvm.ClassFile.FieldType.int)) ∈ lw_all := lw_g (lw_at lw_m1 100 rfl) rfl
theorem q219 : (Jvm.Cond.methodLink "LadderLots" (59 : Nat) ({ cls := "LadderLots", name := "unranks", desc := "(IJ)V" } : Jvm.MethodName)) ∈ lw_all := lw_g (lw_at lw_m1 101 rfl) rfl
theorem q220 : (Jvm.Cond.privateMethod ({ cls := "LadderLots", name := "unranks", desc := "(IJ)V" } : Jvm.MethodName)) ∈ lw_tbl := lw_at lw_m1 102 rfl
theorem q221 : (Jvm.Cond.instanceMethod ({ cls := "LadderLots", name := "unranks", desc := "(IJ)V" } : Jvm.MethodName)) ∈ lw_all := lw_g (lw_at lw_m1 103 rfl) rfl
theorem q222 : (Jvm.Cond.code ({ cls := "LadderLots", name := "unranks", desc := "(IJ)V" } : Jvm.MethodName) prog_1_method_7_code (11 : Nat) (Option.none : Option Jvm.ClassFile.FieldType)) ∈ lw_all := lw_g (lw_at lw_m1 104 rfl) rfl
theorem q224 : (Jvm.Cond.instanceMethod ({ cls := "LadderLots", name := "turns", desc := "(IIII)I" } : Jvm.MethodName)) ∈ lw_all := lw_g (lw_at lw_m1 106 rfl) rfl
theorem q225 : (Jvm.Cond.selects "LadderLots" ({ cls := "LadderLots", name := "turns", desc := "(IIII)I" } : Jvm.MethodName) ({ cls := "LadderLots", name := "turns", desc := "(IIII)I" } : Jvm.MethodName)) ∈ lw_all := lw_g (lw_at lw_m1 107 rfl) rfl
theorem q226 : (Jvm.Cond.code ({ cls := "LadderLots", name := "turns", desc := "(IIII)I" } : Jvm.MethodName) prog_1_method_15_code (5 : Nat) (Option.some Jvm.ClassFile.FieldType.int)) ∈ lw_all := lw_g (lw_at lw_m1 108 rfl) rfl
theorem q227 : (Jvm.Cond.methodLink "LadderLots" (112 : Nat) ({ cls := "LadderLots", name := "led", desc := "(IIIII)I" } : Jvm.MethodName)) ∈ lw_all := lw_g (lw_at lw_m1 109 rfl) rfl
theorem q228 : (Jvm.Cond.privateMethod ({ cls := "LadderLots", name := "led", desc := "(IIIII)I" } : Jvm.MethodName)) ∈ lw_tbl := lw_at lw_m1 110 rfl
theorem q229 : (Jvm.Cond.instanceMethod ({ cls := "LadderLots", name := "led", desc := "(IIIII)I" } : Jvm.MethodName)) ∈ lw_all := lw_g (lw_at lw_m1 111 rfl) rfl
theorem q230 : (Jvm.Cond.code ({ cls := "LadderLots", name := "led", desc := "(IIIII)I" } : Jvm.MethodName) prog_1_method_14_code (6 : Nat) (Option.some Jvm.ClassFile.FieldType.int)) ∈ lw_all := lw_g (lw_at lw_m1 112 rfl) rfl
theorem q231 : (Jvm.Cond.methodLink "LadderLots" (104 : Nat) ({ cls := "LadderLots", name := "laysWords", desc := "(I)Z" } : Jvm.MethodName)) ∈ lw_all := lw_g (lw_at lw_m1 113 rfl) rfl
theorem q232 : (Jvm.Cond.privateMethod ({ cls := "LadderLots", name := "laysWords", desc := "(I)Z" } : Jvm.MethodName)) ∈ lw_tbl := lw_at lw_m1 114 rfl
theorem q233 : (Jvm.Cond.instanceMethod ({ cls := "LadderLots", name := "laysWords", desc := "(I)Z" } : Jvm.MethodName)) ∈ lw_all := lw_g (lw_at lw_m1 115 rfl) rfl
theorem q234 : (Jvm.Cond.code ({ cls := "LadderLots", name := "laysWords", desc := "(I)Z" } : Jvm.MethodName) prog_1_method_10_code (4 : Nat) (Option.some Jvm.ClassFile.FieldType.boolean)) ∈ lw_all := lw_g (lw_at lw_m1 116 rfl) rfl
theorem q235 : (Jvm.Cond.constantLong "LadderLots" (63 : Nat) (800 : Int64)) ∈ lw_all := lw_g (lw_at lw_m1 117 rfl) rfl
theorem q236 : (Jvm.Cond.methodLink "LadderLots" (68 : Nat) ({ cls := "java/lang/System", name := "arraycopy", desc := "(Ljava/lang/Object;ILjava/lang/Object;II)V" } : Jvm.MethodName)) ∈ lw_all := lw_g (lw_at lw_m1 118 rfl) rfl
theorem q239 : (Jvm.Cond.methodLink "LadderLots" (108 : Nat) ({ cls := "LadderLots", name := "goesFrom", desc := "(III)V" } : Jvm.MethodName)) ∈ lw_all := lw_g (lw_at lw_m1 121 rfl) rfl
theorem q240 : (Jvm.Cond.privateMethod ({ cls := "LadderLots", name := "goesFrom", desc := "(III)V" } : Jvm.MethodName)) ∈ lw_tbl := lw_at lw_m1 122 rfl
theorem q241 : (Jvm.Cond.instanceMethod ({ cls := "LadderLots", name := "goesFrom", desc := "(III)V" } : Jvm.MethodName)) ∈ lw_all := lw_g (lw_at lw_m1 123 rfl) rfl
theorem q242 : (Jvm.Cond.code ({ cls := "LadderLots", name := "goesFrom", desc := "(III)V" } : Jvm.MethodName) prog_1_method_12_code (8 : Nat) (Option.none : Option Jvm.ClassFile.FieldType)) ∈ lw_all := lw_g (lw_at lw_m1 124 rfl) rfl
theorem q243 : (Jvm.Cond.constant "LadderLots" (88 : Nat) (2147483647 : Int32)) ∈ lw_all := lw_g (lw_at lw_m1 125 rfl) rfl
theorem q244 : (Jvm.Cond.methodLink "LadderLots" (93 : Nat) ({ cls := "LadderLots", name := "ledAt", desc := "(IIIIZ)I" } : Jvm.MethodName)) ∈ lw_all := lw_g (lw_at lw_m1 126 rfl) rfl
theorem q245 : (Jvm.Cond.privateMethod ({ cls := "LadderLots", name := "ledAt", desc := "(IIIIZ)I" } : Jvm.MethodName)) ∈ lw_tbl := lw_at lw_m1 127 rfl
theorem q246 : (Jvm.Cond.instanceMethod ({ cls := "LadderLots", name := "ledAt", desc := "(IIIIZ)I" } : Jvm.MethodName)) ∈ lw_all := lw_g (lw_at lw_m1 128 rfl) rfl
theorem q247 : (Jvm.Cond.code ({ cls := "LadderLots", name := "ledAt", desc := "(IIIIZ)I" } : Jvm.MethodName) prog_1_method_11_code (7 : Nat) (Option.some Jvm.ClassFile.FieldType.int)) ∈ lw_all := lw_g (lw_at lw_m1 129 rfl) rfl
theorem q248 : (Jvm.Cond.methodLink "LadderLots" (74 : Nat) ({ cls := "java/lang/Math", name := "abs", desc := "(I)I" } : Jvm.MethodName)) ∈ lw_all := lw_g (lw_at lw_m1 130 rfl) rfl
theorem q251 : (Jvm.Cond.methodLink "LadderLots" (79 : Nat) ({ cls := "LadderLots", name := "ranked", desc := "(I)J" } : Jvm.MethodName)) ∈ lw_all := lw_g (lw_at lw_m1 133 rfl) rfl
theorem q252 : (Jvm.Cond.privateMethod ({ cls := "LadderLots", name := "ranked", desc := "(I)J" } : Jvm.MethodName)) ∈ lw_tbl := lw_at lw_m1 134 rfl
theorem q253 : (Jvm.Cond.instanceMethod ({ cls := "LadderLots", name := "ranked", desc := "(I)J" } : Jvm.MethodName)) ∈ lw_all := lw_g (lw_at lw_m1 135 rfl) rfl
theorem q254 : (Jvm.Cond.code ({ cls := "LadderLots", name := "ranked", desc := "(I)J" } : Jvm.MethodName) prog_1_method_8_code (7 : Nat) (Option.some Jvm.ClassFile.FieldType.long)) ∈ lw_all := lw_g (lw_at lw_m1 136 rfl) rfl
theorem q255 : (Jvm.Cond.methodLink "LadderLots" (97 : Nat) ({ cls := "LadderLots", name := "comesBy", desc := "(II)V" } : Jvm.MethodName)) ∈ lw_all := lw_g (lw_at lw_m1 137 rfl) rfl
theorem q256 : (Jvm.Cond.privateMethod ({ cls := "LadderLots", name := "comesBy", desc := "(II)V" } : Jvm.MethodName)) ∈ lw_tbl := lw_at lw_m1 138 rfl
theorem q257 : (Jvm.Cond.instanceMethod ({ cls := "LadderLots", name := "comesBy", desc := "(II)V" } : Jvm.MethodName)) ∈ lw_all := lw_g (lw_at lw_m1 139 rfl) rfl
theorem q258 : (Jvm.Cond.code ({ cls := "LadderLots", name := "comesBy", desc := "(II)V" } : Jvm.MethodName) prog_1_method_13_code (3 : Nat) (Option.none : Option Jvm.ClassFile.FieldType)) ∈ lw_all := lw_g (lw_at lw_m1 140 rfl) rfl
theorem q259 : (Jvm.Cond.methodLink "LadderLots" (101 : Nat) ({ cls := "java/lang/Math", name := "min", desc := "(II)I" } : Jvm.MethodName)) ∈ lw_all := lw_g (lw_at lw_m1 141 rfl) rfl
theorem q263 : (Jvm.Cond.instanceMethod ({ cls := "LadderLots", name := "moves", desc := "(IIII)I" } : Jvm.MethodName)) ∈ lw_all := lw_g (lw_at lw_m1 145 rfl) rfl
theorem q264 : (Jvm.Cond.selects "LadderLots" ({ cls := "LadderLots", name := "moves", desc := "(IIII)I" } : Jvm.MethodName) ({ cls := "LadderLots", name := "moves", desc := "(IIII)I" } : Jvm.MethodName)) ∈ lw_all := lw_g (lw_at lw_m1 146 rfl) rfl
theorem q265 : (Jvm.Cond.code ({ cls := "LadderLots", name := "moves", desc := "(IIII)I" } : Jvm.MethodName) prog_1_method_16_code (5 : Nat) (Option.some Jvm.ClassFile.FieldType.int)) ∈ lw_all := lw_g (lw_at lw_m1 147 rfl) rfl
theorem q267 : (Jvm.Cond.instanceMethod ({ cls := "LadderLots", name := "classes", desc := "(II)I" } : Jvm.MethodName)) ∈ lw_all := lw_g (lw_at lw_m1 149 rfl) rfl
theorem q268 : (Jvm.Cond.selects "LadderLots" ({ cls := "LadderLots", name := "classes", desc := "(II)I" } : Jvm.MethodName) ({ cls := "LadderLots", name := "classes", desc := "(II)I" } : Jvm.MethodName)) ∈ lw_all := lw_g (lw_at lw_m1 150 rfl) rfl
theorem q269 : (Jvm.Cond.code ({ cls := "LadderLots", name := "classes", desc := "(II)I" } : Jvm.MethodName) prog_1_method_17_code (11 : Nat) (Option.some Jvm.ClassFile.FieldType.int)) ∈ lw_all := lw_g (lw_at lw_m1 151 rfl) rfl
theorem q272 : (Jvm.Cond.instanceMethod ({ cls := "LadderLots", name := "<init>", desc := "()V" } : Jvm.MethodName)) ∈ lw_all := lw_g (lw_at lw_m1 154 rfl) rfl
theorem q273 : (Jvm.Cond.code ({ cls := "LadderLots", name := "<init>", desc := "()V" } : Jvm.MethodName) prog_1_method_18_code (1 : Nat) (Option.none : Option Jvm.ClassFile.FieldType)) ∈ lw_all := lw_g (lw_at lw_m1 155 rfl) rfl
theorem q274 : (Jvm.Cond.methodLink "LadderLots" (119 : Nat) ({ cls := "java/lang/Object", name := "<init>", desc := "()V" } : Jvm.MethodName)) ∈ lw_all := lw_g (lw_at lw_m1 156 rfl) rfl
theorem q277 : (Jvm.Cond.classLink "LadderLots" (12 : Nat) "LadderLots$Orders") ∈ lw_all := lw_g (lw_at lw_m1 159 rfl) rfl
theorem q278 : (Jvm.Cond.methodLinkNest "LadderLots" (125 : Nat) ({ cls := "LadderLots$Orders", name := "<init>", desc := "()V" } : Jvm.MethodName) "LadderLots") ∈ lw_tbl := lw_at lw_m1 160 rfl
theorem q284 : (Jvm.Cond.fieldLinkNest "LadderLots" (24 : Nat) "LadderLots$Orders" "n" "I" "LadderLots") ∈ lw_tbl := lw_at lw_m1 166 rfl
theorem q286 : (Jvm.Cond.fieldLinkNest "LadderLots" (17 : Nat) "LadderLots$Orders" "many" "I" "LadderLots") ∈ lw_tbl := lw_at lw_m1 168 rfl
theorem q303 : (Jvm.Cond.classLink "LadderLots" (126 : Nat) "LadderLots$Scanner") ∈ lw_all := lw_g (lw_at lw_m1 185 rfl) rfl
theorem q305 : (Jvm.Cond.methodLinkNest "LadderLots" (128 : Nat) ({ cls := "LadderLots$Scanner", name := "<init>", desc := "()V" } : Jvm.MethodName) "LadderLots") ∈ lw_tbl := lw_at lw_m1 187 rfl
theorem q311 : (Jvm.Cond.fieldLinkNest "LadderLots" (440 : Nat) "LadderLots$Scanner" "taped" "I" "LadderLots") ∈ lw_tbl := lw_at lw_m1 193 rfl
theorem q335 : (Jvm.Cond.classLink "LadderLots" (133 : Nat) "LadderLots$Reader") ∈ lw_all := lw_g (lw_at lw_m1 217 rfl) rfl
theorem q337 : (Jvm.Cond.methodLink "LadderLots" (135 : Nat) ({ cls := "LadderLots$Reader", name := "<init>", desc := "(LLadderLots$Scanner;)V" } : Jvm.MethodName)) ∈ lw_all := lw_g (lw_at lw_m1 219 rfl) rfl
theorem q371 : (Jvm.Cond.classLink "LadderLots" (145 : Nat) "java/util/ArrayList") ∈ lw_all := lw_g (lw_at lw_m2 13 rfl) rfl
theorem q373 : (Jvm.Cond.methodLink "LadderLots" (147 : Nat) ({ cls := "java/util/ArrayList", name := "<init>", desc := "()V" } : Jvm.MethodName)) ∈ lw_all := lw_g (lw_at lw_m2 15 rfl) rfl
theorem q397 : (Jvm.Cond.classLink "LadderLots" (179 : Nat) "[[I") ∈ lw_all := lw_g (lw_at lw_m2 39 rfl) rfl
theorem q399 : (Jvm.Cond.classLink "LadderLots" (199 : Nat) "LadderLots$Step") ∈ lw_all := lw_g (lw_at lw_m2 41 rfl) rfl
theorem q401 : (Jvm.Cond.classLink "LadderLots" (201 : Nat) "LadderLots$Gate") ∈ lw_all := lw_g (lw_at lw_m2 43 rfl) rfl
theorem q403 : (Jvm.Cond.methodLink "LadderLots" (203 : Nat) ({ cls := "LadderLots$Gate", name := "<init>", desc := "(I)V" } : Jvm.MethodName)) ∈ lw_all := lw_g (lw_at lw_m2 45 rfl) rfl
theorem q421 : (Jvm.Cond.fieldLink "LadderLots" (311 : Nat) "LadderLots$Step" "leg" "I") ∈ lw_all := lw_g (lw_at lw_m2 63 rfl) rfl
theorem q425 : (Jvm.Cond.fieldLink "LadderLots" (7 : Nat) "LadderLots" "orders" "LLadderLots$Orders;") ∈ lw_all := lw_g (lw_at lw_m2 67 rfl) rfl
theorem q426 : (Jvm.Cond.fieldLink "LadderLots" (27 : Nat) "LadderLots" "leasts" "[J") ∈ lw_all := lw_g (lw_at lw_m2 68 rfl) rfl
theorem q427 : (Jvm.Cond.fieldLink "LadderLots" (21 : Nat) "LadderLots" "leastsOf" "I") ∈ lw_all := lw_g (lw_at lw_m2 69 rfl) rfl
theorem q428 : (Jvm.Cond.fieldLink "LadderLots" (55 : Nat) "LadderLots" "word" "[B") ∈ lw_all := lw_g (lw_at lw_m2 70 rfl) rfl
theorem q429 : (Jvm.Cond.fieldLink "LadderLots" (65 : Nat) "LadderLots" "words" "[B") ∈ lw_all := lw_g (lw_at lw_m2 71 rfl) rfl
theorem q430 : (Jvm.Cond.fieldLink "LadderLots" (82 : Nat) "LadderLots" "far" "[I") ∈ lw_all := lw_g (lw_at lw_m2 72 rfl) rfl
theorem q431 : (Jvm.Cond.fieldLink "LadderLots" (116 : Nat) "LadderLots" "wait" "[I") ∈ lw_all := lw_g (lw_at lw_m2 73 rfl) rfl
theorem q432 : (Jvm.Cond.fieldLink "LadderLots" (89 : Nat) "LadderLots" "isDone" "[Z") ∈ lw_all := lw_g (lw_at lw_m2 74 rfl) rfl
theorem q433 : (Jvm.Cond.fieldLink "LadderLots" (129 : Nat) "LadderLots" "scanner" "LLadderLots$Scanner;") ∈ lw_all := lw_g (lw_at lw_m2 75 rfl) rfl
theorem q434 : (Jvm.Cond.fieldLink "LadderLots" (138 : Nat) "LadderLots" "reader" "LLadderLots$Reader;") ∈ lw_all := lw_g (lw_at lw_m2 76 rfl) rfl
theorem q435 : (Jvm.Cond.fieldLink "LadderLots" (142 : Nat) "LadderLots" "place" "I") ∈ lw_all := lw_g (lw_at lw_m2 77 rfl) rfl
theorem q436 : (Jvm.Cond.fieldLink "LadderLots" (148 : Nat) "LadderLots" "ladders" "Ljava/util/ArrayList;") ∈ lw_all := lw_g (lw_at lw_m2 78 rfl) rfl
theorem q437 : (Jvm.Cond.fieldLink "LadderLots" (152 : Nat) "LadderLots" "isOut" "[Z") ∈ lw_all := lw_g (lw_at lw_m2 79 rfl) rfl
theorem q438 : (Jvm.Cond.fieldLink "LadderLots" (155 : Nat) "LadderLots" "row" "[B") ∈ lw_all := lw_g (lw_at lw_m2 80 rfl) rfl
theorem q439 : (Jvm.Cond.fieldLink "LadderLots" (158 : Nat) "LadderLots" "changedAt" "[I") ∈ lw_all := lw_g (lw_at lw_m2 81 rfl) rfl
theorem q440 : (Jvm.Cond.fieldLink "LadderLots" (161 : Nat) "LadderLots" "nowWays" "[J") ∈ lw_all := lw_g (lw_at lw_m2 82 rfl) rfl
theorem q441 : (Jvm.Cond.fieldLink "LadderLots" (164 : Nat) "LadderLots" "nextWays" "[J") ∈ lw_all := lw_g (lw_at lw_m2 83 rfl) rfl
theorem q442 : (Jvm.Cond.fieldLink "LadderLots" (239 : Nat) "LadderLots" "logs" "I") ∈ lw_all := lw_g (lw_at lw_m2 84 rfl) rfl
theorem q443 : (Jvm.Cond.fieldLink "LadderLots" (167 : Nat) "LadderLots" "logOf" "[B") ∈ lw_all := lw_g (lw_at lw_m2 85 rfl) rfl
theorem q444 : (Jvm.Cond.fieldLink "LadderLots" (170 : Nat) "LadderLots" "logNumber" "[B") ∈ lw_all := lw_g (lw_at lw_m2 86 rfl) rfl
theorem q445 : (Jvm.Cond.fieldLink "LadderLots" (173 : Nat) "LadderLots" "logLeg" "[B") ∈ lw_all := lw_g (lw_at lw_m2 87 rfl) rfl
theorem q446 : (Jvm.Cond.fieldLink "LadderLots" (176 : Nat) "LadderLots" "isVoid" "[Z") ∈ lw_all := lw_g (lw_at lw_m2 88 rfl) rfl
theorem q447 : (Jvm.Cond.fieldLink "LadderLots" (181 : Nat) "LadderLots" "needs" "[[I") ∈ lw_all := lw_g (lw_at lw_m2 89 rfl) rfl
theorem q448 : (Jvm.Cond.fieldLink "LadderLots" (184 : Nat) "LadderLots" "costs" "[I") ∈ lw_all := lw_g (lw_at lw_m2 90 rfl) rfl
theorem q449 : (Jvm.Cond.fieldLink "LadderLots" (187 : Nat) "LadderLots" "after" "[I") ∈ lw_all := lw_g (lw_at lw_m2 91 rfl) rfl
theorem q450 : (Jvm.Cond.fieldLink "LadderLots" (421 : Nat) "LadderLots" "found" "I") ∈ lw_all := lw_g (lw_at lw_m2 92 rfl) rfl
theorem q451 : (Jvm.Cond.fieldLink "LadderLots" (190 : Nat) "LadderLots" "sets" "[I") ∈ lw_all := lw_g (lw_at lw_m2 93 rfl) rfl
theorem q452 : (Jvm.Cond.fieldLink "LadderLots" (193 : Nat) "LadderLots" "from" "[I") ∈ lw_all := lw_g (lw_at lw_m2 94 rfl) rfl
theorem q453 : (Jvm.Cond.fieldLink "LadderLots" (196 : Nat) "LadderLots" "by" "[B") ∈ lw_all := lw_g (lw_at lw_m2 95 rfl) rfl
theorem q454 : (Jvm.Cond.fieldLink "LadderLots" (205 : Nat) "LadderLots" "gates" "[LLadderLots$Step;") ∈ lw_all := lw_g (lw_at lw_m2 96 rfl) rfl
theorem q455 : (Jvm.Cond.laysFinal "LadderLots" "LadderLots" "orders" "LLadderLots$Orders;") ∈ lw_all := lw_g (lw_at lw_m2 97 rfl) rfl
theorem q456 : (Jvm.Cond.soleField "LadderLots" "orders") ∈ lw_all := lw_g (lw_at lw_m2 98 rfl) rfl
theorem q457 : (Jvm.Cond.laysFinal "LadderLots" "LadderLots" "leasts" "[J") ∈ lw_all := lw_g (lw_at lw_m2 99 rfl) rfl
theorem q458 : (Jvm.Cond.soleField "LadderLots" "leasts") ∈ lw_all := lw_g (lw_at lw_m2 100 rfl) rfl
theorem q459 : (Jvm.Cond.lays "LadderLots" "LadderLots" "leastsOf" "I") ∈ lw_all := lw_g (lw_at lw_m2 101 rfl) rfl
theorem q460 : (Jvm.Cond.soleField "LadderLots" "leastsOf") ∈ lw_all := lw_g (lw_at lw_m2 102 rfl) rfl
theorem q461 : (Jvm.Cond.laysFinal "LadderLots" "LadderLots" "word" "[B") ∈ lw_all := lw_g (lw_at lw_m2 103 rfl) rfl
theorem q462 : (Jvm.Cond.soleField "LadderLots" "word") ∈ lw_all := lw_g (lw_at lw_m2 104 rfl) rfl
theorem q463 : (Jvm.Cond.laysFinal "LadderLots" "LadderLots" "words" "[B") ∈ lw_all := lw_g (lw_at lw_m2 105 rfl) rfl
theorem q464 : (Jvm.Cond.soleField "LadderLots" "words") ∈ lw_all := lw_g (lw_at lw_m2 106 rfl) rfl
theorem q465 : (Jvm.Cond.laysFinal "LadderLots" "LadderLots" "far" "[I") ∈ lw_all := lw_g (lw_at lw_m2 107 rfl) rfl
theorem q466 : (Jvm.Cond.soleField "LadderLots" "far") ∈ lw_all := lw_g (lw_at lw_m2 108 rfl) rfl
theorem q467 : (Jvm.Cond.laysFinal "LadderLots" "LadderLots" "wait" "[I") ∈ lw_all := lw_g (lw_at lw_m2 109 rfl) rfl
theorem q468 : (Jvm.Cond.soleField "LadderLots" "wait") ∈ lw_all := lw_g (lw_at lw_m2 110 rfl) rfl
theorem q469 : (Jvm.Cond.laysFinal "LadderLots" "LadderLots" "isDone" "[Z") ∈ lw_all := lw_g (lw_at lw_m2 111 rfl) rfl
theorem q470 : (Jvm.Cond.soleField "LadderLots" "isDone") ∈ lw_all := lw_g (lw_at lw_m2 112 rfl) rfl
theorem q471 : (Jvm.Cond.laysFinal "LadderLots" "LadderLots" "scanner" "LLadderLots$Scanner;") ∈ lw_all := lw_g (lw_at lw_m2 113 rfl) rfl
theorem q472 : (Jvm.Cond.soleField "LadderLots" "scanner") ∈ lw_all := lw_g (lw_at lw_m2 114 rfl) rfl
theorem q473 : (Jvm.Cond.laysFinal "LadderLots" "LadderLots" "reader" "LLadderLots$Reader;") ∈ lw_all := lw_g (lw_at lw_m2 115 rfl) rfl
theorem q474 : (Jvm.Cond.soleField "LadderLots" "reader") ∈ lw_all := lw_g (lw_at lw_m2 116 rfl) rfl
theorem q475 : (Jvm.Cond.lays "LadderLots" "LadderLots" "place" "I") ∈ lw_all := lw_g (lw_at lw_m2 117 rfl) rfl
theorem q476 : (Jvm.Cond.soleField "LadderLots" "place") ∈ lw_all := lw_g (lw_at lw_m2 118 rfl) rfl
theorem q477 : (Jvm.Cond.laysFinal "LadderLots" "LadderLots" "ladders" "Ljava/util/ArrayList;") ∈ lw_all := lw_g (lw_at lw_m2 119 rfl) rfl
theorem q478 : (Jvm.Cond.soleField "LadderLots" "ladders") ∈ lw_all := lw_g (lw_at lw_m2 120 rfl) rfl
theorem q479 : (Jvm.Cond.laysFinal "LadderLots" "LadderLots" "isOut" "[Z") ∈ lw_all := lw_g (lw_at lw_m2 121 rfl) rfl
theorem q480 : (Jvm.Cond.soleField "LadderLots" "isOut") ∈ lw_all := lw_g (lw_at lw_m2 122 rfl) rfl
theorem q481 : (Jvm.Cond.laysFinal "LadderLots" "LadderLots" "row" "[B") ∈ lw_all := lw_g (lw_at lw_m2 123 rfl) rfl
theorem q482 : (Jvm.Cond.soleField "LadderLots" "row") ∈ lw_all := lw_g (lw_at lw_m2 124 rfl) rfl
theorem q483 : (Jvm.Cond.laysFinal "LadderLots" "LadderLots" "changedAt" "[I") ∈ lw_all := lw_g (lw_at lw_m2 125 rfl) rfl
theorem q484 : (Jvm.Cond.soleField "LadderLots" "changedAt") ∈ lw_all := lw_g (lw_at lw_m2 126 rfl) rfl
theorem q485 : (Jvm.Cond.lays "LadderLots" "LadderLots" "nowWays" "[J") ∈ lw_all := lw_g (lw_at lw_m2 127 rfl) rfl
theorem q486 : (Jvm.Cond.soleField "LadderLots" "nowWays") ∈ lw_all := lw_g (lw_at lw_m2 128 rfl) rfl
theorem q487 : (Jvm.Cond.lays "LadderLots" "LadderLots" "nextWays" "[J") ∈ lw_all := lw_g (lw_at lw_m2 129 rfl) rfl
theorem q488 : (Jvm.Cond.soleField "LadderLots" "nextWays") ∈ lw_all := lw_g (lw_at lw_m2 130 rfl) rfl
theorem q489 : (Jvm.Cond.lays "LadderLots" "LadderLots" "logs" "I") ∈ lw_all := lw_g (lw_at lw_m2 131 rfl) rfl
theorem q490 : (Jvm.Cond.soleField "LadderLots" "logs") ∈ lw_all := lw_g (lw_at lw_m2 132 rfl) rfl
theorem q491 : (Jvm.Cond.laysFinal "LadderLots" "LadderLots" "logOf" "[B") ∈ lw_all := lw_g (lw_at lw_m2 133 rfl) rfl
theorem q492 : (Jvm.Cond.soleField "LadderLots" "logOf") ∈ lw_all := lw_g (lw_at lw_m2 134 rfl) rfl
theorem q493 : (Jvm.Cond.laysFinal "LadderLots" "LadderLots" "logNumber" "[B") ∈ lw_all := lw_g (lw_at lw_m2 135 rfl) rfl
theorem q494 : (Jvm.Cond.soleField "LadderLots" "logNumber") ∈ lw_all := lw_g (lw_at lw_m2 136 rfl) rfl
theorem q495 : (Jvm.Cond.laysFinal "LadderLots" "LadderLots" "logLeg" "[B") ∈ lw_all := lw_g (lw_at lw_m2 137 rfl) rfl
theorem q496 : (Jvm.Cond.soleField "LadderLots" "logLeg") ∈ lw_all := lw_g (lw_at lw_m2 138 rfl) rfl
theorem q497 : (Jvm.Cond.laysFinal "LadderLots" "LadderLots" "isVoid" "[Z") ∈ lw_all := lw_g (lw_at lw_m2 139 rfl) rfl
theorem q498 : (Jvm.Cond.soleField "LadderLots" "isVoid") ∈ lw_all := lw_g (lw_at lw_m2 140 rfl) rfl
theorem q499 : (Jvm.Cond.laysFinal "LadderLots" "LadderLots" "needs" "[[I") ∈ lw_all := lw_g (lw_at lw_m2 141 rfl) rfl
theorem q500 : (Jvm.Cond.soleField "LadderLots" "needs") ∈ lw_all := lw_g (lw_at lw_m2 142 rfl) rfl
theorem q501 : (Jvm.Cond.laysFinal "LadderLots" "LadderLots" "costs" "[I") ∈ lw_all := lw_g (lw_at lw_m2 143 rfl) rfl
theorem q502 : (Jvm.Cond.soleField "LadderLots" "costs") ∈ lw_all := lw_g (lw_at lw_m2 144 rfl) rfl
theorem q503 : (Jvm.Cond.laysFinal "LadderLots" "LadderLots" "after" "[I") ∈ lw_all := lw_g (lw_at lw_m2 145 rfl) rfl
theorem q504 : (Jvm.Cond.soleField "LadderLots" "after") ∈ lw_all := lw_g (lw_at lw_m2 146 rfl) rfl
theorem q505 : (Jvm.Cond.lays "LadderLots" "LadderLots" "found" "I") ∈ lw_all := lw_g (lw_at lw_m2 147 rfl) rfl
theorem q506 : (Jvm.Cond.soleField "LadderLots" "found") ∈ lw_all := lw_g (lw_at lw_m2 148 rfl) rfl
theorem q507 : (Jvm.Cond.laysFinal "LadderLots" "LadderLots" "sets" "[I") ∈ lw_all := lw_g (lw_at lw_m2 149 rfl) rfl
theorem q508 : (Jvm.Cond.soleField "LadderLots" "sets") ∈ lw_all := lw_g (lw_at lw_m2 150 rfl) rfl
theorem q509 : (Jvm.Cond.laysFinal "LadderLots" "LadderLots" "from" "[I") ∈ lw_all := lw_g (lw_at lw_m2 151 rfl) rfl
theorem q510 : (Jvm.Cond.soleField "LadderLots" "from") ∈ lw_all := lw_g (lw_at lw_m2 152 rfl) rfl
theorem q511 : (Jvm.Cond.laysFinal "LadderLots" "LadderLots" "by" "[B") ∈ lw_all := lw_g (lw_at lw_m2 153 rfl) rfl
theorem q512 : (Jvm.Cond.soleField "LadderLots" "by") ∈ lw_all := lw_g (lw_at lw_m2 154 rfl) rfl
theorem q513 : (Jvm.Cond.laysFinal "LadderLots" "LadderLots" "gates" "[LLadderLots$Step;") ∈ lw_all := lw_g (lw_at lw_m2 155 rfl) rfl
theorem q514 : (Jvm.Cond.soleField "LadderLots" "gates") ∈ lw_all := lw_g (lw_at lw_m2 156 rfl) rfl
theorem q515 : (Jvm.Cond.superclass "LadderLots" "java/lang/Object") ∈ lw_all := lw_g (lw_at lw_m2 157 rfl) rfl
theorem q517 : (Jvm.Cond.instanceMethod ({ cls := "LadderLots", name := "feed", desc := "(IIIII)I" } : Jvm.MethodName)) ∈ lw_all := lw_g (lw_at lw_m2 159 rfl) rfl
theorem q518 : (Jvm.Cond.selects "LadderLots" ({ cls := "LadderLots", name := "feed", desc := "(IIIII)I" } : Jvm.MethodName) ({ cls := "LadderLots", name := "feed", desc := "(IIIII)I" } : Jvm.MethodName)) ∈ lw_all := lw_g (lw_at lw_m2 160 rfl) rfl
theorem q519 : (Jvm.Cond.code ({ cls := "LadderLots", name := "feed", desc := "(IIIII)I" } : Jvm.MethodName) prog_1_method_19_code (6 : Nat) (Option.some Jvm.ClassFile.FieldType.int)) ∈ lw_all := lw_g (lw_at lw_m2 161 rfl) rfl
theorem q520 : (Jvm.Cond.methodLink "LadderLots" (209 : Nat) ({ cls := "LadderLots$Scanner", name := "feed", desc := "(IIIII)I" } : Jvm.MethodName)) ∈ lw_all := lw_g (lw_at lw_m2 162 rfl) rfl
theorem q529 : (Jvm.Cond.instanceMethod ({ cls := "LadderLots", name := "back", desc := "(I)I" } : Jvm.MethodName)) ∈ lw_all := lw_g (lw_at lw_m2 171 rfl) rfl
theorem q530 : (Jvm.Cond.selects "LadderLots" ({ cls := "LadderLots", name := "back", desc := "(I)I" } : Jvm.MethodName) ({ cls := "LadderLots", name := "back", desc := "(I)I" } : Jvm.MethodName)) ∈ lw_all := lw_g (lw_at lw_m2 172 rfl) rfl
theorem q531 : (Jvm.Cond.code ({ cls := "LadderLots", name := "back", desc := "(I)I" } : Jvm.MethodName) prog_1_method_20_code (2 : Nat) (Option.some Jvm.ClassFile.FieldType.int)) ∈ lw_all := lw_g (lw_at lw_m2 173 rfl) rfl
theorem q532 : (Jvm.Cond.methodLink "LadderLots" (212 : Nat) ({ cls := "LadderLots$Scanner", name := "back", desc := "(I)I" } : Jvm.MethodName)) ∈ lw_all := lw_g (lw_at lw_m2 174 rfl) rfl
theorem q538 : (Jvm.Cond.instanceMethod ({ cls := "LadderLots", name := "read", desc := "()I" } : Jvm.MethodName)) ∈ lw_all := lw_g (lw_at lw_m2 180 rfl) rfl
theorem q539 : (Jvm.Cond.selects "LadderLots" ({ cls := "LadderLots", name := "read", desc := "()I" } : Jvm.MethodName) ({ cls := "LadderLots", name := "read", desc := "()I" } : Jvm.MethodName)) ∈ lw_all := lw_g (lw_at lw_m2 181 rfl) rfl
theorem q540 : (Jvm.Cond.codeWith ({ cls := "LadderLots", name := "read", desc := "()I" } : Jvm.MethodName) prog_1_method_21_code (2 : Nat) (Option.some Jvm.ClassFile.FieldType.int) [((27 : Nat), (42 : Nat), (45 : Nat), (230 : Nat))]) ∈ lw_all := lw_g (lw_at lw_m2 182 rfl) rfl
theorem q541 : (Jvm.Cond.classLink "LadderLots" (230 : Nat) "LadderLots$Fault") ∈ lw_all := lw_g (lw_at lw_m2 183 rfl) rfl
theorem q542 : (Jvm.Cond.methodLink "LadderLots" (215 : Nat) ({ cls := "java/util/ArrayList", name := "size", desc := "()I" } : Jvm.MethodName)) ∈ lw_all := lw_g (lw_at lw_m2 184 rfl) rfl
theorem q546 : (Jvm.Cond.methodLink "LadderLots" (219 : Nat) ({ cls := "LadderLots$Scanner", name := "cut", desc := "()V" } : Jvm.MethodName)) ∈ lw_all := lw_g (lw_at lw_m2 188 rfl) rfl
theorem q632 : (Jvm.Cond.methodLink "LadderLots" (222 : Nat) ({ cls := "LadderLots$Reader", name := "read", desc := "()LLadderLots$Ladder;" } : Jvm.MethodName)) ∈ lw_all := lw_g (lw_at lw_m3 34 rfl) rfl
theorem q700 : (Jvm.Cond.fieldLinkNest "LadderLots" (233 : Nat) "LadderLots$Fault" "kind" "I" "LadderLots") ∈ lw_tbl := lw_at lw_m3 102 rfl
theorem q702 : (Jvm.Cond.fieldLinkNest "LadderLots" (232 : Nat) "LadderLots$Fault" "place" "I" "LadderLots") ∈ lw_tbl := lw_at lw_m3 104 rfl
theorem q746 : (Jvm.Cond.fieldLinkNest "LadderLots" (328 : Nat) "LadderLots$Steps" "list" "Ljava/util/ArrayList;" "LadderLots") ∈ lw_tbl := lw_at lw_m3 148 rfl
theorem q749 : (Jvm.Cond.fieldLinkNest "LadderLots" (295 : Nat) "LadderLots$Steps" "maybes" "I" "LadderLots") ∈ lw_tbl := lw_at lw_m3 151 rfl
theorem q820 : (Jvm.Cond.selects "LadderLots" ({ cls := "java/lang/Object", name := "getClass", desc := "()Ljava/lang/Class;" } : Jvm.MethodName) ({ cls := "java/lang/Object", name := "getClass", desc := "()Ljava/lang/Class;" } : Jvm.MethodName)) ∈ lw_all := lw_g (lw_at lw_m3 222 rfl) rfl
theorem q882 : (Jvm.Cond.fieldLinkNest "LadderLots" (319 : Nat) "LadderLots$Maybe" "a" "I" "LadderLots") ∈ lw_tbl := lw_at lw_m4 44 rfl
theorem q884 : (Jvm.Cond.fieldLinkNest "LadderLots" (322 : Nat) "LadderLots$Maybe" "b" "I" "LadderLots") ∈ lw_tbl := lw_at lw_m4 46 rfl
theorem q951 : (Jvm.Cond.fieldLinkNest "LadderLots" (254 : Nat) "LadderLots$Ladder" "legs" "I" "LadderLots") ∈ lw_tbl := lw_at lw_m4 113 rfl
theorem q953 : (Jvm.Cond.fieldLinkNest "LadderLots" (257 : Nat) "LadderLots$Ladder" "steps" "LLadderLots$Steps;" "LadderLots") ∈ lw_tbl := lw_at lw_m4 115 rfl
theorem q959 : (Jvm.Cond.methodLink "LadderLots" (226 : Nat) ({ cls := "java/util/ArrayList", name := "add", desc := "(Ljava/lang/Object;)Z" } : Jvm.MethodName)) ∈ lw_all := lw_g (lw_at lw_m4 121 rfl) rfl
theorem q961 : (Jvm.Cond.instanceMethod ({ cls := "LadderLots", name := "place", desc := "()I" } : Jvm.MethodName)) ∈ lw_all := lw_g (lw_at lw_m4 123 rfl) rfl
theorem q962 : (Jvm.Cond.selects "LadderLots" ({ cls := "LadderLots", name := "place", desc := "()I" } : Jvm.MethodName) ({ cls := "LadderLots", name := "place", desc := "()I" } : Jvm.MethodName)) ∈ lw_all := lw_g (lw_at lw_m4 124 rfl) rfl
theorem q963 : (Jvm.Cond.code ({ cls := "LadderLots", name := "place", desc := "()I" } : Jvm.MethodName) prog_1_method_22_code (1 : Nat) (Option.some Jvm.ClassFile.FieldType.int)) ∈ lw_all := lw_g (lw_at lw_m4 125 rfl) rfl
theorem q965 : (Jvm.Cond.instanceMethod ({ cls := "LadderLots", name := "clear", desc := "()I" } : Jvm.MethodName)) ∈ lw_all := lw_g (lw_at lw_m4 127 rfl) rfl
theorem q966 : (Jvm.Cond.selects "LadderLots" ({ cls := "LadderLots", name := "clear", desc := "()I" } : Jvm.MethodName) ({ cls := "LadderLots", name := "clear", desc := "()I" } : Jvm.MethodName)) ∈ lw_all := lw_g (lw_at lw_m4 128 rfl) rfl
theorem q967 : (Jvm.Cond.code ({ cls := "LadderLots", name := "clear", desc := "()I" } : Jvm.MethodName) prog_1_method_23_code (2 : Nat) (Option.some Jvm.ClassFile.FieldType.int)) ∈ lw_all := lw_g (lw_at lw_m4 129 rfl) rfl
theorem q968 : (Jvm.Cond.methodLink "LadderLots" (236 : Nat) ({ cls := "java/util/ArrayList", name := "clear", desc := "()V" } : Jvm.MethodName)) ∈ lw_all := lw_g (lw_at lw_m4 130 rfl) rfl
theorem q973 : (Jvm.Cond.instanceMethod ({ cls := "LadderLots", name := "copy", desc := "(IZZ)I" } : Jvm.MethodName)) ∈ lw_all := lw_g (lw_at lw_m4 135 rfl) rfl
theorem q974 : (Jvm.Cond.selects "LadderLots" ({ cls := "LadderLots", name := "copy", desc := "(IZZ)I" } : Jvm.MethodName) ({ cls := "LadderLots", name := "copy", desc := "(IZZ)I" } : Jvm.MethodName)) ∈ lw_all := lw_g (lw_at lw_m4 136 rfl) rfl
theorem q975 : (Jvm.Cond.code ({ cls := "LadderLots", name := "copy", desc := "(IZZ)I" } : Jvm.MethodName) prog_1_method_26_code (5 : Nat) (Option.some Jvm.ClassFile.FieldType.int)) ∈ lw_all := lw_g (lw_at lw_m4 137 rfl) rfl
theorem q976 : (Jvm.Cond.methodLink "LadderLots" (247 : Nat) ({ cls := "LadderLots", name := "isLadder", desc := "(I)Z" } : Jvm.MethodName)) ∈ lw_all := lw_g (lw_at lw_m4 138 rfl) rfl
theorem q977 : (Jvm.Cond.privateMethod ({ cls := "LadderLots", name := "isLadder", desc := "(I)Z" } : Jvm.MethodName)) ∈ lw_tbl := lw_at lw_m4 139 rfl
theorem q978 : (Jvm.Cond.instanceMethod ({ cls := "LadderLots", name := "isLadder", desc := "(I)Z" } : Jvm.MethodName)) ∈ lw_all := lw_g (lw_at lw_m4 140 rfl) rfl
theorem q979 : (Jvm.Cond.code ({ cls := "LadderLots", name := "isLadder", desc := "(I)Z" } : Jvm.MethodName) prog_1_method_24_code (2 : Nat) (Option.some Jvm.ClassFile.FieldType.boolean)) ∈ lw_all := lw_g (lw_at lw_m4 141 rfl) rfl
theorem q980 : (Jvm.Cond.methodLink "LadderLots" (250 : Nat) ({ cls := "java/util/ArrayList", name := "get", desc := "(I)Ljava/lang/Object;" } : Jvm.MethodName)) ∈ lw_all := lw_g (lw_at lw_m4 142 rfl) rfl
theorem q981 : (Jvm.Cond.classLink "LadderLots" (242 : Nat) "LadderLots$Ladder") ∈ lw_all := lw_g (lw_at lw_m4 143 rfl) rfl
theorem q982 : (Jvm.Cond.methodLink "LadderLots" (261 : Nat) ({ cls := "LadderLots$Steps", name := "changed", desc := "(ZZI)LLadderLots$Steps;" } : Jvm.MethodName)) ∈ lw_all := lw_g (lw_at lw_m4 144 rfl) rfl
theorem q983 : (Jvm.Cond.methodLink "LadderLots" (267 : Nat) ({ cls := "LadderLots", name := "comes", desc := "(ILLadderLots$Steps;)I" } : Jvm.MethodName)) ∈ lw_all := lw_g (lw_at lw_m4 145 rfl) rfl
theorem q984 : (Jvm.Cond.privateMethod ({ cls := "LadderLots", name := "comes", desc := "(ILLadderLots$Steps;)I" } : Jvm.MethodName)) ∈ lw_tbl := lw_at lw_m4 146 rfl
theorem q985 : (Jvm.Cond.instanceMethod ({ cls := "LadderLots", name := "comes", desc := "(ILLadderLots$Steps;)I" } : Jvm.MethodName)) ∈ lw_all := lw_g (lw_at lw_m4 147 rfl) rfl
theorem q986 : (Jvm.Cond.code ({ cls := "LadderLots", name := "comes", desc := "(ILLadderLots$Steps;)I" } : Jvm.MethodName) prog_1_method_25_code (3 : Nat) (Option.some Jvm.ClassFile.FieldType.int)) ∈ lw_all := lw_g (lw_at lw_m4 148 rfl) rfl
theorem q987 : (Jvm.Cond.methodLink "LadderLots" (244 : Nat) ({ cls := "LadderLots$Ladder", name := "<init>", desc := "(ILLadderLots$Steps;)V" } : Jvm.MethodName)) ∈ lw_all := lw_g (lw_at lw_m4 149 rfl) rfl
theorem q989 : (Jvm.Cond.instanceMethod ({ cls := "LadderLots", name := "join", desc := "(II)I" } : Jvm.MethodName)) ∈ lw_all := lw_g (lw_at lw_m4 151 rfl) rfl
theorem q990 : (Jvm.Cond.selects "LadderLots" ({ cls := "LadderLots", name := "join", desc := "(II)I" } : Jvm.MethodName) ({ cls := "LadderLots", name := "join", desc := "(II)I" } : Jvm.MethodName)) ∈ lw_all := lw_g (lw_at lw_m4 152 rfl) rfl
theorem q991 : (Jvm.Cond.code ({ cls := "LadderLots", name := "join", desc := "(II)I" } : Jvm.MethodName) prog_1_method_27_code (4 : Nat) (Option.some Jvm.ClassFile.FieldType.int)) ∈ lw_all := lw_g (lw_at lw_m4 153 rfl) rfl
theorem q992 : (Jvm.Cond.classLink "LadderLots" (262 : Nat) "LadderLots$Steps") ∈ lw_all := lw_g (lw_at lw_m4 154 rfl) rfl
theorem q993 : (Jvm.Cond.methodLinkNest "LadderLots" (271 : Nat) ({ cls := "LadderLots$Steps", name := "<init>", desc := "()V" } : Jvm.MethodName) "LadderLots") ∈ lw_tbl := lw_at lw_m4 155 rfl
theorem q994 : (Jvm.Cond.methodLink "LadderLots" (272 : Nat) ({ cls := "LadderLots$Steps", name := "addAll", desc := "(LLadderLots$Steps;I)V" } : Jvm.MethodName)) ∈ lw_all := lw_g (lw_at lw_m4 156 rfl) rfl
theorem q995 : (Jvm.Cond.methodLink "LadderLots" (276 : Nat) ({ cls := "LadderLots$Steps", name := "isLong", desc := "()Z" } : Jvm.MethodName)) ∈ lw_all := lw_g (lw_at lw_m4 157 rfl) rfl
theorem q997 : (Jvm.Cond.instanceMethod ({ cls := "LadderLots", name := "lots", desc := "(IIIZ)I" } : Jvm.MethodName)) ∈ lw_all := lw_g (lw_at lw_m4 159 rfl) rfl
theorem q998 : (Jvm.Cond.selects "LadderLots" ({ cls := "LadderLots", name := "lots", desc := "(IIIZ)I" } : Jvm.MethodName) ({ cls := "LadderLots", name := "lots", desc := "(IIIZ)I" } : Jvm.MethodName)) ∈ lw_all := lw_g (lw_at lw_m4 160 rfl) rfl
theorem q999 : (Jvm.Cond.code ({ cls := "LadderLots", name := "lots", desc := "(IIIZ)I" } : Jvm.MethodName) prog_1_method_30_code (8 : Nat) (Option.some Jvm.ClassFile.FieldType.int)) ∈ lw_all := lw_g (lw_at lw_m4 161 rfl) rfl
theorem q1000 : (Jvm.Cond.methodLink "LadderLots" (284 : Nat) ({ cls := "LadderLots", name := "lot", desc := "(III)I" } : Jvm.MethodName)) ∈ lw_all := lw_g (lw_at lw_m4 162 rfl) rfl
theorem q1001 : (Jvm.Cond.static ({ cls := "LadderLots", name := "lot", desc := "(III)I" } : Jvm.MethodName)) ∈ lw_all := lw_g (lw_at lw_m4 163 rfl) rfl
theorem q1002 : (Jvm.Cond.code ({ cls := "LadderLots", name := "lot", desc := "(III)I" } : Jvm.MethodName) prog_1_method_29_code (3 : Nat) (Option.some Jvm.ClassFile.FieldType.int)) ∈ lw_all := lw_g (lw_at lw_m4 164 rfl) rfl
theorem q1003 : (Jvm.Cond.methodLink "LadderLots" (281 : Nat) ({ cls := "LadderLots", name := "mixed", desc := "(II)I" } : Jvm.MethodName)) ∈ lw_all := lw_g (lw_at lw_m4 165 rfl) rfl
theorem q1004 : (Jvm.Cond.static ({ cls := "LadderLots", name := "mixed", desc := "(II)I" } : Jvm.MethodName)) ∈ lw_all := lw_g (lw_at lw_m4 166 rfl) rfl
theorem q1005 : (Jvm.Cond.code ({ cls := "LadderLots", name := "mixed", desc := "(II)I" } : Jvm.MethodName) prog_1_method_28_code (3 : Nat) (Option.some Jvm.ClassFile.FieldType.int)) ∈ lw_all := lw_g (lw_at lw_m4 167 rfl) rfl
theorem q1006 : (Jvm.Cond.constant "LadderLots" (280 : Nat) (1103515245 : Int32)) ∈ lw_all := lw_g (lw_at lw_m4 168 rfl) rfl
theorem q1007 : (Jvm.Cond.classLink "LadderLots" (288 : Nat) "LadderLots$Rung") ∈ lw_all := lw_g (lw_at lw_m4 169 rfl) rfl
theorem q1008 : (Jvm.Cond.methodLink "LadderLots" (290 : Nat) ({ cls := "LadderLots$Rung", name := "<init>", desc := "(I)V" } : Jvm.MethodName)) ∈ lw_all := lw_g (lw_at lw_m4 170 rfl) rfl
theorem q1009 : (Jvm.Cond.methodLink "LadderLots" (291 : Nat) ({ cls := "LadderLots$Steps", name := "add", desc := "(LLadderLots$Step;)V" } : Jvm.MethodName)) ∈ lw_all := lw_g (lw_at lw_m4 171 rfl) rfl
theorem q1011 : (Jvm.Cond.instanceMethod ({ cls := "LadderLots", name := "ladder", desc := "(II)I" } : Jvm.MethodName)) ∈ lw_all := lw_g (lw_at lw_m4 173 rfl) rfl
theorem q1012 : (Jvm.Cond.selects "LadderLots" ({ cls := "LadderLots", name := "ladder", desc := "(II)I" } : Jvm.MethodName) ({ cls := "LadderLots", name := "ladder", desc := "(II)I" } : Jvm.MethodName)) ∈ lw_all := lw_g (lw_at lw_m4 174 rfl) rfl
theorem q1013 : (Jvm.Cond.code ({ cls := "LadderLots", name := "ladder", desc := "(II)I" } : Jvm.MethodName) prog_1_method_31_code (4 : Nat) (Option.some Jvm.ClassFile.FieldType.int)) ∈ lw_all := lw_g (lw_at lw_m4 175 rfl) rfl
theorem q1014 : (Jvm.Cond.methodLink "LadderLots" (294 : Nat) ({ cls := "LadderLots$Ladder", name := "size", desc := "()I" } : Jvm.MethodName)) ∈ lw_all := lw_g (lw_at lw_m4 176 rfl) rfl
theorem q1019 : (Jvm.Cond.methodLink "LadderLots" (298 : Nat) ({ cls := "LadderLots$Ladder", name := "layers", desc := "()I" } : Jvm.MethodName)) ∈ lw_all := lw_g (lw_at lw_m4 181 rfl) rfl
theorem q1035 : (Jvm.Cond.methodLink "LadderLots" (301 : Nat) ({ cls := "LadderLots$Ladder", name := "isPlain", desc := "()Z" } : Jvm.MethodName)) ∈ lw_all := lw_g (lw_at lw_m4 197 rfl) rfl
theorem q1041 : (Jvm.Cond.instanceMethod ({ cls := "LadderLots", name := "element", desc := "(III)I" } : Jvm.MethodName)) ∈ lw_all := lw_g (lw_at lw_m4 203 rfl) rfl
theorem q1042 : (Jvm.Cond.selects "LadderLots" ({ cls := "LadderLots", name := "element", desc := "(III)I" } : Jvm.MethodName) ({ cls := "LadderLots", name := "element", desc := "(III)I" } : Jvm.MethodName)) ∈ lw_all := lw_g (lw_at lw_m4 204 rfl) rfl
theorem q1043 : (Jvm.Cond.code ({ cls := "LadderLots", name := "element", desc := "(III)I" } : Jvm.MethodName) prog_1_method_33_code (5 : Nat) (Option.some Jvm.ClassFile.FieldType.int)) ∈ lw_all := lw_g (lw_at lw_m4 205 rfl) rfl
theorem q1044 : (Jvm.Cond.methodLink "LadderLots" (304 : Nat) ({ cls := "LadderLots", name := "isElement", desc := "(II)Z" } : Jvm.MethodName)) ∈ lw_all := lw_g (lw_at lw_m4 206 rfl) rfl
theorem q1045 : (Jvm.Cond.privateMethod ({ cls := "LadderLots", name := "isElement", desc := "(II)Z" } : Jvm.MethodName)) ∈ lw_tbl := lw_at lw_m4 207 rfl
theorem q1046 : (Jvm.Cond.instanceMethod ({ cls := "LadderLots", name := "isElement", desc := "(II)Z" } : Jvm.MethodName)) ∈ lw_all := lw_g (lw_at lw_m4 208 rfl) rfl
theorem q1047 : (Jvm.Cond.code ({ cls := "LadderLots", name := "isElement", desc := "(II)Z" } : Jvm.MethodName) prog_1_method_32_code (3 : Nat) (Option.some Jvm.ClassFile.FieldType.boolean)) ∈ lw_all := lw_g (lw_at lw_m4 209 rfl) rfl
theorem q1048 : (Jvm.Cond.methodLink "LadderLots" (307 : Nat) ({ cls := "LadderLots$Ladder", name := "at", desc := "(I)LLadderLots$Step;" } : Jvm.MethodName)) ∈ lw_all := lw_g (lw_at lw_m4 210 rfl) rfl
theorem q1049 : (Jvm.Cond.methodLink "LadderLots" (314 : Nat) ({ cls := "LadderLots$Step", name := "sort", desc := "()I" } : Jvm.MethodName)) ∈ lw_all := lw_g (lw_at lw_m4 211 rfl) rfl
theorem q1050 : (Jvm.Cond.classLink "LadderLots" (317 : Nat) "LadderLots$Maybe") ∈ lw_all := lw_g (lw_at lw_m4 212 rfl) rfl
theorem q1051 : (Jvm.Cond.methodLink "LadderLots" (325 : Nat) ({ cls := "LadderLots$Ladder", name := "layer", desc := "(I)I" } : Jvm.MethodName)) ∈ lw_all := lw_g (lw_at lw_m4 213 rfl) rfl
theorem q1053 : (Jvm.Cond.instanceMethod ({ cls := "LadderLots", name := "down", desc := "(III)I" } : Jvm.MethodName)) ∈ lw_all := lw_g (lw_at lw_m4 215 rfl) rfl
theorem q1054 : (Jvm.Cond.selects "LadderLots" ({ cls := "LadderLots", name := "down", desc := "(III)I" } : Jvm.MethodName) ({ cls := "LadderLots", name := "down", desc := "(III)I" } : Jvm.MethodName)) ∈ lw_all := lw_g (lw_at lw_m4 216 rfl) rfl
theorem q1055 : (Jvm.Cond.code ({ cls := "LadderLots", name := "down", desc := "(III)I" } : Jvm.MethodName) prog_1_method_37_code (4 : Nat) (Option.some Jvm.ClassFile.FieldType.int)) ∈ lw_all := lw_g (lw_at lw_m4 217 rfl) rfl
theorem q1056 : (Jvm.Cond.methodLink "LadderLots" (334 : Nat) ({ cls := "LadderLots", name := "isOrderOf", desc := "(II)Z" } : Jvm.MethodName)) ∈ lw_all := lw_g (lw_at lw_m4 218 rfl) rfl
theorem q1057 : (Jvm.Cond.privateMethod ({ cls := "LadderLots", name := "isOrderOf", desc := "(II)Z" } : Jvm.MethodName)) ∈ lw_tbl := lw_at lw_m4 219 rfl
theorem q1058 : (Jvm.Cond.instanceMethod ({ cls := "LadderLots", name := "isOrderOf", desc := "(II)Z" } : Jvm.MethodName)) ∈ lw_all := lw_g (lw_at lw_m4 220 rfl) rfl
theorem q1059 : (Jvm.Cond.code ({ cls := "LadderLots", name := "isOrderOf", desc := "(II)Z" } : Jvm.MethodName) prog_1_method_34_code (3 : Nat) (Option.some Jvm.ClassFile.FieldType.boolean)) ∈ lw_all := lw_g (lw_at lw_m4 221 rfl) rfl
theorem q1060 : (Jvm.Cond.methodLink "LadderLots" (337 : Nat) ({ cls := "LadderLots", name := "isThere", desc := "(II)Z" } : Jvm.MethodName)) ∈ lw_all := lw_g (lw_at lw_m4 222 rfl) rfl
theorem q1061 : (Jvm.Cond.privateMethod ({ cls := "LadderLots", name := "isThere", desc := "(II)Z" } : Jvm.MethodName)) ∈ lw_tbl := lw_at lw_m4 223 rfl
theorem q1062 : (Jvm.Cond.instanceMethod ({ cls := "LadderLots", name := "isThere", desc := "(II)Z" } : Jvm.MethodName)) ∈ lw_all := lw_g (lw_at lw_m4 224 rfl) rfl
theorem q1063 : (Jvm.Cond.code ({ cls := "LadderLots", name := "isThere", desc := "(II)Z" } : Jvm.MethodName) prog_1_method_36_code (3 : Nat) (Option.some Jvm.ClassFile.FieldType.boolean)) ∈ lw_all := lw_g (lw_at lw_m4 225 rfl) rfl
theorem q1064 : (Jvm.Cond.methodLink "LadderLots" (340 : Nat) ({ cls := "LadderLots", name := "goes", desc := "(LLadderLots$Ladder;II)I" } : Jvm.MethodName)) ∈ lw_all := lw_g (lw_at lw_m4 226 rfl) rfl
theorem q1065 : (Jvm.Cond.privateMethod ({ cls := "LadderLots", name := "goes", desc := "(LLadderLots$Ladder;II)I" } : Jvm.MethodName)) ∈ lw_tbl := lw_at lw_m4 227 rfl
theorem q1066 : (Jvm.Cond.instanceMethod ({ cls := "LadderLots", name := "goes", desc := "(LLadderLots$Ladder;II)I" } : Jvm.MethodName)) ∈ lw_all := lw_g (lw_at lw_m4 228 rfl) rfl
theorem q1067 : (Jvm.Cond.code ({ cls := "LadderLots", name := "goes", desc := "(LLadderLots$Ladder;II)I" } : Jvm.MethodName) prog_1_method_35_code (8 : Nat) (Option.some Jvm.ClassFile.FieldType.int)) ∈ lw_all := lw_g (lw_at lw_m4 229 rfl) rfl
theorem q1068 : (Jvm.Cond.methodLink "LadderLots" (331 : Nat) ({ cls := "LadderLots$Orders", name := "after", desc := "(ILLadderLots$Step;Z)I" } : Jvm.MethodName)) ∈ lw_all := lw_g (lw_at lw_m4 230 rfl) rfl
theorem q1094 : (Jvm.Cond.instanceMethod ({ cls := "LadderLots", name := "ends", desc := "(IIII)I" } : Jvm.MethodName)) ∈ lw_all := lw_g (lw_at lw_m5 16 rfl) rfl
theorem q1095 : (Jvm.Cond.selects "LadderLots" ({ cls := "LadderLots", name := "ends", desc := "(IIII)I" } : Jvm.MethodName) ({ cls := "LadderLots", name := "ends", desc := "(IIII)I" } : Jvm.MethodName)) ∈ lw_all := lw_g (lw_at lw_m5 17 rfl) rfl
theorem q1096 : (Jvm.Cond.code ({ cls := "LadderLots", name := "ends", desc := "(IIII)I" } : Jvm.MethodName) prog_1_method_38_code (6 : Nat) (Option.some Jvm.ClassFile.FieldType.int)) ∈ lw_all := lw_g (lw_at lw_m5 18 rfl) rfl
theorem q1097 : (Jvm.Cond.methodLink "LadderLots" (344 : Nat) ({ cls := "LadderLots", name := "down", desc := "(III)I" } : Jvm.MethodName)) ∈ lw_all := lw_g (lw_at lw_m5 19 rfl) rfl
theorem q1098 : (Jvm.Cond.methodLink "LadderLots" (347 : Nat) ({ cls := "LadderLots$Orders", name := "placeOf", desc := "(II)I" } : Jvm.MethodName)) ∈ lw_all := lw_g (lw_at lw_m5 20 rfl) rfl
theorem q1100 : (Jvm.Cond.instanceMethod ({ cls := "LadderLots", name := "rank", desc := "(I)J" } : Jvm.MethodName)) ∈ lw_all := lw_g (lw_at lw_m5 22 rfl) rfl
theorem q1101 : (Jvm.Cond.selects "LadderLots" ({ cls := "LadderLots", name := "rank", desc := "(I)J" } : Jvm.MethodName) ({ cls := "LadderLots", name := "rank", desc := "(I)J" } : Jvm.MethodName)) ∈ lw_all := lw_g (lw_at lw_m5 23 rfl) rfl
theorem q1102 : (Jvm.Cond.code ({ cls := "LadderLots", name := "rank", desc := "(I)J" } : Jvm.MethodName) prog_1_method_39_code (5 : Nat) (Option.some Jvm.ClassFile.FieldType.long)) ∈ lw_all := lw_g (lw_at lw_m5 24 rfl) rfl
theorem q1103 : (Jvm.Cond.constantLong "LadderLots" (350 : Nat) (-2 : Int64)) ∈ lw_all := lw_g (lw_at lw_m5 25 rfl) rfl
theorem q1105 : (Jvm.Cond.instanceMethod ({ cls := "LadderLots", name := "cleared", desc := "(I)I" } : Jvm.MethodName)) ∈ lw_all := lw_g (lw_at lw_m5 27 rfl) rfl
theorem q1106 : (Jvm.Cond.selects "LadderLots" ({ cls := "LadderLots", name := "cleared", desc := "(I)I" } : Jvm.MethodName) ({ cls := "LadderLots", name := "cleared", desc := "(I)I" } : Jvm.MethodName)) ∈ lw_all := lw_g (lw_at lw_m5 28 rfl) rfl
theorem q1107 : (Jvm.Cond.code ({ cls := "LadderLots", name := "cleared", desc := "(I)I" } : Jvm.MethodName) prog_1_method_42_code (2 : Nat) (Option.some Jvm.ClassFile.FieldType.int)) ∈ lw_all := lw_g (lw_at lw_m5 29 rfl) rfl
theorem q1108 : (Jvm.Cond.methodLink "LadderLots" (356 : Nat) ({ cls := "LadderLots", name := "clears", desc := "(LLadderLots$Ladder;)I" } : Jvm.MethodName)) ∈ lw_all := lw_g (lw_at lw_m5 30 rfl) rfl
theorem q1109 : (Jvm.Cond.privateMethod ({ cls := "LadderLots", name := "clears", desc := "(LLadderLots$Ladder;)I" } : Jvm.MethodName)) ∈ lw_tbl := lw_at lw_m5 31 rfl
theorem q1110 : (Jvm.Cond.instanceMethod ({ cls := "LadderLots", name := "clears", desc := "(LLadderLots$Ladder;)I" } : Jvm.MethodName)) ∈ lw_all := lw_g (lw_at lw_m5 32 rfl) rfl
theorem q1111 : (Jvm.Cond.code ({ cls := "LadderLots", name := "clears", desc := "(LLadderLots$Ladder;)I" } : Jvm.MethodName) prog_1_method_40_code (3 : Nat) (Option.some Jvm.ClassFile.FieldType.int)) ∈ lw_all := lw_g (lw_at lw_m5 33 rfl) rfl
theorem q1112 : (Jvm.Cond.methodLink "LadderLots" (352 : Nat) ({ cls := "LadderLots", name := "undoes", desc := "(LLadderLots$Ladder;)Z" } : Jvm.MethodName)) ∈ lw_all := lw_g (lw_at lw_m5 34 rfl) rfl
theorem q1113 : (Jvm.Cond.privateMethod ({ cls := "LadderLots", name := "undoes", desc := "(LLadderLots$Ladder;)Z" } : Jvm.MethodName)) ∈ lw_tbl := lw_at lw_m5 35 rfl
theorem q1114 : (Jvm.Cond.instanceMethod ({ cls := "LadderLots", name := "undoes", desc := "(LLadderLots$Ladder;)Z" } : Jvm.MethodName)) ∈ lw_all := lw_g (lw_at lw_m5 36 rfl) rfl
theorem q1115 : (Jvm.Cond.code ({ cls := "LadderLots", name := "undoes", desc := "(LLadderLots$Ladder;)Z" } : Jvm.MethodName) prog_1_method_41_code (7 : Nat) (Option.some Jvm.ClassFile.FieldType.boolean)) ∈ lw_all := lw_g (lw_at lw_m5 37 rfl) rfl
theorem q1117 : (Jvm.Cond.instanceMethod ({ cls := "LadderLots", name := "kept", desc := "(II)I" } : Jvm.MethodName)) ∈ lw_all := lw_g (lw_at lw_m5 39 rfl) rfl
theorem q1118 : (Jvm.Cond.selects "LadderLots" ({ cls := "LadderLots", name := "kept", desc := "(II)I" } : Jvm.MethodName) ({ cls := "LadderLots", name := "kept", desc := "(II)I" } : Jvm.MethodName)) ∈ lw_all := lw_g (lw_at lw_m5 40 rfl) rfl
theorem q1119 : (Jvm.Cond.code ({ cls := "LadderLots", name := "kept", desc := "(II)I" } : Jvm.MethodName) prog_1_method_43_code (5 : Nat) (Option.some Jvm.ClassFile.FieldType.int)) ∈ lw_all := lw_g (lw_at lw_m5 41 rfl) rfl
theorem q1120 : (Jvm.Cond.methodLink "LadderLots" (360 : Nat) ({ cls := "LadderLots", name := "cleared", desc := "(I)I" } : Jvm.MethodName)) ∈ lw_all := lw_g (lw_at lw_m5 42 rfl) rfl
theorem q1122 : (Jvm.Cond.instanceMethod ({ cls := "LadderLots", name := "ways", desc := "(I)J" } : Jvm.MethodName)) ∈ lw_all := lw_g (lw_at lw_m5 44 rfl) rfl
theorem q1123 : (Jvm.Cond.selects "LadderLots" ({ cls := "LadderLots", name := "ways", desc := "(I)J" } : Jvm.MethodName) ({ cls := "LadderLots", name := "ways", desc := "(I)J" } : Jvm.MethodName)) ∈ lw_all := lw_g (lw_at lw_m5 45 rfl) rfl
theorem q1124 : (Jvm.Cond.code ({ cls := "LadderLots", name := "ways", desc := "(I)J" } : Jvm.MethodName) prog_1_method_45_code (6 : Nat) (Option.some Jvm.ClassFile.FieldType.long)) ∈ lw_all := lw_g (lw_at lw_m5 46 rfl) rfl
theorem q1126 : (Jvm.Cond.instanceMethod ({ cls := "LadderLots", name := "odds", desc := "(IIII)J" } : Jvm.MethodName)) ∈ lw_all := lw_g (lw_at lw_m5 48 rfl) rfl
theorem q1127 : (Jvm.Cond.selects "LadderLots" ({ cls := "LadderLots", name := "odds", desc := "(IIII)J" } : Jvm.MethodName) ({ cls := "LadderLots", name := "odds", desc := "(IIII)J" } : Jvm.MethodName)) ∈ lw_all := lw_g (lw_at lw_m5 49 rfl) rfl
theorem q1128 : (Jvm.Cond.code ({ cls := "LadderLots", name := "odds", desc := "(IIII)J" } : Jvm.MethodName) prog_1_method_47_code (8 : Nat) (Option.some Jvm.ClassFile.FieldType.long)) ∈ lw_all := lw_g (lw_at lw_m5 50 rfl) rfl
theorem q1129 : (Jvm.Cond.methodLink "LadderLots" (363 : Nat) ({ cls := "LadderLots", name := "isNumber", desc := "(II)Z" } : Jvm.MethodName)) ∈ lw_all := lw_g (lw_at lw_m5 51 rfl) rfl
theorem q1130 : (Jvm.Cond.privateMethod ({ cls := "LadderLots", name := "isNumber", desc := "(II)Z" } : Jvm.MethodName)) ∈ lw_tbl := lw_at lw_m5 52 rfl
theorem q1131 : (Jvm.Cond.instanceMethod ({ cls := "LadderLots", name := "isNumber", desc := "(II)Z" } : Jvm.MethodName)) ∈ lw_all := lw_g (lw_at lw_m5 53 rfl) rfl
theorem q1132 : (Jvm.Cond.code ({ cls := "LadderLots", name := "isNumber", desc := "(II)Z" } : Jvm.MethodName) prog_1_method_46_code (3 : Nat) (Option.some Jvm.ClassFile.FieldType.boolean)) ∈ lw_all := lw_g (lw_at lw_m5 54 rfl) rfl
theorem q1133 : (Jvm.Cond.methodLink "LadderLots" (366 : Nat) ({ cls := "LadderLots", name := "spreads", desc := "(LLadderLots$Ladder;I)V" } : Jvm.MethodName)) ∈ lw_all := lw_g (lw_at lw_m5 55 rfl) rfl
theorem q1134 : (Jvm.Cond.privateMethod ({ cls := "LadderLots", name := "spreads", desc := "(LLadderLots$Ladder;I)V" } : Jvm.MethodName)) ∈ lw_tbl := lw_at lw_m5 56 rfl
theorem q1135 : (Jvm.Cond.instanceMethod ({ cls := "LadderLots", name := "spreads", desc := "(LLadderLots$Ladder;I)V" } : Jvm.MethodName)) ∈ lw_all := lw_g (lw_at lw_m5 57 rfl) rfl
theorem q1136 : (Jvm.Cond.code ({ cls := "LadderLots", name := "spreads", desc := "(LLadderLots$Ladder;I)V" } : Jvm.MethodName) prog_1_method_44_code (8 : Nat) (Option.none : Option Jvm.ClassFile.FieldType)) ∈ lw_all := lw_g (lw_at lw_m5 58 rfl) rfl
theorem q1138 : (Jvm.Cond.instanceMethod ({ cls := "LadderLots", name := "oddsOf", desc := "(III)J" } : Jvm.MethodName)) ∈ lw_all := lw_g (lw_at lw_m5 60 rfl) rfl
theorem q1139 : (Jvm.Cond.selects "LadderLots" ({ cls := "LadderLots", name := "oddsOf", desc := "(III)J" } : Jvm.MethodName) ({ cls := "LadderLots", name := "oddsOf", desc := "(III)J" } : Jvm.MethodName)) ∈ lw_all := lw_g (lw_at lw_m5 61 rfl) rfl
theorem q1140 : (Jvm.Cond.code ({ cls := "LadderLots", name := "oddsOf", desc := "(III)J" } : Jvm.MethodName) prog_1_method_48_code (4 : Nat) (Option.some Jvm.ClassFile.FieldType.long)) ∈ lw_all := lw_g (lw_at lw_m5 62 rfl) rfl
theorem q1142 : (Jvm.Cond.instanceMethod ({ cls := "LadderLots", name := "possible", desc := "(II)I" } : Jvm.MethodName)) ∈ lw_all := lw_g (lw_at lw_m5 64 rfl) rfl
theorem q1143 : (Jvm.Cond.selects "LadderLots" ({ cls := "LadderLots", name := "possible", desc := "(II)I" } : Jvm.MethodName) ({ cls := "LadderLots", name := "possible", desc := "(II)I" } : Jvm.MethodName)) ∈ lw_all := lw_g (lw_at lw_m5 65 rfl) rfl
theorem q1144 : (Jvm.Cond.code ({ cls := "LadderLots", name := "possible", desc := "(II)I" } : Jvm.MethodName) prog_1_method_49_code (5 : Nat) (Option.some Jvm.ClassFile.FieldType.int)) ∈ lw_all := lw_g (lw_at lw_m5 66 rfl) rfl
theorem q1146 : (Jvm.Cond.instanceMethod ({ cls := "LadderLots", name := "log", desc := "(III)I" } : Jvm.MethodName)) ∈ lw_all := lw_g (lw_at lw_m5 68 rfl) rfl
theorem q1147 : (Jvm.Cond.selects "LadderLots" ({ cls := "LadderLots", name := "log", desc := "(III)I" } : Jvm.MethodName) ({ cls := "LadderLots", name := "log", desc := "(III)I" } : Jvm.MethodName)) ∈ lw_all := lw_g (lw_at lw_m5 69 rfl) rfl
theorem q1148 : (Jvm.Cond.code ({ cls := "LadderLots", name := "log", desc := "(III)I" } : Jvm.MethodName) prog_1_method_50_code (4 : Nat) (Option.some Jvm.ClassFile.FieldType.int)) ∈ lw_all := lw_g (lw_at lw_m5 70 rfl) rfl
theorem q1150 : (Jvm.Cond.instanceMethod ({ cls := "LadderLots", name := "annul", desc := "(I)I" } : Jvm.MethodName)) ∈ lw_all := lw_g (lw_at lw_m5 72 rfl) rfl
theorem q1151 : (Jvm.Cond.selects "LadderLots" ({ cls := "LadderLots", name := "annul", desc := "(I)I" } : Jvm.MethodName) ({ cls := "LadderLots", name := "annul", desc := "(I)I" } : Jvm.MethodName)) ∈ lw_all := lw_g (lw_at lw_m5 73 rfl) rfl
theorem q1152 : (Jvm.Cond.code ({ cls := "LadderLots", name := "annul", desc := "(I)I" } : Jvm.MethodName) prog_1_method_51_code (2 : Nat) (Option.some Jvm.ClassFile.FieldType.int)) ∈ lw_all := lw_g (lw_at lw_m5 74 rfl) rfl
theorem q1154 : (Jvm.Cond.instanceMethod ({ cls := "LadderLots", name := "fitting", desc := "(II)J" } : Jvm.MethodName)) ∈ lw_all := lw_g (lw_at lw_m5 76 rfl) rfl
theorem q1155 : (Jvm.Cond.selects "LadderLots" ({ cls := "LadderLots", name := "fitting", desc := "(II)J" } : Jvm.MethodName) ({ cls := "LadderLots", name := "fitting", desc := "(II)J" } : Jvm.MethodName)) ∈ lw_all := lw_g (lw_at lw_m5 77 rfl) rfl
theorem q1156 : (Jvm.Cond.code ({ cls := "LadderLots", name := "fitting", desc := "(II)J" } : Jvm.MethodName) prog_1_method_55_code (6 : Nat) (Option.some Jvm.ClassFile.FieldType.long)) ∈ lw_all := lw_g (lw_at lw_m5 78 rfl) rfl
theorem q1157 : (Jvm.Cond.methodLink "LadderLots" (370 : Nat) ({ cls := "LadderLots", name := "isKnown", desc := "(II)Z" } : Jvm.MethodName)) ∈ lw_all := lw_g (lw_at lw_m5 79 rfl) rfl
theorem q1158 : (Jvm.Cond.privateMethod ({ cls := "LadderLots", name := "isKnown", desc := "(II)Z" } : Jvm.MethodName)) ∈ lw_tbl := lw_at lw_m5 80 rfl
theorem q1159 : (Jvm.Cond.instanceMethod ({ cls := "LadderLots", name := "isKnown", desc := "(II)Z" } : Jvm.MethodName)) ∈ lw_all := lw_g (lw_at lw_m5 81 rfl) rfl
theorem q1160 : (Jvm.Cond.code ({ cls := "LadderLots", name := "isKnown", desc := "(II)Z" } : Jvm.MethodName) prog_1_method_53_code (3 : Nat) (Option.some Jvm.ClassFile.FieldType.boolean)) ∈ lw_all := lw_g (lw_at lw_m5 82 rfl) rfl
theorem q1161 : (Jvm.Cond.methodLink "LadderLots" (373 : Nat) ({ cls := "LadderLots", name := "fits", desc := "(II)V" } : Jvm.MethodName)) ∈ lw_all := lw_g (lw_at lw_m5 83 rfl) rfl
theorem q1162 : (Jvm.Cond.privateMethod ({ cls := "LadderLots", name := "fits", desc := "(II)V" } : Jvm.MethodName)) ∈ lw_tbl := lw_at lw_m5 84 rfl
theorem q1163 : (Jvm.Cond.instanceMethod ({ cls := "LadderLots", name := "fits", desc := "(II)V" } : Jvm.MethodName)) ∈ lw_all := lw_g (lw_at lw_m5 85 rfl) rfl
theorem q1164 : (Jvm.Cond.code ({ cls := "LadderLots", name := "fits", desc := "(II)V" } : Jvm.MethodName) prog_1_method_52_code (6 : Nat) (Option.none : Option Jvm.ClassFile.FieldType)) ∈ lw_all := lw_g (lw_at lw_m5 86 rfl) rfl
theorem q1166 : (Jvm.Cond.instanceMethod ({ cls := "LadderLots", name := "likely", desc := "(IIII)J" } : Jvm.MethodName)) ∈ lw_all := lw_g (lw_at lw_m5 88 rfl) rfl
theorem q1167 : (Jvm.Cond.selects "LadderLots" ({ cls := "LadderLots", name := "likely", desc := "(IIII)J" } : Jvm.MethodName) ({ cls := "LadderLots", name := "likely", desc := "(IIII)J" } : Jvm.MethodName)) ∈ lw_all := lw_g (lw_at lw_m5 89 rfl) rfl
theorem q1168 : (Jvm.Cond.code ({ cls := "LadderLots", name := "likely", desc := "(IIII)J" } : Jvm.MethodName) prog_1_method_56_code (5 : Nat) (Option.some Jvm.ClassFile.FieldType.long)) ∈ lw_all := lw_g (lw_at lw_m5 90 rfl) rfl
theorem q1169 : (Jvm.Cond.methodLink "LadderLots" (376 : Nat) ({ cls := "LadderLots", name := "endsThere", desc := "(II)J" } : Jvm.MethodName)) ∈ lw_all := lw_g (lw_at lw_m5 91 rfl) rfl
theorem q1170 : (Jvm.Cond.privateMethod ({ cls := "LadderLots", name := "endsThere", desc := "(II)J" } : Jvm.MethodName)) ∈ lw_tbl := lw_at lw_m5 92 rfl
theorem q1171 : (Jvm.Cond.instanceMethod ({ cls := "LadderLots", name := "endsThere", desc := "(II)J" } : Jvm.MethodName)) ∈ lw_all := lw_g (lw_at lw_m5 93 rfl) rfl
theorem q1172 : (Jvm.Cond.code ({ cls := "LadderLots", name := "endsThere", desc := "(II)J" } : Jvm.MethodName) prog_1_method_54_code (6 : Nat) (Option.some Jvm.ClassFile.FieldType.long)) ∈ lw_all := lw_g (lw_at lw_m5 94 rfl) rfl
theorem q1174 : (Jvm.Cond.instanceMethod ({ cls := "LadderLots", name := "next", desc := "(II)I" } : Jvm.MethodName)) ∈ lw_all := lw_g (lw_at lw_m5 96 rfl) rfl
theorem q1175 : (Jvm.Cond.selects "LadderLots" ({ cls := "LadderLots", name := "next", desc := "(II)I" } : Jvm.MethodName) ({ cls := "LadderLots", name := "next", desc := "(II)I" } : Jvm.MethodName)) ∈ lw_all := lw_g (lw_at lw_m5 97 rfl) rfl
theorem q1176 : (Jvm.Cond.code ({ cls := "LadderLots", name := "next", desc := "(II)I" } : Jvm.MethodName) prog_1_method_57_code (10 : Nat) (Option.some Jvm.ClassFile.FieldType.int)) ∈ lw_all := lw_g (lw_at lw_m5 98 rfl) rfl
theorem q1177 : (Jvm.Cond.methodLink "LadderLots" (380 : Nat) ({ cls := "java/lang/Math", name := "max", desc := "(JJ)J" } : Jvm.MethodName)) ∈ lw_all := lw_g (lw_at lw_m5 99 rfl) rfl
theorem q1181 : (Jvm.Cond.instanceMethod ({ cls := "LadderLots", name := "drawn", desc := "(III)I" } : Jvm.MethodName)) ∈ lw_all := lw_g (lw_at lw_m5 103 rfl) rfl
theorem q1182 : (Jvm.Cond.selects "LadderLots" ({ cls := "LadderLots", name := "drawn", desc := "(III)I" } : Jvm.MethodName) ({ cls := "LadderLots", name := "drawn", desc := "(III)I" } : Jvm.MethodName)) ∈ lw_all := lw_g (lw_at lw_m5 104 rfl) rfl
theorem q1183 : (Jvm.Cond.code ({ cls := "LadderLots", name := "drawn", desc := "(III)I" } : Jvm.MethodName) prog_1_method_60_code (5 : Nat) (Option.some Jvm.ClassFile.FieldType.int)) ∈ lw_all := lw_g (lw_at lw_m5 105 rfl) rfl
theorem q1184 : (Jvm.Cond.methodLink "LadderLots" (388 : Nat) ({ cls := "LadderLots", name := "needsTo", desc := "(LLadderLots$Ladder;I)V" } : Jvm.MethodName)) ∈ lw_all := lw_g (lw_at lw_m5 106 rfl) rfl
theorem q1185 : (Jvm.Cond.privateMethod ({ cls := "LadderLots", name := "needsTo", desc := "(LLadderLots$Ladder;I)V" } : Jvm.MethodName)) ∈ lw_tbl := lw_at lw_m5 107 rfl
theorem q1186 : (Jvm.Cond.instanceMethod ({ cls := "LadderLots", name := "needsTo", desc := "(LLadderLots$Ladder;I)V" } : Jvm.MethodName)) ∈ lw_all := lw_g (lw_at lw_m5 108 rfl) rfl
theorem q1187 : (Jvm.Cond.code ({ cls := "LadderLots", name := "needsTo", desc := "(LLadderLots$Ladder;I)V" } : Jvm.MethodName) prog_1_method_59_code (6 : Nat) (Option.none : Option Jvm.ClassFile.FieldType)) ∈ lw_all := lw_g (lw_at lw_m5 109 rfl) rfl
theorem q1188 : (Jvm.Cond.methodLink "LadderLots" (384 : Nat) ({ cls := "LadderLots", name := "moved", desc := "(LLadderLots$Step;I)I" } : Jvm.MethodName)) ∈ lw_all := lw_g (lw_at lw_m5 110 rfl) rfl
theorem q1189 : (Jvm.Cond.static ({ cls := "LadderLots", name := "moved", desc := "(LLadderLots$Step;I)I" } : Jvm.MethodName)) ∈ lw_all := lw_g (lw_at lw_m5 111 rfl) rfl
theorem q1190 : (Jvm.Cond.code ({ cls := "LadderLots", name := "moved", desc := "(LLadderLots$Step;I)I" } : Jvm.MethodName) prog_1_method_58_code (2 : Nat) (Option.some Jvm.ClassFile.FieldType.int)) ∈ lw_all := lw_g (lw_at lw_m5 112 rfl) rfl
theorem q1192 : (Jvm.Cond.instanceMethod ({ cls := "LadderLots", name := "drawnAt", desc := "(IIII)I" } : Jvm.MethodName)) ∈ lw_all := lw_g (lw_at lw_m5 114 rfl) rfl
theorem q1193 : (Jvm.Cond.selects "LadderLots" ({ cls := "LadderLots", name := "drawnAt", desc := "(IIII)I" } : Jvm.MethodName) ({ cls := "LadderLots", name := "drawnAt", desc := "(IIII)I" } : Jvm.MethodName)) ∈ lw_all := lw_g (lw_at lw_m5 115 rfl) rfl
theorem q1194 : (Jvm.Cond.code ({ cls := "LadderLots", name := "drawnAt", desc := "(IIII)I" } : Jvm.MethodName) prog_1_method_61_code (10 : Nat) (Option.some Jvm.ClassFile.FieldType.int)) ∈ lw_all := lw_g (lw_at lw_m5 116 rfl) rfl
theorem q1195 : (Jvm.Cond.methodLink "LadderLots" (391 : Nat) ({ cls := "LadderLots", name := "drawn", desc := "(III)I" } : Jvm.MethodName)) ∈ lw_all := lw_g (lw_at lw_m5 117 rfl) rfl
theorem q1197 : (Jvm.Cond.instanceMethod ({ cls := "LadderLots", name := "drawnAll", desc := "(II)I" } : Jvm.MethodName)) ∈ lw_all := lw_g (lw_at lw_m5 119 rfl) rfl
theorem q1198 : (Jvm.Cond.selects "LadderLots" ({ cls := "LadderLots", name := "drawnAll", desc := "(II)I" } : Jvm.MethodName) ({ cls := "LadderLots", name := "drawnAll", desc := "(II)I" } : Jvm.MethodName)) ∈ lw_all := lw_g (lw_at lw_m5 120 rfl) rfl
theorem q1199 : (Jvm.Cond.code ({ cls := "LadderLots", name := "drawnAll", desc := "(II)I" } : Jvm.MethodName) prog_1_method_62_code (9 : Nat) (Option.some Jvm.ClassFile.FieldType.int)) ∈ lw_all := lw_g (lw_at lw_m5 121 rfl) rfl
theorem q1200 : (Jvm.Cond.methodLink "LadderLots" (394 : Nat) ({ cls := "LadderLots$Orders", name := "swap", desc := "(IIZ)I" } : Jvm.MethodName)) ∈ lw_all := lw_g (lw_at lw_m5 122 rfl) rfl
theorem q1202 : (Jvm.Cond.instanceMethod ({ cls := "LadderLots", name := "sorts", desc := "(I)I" } : Jvm.MethodName)) ∈ lw_all := lw_g (lw_at lw_m5 124 rfl) rfl
theorem q1203 : (Jvm.Cond.selects "LadderLots" ({ cls := "LadderLots", name := "sorts", desc := "(I)I" } : Jvm.MethodName) ({ cls := "LadderLots", name := "sorts", desc := "(I)I" } : Jvm.MethodName)) ∈ lw_all := lw_g (lw_at lw_m5 125 rfl) rfl
theorem q1204 : (Jvm.Cond.code ({ cls := "LadderLots", name := "sorts", desc := "(I)I" } : Jvm.MethodName) prog_1_method_68_code (2 : Nat) (Option.some Jvm.ClassFile.FieldType.int)) ∈ lw_all := lw_g (lw_at lw_m5 126 rfl) rfl
theorem q1205 : (Jvm.Cond.methodLink "LadderLots" (414 : Nat) ({ cls := "LadderLots", name := "asked", desc := "(I)I" } : Jvm.MethodName)) ∈ lw_all := lw_g (lw_at lw_m5 127 rfl) rfl
theorem q1206 : (Jvm.Cond.privateMethod ({ cls := "LadderLots", name := "asked", desc := "(I)I" } : Jvm.MethodName)) ∈ lw_tbl := lw_at lw_m5 128 rfl
theorem q1207 : (Jvm.Cond.instanceMethod ({ cls := "LadderLots", name := "asked", desc := "(I)I" } : Jvm.MethodName)) ∈ lw_all := lw_g (lw_at lw_m5 129 rfl) rfl
theorem q1208 : (Jvm.Cond.code ({ cls := "LadderLots", name := "asked", desc := "(I)I" } : Jvm.MethodName) prog_1_method_67_code (2 : Nat) (Option.some Jvm.ClassFile.FieldType.int)) ∈ lw_all := lw_g (lw_at lw_m5 130 rfl) rfl
theorem q1209 : (Jvm.Cond.methodLink "LadderLots" (417 : Nat) ({ cls := "LadderLots", name := "failing", desc := "(LLadderLots$Ladder;I)I" } : Jvm.MethodName)) ∈ lw_all := lw_g (lw_at lw_m5 131 rfl) rfl
theorem q1210 : (Jvm.Cond.static ({ cls := "LadderLots", name := "failing", desc := "(LLadderLots$Ladder;I)I" } : Jvm.MethodName)) ∈ lw_all := lw_g (lw_at lw_m5 132 rfl) rfl
theorem q1211 : (Jvm.Cond.code ({ cls := "LadderLots", name := "failing", desc := "(LLadderLots$Ladder;I)I" } : Jvm.MethodName) prog_1_method_66_code (4 : Nat) (Option.some Jvm.ClassFile.FieldType.int)) ∈ lw_all := lw_g (lw_at lw_m5 133 rfl) rfl
theorem q1212 : (Jvm.Cond.methodLink "LadderLots" (408 : Nat) ({ cls := "LadderLots", name := "bitsDown", desc := "(LLadderLots$Ladder;II)I" } : Jvm.MethodName)) ∈ lw_all := lw_g (lw_at lw_m5 134 rfl) rfl
theorem q1213 : (Jvm.Cond.static ({ cls := "LadderLots", name := "bitsDown", desc := "(LLadderLots$Ladder;II)I" } : Jvm.MethodName)) ∈ lw_all := lw_g (lw_at lw_m5 135 rfl) rfl
theorem q1214 : (Jvm.Cond.code ({ cls := "LadderLots", name := "bitsDown", desc := "(LLadderLots$Ladder;II)I" } : Jvm.MethodName) prog_1_method_64_code (5 : Nat) (Option.some Jvm.ClassFile.FieldType.int)) ∈ lw_all := lw_g (lw_at lw_m5 136 rfl) rfl
theorem q1215 : (Jvm.Cond.methodLink "LadderLots" (402 : Nat) ({ cls := "LadderLots", name := "bitsAfter", desc := "(LLadderLots$Step;I)I" } : Jvm.MethodName)) ∈ lw_all := lw_g (lw_at lw_m5 137 rfl) rfl
theorem q1216 : (Jvm.Cond.static ({ cls := "LadderLots", name := "bitsAfter", desc := "(LLadderLots$Step;I)I" } : Jvm.MethodName)) ∈ lw_all := lw_g (lw_at lw_m5 138 rfl) rfl
theorem q1217 : (Jvm.Cond.code ({ cls := "LadderLots", name := "bitsAfter", desc := "(LLadderLots$Step;I)I" } : Jvm.MethodName) prog_1_method_63_code (4 : Nat) (Option.some Jvm.ClassFile.FieldType.int)) ∈ lw_all := lw_g (lw_at lw_m5 139 rfl) rfl
theorem q1218 : (Jvm.Cond.methodLink "LadderLots" (398 : Nat) ({ cls := "LadderLots$Step", name := "changes", desc := "(IIZ)Z" } : Jvm.MethodName)) ∈ lw_all := lw_g (lw_at lw_m5 140 rfl) rfl
theorem q1219 : (Jvm.Cond.methodLink "LadderLots" (411 : Nat) ({ cls := "LadderLots", name := "isSorted", desc := "(II)Z" } : Jvm.MethodName)) ∈ lw_all := lw_g (lw_at lw_m5 141 rfl) rfl
theorem q1220 : (Jvm.Cond.static ({ cls := "LadderLots", name := "isSorted", desc := "(II)Z" } : Jvm.MethodName)) ∈ lw_all := lw_g (lw_at lw_m5 142 rfl) rfl
theorem q1221 : (Jvm.Cond.code ({ cls := "LadderLots", name := "isSorted", desc := "(II)Z" } : Jvm.MethodName) prog_1_method_65_code (3 : Nat) (Option.some Jvm.ClassFile.FieldType.boolean)) ∈ lw_all := lw_g (lw_at lw_m5 143 rfl) rfl
theorem q1222 : (Jvm.Cond.methodLink "LadderLots" (405 : Nat) ({ cls := "java/lang/Integer", name := "bitCount", desc := "(I)I" } : Jvm.MethodName)) ∈ lw_all := lw_g (lw_at lw_m5 144 rfl) rfl
theorem q1229 : (Jvm.Cond.instanceMethod ({ cls := "LadderLots", name := "unsorted", desc := "(I)I" } : Jvm.MethodName)) ∈ lw_all := lw_g (lw_at lw_m5 151 rfl) rfl
theorem q1230 : (Jvm.Cond.selects "LadderLots" ({ cls := "LadderLots", name := "unsorted", desc := "(I)I" } : Jvm.MethodName) ({ cls := "LadderLots", name := "unsorted", desc := "(I)I" } : Jvm.MethodName)) ∈ lw_all := lw_g (lw_at lw_m5 152 rfl) rfl
theorem q1231 : (Jvm.Cond.code ({ cls := "LadderLots", name := "unsorted", desc := "(I)I" } : Jvm.MethodName) prog_1_method_69_code (5 : Nat) (Option.some Jvm.ClassFile.FieldType.int)) ∈ lw_all := lw_g (lw_at lw_m5 153 rfl) rfl
theorem q1233 : (Jvm.Cond.instanceMethod ({ cls := "LadderLots", name := "fails", desc := "(I)I" } : Jvm.MethodName)) ∈ lw_all := lw_g (lw_at lw_m5 155 rfl) rfl
theorem q1234 : (Jvm.Cond.selects "LadderLots" ({ cls := "LadderLots", name := "fails", desc := "(I)I" } : Jvm.MethodName) ({ cls := "LadderLots", name := "fails", desc := "(I)I" } : Jvm.MethodName)) ∈ lw_all := lw_g (lw_at lw_m5 156 rfl) rfl
theorem q1235 : (Jvm.Cond.code ({ cls := "LadderLots", name := "fails", desc := "(I)I" } : Jvm.MethodName) prog_1_method_70_code (2 : Nat) (Option.some Jvm.ClassFile.FieldType.int)) ∈ lw_all := lw_g (lw_at lw_m5 157 rfl) rfl
theorem q1237 : (Jvm.Cond.instanceMethod ({ cls := "LadderLots", name := "firstFail", desc := "(I)I" } : Jvm.MethodName)) ∈ lw_all := lw_g (lw_at lw_m5 159 rfl) rfl
theorem q1238 : (Jvm.Cond.selects "LadderLots" ({ cls := "LadderLots", name := "firstFail", desc := "(I)I" } : Jvm.MethodName) ({ cls := "LadderLots", name := "firstFail", desc := "(I)I" } : Jvm.MethodName)) ∈ lw_all := lw_g (lw_at lw_m5 160 rfl) rfl
theorem q1239 : (Jvm.Cond.code ({ cls := "LadderLots", name := "firstFail", desc := "(I)I" } : Jvm.MethodName) prog_1_method_71_code (4 : Nat) (Option.some Jvm.ClassFile.FieldType.int)) ∈ lw_all := lw_g (lw_at lw_m5 161 rfl) rfl
theorem q1241 : (Jvm.Cond.instanceMethod ({ cls := "LadderLots", name := "idle", desc := "(II)I" } : Jvm.MethodName)) ∈ lw_all := lw_g (lw_at lw_m5 163 rfl) rfl
theorem q1242 : (Jvm.Cond.selects "LadderLots" ({ cls := "LadderLots", name := "idle", desc := "(II)I" } : Jvm.MethodName) ({ cls := "LadderLots", name := "idle", desc := "(II)I" } : Jvm.MethodName)) ∈ lw_all := lw_g (lw_at lw_m5 164 rfl) rfl
theorem q1243 : (Jvm.Cond.code ({ cls := "LadderLots", name := "idle", desc := "(II)I" } : Jvm.MethodName) prog_1_method_72_code (8 : Nat) (Option.some Jvm.ClassFile.FieldType.int)) ∈ lw_all := lw_g (lw_at lw_m5 165 rfl) rfl
theorem q1245 : (Jvm.Cond.instanceMethod ({ cls := "LadderLots", name := "needed", desc := "(II)I" } : Jvm.MethodName)) ∈ lw_all := lw_g (lw_at lw_m5 167 rfl) rfl
theorem q1246 : (Jvm.Cond.selects "LadderLots" ({ cls := "LadderLots", name := "needed", desc := "(II)I" } : Jvm.MethodName) ({ cls := "LadderLots", name := "needed", desc := "(II)I" } : Jvm.MethodName)) ∈ lw_all := lw_g (lw_at lw_m5 168 rfl) rfl
theorem q1247 : (Jvm.Cond.code ({ cls := "LadderLots", name := "needed", desc := "(II)I" } : Jvm.MethodName) prog_1_method_73_code (3 : Nat) (Option.some Jvm.ClassFile.FieldType.int)) ∈ lw_all := lw_g (lw_at lw_m5 169 rfl) rfl
theorem q1249 : (Jvm.Cond.instanceMethod ({ cls := "LadderLots", name := "mend", desc := "(I)I" } : Jvm.MethodName)) ∈ lw_all := lw_g (lw_at lw_m5 171 rfl) rfl
theorem q1250 : (Jvm.Cond.selects "LadderLots" ({ cls := "LadderLots", name := "mend", desc := "(I)I" } : Jvm.MethodName) ({ cls := "LadderLots", name := "mend", desc := "(I)I" } : Jvm.MethodName)) ∈ lw_all := lw_g (lw_at lw_m5 172 rfl) rfl
theorem q1251 : (Jvm.Cond.code ({ cls := "LadderLots", name := "mend", desc := "(I)I" } : Jvm.MethodName) prog_1_method_79_code (3 : Nat) (Option.some Jvm.ClassFile.FieldType.int)) ∈ lw_all := lw_g (lw_at lw_m5 173 rfl) rfl
theorem q1252 : (Jvm.Cond.methodLink "LadderLots" (434 : Nat) ({ cls := "LadderLots", name := "mends", desc := "(LLadderLots$Ladder;)I" } : Jvm.MethodName)) ∈ lw_all := lw_g (lw_at lw_m5 174 rfl) rfl
theorem q1253 : (Jvm.Cond.privateMethod ({ cls := "LadderLots", name := "mends", desc := "(LLadderLots$Ladder;)I" } : Jvm.MethodName)) ∈ lw_tbl := lw_at lw_m5 175 rfl
theorem q1254 : (Jvm.Cond.instanceMethod ({ cls := "LadderLots", name := "mends", desc := "(LLadderLots$Ladder;)I" } : Jvm.MethodName)) ∈ lw_all := lw_g (lw_at lw_m5 176 rfl) rfl
theorem q1255 : (Jvm.Cond.code ({ cls := "LadderLots", name := "mends", desc := "(LLadderLots$Ladder;)I" } : Jvm.MethodName) prog_1_method_77_code (6 : Nat) (Option.some Jvm.ClassFile.FieldType.int)) ∈ lw_all := lw_g (lw_at lw_m5 177 rfl) rfl
theorem q1256 : (Jvm.Cond.methodLink "LadderLots" (424 : Nat) ({ cls := "LadderLots", name := "areSorted", desc := "(II)Z" } : Jvm.MethodName)) ∈ lw_all := lw_g (lw_at lw_m5 178 rfl) rfl
theorem q1257 : (Jvm.Cond.static ({ cls := "LadderLots", name := "areSorted", desc := "(II)Z" } : Jvm.MethodName)) ∈ lw_all := lw_g (lw_at lw_m5 179 rfl) rfl
theorem q1258 : (Jvm.Cond.code ({ cls := "LadderLots", name := "areSorted", desc := "(II)Z" } : Jvm.MethodName) prog_1_method_75_code (3 : Nat) (Option.some Jvm.ClassFile.FieldType.boolean)) ∈ lw_all := lw_g (lw_at lw_m5 180 rfl) rfl
theorem q1259 : (Jvm.Cond.methodLink "LadderLots" (427 : Nat) ({ cls := "LadderLots", name := "setAfter", desc := "(ILLadderLots$Step;I)I" } : Jvm.MethodName)) ∈ lw_all := lw_g (lw_at lw_m5 181 rfl) rfl
theorem q1260 : (Jvm.Cond.static ({ cls := "LadderLots", name := "setAfter", desc := "(ILLadderLots$Step;I)I" } : Jvm.MethodName)) ∈ lw_all := lw_g (lw_at lw_m5 182 rfl) rfl
theorem q1261 : (Jvm.Cond.code ({ cls := "LadderLots", name := "setAfter", desc := "(ILLadderLots$Step;I)I" } : Jvm.MethodName) prog_1_method_74_code (5 : Nat) (Option.some Jvm.ClassFile.FieldType.int)) ∈ lw_all := lw_g (lw_at lw_m5 183 rfl) rfl
theorem q1262 : (Jvm.Cond.methodLink "LadderLots" (431 : Nat) ({ cls := "LadderLots", name := "isFound", desc := "(I)Z" } : Jvm.MethodName)) ∈ lw_all := lw_g (lw_at lw_m5 184 rfl) rfl
theorem q1263 : (Jvm.Cond.privateMethod ({ cls := "LadderLots", name := "isFound", desc := "(I)Z" } : Jvm.MethodName)) ∈ lw_tbl := lw_at lw_m5 185 rfl
theorem q1264 : (Jvm.Cond.instanceMethod ({ cls := "LadderLots", name := "isFound", desc := "(I)Z" } : Jvm.MethodName)) ∈ lw_all := lw_g (lw_at lw_m5 186 rfl) rfl
theorem q1265 : (Jvm.Cond.code ({ cls := "LadderLots", name := "isFound", desc := "(I)Z" } : Jvm.MethodName) prog_1_method_76_code (3 : Nat) (Option.some Jvm.ClassFile.FieldType.boolean)) ∈ lw_all := lw_g (lw_at lw_m5 187 rfl) rfl
theorem q1266 : (Jvm.Cond.methodLink "LadderLots" (437 : Nat) ({ cls := "LadderLots", name := "gatesTo", desc := "(I)I" } : Jvm.MethodName)) ∈ lw_all := lw_g (lw_at lw_m5 188 rfl) rfl
theorem q1267 : (Jvm.Cond.privateMethod ({ cls := "LadderLots", name := "gatesTo", desc := "(I)I" } : Jvm.MethodName)) ∈ lw_tbl := lw_at lw_m5 189 rfl
theorem q1268 : (Jvm.Cond.instanceMethod ({ cls := "LadderLots", name := "gatesTo", desc := "(I)I" } : Jvm.MethodName)) ∈ lw_all := lw_g (lw_at lw_m5 190 rfl) rfl
theorem q1269 : (Jvm.Cond.code ({ cls := "LadderLots", name := "gatesTo", desc := "(I)I" } : Jvm.MethodName) prog_1_method_78_code (4 : Nat) (Option.some Jvm.ClassFile.FieldType.int)) ∈ lw_all := lw_g (lw_at lw_m5 191 rfl) rfl
theorem q1271 : (Jvm.Cond.instanceMethod ({ cls := "LadderLots", name := "mendAt", desc := "(II)I" } : Jvm.MethodName)) ∈ lw_all := lw_g (lw_at lw_m5 193 rfl) rfl
theorem q1272 : (Jvm.Cond.selects "LadderLots" ({ cls := "LadderLots", name := "mendAt", desc := "(II)I" } : Jvm.MethodName) ({ cls := "LadderLots", name := "mendAt", desc := "(II)I" } : Jvm.MethodName)) ∈ lw_all := lw_g (lw_at lw_m5 194 rfl) rfl
theorem q1273 : (Jvm.Cond.code ({ cls := "LadderLots", name := "mendAt", desc := "(II)I" } : Jvm.MethodName) prog_1_method_80_code (6 : Nat) (Option.some Jvm.ClassFile.FieldType.int)) ∈ lw_all := lw_g (lw_at lw_m5 195 rfl) rfl
theorem q1275 : (Jvm.Cond.instanceMethod ({ cls := "LadderLots", name := "unlike", desc := "(II)I" } : Jvm.MethodName)) ∈ lw_all := lw_g (lw_at lw_m5 197 rfl) rfl
theorem q1276 : (Jvm.Cond.selects "LadderLots" ({ cls := "LadderLots", name := "unlike", desc := "(II)I" } : Jvm.MethodName) ({ cls := "LadderLots", name := "unlike", desc := "(II)I" } : Jvm.MethodName)) ∈ lw_all := lw_g (lw_at lw_m5 198 rfl) rfl
theorem q1277 : (Jvm.Cond.code ({ cls := "LadderLots", name := "unlike", desc := "(II)I" } : Jvm.MethodName) prog_1_method_81_code (7 : Nat) (Option.some Jvm.ClassFile.FieldType.int)) ∈ lw_all := lw_g (lw_at lw_m5 199 rfl) rfl
theorem q1279 : (Jvm.Cond.instanceMethod ({ cls := "LadderLots", name := "count", desc := "(I)I" } : Jvm.MethodName)) ∈ lw_all := lw_g (lw_at lw_m5 201 rfl) rfl
theorem q1280 : (Jvm.Cond.selects "LadderLots" ({ cls := "LadderLots", name := "count", desc := "(I)I" } : Jvm.MethodName) ({ cls := "LadderLots", name := "count", desc := "(I)I" } : Jvm.MethodName)) ∈ lw_all := lw_g (lw_at lw_m5 202 rfl) rfl
theorem q1281 : (Jvm.Cond.code ({ cls := "LadderLots", name := "count", desc := "(I)I" } : Jvm.MethodName) prog_1_method_82_code (2 : Nat) (Option.some Jvm.ClassFile.FieldType.int)) ∈ lw_all := lw_g (lw_at lw_m5 203 rfl) rfl
theorem q1963 : (Jvm.Cond.castable "LadderLots" "java/lang/Object") ∈ lw_tbl := lw_at lw_m8 165 rfl
theorem in_X0 : ∀ w ∈ wsX00, w ∈ lw_all := lw_in wsX00 [455, 457, 459, 461, 463, 465, 467, 469, 471, 473, 475, 477, 479, 481, 483, 485, 487, 489, 491, 493, 495, 497, 499, 501, 503, 505, 507, 509, 511, 513] (by decide +kernel) (by decide +kernel)
