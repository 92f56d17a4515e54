/-! ===== rows of bits as numbers ===== -/
set_option maxRecDepth 100000
def tb (x : Int) (c : Nat) : Bool := (BitVec.ofInt 32 x).getLsbD c
theorem sc_a : ∀ c : Nat, c < 32 → (Int32.ofInt (c : Int) &&& 31).toBitVec.smod 32 = BitVec.ofNat 32 c := by decide
theorem sc_b : ∀ c : Nat, c < 32 → ((Int32.ofInt (c : Int)).toUInt32 &&& Int32.toUInt32 31).toBitVec % 32 = BitVec.ofNat 32 c := by decide
theorem b_one {a : BitVec 32} : (a &&& 1#32).toInt = if a.getLsbD 0 = true then 1 else 0 := by
  rw [BitVec.and_one_eq_setWidth_ofBool_getLsbD]
  cases a.getLsbD 0 <;> rfl
theorem i32_bv (x : Int) : (Int32.ofInt x).toBitVec = BitVec.ofInt 32 x := rfl
theorem tb_u {x : Int} {c : Nat} (h : c < 32) : iand (iushr x c) 1 = if tb x c = true then 1 else 0 := by
  unfold iand iushr
  rw [Int32.ofInt_toInt]
  show ((_ : Int32).toBitVec).toInt = _
  rw [Int32.toBitVec_and]
  show (((Int32.ofInt x).toUInt32 >>> ((Int32.ofInt (c : Int)).toUInt32 &&& Int32.toUInt32 31)).toBitVec &&& 1#32).toInt = _
  rw [UInt32.toBitVec_shiftRight, sc_b c h, b_one]
  show (if ((BitVec.ofInt 32 x) >>> (BitVec.ofNat 32 c)).getLsbD 0 = true then (1 : Int) else 0) = _
  rw [BitVec.ushiftRight_eq', BitVec.getLsbD_ushiftRight]
  unfold tb
  simp [Nat.mod_eq_of_lt (show c < 2 ^ 32 by omega)]
theorem tb_s {x : Int} {c : Nat} (h : c < 32) : iand (ishr x c) 1 = if tb x c = true then 1 else 0 := by
  unfold iand ishr
  rw [Int32.ofInt_toInt]
  show ((_ : Int32).toBitVec).toInt = _
  rw [Int32.toBitVec_and, Int32.toBitVec_shiftRight, sc_a c h]
  show ((((BitVec.ofInt 32 x).sshiftRight' (BitVec.ofNat 32 c))) &&& 1#32).toInt = _
  rw [b_one, BitVec.sshiftRight_eq', BitVec.getLsbD_sshiftRight]
  unfold tb
  simp [Nat.mod_eq_of_lt (show c < 2 ^ 32 by omega), h]
theorem tb_or {x y : Int} {c : Nat} : tb (iorr x y) c = (tb x c || tb y c) := by
  unfold tb iorr
  rw [show BitVec.ofInt 32 (Int32.ofInt x ||| Int32.ofInt y).toInt = (Int32.ofInt x ||| Int32.ofInt y).toBitVec from BitVec.ofInt_toInt, Int32.toBitVec_or, BitVec.getLsbD_or]
  rfl
theorem tb_one : ∀ r : Nat, r < 32 → ∀ c : Nat, c < 32 → tb (ishl 1 (r : Int)) c = decide (c = r) := by decide
theorem tb_zero {c : Nat} : tb 0 c = false := by
  unfold tb
  simp
theorem tb_ext {x y : Int} (hx : inR x) (hy : inR y) (h : ∀ c, c < 32 → tb x c = tb y c) : x = y := by
  have e : BitVec.ofInt 32 x = BitVec.ofInt 32 y := BitVec.eq_of_getLsbD_eq (fun i hi => h i hi)
  have e2 := congrArg BitVec.toInt e
  rw [BitVec.toInt_ofInt, BitVec.toInt_ofInt] at e2
  unfold inR at hx hy
  rw [Int.bmod_eq_of_le (by omega) (by omega), Int.bmod_eq_of_le (by omega) (by omega)] at e2
  exact e2
