/-! ===== bytes of an int ===== -/
set_option maxRecDepth 100000
theorem iand255 {v : Int} : iand v 255 = v % 256 := by
  unfold iand
  have h1 : (Int32.ofInt v &&& Int32.ofInt 255).toBitVec.toNat = (Int32.ofInt v).toBitVec.toNat % 256 := by
    rw [Int32.toBitVec_and, BitVec.toNat_and]
    exact Nat.and_two_pow_sub_one_eq_mod _ 8
  have h2 : (Int32.ofInt v).toBitVec.toNat = (v % 4294967296).toNat := by
    rw [show (Int32.ofInt v).toBitVec = BitVec.ofInt 32 v from rfl, BitVec.toNat_ofInt]
    rfl
  rw [← Int32.toInt_toBitVec, BitVec.toInt_eq_toNat_of_lt (by rw [h1]; omega), h1, h2]
  omega
theorem i2bb_sb {u : Int} : i2bb u = sb (u % 256) := by
  unfold i2bb sb
  rw [Int8.toInt_toInt32, Int32.toInt_toInt8, Int32.toInt_ofInt]
  simp only [Int.bmod]
  rw [show ((Int32.size : Nat) : Int) = 4294967296 from rfl, show (((2 ^ 8 : Nat)) : Int) = 256 from rfl]
  split <;> split <;> split <;> omega
theorem iushr_eq {x s : Int} (hs : s = 8 ∨ s = 16 ∨ s = 24) : iushr x s = (x % 4294967296) / 2 ^ s.toNat := by
  have key : ∀ (a : Int32) (k : Nat), (k = 8 ∨ k = 16 ∨ k = 24) → ((a.toUInt32 >>> ((Int32.ofInt (k : Int)).toUInt32 &&& Int32.toUInt32 31)).toInt32).toInt = ((a.toBitVec.toNat / 2 ^ k : Nat) : Int) := by
    intro a k hk
    have e : ((Int32.ofInt (k : Int)).toUInt32 &&& Int32.toUInt32 31) = UInt32.ofNat k := by rcases hk with h | h | h <;> subst h <;> rfl
    rw [e]
    have h1 : ((a.toUInt32 >>> UInt32.ofNat k).toInt32).toBitVec.toNat = a.toBitVec.toNat / 2 ^ k := by
      show (a.toUInt32 >>> UInt32.ofNat k).toNat = _
      rw [UInt32.toNat_shiftRight, Nat.shiftRight_eq_div_pow]
      rcases hk with h | h | h <;> subst h <;> rfl
    have hlt := a.toBitVec.isLt
    rw [← Int32.toInt_toBitVec, BitVec.toInt_eq_toNat_of_lt (by rw [h1]; rcases hk with h | h | h <;> subst h <;> omega), h1]
  have h2 : (Int32.ofInt x).toBitVec.toNat = (x % 4294967296).toNat := by
    rw [show (Int32.ofInt x).toBitVec = BitVec.ofInt 32 x from rfl, BitVec.toNat_ofInt]
    rfl
  obtain ⟨k, hk⟩ : ∃ k : Nat, s = k := ⟨s.toNat, by omega⟩
  subst hk
  unfold iushr
  rw [key _ k (by omega), h2, Int.toNat_natCast]
  rcases (show k = 8 ∨ k = 16 ∨ k = 24 by omega) with h | h | h <;> subst h <;> omega
theorem iushr0 {x : Int} (hx : inR x) : iushr x 0 = x := by
  unfold iushr
  have : ((Int32.ofInt x).toUInt32 >>> ((Int32.ofInt 0).toUInt32 &&& Int32.toUInt32 31)).toInt32 = Int32.ofInt x := by
    rw [show ((Int32.ofInt 0).toUInt32 &&& Int32.toUInt32 31) = 0 from rfl]
    simp
  rw [this, i32_toInt hx]
/-- the byte at a shift -/
def byt (x s : Int) : Int := (x / 2 ^ s.toNat) % 256
theorem byt_c {x s : Int} (hx : inR x) (hs : s = 0 ∨ s = 8 ∨ s = 16 ∨ s = 24) : i2bb (iushr x s) = sb (byt x s) := by
  rw [i2bb_sb]
  congr 1
  unfold byt
  rcases hs with h | h | h | h
  · subst h
    rw [iushr0 hx]
    simp
  · subst h
    rw [iushr_eq (by omega)]
    show (x % 4294967296 / 2 ^ 8) % 256 = (x / 2 ^ 8) % 256
    omega
  · subst h
    rw [iushr_eq (by omega)]
    show (x % 4294967296 / 2 ^ 16) % 256 = (x / 2 ^ 16) % 256
    omega
  · subst h
    rw [iushr_eq (by omega)]
    show (x % 4294967296 / 2 ^ 24) % 256 = (x / 2 ^ 24) % 256
    omega
theorem byt_t {x s : Int} (hx : inR x) (h0 : 0 ≤ s) (h1 : s < 32) : iand (ishr x s) 255 = byt x s := by rw [iand255, ishr_eq hx h0 h1]; rfl
theorem byt_bd {x s : Int} : 0 ≤ byt x s ∧ byt x s < 256 := by unfold byt; omega
theorem sb_bd {x : Int} (h : 0 ≤ x ∧ x < 256) : -128 ≤ sb x ∧ sb x < 128 := by unfold sb; split <;> omega
