-- chars and bytes
theorem ch_nar {m : Nat} (h : m < 65536) : narrow .char (.int (nI m)) = .int (nI m) := by
  show Value.int (nI m).toUInt32.toUInt16.toUInt32.toInt32 = Value.int (nI m)
  congr 1
  apply Int32.toBitVec_inj.mp
  show ((BitVec.ofInt 32 m).setWidth 16).setWidth 32 = BitVec.ofInt 32 m
  apply BitVec.eq_of_toNat_eq
  simp
  omega
theorem ch_ok {m : Nat} (h : m < 65536) : w_ok .char (nI m) := by
  refine ⟨ch_nar h, ?_⟩
  show (decide ((0 : Int32) ≤ nI m) && decide (nI m ≤ 65535)) = true
  rw [Bool.and_eq_true, decide_eq_true_eq, decide_eq_true_eq]
  exact ⟨(ni_le (a := 0) (by decide) (by omega)).mpr (Nat.zero_le _), (ni_le (b := 65535) (by omega) (by decide)).mpr (by omega)⟩
theorem ch_vp {m : Nat} (h : m < 65536) : vp_nar .char (nI m) = nI m := by
  unfold vp_nar
  rw [ch_nar h]
theorem u32_n (u : UInt32) : u.toInt32 = nI u.toNat := by
  apply Int32.toBitVec_inj.mp
  unfold nI
  simp [← UInt32.toNat_toBitVec]
theorem nI_u {m : Nat} (h : m < 4294967296) : (nI m).toUInt32.toNat = m := by
  rw [← UInt32.toNat_toBitVec, Int32.toBitVec_toUInt32]
  unfold nI
  rw [Int32.toBitVec_ofNat', BitVec.toNat_ofNat]
  omega
/-- (char) x -/
theorem ch_i2c (x : Int32) : ∃ m, m < 65536 ∧ (x.toUInt32 % 65536).toInt32 = nI m := by
  refine ⟨(x.toUInt32 % 65536).toNat, ?_, u32_n _⟩
  rw [UInt32.toNat_mod]
  exact Nat.mod_lt _ (by decide)
theorem ch_i2cn {m : Nat} (h : m < 65536) : ((nI m).toUInt32 % 65536).toInt32 = nI m := by
  rw [u32_n, UInt32.toNat_mod, nI_u (by omega)]
  congr 1
  exact Nat.mod_eq_of_lt h
theorem by_fits (x : Int32) : fits .byte (.int x.toInt8.toInt32) = true := by
  show (decide ((-128 : Int32) ≤ x.toInt8.toInt32) && decide (x.toInt8.toInt32 ≤ 127)) = true
  rw [Bool.and_eq_true, decide_eq_true_eq, decide_eq_true_eq, Int32.le_iff_toInt_le, Int32.le_iff_toInt_le, Int8.toInt_toInt32]
  have h1 := x.toInt8.minValue_le_toInt
  have h2 := x.toInt8.toInt_le
  have e1 : Int8.minValue.toInt = -128 := rfl
  have e2 : Int8.maxValue.toInt = 127 := rfl
  have e3 : (127 : Int32).toInt = 127 := rfl
  have e4 : (-128 : Int32).toInt = -128 := rfl
  rw [e3, e4]
  omega
theorem by_and (x : Int32) : x.toInt8.toInt32 &&& 255 = x &&& 255 := by
  apply Int32.toBitVec_inj.mp
  simp only [Int32.toBitVec_and, Int8.toBitVec_toInt32, Int32.toBitVec_toInt8]
  apply BitVec.eq_of_getLsbD_eq
  intro i hi
  simp only [BitVec.getLsbD_and, BitVec.getLsbD_signExtend, BitVec.getLsbD_setWidth]
  by_cases h8 : i < 8
  · simp [h8, hi]
  · have : (Int32.toBitVec 255).getLsbD i = false := by
      show Nat.testBit 255 i = false
      exact Nat.testBit_lt_two_pow (Nat.lt_of_lt_of_le (show 255 < 2 ^ 8 by decide) (Nat.pow_le_pow_right (by decide) (by omega)))
    rw [this]
    simp
theorem and_255 (m : Nat) (h : m < 65536) : nI m &&& 255 = nI (m % 256) := by
  apply Int32.toBitVec_inj.mp
  unfold nI
  simp only [Int32.toBitVec_and, Int32.toBitVec_ofNat']
  apply BitVec.eq_of_toNat_eq
  rw [BitVec.toNat_and, BitVec.toNat_ofNat, BitVec.toNat_ofNat, show (Int32.toBitVec 255).toNat = 2 ^ 8 - 1 by decide, Nat.and_two_pow_sub_one_eq_mod]
  omega
/-- a byte read back -/
theorem by_l {m : Nat} (h : m < 256) : ((((nI m).toInt8.toInt32) &&& 255).toUInt32 % 65536).toInt32 = nI m := by
  rw [by_and, and_255 m (by omega), Nat.mod_eq_of_lt h, ch_i2cn (by omega)]
theorem sh_n (n : Nat) (h : n < 1000) : nI n <<< (0 &&& 31) = nI n ∧ nI n <<< (1 &&& 31) = nI (2 * n) ∧ nI n >>> (0 &&& 31) = nI n ∧ nI n >>> (1 &&& 31) = nI (n / 2) := by
  revert n
  decide +kernel
theorem sr_8 (m : Nat) (h : m < 65536) : nI m >>> (8 &&& 31) = nI (m / 256) ∧ nI m >>> (0 &&& 31) = nI m := by
  constructor
  · apply Int32.toBitVec_inj.mp
    unfold nI
    rw [Int32.toBitVec_shiftRight, Int32.toBitVec_ofNat', show ((8 &&& 31 : Int32).toBitVec.smod 32) = 8#32 by decide, BitVec.sshiftRight', BitVec.sshiftRight_eq_of_msb_false]
    · apply BitVec.eq_of_toNat_eq
      simp [Nat.shiftRight_eq_div_pow]
      omega
    · rw [BitVec.msb_eq_decide]; simp; omega
  · apply Int32.toBitVec_inj.mp
    unfold nI
    rw [Int32.toBitVec_shiftRight, Int32.toBitVec_ofNat', show ((0 &&& 31 : Int32).toBitVec.smod 32) = 0#32 by decide]
    simp
theorem sl_8 : ∀ h : Nat, h < 256 → nI h <<< (8 &&& 31) = nI (256 * h) := by decide +kernel
theorem or_256 (l h : Nat) (hl : l < 256) (hh : h < 256) : nI l ||| nI (256 * h) = nI (l + 256 * h) := by
  apply Int32.toBitVec_inj.mp
  unfold nI
  simp only [Int32.toBitVec_or, Int32.toBitVec_ofNat']
  apply BitVec.eq_of_toNat_eq
  have e := Nat.shiftLeft_add_eq_or_of_lt (b := l) (i := 8) hl h
  rw [Nat.shiftLeft_eq] at e
  rw [BitVec.toNat_or, BitVec.toNat_ofNat, BitVec.toNat_ofNat, BitVec.toNat_ofNat, Nat.mod_eq_of_lt (show l < 2 ^ 32 by omega), Nat.mod_eq_of_lt (show 256 * h < 2 ^ 32 by omega), Nat.mod_eq_of_lt (show l + 256 * h < 2 ^ 32 by omega), Nat.or_comm, Nat.mul_comm 256 h, show (256 : Nat) = 2 ^ 8 by rfl, ← e]
  omega
/-- two bytes read back -/
theorem by_u {m : Nat} (h : m < 65536) : ((((((nI m >>> (0 &&& 31)).toInt8.toInt32.toInt8.toInt32 &&& 255) <<< (0 &&& 31)) ||| (((nI m >>> (8 &&& 31)).toInt8.toInt32.toInt8.toInt32 &&& 255) <<< (8 &&& 31))).toUInt32 % 65536).toInt32) = nI m := by
  rw [by_and, by_and, by_and, by_and, (sr_8 m h).1, (sr_8 m h).2, and_255 m h, and_255 (m / 256) (by omega), (sh_n (m % 256) (by omega)).1, sl_8 _ (by omega), or_256 _ _ (by omega) (by omega)]
  rw [show m % 256 + 256 * (m / 256 % 256) = m by omega, ch_i2cn h]
