/-! arithmetic of texts: shifts by one, two bytes of a letter -/
set_option maxRecDepth 100000
theorem g_shl1 (n : Nat) : nI n <<< ((1 : Int32) &&& 31) = nI (2 * n) := by
  have h : ((1 : Int32) &&& 31) = 1 := by decide
  rw [h]
  apply Int32.toBitVec_inj.mp
  show BitVec.ofNat 32 n <<< (1 : BitVec 32).smod 32 = BitVec.ofNat 32 (2 * n)
  have h2 : (1 : BitVec 32).smod 32 = 1#32 := by decide
  rw [h2]
  apply BitVec.eq_of_toNat_eq
  simp [BitVec.toNat_shiftLeft, Nat.shiftLeft_eq, Nat.mul_comm]
theorem g_shr1 {n : Nat} (hn : n < 2 ^ 31) : nI n >>> ((1 : Int32) &&& 31) = nI (n / 2) := by
  have h : ((1 : Int32) &&& 31) = 1 := by decide
  rw [h]
  apply Int32.toBitVec_inj.mp
  show (BitVec.ofNat 32 n).sshiftRight' ((1 : BitVec 32).smod 32) = BitVec.ofNat 32 (n / 2)
  have h2 : (1 : BitVec 32).smod 32 = 1#32 := by decide
  rw [h2]
  apply BitVec.eq_of_toNat_eq
  have hm : (BitVec.ofNat 32 n).msb = false := by rw [BitVec.msb_eq_decide]; simp; omega
  rw [BitVec.sshiftRight_eq', BitVec.sshiftRight_eq_of_msb_false hm]
  simp [Nat.shiftRight_eq_div_pow]
  omega
theorem g_shl8 (n : Nat) : nI n <<< ((8 : Int32) &&& 31) = nI (256 * n) := by
  have h : ((8 : Int32) &&& 31) = 8 := by decide
  rw [h]
  apply Int32.toBitVec_inj.mp
  show BitVec.ofNat 32 n <<< (8 : BitVec 32).smod 32 = BitVec.ofNat 32 (256 * n)
  have h2 : (8 : BitVec 32).smod 32 = 8#32 := by decide
  rw [h2]
  apply BitVec.eq_of_toNat_eq
  simp [BitVec.toNat_shiftLeft, Nat.shiftLeft_eq, Nat.mul_comm]
theorem g_shr8 {n : Nat} (hn : n < 2 ^ 31) : nI n >>> ((8 : Int32) &&& 31) = nI (n / 256) := by
  have h : ((8 : Int32) &&& 31) = 8 := by decide
  rw [h]
  apply Int32.toBitVec_inj.mp
  show (BitVec.ofNat 32 n).sshiftRight' ((8 : BitVec 32).smod 32) = BitVec.ofNat 32 (n / 256)
  have h2 : (8 : BitVec 32).smod 32 = 8#32 := by decide
  rw [h2]
  apply BitVec.eq_of_toNat_eq
  have hm : (BitVec.ofNat 32 n).msb = false := by rw [BitVec.msb_eq_decide]; simp; omega
  rw [BitVec.sshiftRight_eq', BitVec.sshiftRight_eq_of_msb_false hm]
  simp [Nat.shiftRight_eq_div_pow]
  omega
theorem g_or (a b : Nat) : nI a ||| nI b = nI (a ||| b) := by
  apply Int32.toBitVec_inj.mp
  show BitVec.ofNat 32 a ||| BitVec.ofNat 32 b = BitVec.ofNat 32 (a ||| b)
  apply BitVec.eq_of_toNat_eq
  simp
theorem g_or256 {a b : Nat} (ha : a < 256) : a ||| 256 * b = a + 256 * b := by
  have := Nat.shiftLeft_add_eq_or_of_lt (i := 8) (show a < 2 ^ 8 from ha) b
  rw [Nat.shiftLeft_eq] at this
  rw [Nat.or_comm, Nat.mul_comm, ← this]; omega
theorem sb_bmod (c : Nat) : sb_b c = sb_b (c % 256) := by
  unfold sb_b
  apply congrArg Int8.toInt32
  apply Int8.toBitVec_inj.mp
  show (BitVec.ofNat 32 c).signExtend 8 = (BitVec.ofNat 32 (c % 256)).signExtend 8
  rw [BitVec.signExtend_eq_setWidth_of_le _ (by decide), BitVec.signExtend_eq_setWidth_of_le _ (by decide)]
  apply BitVec.eq_of_toNat_eq
  simp
theorem sb_and (c : Nat) : sb_b c &&& 255 = nI (c % 256) := by
  rw [sb_bmod]; exact (sb_byte _ (Nat.mod_lt _ (by decide))).1
theorem g_i2c {c : Nat} (hc : c < 65536) : ((nI c).toUInt32 % 65536).toInt32 = nI c := by
  rw [pk_char]
  apply congrArg nI
  show (BitVec.ofNat 32 c).toNat % 65536 = c
  simp; omega
/-- two bytes make a letter -/
theorem g_two {c : Nat} (hc : c < 65536) : ((((sb_b c &&& 255) <<< ((0 : Int32) &&& 31)) ||| ((sb_b (c / 256) &&& 255) <<< ((8 : Int32) &&& 31))).toUInt32 % 65536).toInt32 = nI c := by
  rw [sb_and, sb_and, sb_shl0, g_shl8, g_or, g_or256 (Nat.mod_lt _ (by decide)), show c % 256 + 256 * (c / 256 % 256) = c by omega]
  exact g_i2c hc
theorem g_nb (c : Nat) : vp_nar .byte (sb_b c) = sb_b c := pk_vb (nI c)
theorem g_cl (x : Nat) (h : x < 2 ^ 31) : (Int32.ofNat x).toNatClampNeg = x := nI_clamp h
theorem g_ofNat (n : Nat) : Int32.ofNat n = nI n := rfl
