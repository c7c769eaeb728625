/-! Machine ints, plainly. By hand -/
theorem w_add64 {a b : Int64} (h1 : -9223372036854775808 ≤ a.toInt + b.toInt) (h2 : a.toInt + b.toInt < 9223372036854775808) : (a + b).toInt = a.toInt + b.toInt := by
  rw [Int64.toInt_add]
  exact Int.bmod_eq_of_le (by omega) (by omega)
theorem w_sub64 {a b : Int64} (h1 : -9223372036854775808 ≤ a.toInt - b.toInt) (h2 : a.toInt - b.toInt < 9223372036854775808) : (a - b).toInt = a.toInt - b.toInt := by
  rw [Int64.toInt_sub]
  exact Int.bmod_eq_of_le (by omega) (by omega)
theorem w_mul64 {a b : Int64} (h1 : -9223372036854775808 ≤ a.toInt * b.toInt) (h2 : a.toInt * b.toInt < 9223372036854775808) : (a * b).toInt = a.toInt * b.toInt := by
  rw [Int64.toInt_mul]
  exact Int.bmod_eq_of_le (by omega) (by omega)
theorem w_neg64 {a : Int64} (h1 : -9223372036854775808 < a.toInt) : (-a).toInt = -a.toInt := by
  have := a.toInt_lt
  rw [Int64.toInt_neg]
  exact Int.bmod_eq_of_le (by omega) (by omega)
theorem w_add32 {a b : Int32} (h1 : -2147483648 ≤ a.toInt + b.toInt) (h2 : a.toInt + b.toInt < 2147483648) : (a + b).toInt = a.toInt + b.toInt := by
  rw [Int32.toInt_add]
  exact Int.bmod_eq_of_le (by omega) (by omega)
theorem w_sub32 {a b : Int32} (h1 : -2147483648 ≤ a.toInt - b.toInt) (h2 : a.toInt - b.toInt < 2147483648) : (a - b).toInt = a.toInt - b.toInt := by
  rw [Int32.toInt_sub]
  exact Int.bmod_eq_of_le (by omega) (by omega)
theorem w_mul32 {a b : Int32} (h1 : -2147483648 ≤ a.toInt * b.toInt) (h2 : a.toInt * b.toInt < 2147483648) : (a * b).toInt = a.toInt * b.toInt := by
  rw [Int32.toInt_mul]
  exact Int.bmod_eq_of_le (by omega) (by omega)
theorem w_pow_dvd {k n : Nat} (h : k ≤ n) : ((2 : Int) ^ k) ∣ ((2 ^ n : Nat) : Int) := by
  refine ⟨((2 ^ (n - k) : Nat) : Int), ?_⟩
  rw [show ((2 : Int) ^ k) = ((2 ^ k : Nat) : Int) by rw [Int.natCast_pow]; rfl, ← Int.natCast_mul, ← Nat.pow_add, show k + (n - k) = n by omega]
/-- a number's last bits -/
theorem w_mod64 (y : Int64) {k : Nat} (hk : k ≤ 64) : y.toInt % (2 : Int) ^ k = ((y.toBitVec.toNat % 2 ^ k : Nat) : Int) := by
  have e : y.toInt = ((y.toBitVec.toNat : Nat) : Int).bmod (2 ^ 64) := BitVec.toInt_eq_toNat_bmod _
  rw [← Int.emod_emod_of_dvd y.toInt (w_pow_dvd hk), e, Int.bmod_emod, Int.emod_emod_of_dvd _ (w_pow_dvd hk), Int.natCast_emod, Int.natCast_pow]
  rfl
theorem w_mod32 (y : Int32) {k : Nat} (hk : k ≤ 32) : y.toInt % (2 : Int) ^ k = ((y.toBitVec.toNat % 2 ^ k : Nat) : Int) := by
  have e : y.toInt = ((y.toBitVec.toNat : Nat) : Int).bmod (2 ^ 32) := BitVec.toInt_eq_toNat_bmod _
  rw [← Int.emod_emod_of_dvd y.toInt (w_pow_dvd hk), e, Int.bmod_emod, Int.emod_emod_of_dvd _ (w_pow_dvd hk), Int.natCast_emod, Int.natCast_pow]
  rfl
theorem w_and64 {y m : Int64} {k : Nat} (hk : k < 64) (hm : m.toBitVec.toNat = 2 ^ k - 1) : (y &&& m).toInt = y.toInt % (2 : Int) ^ k := by
  have e : (y &&& m).toBitVec.toNat = y.toBitVec.toNat % 2 ^ k := by
    show (y.toBitVec &&& m.toBitVec).toNat = _
    rw [BitVec.toNat_and, hm, Nat.and_two_pow_sub_one_eq_mod]
  have hp : 2 ^ k ≤ 2 ^ 63 := Nat.pow_le_pow_right (by decide) (by omega)
  have hl := Nat.mod_lt y.toBitVec.toNat (Nat.two_pow_pos k)
  rw [w_mod64 y (by omega), ← e]
  exact BitVec.toInt_eq_toNat_of_lt (by rw [e]; omega)
theorem w_and32 {y m : Int32} {k : Nat} (hk : k < 32) (hm : m.toBitVec.toNat = 2 ^ k - 1) : (y &&& m).toInt = y.toInt % (2 : Int) ^ k := by
  have e : (y &&& m).toBitVec.toNat = y.toBitVec.toNat % 2 ^ k := by
    show (y.toBitVec &&& m.toBitVec).toNat = _
    rw [BitVec.toNat_and, hm, Nat.and_two_pow_sub_one_eq_mod]
  have hp : 2 ^ k ≤ 2 ^ 31 := Nat.pow_le_pow_right (by decide) (by omega)
  have hl := Nat.mod_lt y.toBitVec.toNat (Nat.two_pow_pos k)
  rw [w_mod32 y (by omega), ← e]
  exact BitVec.toInt_eq_toNat_of_lt (by rw [e]; omega)
theorem w_nn64 {y : Int64} (h : 0 ≤ y.toInt) : (y.toBitVec.toNat : Int) = y.toInt := by
  have h2 := y.toInt_lt
  have h3 := w_mod64 y (k := 64) (by decide)
  have h4 : y.toBitVec.toNat % 2 ^ 64 = y.toBitVec.toNat := Nat.mod_eq_of_lt y.toBitVec.isLt
  rw [h4] at h3
  omega
theorem w_nn32 {y : Int32} (h : 0 ≤ y.toInt) : (y.toBitVec.toNat : Int) = y.toInt := by
  have h2 := y.toInt_lt
  have h3 := w_mod32 y (k := 32) (by decide)
  have h4 : y.toBitVec.toNat % 2 ^ 32 = y.toBitVec.toNat := Nat.mod_eq_of_lt y.toBitVec.isLt
  rw [h4] at h3
  omega
/-- counts of shifts -/
theorem w_sh63 : ∀ k : Fin 64, (((Int32.ofNat k.val).toInt64 &&& 63).toBitVec.smod 64).toNat = k.val ∧ (((Int32.ofNat k.val).toInt64.toUInt64 &&& Int64.toUInt64 63).toNat % 64) = k.val := by decide +kernel
theorem w_sh31 : ∀ k : Fin 32, (((Int32.ofNat k.val) &&& 31).toBitVec.smod 32).toNat = k.val ∧ (((Int32.ofNat k.val).toUInt32 &&& Int32.toUInt32 31).toNat % 32) = k.val := by decide +kernel
theorem w_lushr {y : Int64} {k : Nat} (h : 0 ≤ y.toInt) (hk : k < 64) : (jlushr y (Int32.ofNat k)).toInt = y.toInt / (2 : Int) ^ k := by
  have e : (jlushr y (Int32.ofNat k)).toBitVec.toNat = y.toBitVec.toNat / 2 ^ k := by
    show (y.toUInt64 >>> ((Int32.ofNat k).toInt64.toUInt64 &&& Int64.toUInt64 63)).toNat = _
    rw [UInt64.toNat_shiftRight, (w_sh63 ⟨k, hk⟩).2, Nat.shiftRight_eq_div_pow]
    rfl
  have h2 := w_nn64 h
  have h3 := y.toInt_lt
  have h4 : y.toBitVec.toNat / 2 ^ k ≤ y.toBitVec.toNat := Nat.div_le_self _ _
  have h5 : (jlushr y (Int32.ofNat k)).toInt = (((jlushr y (Int32.ofNat k)).toBitVec.toNat : Nat) : Int) := BitVec.toInt_eq_toNat_of_lt (by rw [e]; omega)
  rw [h5, e, Int.natCast_ediv, h2, Int.natCast_pow]
  rfl
theorem w_lshr {y : Int64} {k : Nat} (hk : k < 64) : (jlshr y (Int32.ofNat k)).toInt = y.toInt / (2 : Int) ^ k := by
  show (y.toBitVec.sshiftRight' (((Int32.ofNat k).toInt64 &&& 63).toBitVec.smod 64)).toInt = _
  rw [BitVec.toInt_sshiftRight', (w_sh63 ⟨k, hk⟩).1, Int.shiftRight_eq_div_pow]
  show _ = y.toBitVec.toInt / _
  rw [Int.natCast_pow]
  rfl
theorem w_ishr {y : Int32} {k : Nat} (hk : k < 32) : (jishr y (Int32.ofNat k)).toInt = y.toInt / (2 : Int) ^ k := by
  show (y.toBitVec.sshiftRight' (((Int32.ofNat k) &&& 31).toBitVec.smod 32)).toInt = _
  rw [BitVec.toInt_sshiftRight', (w_sh31 ⟨k, hk⟩).1, Int.shiftRight_eq_div_pow]
  show _ = y.toBitVec.toInt / _
  rw [Int.natCast_pow]
  rfl
theorem w_lshl {y : Int64} {k : Nat} (hk : k < 64) (h1 : -9223372036854775808 ≤ y.toInt * (2 : Int) ^ k) (h2 : y.toInt * (2 : Int) ^ k < 9223372036854775808) : (jlshl y (Int32.ofNat k)).toInt = y.toInt * (2 : Int) ^ k := by
  have e : (jlshl y (Int32.ofNat k)).toBitVec = y.toBitVec <<< k := by
    show y.toBitVec <<< (((Int32.ofNat k).toInt64 &&& 63).toBitVec.smod 64) = _
    rw [BitVec.shiftLeft_eq', (w_sh63 ⟨k, hk⟩).1]
  show (jlshl y (Int32.ofNat k)).toBitVec.toInt = _
  rw [e, BitVec.toInt_shiftLeft, Nat.shiftLeft_eq]
  have h3 : ((y.toBitVec.toNat * 2 ^ k : Nat) : Int).bmod (2 ^ 64) = (y.toInt * (2 : Int) ^ k).bmod (2 ^ 64) := by
    have e2 : y.toInt = ((y.toBitVec.toNat : Nat) : Int).bmod (2 ^ 64) := BitVec.toInt_eq_toNat_bmod _
    rw [e2, Int.bmod_mul_bmod, Int.natCast_mul, Int.natCast_pow]
    rfl
  rw [h3]
  exact Int.bmod_eq_of_le (by omega) (by omega)
theorem w_ishl {y : Int32} {k : Nat} (hk : k < 32) (h1 : -2147483648 ≤ y.toInt * (2 : Int) ^ k) (h2 : y.toInt * (2 : Int) ^ k < 2147483648) : (jishl y (Int32.ofNat k)).toInt = y.toInt * (2 : Int) ^ k := by
  have e : (jishl y (Int32.ofNat k)).toBitVec = y.toBitVec <<< k := by
    show y.toBitVec <<< (((Int32.ofNat k) &&& 31).toBitVec.smod 32) = _
    rw [BitVec.shiftLeft_eq', (w_sh31 ⟨k, hk⟩).1]
  show (jishl y (Int32.ofNat k)).toBitVec.toInt = _
  rw [e, BitVec.toInt_shiftLeft, Nat.shiftLeft_eq]
  have h3 : ((y.toBitVec.toNat * 2 ^ k : Nat) : Int).bmod (2 ^ 32) = (y.toInt * (2 : Int) ^ k).bmod (2 ^ 32) := by
    have e2 : y.toInt = ((y.toBitVec.toNat : Nat) : Int).bmod (2 ^ 32) := BitVec.toInt_eq_toNat_bmod _
    rw [e2, Int.bmod_mul_bmod, Int.natCast_mul, Int.natCast_pow]
    rfl
  rw [h3]
  exact Int.bmod_eq_of_le (by omega) (by omega)
/-- a word without its sign -/
def z_w (x : Int32) : Int := x.toInt % 4294967296
theorem z_w_bd (x : Int32) : 0 ≤ z_w x ∧ z_w x < 4294967296 := by
  unfold z_w
  omega
theorem z_w_nat (x : Int32) : z_w x = (x.toBitVec.toNat : Int) := by
  have h := w_mod32 x (k := 32) (by decide)
  rw [Nat.mod_eq_of_lt x.toBitVec.isLt] at h
  exact h
theorem z_w_inj {x y : Int32} (h : z_w x = z_w y) : x = y := by
  unfold z_w at h
  have h1 := x.toInt_lt
  have h2 := y.toInt_lt
  have h3 := x.le_toInt
  have h4 := y.le_toInt
  rw [← Int32.toInt_inj]
  omega
theorem z_w_mask (x : Int32) : (x.toInt64 &&& 4294967295).toInt = z_w x := by
  rw [w_and64 (k := 32) (by decide) rfl, Int32.toInt_toInt64]
  rfl
theorem z_w_l2i (y : Int64) : z_w y.toInt32 = y.toInt % 4294967296 := by
  unfold z_w
  rw [Int64.toInt_toInt32]
  exact Int.bmod_emod
theorem z_w_not (x : Int32) : z_w (x ^^^ -1) = 4294967295 - z_w x := by
  have e : (x ^^^ -1).toBitVec = ~~~x.toBitVec := by
    show x.toBitVec ^^^ (-1 : Int32).toBitVec = _
    rw [show (-1 : Int32).toBitVec = BitVec.allOnes 32 by decide, BitVec.xor_allOnes]
  rw [z_w_nat, z_w_nat, e, BitVec.toNat_not]
  have := x.toBitVec.isLt
  omega
/-- an int of a loop -/
theorem nI_int {n : Nat} (h : n < 2147483648) : (Int32.ofNat n).toInt = (n : Int) := nI_toInt (by omega)
theorem w_lushrN {y : Int64} {k : Nat} (hk : k < 64) : (jlushr y (Int32.ofNat k)).toBitVec.toNat = y.toBitVec.toNat / 2 ^ k := by
  show (y.toUInt64 >>> ((Int32.ofNat k).toInt64.toUInt64 &&& Int64.toUInt64 63)).toNat = _
  rw [UInt64.toNat_shiftRight, (w_sh63 ⟨k, hk⟩).2, Nat.shiftRight_eq_div_pow]
  rfl
theorem w_lshlN {y : Int64} {k : Nat} (hk : k < 64) : (jlshl y (Int32.ofNat k)).toBitVec.toNat = y.toBitVec.toNat * 2 ^ k % 2 ^ 64 := by
  have e : (jlshl y (Int32.ofNat k)).toBitVec = y.toBitVec <<< k := by
    show y.toBitVec <<< (((Int32.ofNat k).toInt64 &&& 63).toBitVec.smod 64) = _
    rw [BitVec.shiftLeft_eq', (w_sh63 ⟨k, hk⟩).1]
  rw [e, BitVec.toNat_shiftLeft, Nat.shiftLeft_eq]
