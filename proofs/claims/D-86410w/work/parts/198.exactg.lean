/-! Exact numbers: a double comes or goes: the component's. By hand -/
theorem w_mask_n {y : Int64} {n : Nat} (h : y.toInt = (n : Int)) : (y &&& 4294967295).toInt = ((n % 4294967296 : Nat) : Int) := by
  rw [w_and64 (k := 32) (by decide) rfl, h]
  omega
theorem w_shr_n {y : Int64} {n : Nat} (h : y.toInt = (n : Int)) : (jlushr y 32).toInt = ((n / 4294967296 : Nat) : Int) := by
  have e := w_lushr (y := y) (k := 32) (by omega) (by decide)
  refine (show (jlushr y 32).toInt = _ from e).trans ?_
  rw [h]
  omega
theorem w_shl_n {y : Int64} {n b : Nat} (h : y.toInt = (n : Int)) (hb : b < 32) (hn : n < 4294967296) (hx : n * 2 ^ b < 9223372036854775808) : (jlshl y (Int32.ofNat b)).toInt = ((n * 2 ^ b : Nat) : Int) := by
  have e : y.toInt * (2 : Int) ^ b = ((n * 2 ^ b : Nat) : Int) := by rw [h, ← w_p2, Int.natCast_mul]
  rw [w_lshl (by omega) (by omega) (by omega), e]
theorem q2_addShifted {w : Nat → Int32} {m : Int64} {mm sh : Nat} {p2 : Int32} {K : (Nat → Int32) → Prop} {a sg : Int} (ha : EX 40 0 w a) (hm : m.toInt = (mm : Int)) (hmm : mm < 9007199254740992) (hsh : sh < 1216) (hsg : (p2 = 0 → sg = 1) ∧ (¬ p2 = 0 → sg = -1)) (hK : ∀ w', EX 40 0 w' (a + ((mm * 2 ^ sh : Nat) : Int) * sg) → K w') : wX2_addShifted m (Int32.ofNat sh) p2 w K := by
  obtain ⟨i1, i2⟩ := w_idx (p := sh) (by omega)
  intro x1 h1 x2 h2 y3 h3 y4 h4 y5 h5 y6 h6 y7 h7
  rw [i1] at h1
  rw [i2] at h2
  subst h1
  subst h2
  have pb : 2 ^ (sh % 32) ≤ 2147483648 := by
    rw [show 2147483648 = 2 ^ 31 from rfl]
    exact Nat.pow_le_pow_right (by decide) (by omega)
  have pb1 := Nat.two_pow_pos (sh % 32)
  have lob : mm % 4294967296 * 2 ^ (sh % 32) ≤ 4294967295 * 2147483648 := Nat.mul_le_mul (by omega) pb
  have hib : mm / 4294967296 * 2 ^ (sh % 32) ≤ 2097152 * 2147483648 := Nat.mul_le_mul (by omega) pb
  have e3 : y3.toInt = ((mm % 4294967296 * 2 ^ (sh % 32) : Nat) : Int) := by
    rw [h3]
    exact w_shl_n (w_mask_n hm) (by omega) (by omega) (by omega)
  have e4 : y4.toInt = ((mm / 4294967296 * 2 ^ (sh % 32) : Nat) : Int) := by
    rw [h4]
    exact w_shl_n (w_shr_n hm) (by omega) (by omega) (by omega)
  have hz := z_parts (m := mm) (b := sh % 32)
  generalize mm % 4294967296 * 2 ^ (sh % 32) = lo at *
  generalize mm / 4294967296 * 2 ^ (sh % 32) = hi at *
  have e5 : y5.toInt = ((lo % 4294967296 : Nat) : Int) := by rw [h5]; exact w_mask_n e3
  have e6 : y6.toInt = ((lo / 4294967296 + hi % 4294967296 : Nat) : Int) := by
    rw [h6, w_add64 (by rw [w_shr_n e3, w_mask_n e4]; omega) (by rw [w_shr_n e3, w_mask_n e4]; omega), w_shr_n e3, w_mask_n e4]
    rfl
  have e7 : y7.toInt = ((hi / 4294967296 + (lo / 4294967296 + hi % 4294967296) / 4294967296 : Nat) : Int) := by
    rw [h7, w_add64 (by rw [w_shr_n e4, w_shr_n e6]; omega) (by rw [w_shr_n e4, w_shr_n e6]; omega), w_shr_n e4, w_shr_n e6]
    rfl
  have e6m := w_mask_n e6
  have h := q2_shift_L (f0 := w) (p2 := p2) (at_ := sh / 32) (by omega) (y5 := y5) (y6 := y6) (y7 := y7) (by omega) (by omega) (by omega) hsg (X := fun _ _ w => K w) (fun c i => hK _ ?_) (40 - sh / 32) (sh / 32) (by omega) 0 ?_
  · refine ⟨40 - sh / 32 + 1, ?_⟩
    have e0 : z_st (fun j => z_w (w j) + z_pt (sh / 32) y5.toInt (y6 &&& 4294967295).toInt y7.toInt j * sg) 0 0 w (sh / 32) = w := by
      funext i
      unfold z_st
      by_cases c : 0 ≤ i ∧ i < 0 + sh / 32
      · rw [if_pos c]
        apply z_w_inj
        have hc : ∀ j, j ≤ sh / 32 → z_c (fun j => z_w (w j) + z_pt (sh / 32) y5.toInt (y6 &&& 4294967295).toInt y7.toInt j * sg) 0 j = 0 := by
          intro j
          induction j with
          | zero => intro _; rfl
          | succ j ij =>
            intro hj
            show (z_c _ 0 j + _) / 4294967296 = 0
            rw [ij (by omega)]
            have hb := z_w_bd (w j)
            show (0 + (z_w (w j) + z_pt (sh / 32) y5.toInt (y6 &&& 4294967295).toInt y7.toInt j * sg)) / 4294967296 = 0
            unfold z_pt
            rw [if_neg (by omega), if_neg (by omega), if_neg (by omega)]
            omega
        rw [Nat.sub_zero, hc i (by omega)]
        show z_w (Int32.ofInt ((0 + (z_w (w i) + z_pt (sh / 32) y5.toInt (y6 &&& 4294967295).toInt y7.toInt i * sg)) % 4294967296)) = _
        unfold z_pt
        rw [if_neg (by omega), if_neg (by omega), if_neg (by omega), Int.zero_mul, Int.add_zero, Int.zero_add]
        have hb := z_w_bd (w i)
        rw [Int.emod_eq_of_lt hb.1 hb.2]
        show (Int32.ofInt (z_w (w i))).toInt % 4294967296 = _
        rw [Int32.toInt_ofInt, show Int32.size = 4294967296 from rfl]
        have := @Int.bmod_emod (z_w (w i)) 4294967296
        have h2 : ((4294967296 : Nat) : Int) = 4294967296 := rfl
        rw [h2] at this
        rw [this]
        omega
      · rw [if_neg c]
    rw [e0] at h
    exact h
  · refine EX_mod (z_st_EX _ _ _ _ _) ?_
    rw [z_W_add, z_W_mul, z_pt_sum (by omega), e5, e6m, e7]
    have ha : z_W (fun j => z_w (w (0 + j))) 40 = a % z_P 40 := ha
    simp only [Nat.zero_add] at ha
    rw [ha, Int.zero_add]
    have hv : (((lo % 4294967296 : Nat) : Int) + (((lo / 4294967296 + hi % 4294967296) % 4294967296 : Nat) : Int) * 4294967296 + ((hi / 4294967296 + (lo / 4294967296 + hi % 4294967296) / 4294967296 : Nat) : Int) * 18446744073709551616) * z_P (sh / 32) = ((mm * 2 ^ sh : Nat) : Int) := by
      unfold z_P
      have : sh = sh % 32 + 32 * (sh / 32) := by omega
      rw [show mm * 2 ^ sh = mm * 2 ^ (sh % 32) * 2 ^ (32 * (sh / 32)) by rw [Nat.mul_assoc, ← Nat.pow_add, ← this], ← hz]
      rw [Int.natCast_mul]
      refine congrArg (fun x : Int => x * ((2 ^ (32 * (sh / 32)) : Nat) : Int)) ?_
      omega
    rw [hv, Int.emod_add_emod]
  · have hc : ∀ j, j ≤ sh / 32 → z_c (fun j => z_w (w j) + z_pt (sh / 32) y5.toInt (y6 &&& 4294967295).toInt y7.toInt j * sg) 0 j = 0 := by
      intro j
      induction j with
      | zero => intro _; rfl
      | succ j ij =>
        intro hj
        show (z_c _ 0 j + _) / 4294967296 = 0
        rw [ij (by omega)]
        have hb := z_w_bd (w j)
        show (0 + (z_w (w j) + z_pt (sh / 32) y5.toInt (y6 &&& 4294967295).toInt y7.toInt j * sg)) / 4294967296 = 0
        unfold z_pt
        rw [if_neg (by omega), if_neg (by omega), if_neg (by omega)]
        omega
    rw [hc _ (Nat.le_refl _)]
    rfl
/-- the parts of a double by its bits as a long -/
theorem z_bitsL {v : UInt64} (hv : zf v) : ∃ (E T : Nat), E < 2047 ∧ T < 4503599627370496 ∧ (v.toInt64.toInt / 4503599627370496) % 2048 = E ∧ v.toInt64.toInt % 4503599627370496 = T ∧ (v.toInt64.toInt < 0 ↔ zS v = true) ∧ z_mg FP.Core.b64 v.toNat = (if E = 0 then T else 4503599627370496 + T) * 2 ^ (E - 1) ∧ v.toNat / 4503599627370496 % 2048 = E := by
  have hl := v.toNat_lt
  have e : v.toInt64.toInt = ((v.toNat : Nat) : Int).bmod (2 ^ 64) := BitVec.toInt_eq_toNat_bmod _
  have e2 : v.toInt64.toInt = if v.toNat < 9223372036854775808 then (v.toNat : Int) else (v.toNat : Int) - 18446744073709551616 := by
    rw [e]
    by_cases c : v.toNat < 9223372036854775808
    · rw [if_pos c]
      exact Int.bmod_eq_of_le (by omega) (by omega)
    · rw [if_neg c, Int.bmod_def]
      omega
  have hf := hv
  unfold zf at hf
  rw [z_E] at hf
  refine ⟨v.toNat / 4503599627370496 % 2048, v.toNat % 4503599627370496, by omega, by omega, ?_, ?_, ?_, ?_, rfl⟩
  · rw [e2]; split <;> omega
  · rw [e2]; split <;> omega
  · rw [e2, z_zS, decide_eq_true_iff]; split <;> omega
  · unfold z_mg
    rw [z_E, z_T, z_m64, z_k64.2.1, Nat.zero_add]
theorem w_orT {y : Int64} {T : Nat} (h : y.toInt = (T : Int)) (hT : T < 4503599627370496) : (y ||| 4503599627370496).toInt = ((4503599627370496 + T : Nat) : Int) ∧ (y ||| 0).toInt = (T : Int) := by
  have hn := w_nn64 (y := y) (by omega)
  have e : (y ||| 4503599627370496).toBitVec.toNat = 4503599627370496 + T := by
    show (y.toBitVec ||| 4503599627370496#64).toNat = _
    rw [BitVec.toNat_or]
    have h2 : y.toBitVec.toNat = T := by omega
    have := Nat.two_pow_add_eq_or_of_lt (b := T) (i := 52) (by omega) 1
    rw [h2, Nat.or_comm]
    rw [show 2 ^ 52 * 1 = 4503599627370496 from rfl] at this
    exact this.symm
  refine ⟨?_, ?_⟩
  · have : (y ||| 4503599627370496).toInt = (((y ||| 4503599627370496).toBitVec.toNat : Nat) : Int) := BitVec.toInt_eq_toNat_of_lt (by rw [e]; omega)
    rw [this, e]
  · show (y.toBitVec ||| 0#64).toInt = _
    rw [BitVec.or_zero]
    exact h
theorem w_bmod_emod {x : Int} {k : Nat} (hk : k ≤ 32) : (x.bmod (2 ^ 32)) % (2 : Int) ^ k = x % (2 : Int) ^ k := by
  rw [← Int.emod_emod_of_dvd (x.bmod (2 ^ 32)) (w_pow_dvd hk), Int.bmod_emod, Int.emod_emod_of_dvd _ (w_pow_dvd hk)]
theorem q12_bits {v : UInt64} (hv : zf v) {K : Int64 → Prop} (k : K v.toInt64) : wJ12_doubleToLongBits v K := ⟨fun _ => ⟨fun h => absurd rfl h, fun _ => k⟩, fun h => absurd (z_refl hv) h⟩
theorem q11_bits {v : UInt32} (hv : ff v) {K : Int32 → Prop} (k : K v.toInt32) : wJ11_floatToIntBits v K := ⟨fun _ => ⟨fun h => absurd rfl h, fun _ => k⟩, fun h => absurd (f_refl hv) h⟩
theorem z_shb {E T : Nat} (hz : (if E = 0 then T else 4503599627370496 + T) * 2 ^ (E - 1) < 2 ^ 1240) : E - 1 < 1216 := by
  by_cases c : E = 0
  · omega
  · rw [if_neg c] at hz
    refine Nat.lt_of_not_le fun d => ?_
    have h1 : 2 ^ 52 * 2 ^ 1216 ≤ (4503599627370496 + T) * 2 ^ (E - 1) := Nat.mul_le_mul (by omega) (Nat.pow_le_pow_right (by decide) d)
    rw [← Nat.pow_add] at h1
    have h2 : 2 ^ 1240 ≤ 2 ^ (52 + 1216) := Nat.pow_le_pow_right (by decide) (by decide)
    omega
/-- a number comes (goes: 1) -/
def z_go (goes : Int32) (v : Int) : Int := if goes = 0 then v else -v
theorem q2_add {w : Nat → Int32} {v : UInt64} {p1 : Int32} {K : (Nat → Int32) → Prop} {a : Int} (ha : EX 40 0 w a) (hv : zf v) (hb : (zV v).natAbs < 2 ^ 1240) (hp : p1 = 0 ∨ p1 = 1) (hK : ∀ w', EX 40 0 w' (a + z_go p1 (zV v)) → K w') : wX2_add v p1 w K := by
  obtain ⟨E, T, hE, hT, b1, b2, b3, b4, b5⟩ := z_bitsL hv
  rw [z_vabs hv, b4] at hb
  have hsh := z_shb hb
  have hval := z_val hv
  rw [b4] at hval
  refine q12_bits hv ?_
  intro x2 hx2
  have ex2 : x2 = Int32.ofNat E := by
    have hu : (jlushr v.toInt64 (Int32.ofNat 52)).toBitVec.toNat = v.toNat / 4503599627370496 := w_lushrN (y := v.toInt64) (k := 52) (by decide)
    have hlt := v.toNat_lt
    have hi : (jlushr v.toInt64 (Int32.ofNat 52)).toInt = ((v.toNat / 4503599627370496 : Nat) : Int) := by
      rw [← hu]
      exact BitVec.toInt_eq_toNat_of_lt (by rw [hu]; omega)
    rw [← Int32.toInt_inj, hx2, w_and32 (k := 11) (by decide) rfl, Int64.toInt_toInt32, w_bmod_emod (by decide), show (52 : Int32) = Int32.ofNat 52 from rfl, hi, nI_int (by omega), ← b5]
    rfl
  subst ex2
  have eT : (v.toInt64 &&& 4503599627370495).toInt = (T : Int) := by
    rw [w_and64 (k := 52) (by decide) rfl]
    exact b2
  obtain ⟨o1, o2⟩ := w_orT eT hT
  have fin : ∀ (m : Int64) (mm sh : Nat), m.toInt = (mm : Int) → mm < 9007199254740992 → sh = E - 1 → (mm : Nat) = (if E = 0 then T else 4503599627370496 + T) → wX2_add_J52 w p1 K v.toInt64 m (Int32.ofNat sh) := by
    intro m mm sh hm hmm hsh2 he
    have hsh3 : sh < 1216 := by omega
    rw [← he, ← hsh2] at hval
    have zp : (0 : Int64) ≤ v.toInt64 ↔ zS v = false := by
      rw [Int64.le_iff_toInt_le, Int64.toInt_zero]
      cases hs : zS v
      · rw [hs] at b3
        refine ⟨fun _ => rfl, fun _ => ?_⟩
        have : ¬ v.toInt64.toInt < 0 := fun q => by have := b3.mp q; cases this
        omega
      · rw [hs] at b3
        have := b3.mpr rfl
        exact ⟨fun q => by omega, fun q => by cases q⟩
    unfold wX2_add_J52
    refine ⟨fun c => ?_, fun c => ?_⟩
    · have hs := zp.mp c
      rw [hs] at hval
      have hval : zV v = ((mm * 2 ^ sh : Nat) : Int) := hval
      refine ⟨fun d => q2_addShifted (sg := 1) ha hm hmm hsh3 ⟨fun _ => rfl, fun q => absurd rfl q⟩ (fun w' hw' => hK _ ?_), fun d => q2_addShifted (sg := -1) ha hm hmm hsh3 ⟨fun q => absurd q (by decide), fun _ => rfl⟩ (fun w' hw' => hK _ ?_)⟩
      · unfold z_go
        rw [if_pos d.symm, hval]
        rw [Int.mul_one] at hw'
        exact hw'
      · unfold z_go
        rw [if_neg (fun q => d q.symm), hval]
        rw [Int.mul_neg, Int.mul_one] at hw'
        exact hw'
    · have hs : zS v = true := by
        cases hs : zS v
        · exact absurd (zp.mpr hs) c
        · rfl
      rw [hs] at hval
      have hval : zV v = -((mm * 2 ^ sh : Nat) : Int) := hval
      refine ⟨fun d => q2_addShifted (sg := 1) ha hm hmm hsh3 ⟨fun _ => rfl, fun q => absurd rfl q⟩ (fun w' hw' => hK _ ?_), fun d => q2_addShifted (sg := -1) ha hm hmm hsh3 ⟨fun q => absurd q (by decide), fun _ => rfl⟩ (fun w' hw' => hK _ ?_)⟩
      · unfold z_go
        rw [if_neg (by rw [← d]; decide), hval, Int.neg_neg]
        rw [Int.mul_one] at hw'
        exact hw'
      · have d0 : p1 = 0 := by
          rcases hp with q | q
          · exact q
          · exact absurd q.symm d
        unfold z_go
        rw [if_pos d0, hval]
        rw [Int.mul_neg, Int.mul_one] at hw'
        exact hw'
  refine ⟨fun c y hy => ?_, fun c y hy => ?_⟩
  · have cE : E = 0 := by
      have := (w_leI (b := 0) (by omega) (by omega)).mp c
      omega
    refine ⟨fun _ => ?_, fun q => absurd c q⟩
    exact fin y T 0 (by rw [hy]; exact o2) (by omega) (by omega) (by rw [if_pos cE])
  · have cE : ¬ E = 0 := fun q => c (by rw [q]; exact Int32.le_refl _)
    refine ⟨fun q => absurd q c, fun _ => ?_⟩
    obtain ⟨E', hE'⟩ : ∃ E', E = E' + 1 := ⟨E - 1, by omega⟩
    rw [hE', w_prd']
    exact fin y (4503599627370496 + T) E' (by rw [hy]; exact o1) (by omega) (by omega) (by rw [if_neg cE])
