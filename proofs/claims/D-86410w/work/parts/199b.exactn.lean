/-! Exact numbers: a double written, the nearest double; the model's. By hand -/
theorem z_w_l2iN (y : Int64) : z_w y.toInt32 = ((y.toBitVec.toNat % 4294967296 : Nat) : Int) := by
  rw [z_w_l2i]
  exact w_mod64 y (k := 32) (by decide)
theorem w_divI {a b : Nat} (ha : a < 2000000) (hb : b < 2000000) (hb0 : 0 < b) : Int32.ofNat a / Int32.ofNat b = Int32.ofNat (a / b) := by
  have h : a / b ≤ a := Nat.div_le_self _ _
  rw [← Int32.toInt_inj, Int32.toInt_div, nI_int (by omega), nI_int (by omega), nI_int (by omega), Int.tdiv_eq_ediv_of_nonneg (by omega), ← Int.natCast_ediv]
  generalize a / b = q at h ⊢
  exact Int.bmod_eq_of_le (by omega) (by omega)
theorem w_remI {a : Nat} (ha : a < 2000000) : jirem (Int32.ofNat a) 32 = Int32.ofNat (a % 32) := by
  unfold jirem
  rw [show (32 : Int32) = Int32.ofNat 32 from rfl, w_divI ha (by decide) (by decide), ← Int32.ofNat_mul, ← Int32.ofNat_sub _ _ (by omega)]
  congr 1
  omega
theorem q3_write3 {s : Nat} (hs : s < 24) {b0 : Nat → Int32} (h0 : EX 44 (44 * s) b0 0) {v : UInt64} {m : Int64} {mm sh : Nat} {K : (Nat → Int32) → Prop} (hm : m.toInt = (mm : Int)) (hmm : mm < 9007199254740992) (hsh : sh < 1216) (hv : zV v = FP.Core.signed (zS v) (mm * 2 ^ sh)) (hr : v.toInt64.toInt < 0 ↔ zS v = true) (hK : ∀ b', EX 44 (44 * s) b' (zV v) → z_out (44 * s) 44 b0 b' → K b') : wX3_writeBig_J62 (Int32.ofNat s) K v.toInt64 m (Int32.ofNat sh) b0 := by
  intro x9 h9 x10 h10 y11 h11
  rw [show (32 : Int32) = Int32.ofNat 32 from rfl, w_divI (by omega) (by decide) (by decide)] at h9
  rw [w_remI (by omega)] at h10
  subst h9
  subst h10
  have mN : m.toBitVec.toNat = mm := by
    have := w_nn64 (y := m) (by omega)
    omega
  have pb : 2 ^ (sh % 32) ≤ 2147483648 := by
    rw [show 2147483648 = 2 ^ 31 from rfl]
    exact Nat.pow_le_pow_right (by decide) (by omega)
  have hV : mm * 2 ^ (sh % 32) ≤ 9007199254740991 * 2147483648 := Nat.mul_le_mul (by omega) pb
  have eL : y11.toBitVec.toNat = mm * 2 ^ (sh % 32) % 18446744073709551616 := by
    rw [h11, w_lshlN (by omega), mN]
  have eLu : (jlushr y11 32).toBitVec.toNat = mm * 2 ^ (sh % 32) % 18446744073709551616 / 4294967296 := by
    have := w_lushrN (y := y11) (k := 32) (by decide)
    rw [eL] at this
    exact this
  have hz : ∀ j, j < 44 → b0 (44 * s + j) = 0 := (EX_sign (n := 43) h0 (by have := z_P_pos 43; omega) (by have := z_P_pos 43; omega)).2.mpr rfl
  have fin : ∀ hi : Int64, hi.toBitVec.toNat = mm * 2 ^ (sh % 32) / 18446744073709551616 → wX3_writeBig_J102 (Int32.ofNat s) v.toInt64 b0 K (Int32.ofNat (sh / 32)) y11 hi := by
    intro hi hhi
    unfold wX3_writeBig_J102
    rw [w_44, w_suc, show Int32.ofNat (44 * s + sh / 32) + 2 = Int32.ofNat (44 * s + sh / 32 + 2) from nI_add _ 2, w_cl (by omega), w_cl (by omega), w_cl (by omega)]
    intro x15 h15
    refine ⟨w_in (by omega) (by omega), fun b16 h16 x17 h17 => ⟨w_in (by omega) (by omega), fun b18 h18 x19 h19 => ⟨w_in (by omega) (by omega), fun b20 h20 => ?_⟩⟩⟩
    have d0 : z_w x15 = ((mm * 2 ^ (sh % 32) % 4294967296 : Nat) : Int) := by rw [h15, z_w_l2iN, eL]; congr 1; omega
    have d1 : z_w x17 = ((mm * 2 ^ (sh % 32) / 4294967296 % 4294967296 : Nat) : Int) := by rw [h17, z_w_l2iN, eLu]; congr 1; omega
    have d2 : z_w x19 = ((mm * 2 ^ (sh % 32) / 18446744073709551616 : Nat) : Int) := by rw [h19, z_w_l2iN, hhi]; congr 1; omega
    have ho : z_out (44 * s) 44 b0 b20 := by
      intro i hi
      rw [h20, h18, h16]
      simp only [upd]
      rw [if_neg (by omega), if_neg (by omega), if_neg (by omega)]
    have hE : EX 44 (44 * s) b20 ((mm * 2 ^ sh : Nat) : Int) := by
      have hb := EX_bd 44 (44 * s) b20
      have hw : z_W (fun j => z_w (b20 (44 * s + j))) 44 = ((mm * 2 ^ sh : Nat) : Int) := by
        rw [z_W_congr (D' := z_pt (sh / 32) (z_w x15) (z_w x17) (z_w x19)) (fun j hj => ?_), z_pt_sum (by omega), d0, d1, d2]
        · have e : sh = sh % 32 + 32 * (sh / 32) := by omega
          unfold z_P
          rw [show mm * 2 ^ sh = mm * 2 ^ (sh % 32) * 2 ^ (32 * (sh / 32)) by rw [Nat.mul_assoc, ← Nat.pow_add, ← e], Int.natCast_mul]
          congr 1
          omega
        · rw [h20, h18, h16]
          simp only [upd]
          unfold z_pt
          by_cases c2 : j = sh / 32 + 2
          · rw [if_pos (by omega), if_neg (by omega), if_neg (by omega), if_pos c2]
          · rw [if_neg (by omega)]
            by_cases c1 : j = sh / 32 + 1
            · rw [if_pos (by omega), if_neg (by omega), if_pos c1]
            · rw [if_neg (by omega)]
              by_cases c0 : j = sh / 32
              · rw [if_pos (by omega), if_pos c0]
              · rw [if_neg (by omega), if_neg c0, if_neg c1, if_neg c2, hz j hj]
                rfl
      rw [hw] at hb
      show z_W (fun j => z_w (b20 (44 * s + j))) 44 = _
      rw [hw, Int.emod_eq_of_lt hb.1 hb.2]
    refine ⟨fun c => ?_, fun c => ?_⟩
    · rw [Int64.le_iff_toInt_le, Int64.toInt_zero] at c
      have : zS v = false := by
        cases hs : zS v
        · rfl
        · have := hr.mpr hs; omega
      rw [this] at hv
      refine hK _ ?_ ho
      rw [hv]
      exact hE
    · rw [Int64.le_iff_toInt_le, Int64.toInt_zero] at c
      have : zS v = true := hr.mp (by omega)
      rw [this] at hv
      refine q3_negate hs hE (fun b' e' o' => hK _ ?_ (fun i hi => (o' i hi).trans (ho i hi)))
      rw [hv]
      exact e'
  refine ⟨fun c => fin _ ?_, fun c => fin _ ?_⟩
  · have hne : sh % 32 ≠ 0 := fun q => c (by rw [q]; rfl)
    have e64 : (64 : Int32) - Int32.ofNat (sh % 32) = Int32.ofNat (64 - sh % 32) := by
      rw [show (64 : Int32) = Int32.ofNat 64 from rfl, ← Int32.ofNat_sub _ _ (by omega)]
    rw [e64, w_lushrN (by omega), mN]
    have e2 : 2 ^ (64 - sh % 32) * 2 ^ (sh % 32) = 18446744073709551616 := by
      rw [← Nat.pow_add, show 64 - sh % 32 + sh % 32 = 64 by omega]
    rw [← e2, Nat.mul_div_mul_right _ _ (Nat.two_pow_pos _)]
  · have : sh % 32 = 0 := (w_eqI (b := 0) (by omega) (by omega)).mp c
    rw [this, Nat.pow_zero, Nat.mul_one, Nat.div_eq_of_lt (by omega)]
    rfl
theorem q3_writeBig {s : Nat} (hs : s < 24) {big : Nat → Int32} {v : UInt64} {K : (Nat → Int32) → Prop} (hv : zf v) (hb : (zV v).natAbs < 2 ^ 1240) (hK : ∀ b', EX 44 (44 * s) b' (zV v) → z_out (44 * s) 44 big b' → K b') : wX3_writeBig (Int32.ofNat s) v big K := by
  obtain ⟨E, T, hE, hT, b1, b2, b3, b4, -⟩ := z_bitsL hv
  rw [z_vabs hv, b4] at hb
  have hsh := z_shb hb
  have hval := z_val hv
  rw [b4] at hval
  refine q3_clear hs (fun b1' e1 o1 => q12_bits hv ?_)
  intro x3 h3 y4 h4
  have ex3 : x3 = Int32.ofNat E := by
    have e : ((jlshr v.toInt64 52) &&& 2047).toInt = (E : Int) := by
      rw [w_and64 (k := 11) (by decide) rfl, show (52 : Int32) = Int32.ofNat 52 from rfl, w_lshr (by decide)]
      exact b1
    rw [← Int32.toInt_inj, h3, Int64.toInt_toInt32, e, nI_int (by omega)]
    exact Int.bmod_eq_of_le (by omega) (by omega)
  subst ex3
  have eT : y4.toInt = (T : Int) := by
    rw [h4, w_and64 (k := 52) (by decide) rfl]
    exact b2
  have hK' : ∀ b', EX 44 (44 * s) b' (zV v) → z_out (44 * s) 44 b1' b' → K b' := fun b' e' o' => hK b' e' (fun i hi => (o' i hi).trans (o1 i hi))
  refine ⟨fun c => ?_, fun c y hy => ?_⟩
  · have cE : E = 0 := by
      have := (w_leI (b := 0) (by omega) (by omega)).mp c
      omega
    refine ⟨fun _ => ?_, fun q => absurd c q⟩
    refine q3_write3 (sh := 0) hs e1 eT (by omega) (by omega) ?_ b3 hK'
    rw [if_pos cE, cE] at hval
    exact hval
  · have cE : ¬ E = 0 := fun q => c (by rw [q]; exact Int32.le_refl _)
    refine ⟨fun q => absurd q c, fun _ => ?_⟩
    obtain ⟨E', hE'⟩ : ∃ E', E = E' + 1 := ⟨E - 1, by omega⟩
    rw [hE', w_prd']
    refine q3_write3 (mm := 4503599627370496 + T) hs e1 ?_ (by omega) (by omega) ?_ b3 hK'
    · rw [hy, w_add64 (by rw [eT]; show _ ≤ _ + (4503599627370496 : Int); omega) (by rw [eT]; show _ + (4503599627370496 : Int) < _; omega), eT]
      show (T : Int) + 4503599627370496 = _
      omega
    · rw [if_neg cE, hE'] at hval
      exact hval
theorem q3_addNumber {s : Nat} (hs : s < 23) {big : Nat → Int32} {v : UInt64} {K : (Nat → Int32) → Prop} {a : Int} (ha : EX 44 (44 * s) big a) (hv : zf v) (hb : (zV v).natAbs < 2 ^ 1240) (hK : ∀ b', EX 44 (44 * s) b' (a + zV v) → (∀ i, i < 1012 → (i < 44 * s ∨ 44 * s + 44 ≤ i) → b' i = big i) → K b') : wX3_addNumber (Int32.ofNat s) v big K := by
  refine q3_writeBig (s := 23) (by decide) hv hb (fun b1 e1 o1 => ?_)
  refine q3_addBig (t := 23) (by omega) (by decide) (by omega) (EX_out ha o1 (by omega)) e1 (fun b2 e2 o2 => hK b2 e2 (fun i h1 h2 => ?_))
  rw [o2 i h2, o1 i (by omega)]
theorem q3_hasBit {big : Nat → Int32} {N p : Nat} {K : Int32 → Prop} (h : EX 44 1012 big N) (hN : (N : Int) < z_P 44) (hp : p < 1408) (h1 : N / 2 ^ p % 2 = 1 → K 1) (h0 : N / 2 ^ p % 2 = 0 → K 0) : wX3_hasBit 23 (Int32.ofNat p) big K := by
  unfold wX3_hasBit
  rw [w_remI (by omega), show (32 : Int32) = Int32.ofNat 32 from rfl, w_divI (by omega) (by decide) (by decide), show (44 : Int32) * 23 + Int32.ofNat (p / 32) = Int32.ofNat (1012 + p / 32) from w_44 23 _, w_cl (by omega)]
  have hb := w_bits (big (1012 + p / 32)) (b := p % 32) (by omega)
  have hx := EX_bit h hN hp
  rw [hx] at hb
  have hk := w_one hb (by omega)
  refine ⟨w_in (by omega) (by omega), fun c => h0 ?_, fun c => h1 (hk.mp c)⟩
  have : ¬ N / 2 ^ p % 2 = 1 := fun q => c (hk.mpr q)
  omega
/-! the product with 1.0 or -1.0 -/
theorem z_mul1 {a d : UInt64} {s : Bool} (ha : FP.Core.decode FP.Core.b64 a.toNat = .fin s 4503599627370496 (-52)) (hd : zf d) (hb : (zV d).natAbs ≤ 2 ^ 2097) : zf (FP.dmul a d) ∧ zV (FP.dmul a d) = (if s then -zV d else zV d) ∧ zS (FP.dmul a d) = (s != zS d) := by
  obtain ⟨c, r, d1, d2, d3, d4, d5, d6⟩ := z_get hd
  rw [d3, z_sg_nat] at hb
  have hv : 4503599627370496 * c * 2 ^ (-52 + r + 1200).toNat = c * 2 ^ (r + 1200).toNat := by
    rw [Nat.mul_comm 4503599627370496 c, Nat.mul_assoc, show 4503599627370496 = 2 ^ 52 from rfl, ← Nat.pow_add, show 52 + (-52 + r + 1200).toNat = (r + 1200).toNat by omega]
  have hv2 : c * 2 ^ (r + 1200).toNat = c * 2 ^ (r + 1074).toNat * 2 ^ 126 := by
    rw [Nat.mul_assoc, ← Nat.pow_add, show (r + 1074).toNat + 126 = (r + 1200).toNat by omega]
  obtain ⟨c', q', h1, h2, h3⟩ := z_round (s := (s != zS d)) (c := 4503599627370496 * c) (q := -52 + r) (E := 1200) (Or.inr rfl) (by omega) (by omega) (by
    rw [hv, hv2, z_k64.2.2.1, z_k64.2.2.2.2, show ((971 : Int) + 1200).toNat = 2045 + 126 from rfl, Nat.pow_add, ← Nat.mul_assoc, ← Nat.pow_add]
    exact Nat.mul_le_mul_right _ hb)
  obtain ⟨g1, g2, g3⟩ := z_put h2
  have e : FP.dmul a d = UInt64.ofNat (FP.Core.encode FP.Core.b64 (.fin (s != zS d) c' q')) := by
    show UInt64.ofNat (FP.Core.encode FP.Core.b64 (FP.Core.round FP.Core.b64 (FP.Core.exactProduct (FP.Core.decode FP.Core.b64 a.toNat) (FP.Core.decode FP.Core.b64 d.toNat)))) = _
    rw [ha, d1]
    show UInt64.ofNat (FP.Core.encode FP.Core.b64 (FP.Core.round FP.Core.b64 (.fin (s != zS d) (4503599627370496 * c) (-52 + r)))) = _
    rw [h1]
  have hq' : -1074 ≤ q' := by
    have := h2.2.1
    rw [z_k64.2.2.2.1] at this
    exact this
  rw [hv, z_k64.2.2.1, z_k64.2.2.2.1, z_rn_id (by decide) (Nat.le_of_lt d6) (by omega), hv2, show (q' + 1200).toNat = (q' + 1074).toNat + 126 by omega, Nat.pow_add, ← Nat.mul_assoc] at h3
  have h4 := Nat.eq_of_mul_eq_mul_right (Nat.two_pow_pos 126) h3
  rw [e]
  refine ⟨g1, ?_, g2⟩
  rw [g3, h4, d3]
  cases s
  · rw [if_neg (by decide), show (false != zS d) = zS d by cases zS d <;> rfl]
  · rw [if_pos rfl, show (true != zS d) = !zS d by cases zS d <;> rfl]
    exact z_sg_not _ _
theorem z_i1 : FP.Core.decode FP.Core.b64 (FP.i2d 1).toNat = .fin false 4503599627370496 (-52) := by decide +kernel
theorem z_in1 : FP.Core.decode FP.Core.b64 (FP.i2d (-1)).toNat = .fin true 4503599627370496 (-52) := by decide +kernel
/-! scaled, nearest -/
theorem q3_scaled_J58 {v : Int64} {b n : Nat} {K : UInt64 → Prop} (hv : v.toInt = (n : Int)) (hn : n < 9007199254740992) (hb : b < 2044) (hl : b = 0 ∨ 4503599627370496 ≤ n) (hK : ∀ d, zf d → zS d = false → zV d = ((n * 2 ^ b : Nat) : Int) → K d) : wX3_scaled_J58 K v (Int32.ofNat b) := by
  have fin : ∀ y : Int64, y.toInt = (b : Int) * 4503599627370496 + n → vn_snl2d y = false ∧ K y.toUInt64 := by
    intro y hy
    have h2 : (y.toBitVec.toNat : Int) = y.toInt := w_nn64 (by omega)
    have hu : y.toUInt64.toNat = b * 4503599627370496 + n := by
      show y.toBitVec.toNat = _
      omega
    obtain ⟨m1, m2, m3⟩ := z_mk (by omega) (by omega) hl hu
    exact ⟨z_snl m1, hK _ m1 m2 m3⟩
  refine ⟨fun c => ?_, fun c => ?_⟩
  · rw [Int64.le_iff_toInt_le, hv, show (4503599627370496 : Int64).toInt = 4503599627370496 from rfl] at c
    refine fin _ ?_
    have e0 : ((Int32.ofNat b).toInt64 + 1).toInt = (b : Int) + 1 := by
      rw [w_add64 (by rw [Int32.toInt_toInt64, nI_int (by omega)]; show _ ≤ _ + (1 : Int); omega) (by rw [Int32.toInt_toInt64, nI_int (by omega)]; show _ + (1 : Int) < _; omega), Int32.toInt_toInt64, nI_int (by omega)]
      rfl
    have e1 : (jlshl ((Int32.ofNat b).toInt64 + 1) 52).toInt = ((b : Int) + 1) * 4503599627370496 := by
      have := w_lshl (y := (Int32.ofNat b).toInt64 + 1) (k := 52) (by decide) (by rw [e0]; omega) (by rw [e0]; omega)
      rw [e0] at this
      exact this
    have e2 : (v - 4503599627370496).toInt = (n : Int) - 4503599627370496 := by
      rw [w_sub64 (by rw [hv]; show _ ≤ _ - (4503599627370496 : Int); omega) (by rw [hv]; show _ - (4503599627370496 : Int) < _; omega), hv]
      rfl
    rw [w_add64 (by rw [e1, e2]; omega) (by rw [e1, e2]; omega), e1, e2]
    omega
  · rw [Int64.le_iff_toInt_le, hv, show (4503599627370496 : Int64).toInt = 4503599627370496 from rfl] at c
    have : b = 0 := by omega
    exact fin v (by rw [hv, this]; omega)
theorem q3_scaled_L33 {V : Nat} {K : UInt64 → Prop} (hK : ∀ d, zf d → zS d = false → zV d = ((V : Nat) : Int) → K d) {X : Int64 → Int32 → Prop} (hX : ∀ v b, wX3_scaled_J58 K v b → X v b) : ∀ b, b < 2044 → ∀ (v : Int64) (n : Nat), v.toInt = (n : Int) → n < 9007199254740992 → n * 2 ^ b = V → wX3_scaled_L33 X (b + 1) v (Int32.ofNat b) := by
  intro b
  induction b with
  | zero =>
    intro _ v n hv hn hV
    refine ⟨fun c => hX _ _ (q3_scaled_J58 hv hn (by omega) (Or.inl rfl) (fun d d1 d2 d3 => hK d d1 d2 (by rw [d3, hV]))), fun c => ⟨fun _ => hX _ _ (q3_scaled_J58 hv hn (by omega) (Or.inl rfl) (fun d d1 d2 d3 => hK d d1 d2 (by rw [d3, hV]))), fun d => absurd (Int32.le_refl _) d⟩⟩
  | succ b ih =>
    intro hb v n hv hn hV
    refine ⟨fun c => ?_, fun c => ⟨fun d => absurd ((w_leI (b := 0) (by omega) (by omega)).mp d) (by omega), fun _ y hy x hx => ?_⟩⟩
    · have c2 := c
      rw [Int64.le_iff_toInt_le, hv, show (4503599627370496 : Int64).toInt = 4503599627370496 from rfl] at c2
      exact hX _ _ (q3_scaled_J58 hv hn hb (Or.inr (by omega)) (fun d d1 d2 d3 => hK d d1 d2 (by rw [d3, hV])))
    · rw [Int64.le_iff_toInt_le, hv, show (4503599627370496 : Int64).toInt = 4503599627370496 from rfl] at c
      rw [hx, w_prd]
      refine ih (by omega) y (n * 2) ?_ (by omega) ?_
      · rw [hy, w_mul64 (by rw [hv]; show _ ≤ _ * (2 : Int); omega) (by rw [hv]; show _ * (2 : Int) < _; omega), hv]
        show (n : Int) * 2 = _
        omega
      · rw [← hV, Nat.pow_succ, Nat.mul_assoc, Nat.mul_comm 2]
theorem q3_scaled {v : Int64} {m b : Nat} {K : UInt64 → Prop} (hv : v.toInt = (m : Int)) (hm : m ≤ 9007199254740992) (hb : b < 2043) (hK : ∀ d, zf d → zS d = false → zV d = ((m * 2 ^ b : Nat) : Int) → K d) : wX3_scaled v (Int32.ofNat b) K := by
  refine ⟨fun c => ⟨2, ?_⟩, fun c => ?_⟩
  · refine ⟨fun c1 => ?_, fun c1 y hy x hx => ⟨fun c2 => ?_, fun c2 => ?_⟩⟩
    · rw [Int64.lt_iff_toInt_lt, hv, show (9007199254740992 : Int64).toInt = 9007199254740992 from rfl] at c1
      exact ⟨b + 1, q3_scaled_L33 hK (fun _ _ h => h) b (by omega) v m hv (by omega) rfl⟩
    · rw [Int64.lt_iff_toInt_lt, hv, show (9007199254740992 : Int64).toInt = 9007199254740992 from rfl] at c1
      have hm2 : m = 9007199254740992 := by omega
      have e : v = 9007199254740992 := by
        rw [← Int64.toInt_inj, hv, hm2]
        rfl
      rw [e] at hy
      have hy2 : y = 4503599627370496 := by rw [hy]; decide
      rw [hx, w_suc, hy2]
      refine ⟨b + 2, q3_scaled_L33 hK (fun _ _ h => h) (b + 1) (by omega) _ 4503599627370496 rfl (by omega) ?_⟩
      rw [hm2, Nat.pow_succ]
      omega
    · rw [Int64.lt_iff_toInt_lt, hv, show (9007199254740992 : Int64).toInt = 9007199254740992 from rfl] at c1
      have hm2 : m = 9007199254740992 := by omega
      have e : v = 9007199254740992 := by
        rw [← Int64.toInt_inj, hv, hm2]
        rfl
      rw [e] at hy
      have hy2 : y = 4503599627370496 := by rw [hy]; decide
      rw [hy2] at c2
      exact absurd (by decide) c2
  · have hm0 : m = 0 := by
      rw [c] at hv
      have : (0 : Int64).toInt = 0 := rfl
      omega
    refine hK _ z_0.1 z_0.2.2 ?_
    rw [z_0.2.1, hm0, Nat.zero_mul]
    rfl
