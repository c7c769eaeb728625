/-! Numbers: the two formats, plainly. By hand -/
theorem z_fmt {f : FP.Core.Fmt} (hf : f = FP.Core.b32 ∨ f = FP.Core.b64) : 0 < f.tails ∧ 2 ^ f.p = 2 * f.tails ∧ f.qmax = f.qmin + f.exps - 3 ∧ 4 ≤ f.exps ∧ -1074 ≤ f.qmin ∧ f.qmin ≤ 0 ∧ 1 ≤ f.p ∧ f.tails = 2 ^ (f.p - 1) := by
  rcases hf with h | h <;> subst h <;> decide
theorem z_asm {f : FP.Core.Fmt} {s : Bool} {e t : Nat} (ht : t < f.tails) (he : e < f.exps) : FP.Core.fieldT f (FP.Core.assemble f s e t) = t ∧ FP.Core.fieldE f (FP.Core.assemble f s e t) = e ∧ FP.Core.fieldS f (FP.Core.assemble f s e t) = s := by
  unfold FP.Core.fieldT FP.Core.fieldE FP.Core.fieldS FP.Core.assemble
  have h0 : ((s.toNat * f.exps + e) * f.tails + t) / f.tails = s.toNat * f.exps + e := by
    rw [Nat.add_comm, Nat.add_mul_div_right _ _ (by omega), Nat.div_eq_of_lt ht, Nat.zero_add]
  have h1 : ((s.toNat * f.exps + e) * f.tails + t) % f.tails = t := by
    rw [Nat.add_comm, Nat.add_mul_mod_self_right, Nat.mod_eq_of_lt ht]
  have h2 : (s.toNat * f.exps + e) / f.exps = s.toNat := by
    rw [Nat.add_comm, Nat.add_mul_div_right _ _ (by omega), Nat.div_eq_of_lt he, Nat.zero_add]
  have h3 : (s.toNat * f.exps + e) % f.exps = e := by
    rw [Nat.add_comm, Nat.add_mul_mod_self_right, Nat.mod_eq_of_lt he]
  rw [h0, h1, h2, h3]
  refine ⟨rfl, rfl, ?_⟩
  cases s <;> rfl
theorem z_asm_lt {f : FP.Core.Fmt} {s : Bool} {e t : Nat} (ht : t < f.tails) (he : e < f.exps) : FP.Core.assemble f s e t < 2 * f.exps * f.tails := by
  unfold FP.Core.assemble
  have h1 : s.toNat ≤ 1 := by cases s <;> decide
  have h2 : s.toNat * f.exps ≤ 1 * f.exps := Nat.mul_le_mul_right _ h1
  have h3 : s.toNat * f.exps + e + 1 ≤ 2 * f.exps := by omega
  have h4 : (s.toNat * f.exps + e + 1) * f.tails ≤ 2 * f.exps * f.tails := Nat.mul_le_mul_right _ h3
  have h5 : (s.toNat * f.exps + e + 1) * f.tails = (s.toNat * f.exps + e) * f.tails + f.tails := by rw [Nat.add_mul, Nat.one_mul]
  omega
theorem z_dis {f : FP.Core.Fmt} {n : Nat} (hn : n < 2 * f.exps * f.tails) : FP.Core.assemble f (FP.Core.fieldS f n) (FP.Core.fieldE f n) (FP.Core.fieldT f n) = n := by
  unfold FP.Core.fieldT FP.Core.fieldE FP.Core.fieldS FP.Core.assemble
  have h1 : n / f.tails / f.exps < 2 := by
    rw [Nat.div_div_eq_div_mul]
    refine Nat.div_lt_of_lt_mul ?_
    rw [Nat.mul_comm f.tails f.exps, Nat.mul_comm, ← Nat.mul_assoc]
    exact hn
  have h2 : (n / f.tails / f.exps % 2 == 1).toNat = n / f.tails / f.exps := by
    generalize n / f.tails / f.exps = k at h1
    match k, h1 with
    | 0, _ => rfl
    | 1, _ => rfl
  rw [h2, Nat.div_add_mod', Nat.div_add_mod']
theorem z_enc_dec {f : FP.Core.Fmt} (hf : f = FP.Core.b32 ∨ f = FP.Core.b64) {n : Nat} (hn : n < 2 * f.exps * f.tails) (h : FP.Core.decode f n ≠ .nan) : FP.Core.encode f (FP.Core.decode f n) = n := by
  obtain ⟨f1, f2, f3, f4, f5, f6, f7⟩ := z_fmt hf
  have hd := z_dis hn
  have ht : FP.Core.fieldT f n < f.tails := Nat.mod_lt _ f1
  unfold FP.Core.decode at h ⊢
  by_cases c1 : FP.Core.fieldE f n = f.exps - 1
  · rw [if_pos c1] at h ⊢
    by_cases c2 : FP.Core.fieldT f n = 0
    · rw [if_pos c2]
      show FP.Core.assemble f _ (f.exps - 1) 0 = n
      rw [← c1, ← c2]
      exact hd
    · rw [if_neg c2] at h
      exact absurd rfl h
  · rw [if_neg c1]
    by_cases c2 : FP.Core.fieldE f n = 0
    · rw [if_pos c2]
      show (if FP.Core.fieldT f n < f.tails then FP.Core.assemble f _ 0 _ else _) = n
      rw [if_pos ht, ← c2]
      exact hd
    · rw [if_neg c2]
      show (if f.tails + FP.Core.fieldT f n < f.tails then _ else FP.Core.assemble f _ ((f.qmin + ((FP.Core.fieldE f n : Int) - 1) - f.qmin).toNat + 1) (f.tails + FP.Core.fieldT f n - f.tails)) = n
      rw [if_neg (by omega), Nat.add_sub_cancel_left, show (f.qmin + ((FP.Core.fieldE f n : Int) - 1) - f.qmin).toNat + 1 = FP.Core.fieldE f n by omega]
      exact hd
theorem z_dec_enc {f : FP.Core.Fmt} (hf : f = FP.Core.b32 ∨ f = FP.Core.b64) {s : Bool} {c : Nat} {q : Int} (h : FP.Core.fits f (.fin s c q)) : FP.Core.decode f (FP.Core.encode f (.fin s c q)) = .fin s c q ∧ FP.Core.encode f (.fin s c q) < 2 * f.exps * f.tails ∧ FP.Core.fieldS f (FP.Core.encode f (.fin s c q)) = s := by
  obtain ⟨f1, f2, f3, f4, f5, f6, f7⟩ := z_fmt hf
  obtain ⟨h1, h2, h3, h4⟩ := h
  have he : FP.Core.encode f (.fin s c q) = if c < f.tails then FP.Core.assemble f s 0 c else FP.Core.assemble f s ((q - f.qmin).toNat + 1) (c - f.tails) := rfl
  rw [he]
  by_cases c1 : c < f.tails
  · rw [if_pos c1]
    obtain ⟨a1, a2, a3⟩ := z_asm (s := s) c1 (show 0 < f.exps by omega)
    refine ⟨?_, z_asm_lt c1 (by omega), a3⟩
    unfold FP.Core.decode
    rw [a1, a2, a3, if_neg (by omega), if_pos rfl]
    rw [show q = f.qmin by omega]
  · rw [if_neg c1]
    obtain ⟨a1, a2, a3⟩ := z_asm (s := s) (show c - f.tails < f.tails by omega) (show (q - f.qmin).toNat + 1 < f.exps by omega)
    refine ⟨?_, z_asm_lt (by omega) (by omega), a3⟩
    unfold FP.Core.decode
    rw [a1, a2, a3, if_neg (by omega), if_neg (by omega)]
    rw [show f.tails + (c - f.tails) = c by omega, show f.qmin + (((((q - f.qmin).toNat + 1 : Nat)) : Int) - 1) = q by omega]
theorem z_fits {f : FP.Core.Fmt} (hf : f = FP.Core.b32 ∨ f = FP.Core.b64) {n : Nat} {s : Bool} {c : Nat} {q : Int} (h : FP.Core.decode f n = .fin s c q) : FP.Core.fits f (.fin s c q) ∧ s = FP.Core.fieldS f n := by
  obtain ⟨f1, f2, f3, f4, f5, f6, f7⟩ := z_fmt hf
  have ht : FP.Core.fieldT f n < f.tails := Nat.mod_lt _ f1
  have hE : FP.Core.fieldE f n < f.exps := Nat.mod_lt _ (by omega)
  unfold FP.Core.decode at h
  by_cases c1 : FP.Core.fieldE f n = f.exps - 1
  · rw [if_pos c1] at h
    split at h <;> cases h
  · rw [if_neg c1] at h
    by_cases c2 : FP.Core.fieldE f n = 0
    · rw [if_pos c2] at h
      cases h
      exact ⟨⟨by omega, by omega, by omega, Or.inl rfl⟩, rfl⟩
    · rw [if_neg c2] at h
      cases h
      exact ⟨⟨by omega, by omega, by omega, Or.inr (by omega)⟩, rfl⟩
/-- two numbers that fit and are alike are one -/
theorem z_uniq {f : FP.Core.Fmt} (hf : f = FP.Core.b32 ∨ f = FP.Core.b64) {s s' : Bool} {c c' : Nat} {q q' : Int} (h : FP.Core.fits f (.fin s c q)) (h' : FP.Core.fits f (.fin s' c' q')) (hv : c * 2 ^ (q + 1074).toNat = c' * 2 ^ (q' + 1074).toNat) : c = c' ∧ q = q' := by
  obtain ⟨f1, f2, f3, f4, f5, f6, f7⟩ := z_fmt hf
  have key : ∀ {c c' : Nat} {q q' : Int}, c < 2 ^ f.p → f.qmin ≤ q → f.tails ≤ c' → q < q' → c * 2 ^ (q + 1074).toNat = c' * 2 ^ (q' + 1074).toNat → False := by
    intro c c' q q' a1 a2 a3 a4 a5
    have e : (q' + 1074).toNat = (q' - q - 1).toNat + 1 + (q + 1074).toNat := by omega
    rw [e, Nat.pow_add, ← Nat.mul_assoc] at a5
    have := Nat.eq_of_mul_eq_mul_right (Nat.two_pow_pos _) a5
    have h2 : 1 ≤ 2 ^ (q' - q - 1).toNat := Nat.one_le_two_pow
    rw [Nat.pow_succ] at this
    have h3 : c' * 2 ≤ c' * (2 ^ (q' - q - 1).toNat * 2) := Nat.mul_le_mul_left _ (by omega)
    omega
  obtain ⟨h1, h2, h3, h4⟩ := h
  obtain ⟨g1, g2, g3, g4⟩ := h'
  by_cases e : q = q'
  · subst e
    exact ⟨Nat.eq_of_mul_eq_mul_right (Nat.two_pow_pos _) hv, rfl⟩
  · exfalso
    by_cases e2 : q < q'
    · exact key h1 h2 (by omega) e2 hv
    · exact key g1 g2 (by omega) (by omega) hv.symm
/-! rounding -/
theorem z_near_scale {a b k : Nat} (hk : 0 < k) : FP.Core.nearest (a * k) (b * k) = FP.Core.nearest a b := by
  unfold FP.Core.nearest
  rw [Nat.mul_mod_mul_right, Nat.mul_div_mul_right _ _ hk, ← Nat.mul_assoc]
  simp only [Nat.mul_lt_mul_right hk]
theorem z_near_le {a b k : Nat} (hb : 0 < b) (h : a ≤ k * b) : FP.Core.nearest a b ≤ k := by
  have e := Nat.div_add_mod a b
  unfold FP.Core.nearest
  by_cases c : a / b < k
  · split
    · omega
    · split <;> omega
  · have h1 : k * b ≤ a / b * b := Nat.mul_le_mul_right _ (by omega)
    have h2 : a % b = 0 := by rw [Nat.mul_comm] at e; omega
    have h3 : a / b ≤ k := by
      refine Nat.div_le_of_le_mul ?_
      rw [Nat.mul_comm]; exact h
    rw [h2, if_pos (by omega)]
    exact h3
theorem z_near_ge {a b k : Nat} (hb : 0 < b) (h : k * b ≤ a) : k ≤ FP.Core.nearest a b := by
  have h1 : k ≤ a / b := (Nat.le_div_iff_mul_le hb).mpr h
  unfold FP.Core.nearest
  split
  · exact h1
  · split <;> omega
theorem z_near_err {a b : Nat} (hb : 0 < b) : 2 * a ≤ 2 * (FP.Core.nearest a b * b) + b ∧ 2 * (FP.Core.nearest a b * b) ≤ 2 * a + b := by
  have e := Nat.div_add_mod a b
  have hm := Nat.mod_lt a hb
  rw [Nat.mul_comm] at e
  have e1 : (a / b + 1) * b = a / b * b + b := by rw [Nat.add_mul, Nat.one_mul]
  unfold FP.Core.nearest
  split
  · omega
  · split
    · omega
    · rcases Nat.mod_two_eq_zero_or_one (a / b) with h | h <;> rw [h]
      · rw [Nat.add_zero]; omega
      · omega
/-- the nearest number of p bits whose last is m or above -/
def z_sh (p m z : Nat) : Nat := max m (z.log2 + 1 - p)
def z_rn (p m z : Nat) : Nat := FP.Core.nearest z (2 ^ z_sh p m z) * 2 ^ z_sh p m z
theorem z_rn_zero {p m : Nat} : z_rn p m 0 = 0 := by
  unfold z_rn
  have := z_near_le (a := 0) (k := 0) (Nat.two_pow_pos (z_sh p m 0)) (by omega)
  rw [Nat.le_zero.mp this, Nat.zero_mul]
theorem z_log_le {z : Nat} (h : z ≠ 0) : 2 ^ z.log2 ≤ z := Nat.log2_self_le h
theorem z_sh_lt {p m z j : Nat} (hp : 1 ≤ p) (h : j < z_sh p m z) (hm : m ≤ j) : 2 ^ (j + p) ≤ z := by
  have h1 : z_sh p m z = max m (z.log2 + 1 - p) := rfl
  have h2 : j + p ≤ z.log2 := by omega
  have h3 : z ≠ 0 := by
    intro e
    subst e
    have : Nat.log2 0 = 0 := by decide
    omega
  exact Nat.le_trans (Nat.pow_le_pow_right (by decide) h2) (z_log_le h3)
theorem z_rn_le {p m z b j : Nat} (hp : 1 ≤ p) (hb : b ≤ 2 ^ p) (hj : m ≤ j) (h : z ≤ b * 2 ^ j) : z_rn p m z ≤ b * 2 ^ j := by
  by_cases c : j < z_sh p m z
  · have h1 := z_sh_lt hp c hj
    have h2 : b * 2 ^ j ≤ 2 ^ p * 2 ^ j := Nat.mul_le_mul_right _ hb
    rw [Nat.add_comm, Nat.pow_add] at h1
    have h3 : z = 2 ^ p * 2 ^ j := by omega
    have h4 : b * 2 ^ j = 2 ^ p * 2 ^ j := by omega
    have h6 : z.log2 = p + j := by rw [h3, ← Nat.pow_add, Nat.log2_two_pow]
    have h7 : z_sh p m z = j + 1 := by
      have h8 : z_sh p m z = max m (z.log2 + 1 - p) := rfl
      omega
    have h9 : z = 2 ^ (p - 1) * 2 ^ (j + 1) := by
      rw [h3, ← Nat.pow_add, ← Nat.pow_add]
      congr 1
      omega
    unfold z_rn
    rw [h7, h4, ← h3]
    refine Nat.le_trans (Nat.mul_le_mul_right _ (z_near_le (k := 2 ^ (p - 1)) (Nat.two_pow_pos _) (Nat.le_of_eq h9))) (Nat.le_of_eq h9.symm)
  · have e : 2 ^ j = 2 ^ (j - z_sh p m z) * 2 ^ z_sh p m z := by
      rw [← Nat.pow_add]
      congr 1
      omega
    rw [e, ← Nat.mul_assoc] at h ⊢
    exact Nat.mul_le_mul_right _ (z_near_le (Nat.two_pow_pos _) h)
theorem z_le_rn {p m z b j : Nat} (hp : 1 ≤ p) (hb : b ≤ 2 ^ p) (hj : m ≤ j) (h : b * 2 ^ j ≤ z) : b * 2 ^ j ≤ z_rn p m z := by
  by_cases c : j < z_sh p m z
  · by_cases c0 : z_sh p m z = m
    · omega
    · have h1 : z_sh p m z = max m (z.log2 + 1 - p) := rfl
      have h2 : z ≠ 0 := by
        intro e
        subst e
        have : Nat.log2 0 = 0 := by decide
        omega
      have h3 : 2 ^ (p - 1) * 2 ^ z_sh p m z ≤ z := by
        rw [← Nat.pow_add, show p - 1 + z_sh p m z = z.log2 by omega]
        exact z_log_le h2
      have h4 : b * 2 ^ j ≤ 2 ^ (p - 1) * 2 ^ z_sh p m z := by
        rw [← Nat.pow_add, show p - 1 + z_sh p m z = p + j + (z_sh p m z - (j + 1)) by omega, Nat.pow_add, Nat.pow_add]
        refine Nat.le_trans (Nat.mul_le_mul_right _ hb) ?_
        exact Nat.le_mul_of_pos_right _ (Nat.two_pow_pos _)
      exact Nat.le_trans h4 (Nat.mul_le_mul_right _ (z_near_ge (Nat.two_pow_pos _) h3))
  · have e : 2 ^ j = 2 ^ (j - z_sh p m z) * 2 ^ z_sh p m z := by
      rw [← Nat.pow_add]
      congr 1
      omega
    rw [e, ← Nat.mul_assoc] at h ⊢
    exact Nat.mul_le_mul_right _ (z_near_ge (Nat.two_pow_pos _) h)
/-- what has p bits stays -/
theorem z_rn_id {p m b j : Nat} (hp : 1 ≤ p) (hb : b ≤ 2 ^ p) (hj : m ≤ j) : z_rn p m (b * 2 ^ j) = b * 2 ^ j :=
  Nat.le_antisymm (z_rn_le hp hb hj (Nat.le_refl _)) (z_le_rn hp hb hj (Nat.le_refl _))
/-- how far a rounded number is off -/
theorem z_rn_err {p m z j : Nat} (hp : 1 ≤ p) (hj : m ≤ j) (h : z < 2 ^ (j + p)) : 2 * z ≤ 2 * z_rn p m z + 2 ^ j ∧ 2 * z_rn p m z ≤ 2 * z + 2 ^ j := by
  have c : z_sh p m z ≤ j := Nat.le_of_not_lt fun c => Nat.lt_irrefl _ (Nat.lt_of_lt_of_le h (z_sh_lt hp c hj))
  have h1 := z_near_err (a := z) (Nat.two_pow_pos (z_sh p m z))
  have h2 : 2 ^ z_sh p m z ≤ 2 ^ j := Nat.pow_le_pow_right (by decide) c
  unfold z_rn
  omega
