/-! Exact numbers: the component's operations. By hand -/
theorem w_in {k n : Nat} (h : k < n) (hn : n < 2000000) : vp_in (Int32.ofNat k) n := vp_in_iff.mpr (by rw [nI_int (by omega)]; omega)
theorem w_cl {k : Nat} (h : k < 2000000) : (Int32.ofNat k).toNatClampNeg = k := nI_clamp (by omega)
theorem w_leI {a b : Nat} (ha : a < 2000000) (hb : b < 2000000) : Int32.ofNat a ≤ Int32.ofNat b ↔ a ≤ b := nI_leI (by omega) (by omega)
theorem w_ltI {a b : Nat} (ha : a < 2000000) (hb : b < 2000000) : Int32.ofNat a < Int32.ofNat b ↔ a < b := nI_ltI (by omega) (by omega)
theorem w_eqI {a b : Nat} (ha : a < 2000000) (hb : b < 2000000) : Int32.ofNat a = Int32.ofNat b ↔ a = b := nI_eq (by omega) (by omega)
theorem w_suc (n : Nat) : Int32.ofNat n + 1 = Int32.ofNat (n + 1) := (nI_succ n).symm
theorem w_ng (x : Int32) : x + (-1) = x - 1 := (Int32.sub_eq_add_neg x 1).symm
theorem w_prd (n : Nat) : Int32.ofNat (n + 1) + (-1) = Int32.ofNat n := (w_ng _).trans (nI_pred n)
theorem w_prd' (n : Nat) : Int32.ofNat (n + 1) - 1 = Int32.ofNat n := nI_pred n
/-- a step of a loop with carries -/
theorem q_st {D : Nat → Int} {c0 : Int} {o k : Nat} {f0 f : Nat → Int32} {y : Int64} {x i : Int32} (hy : y.toInt = z_c D c0 k + D k) (hx : x = y.toInt32) (hi : i.toNatClampNeg = o + k) (hf : f = upd (z_st D c0 o f0 k) i.toNatClampNeg x) : f = z_st D c0 o f0 (k + 1) := by
  rw [hf, hi]
  refine z_st_step D c0 o f0 k ?_
  rw [hx, z_w_l2i, hy]
theorem q_cu {D : Nat → Int} {c0 : Int} {k : Nat} {y y7 : Int64} (hy : y.toInt = z_c D c0 k + D k) (h0 : 0 ≤ z_c D c0 k + D k) (h7 : y7 = jlushr y 32) : y7.toInt = z_c D c0 (k + 1) := by
  have h := w_lushr (y := y) (k := 32) (by omega) (by decide)
  rw [h7]
  refine (show (jlushr y 32).toInt = _ from h).trans ?_
  rw [hy]
  rfl
theorem q_cs {D : Nat → Int} {c0 : Int} {k : Nat} {y y7 : Int64} (hy : y.toInt = z_c D c0 k + D k) (h7 : y7 = jlshr y 32) : y7.toInt = z_c D c0 (k + 1) := by
  have h := w_lshr (y := y) (k := 32) (by decide)
  rw [h7]
  refine (show (jlshr y 32).toInt = _ from h).trans ?_
  rw [hy]
  rfl
theorem q2_add_L {u f0 : Nat → Int32} {X : Int64 → Int32 → (Nat → Int32) → Prop} (hX : ∀ c i, X c i (z_st (fun j => z_w (f0 j) + z_w (u j)) 0 0 f0 40)) : ∀ (m k : Nat), k + m = 40 → ∀ c : Int64, c.toInt = z_c (fun j => z_w (f0 j) + z_w (u j)) 0 k → wX2_add_2_L5 u X (m + 1) c (Int32.ofNat k) (z_st (fun j => z_w (f0 j) + z_w (u j)) 0 0 f0 k) := by
  intro m
  induction m with
  | zero =>
    intro k hk c hc
    have e : k = 40 := by omega
    subst e
    exact ⟨fun _ => hX _ _, fun h => absurd (Int32.le_refl _) h⟩
  | succ m ih =>
    intro k hk c hc
    have cb := z_c_bd (D := fun j => z_w (f0 j) + z_w (u j)) (c0 := 0) (lo := 0) (hi := 1) (by omega) (fun j c h1 h2 => by have := z_w_bd (f0 j); have := z_w_bd (u j); omega) k
    have b1 := z_w_bd (f0 k)
    have b2 := z_w_bd (u k)
    have hv : vp_in (Int32.ofNat k) 40 := w_in (by omega) (by omega)
    have hcl := w_cl (k := k) (by omega)
    refine ⟨fun h => absurd ((w_leI (a := 40) (by omega) (by omega)).mp h) (by omega), fun _ => ⟨hv, hv, fun y hy x hx => ⟨hv, fun f hf y7 h7 x8 h8 => ?_⟩⟩⟩
    have ey : y.toInt = z_c (fun j => z_w (f0 j) + z_w (u j)) 0 k + (z_w (f0 k) + z_w (u k)) := by
      have e1 := z_w_mask (z_st (fun j => z_w (f0 j) + z_w (u j)) 0 0 f0 k (Int32.ofNat k).toNatClampNeg)
      have e2 := z_w_mask (u (Int32.ofNat k).toNatClampNeg)
      rw [hcl] at e1 e2 hy
      rw [z_st_out _ _ _ _ _ _ (by omega)] at e1 hy
      have e3 := w_add64 (a := (f0 k).toInt64 &&& 4294967295) (b := (u k).toInt64 &&& 4294967295) (by omega) (by omega)
      rw [hy, w_add64 (by omega) (by omega), e3, hc, e1, e2]
    rw [h8, w_suc]
    rw [q_st (o := 0) ey hx (by rw [hcl]; omega) hf]
    exact ih (k + 1) (by omega) y7 (q_cu ey (by omega) h7)
theorem q2_add_2 {w u : Nat → Int32} {K : (Nat → Int32) → Prop} {a b : Int} (ha : EX 40 0 w a) (hb : EX 40 0 u b) (hK : ∀ w', EX 40 0 w' (a + b) → K w') : wX2_add_2 w u K := by
  refine ⟨41, ?_⟩
  have h := q2_add_L (u := u) (f0 := w) (X := fun _ _ w => K w) (fun c i => hK _ ?_) 40 0 rfl 0 rfl
  · rw [z_st_0] at h
    exact h
  · refine EX_mod (z_st_EX _ _ _ _ _) ?_
    rw [z_W_add]
    have ha : z_W (fun j => z_w (w (0 + j))) 40 = a % z_P 40 := ha
    have hb : z_W (fun j => z_w (u (0 + j))) 40 = b % z_P 40 := hb
    simp only [Nat.zero_add] at ha hb
    rw [ha, hb, Int.zero_add, ← Int.add_emod]
theorem q2_neg_L {f0 : Nat → Int32} {X : Int64 → Int32 → (Nat → Int32) → Prop} (hX : ∀ c i, X c i (z_st (fun j => 4294967295 - z_w (f0 j)) 1 0 f0 40)) : ∀ (m k : Nat), k + m = 40 → ∀ c : Int64, c.toInt = z_c (fun j => 4294967295 - z_w (f0 j)) 1 k → wX2_negate_L4 X (m + 1) c (Int32.ofNat k) (z_st (fun j => 4294967295 - z_w (f0 j)) 1 0 f0 k) := by
  intro m
  induction m with
  | zero =>
    intro k hk c hc
    have e : k = 40 := by omega
    subst e
    exact ⟨fun _ => hX _ _, fun h => absurd (Int32.le_refl _) h⟩
  | succ m ih =>
    intro k hk c hc
    have cb := z_c_bd (D := fun j => 4294967295 - z_w (f0 j)) (c0 := 1) (lo := 0) (hi := 1) (by omega) (fun j c h1 h2 => by have := z_w_bd (f0 j); omega) k
    have b1 := z_w_bd (f0 k)
    have hv : vp_in (Int32.ofNat k) 40 := w_in (by omega) (by omega)
    have hcl := w_cl (k := k) (by omega)
    refine ⟨fun h => absurd ((w_leI (a := 40) (by omega) (by omega)).mp h) (by omega), fun _ => ⟨hv, fun y hy x hx => ⟨hv, fun f hf y7 h7 x8 h8 => ?_⟩⟩⟩
    have ey : y.toInt = z_c (fun j => 4294967295 - z_w (f0 j)) 1 k + (4294967295 - z_w (f0 k)) := by
      have e1 := z_w_mask ((z_st (fun j => 4294967295 - z_w (f0 j)) 1 0 f0 k (Int32.ofNat k).toNatClampNeg) ^^^ -1)
      rw [hcl] at e1 hy
      rw [z_st_out _ _ _ _ _ _ (by omega)] at e1 hy
      rw [z_w_not] at e1
      rw [hy, w_add64 (by omega) (by omega), hc, e1]
    rw [h8, w_suc]
    rw [q_st (o := 0) ey hx (by rw [hcl]; omega) hf]
    exact ih (k + 1) (by omega) y7 (q_cu ey (by omega) h7)
theorem z_negmod {a M : Int} {W : Int} (h : W = a % M) : (1 + (M - 1 - W)) % M = (-a) % M := by
  rw [h, show 1 + (M - 1 - a % M) = -(a % M) + 1 * M by omega, Int.add_mul_emod_self_right]
  have e := Int.emod_add_mul_ediv a M
  rw [show -a = -(a % M) + (-(a / M)) * M by rw [Int.neg_mul, Int.mul_comm (a / M)]; omega, Int.add_mul_emod_self_right]
theorem q2_negate {w : Nat → Int32} {K : (Nat → Int32) → Prop} {a : Int} (ha : EX 40 0 w a) (hK : ∀ w', EX 40 0 w' (-a) → K w') : wX2_negate w K := by
  refine ⟨41, ?_⟩
  have h := q2_neg_L (f0 := w) (X := fun _ _ w => K w) (fun c i => hK _ ?_) 40 0 rfl 1 rfl
  · rw [z_st_0] at h
    exact h
  · refine EX_mod (z_st_EX _ _ _ _ _) ?_
    rw [z_W_not]
    have ha : z_W (fun j => z_w (w (0 + j))) 40 = a % z_P 40 := ha
    simp only [Nat.zero_add] at ha
    exact z_negmod ha
theorem q2_times_L {f0 : Nat → Int32} {by_ : Int64} (hb : 0 ≤ by_.toInt ∧ by_.toInt ≤ 4194304) {X : Int64 → Int32 → (Nat → Int32) → Prop} (hX : ∀ c i, X c i (z_st (fun j => z_w (f0 j) * by_.toInt) 0 0 f0 40)) : ∀ (m k : Nat), k + m = 40 → ∀ c : Int64, c.toInt = z_c (fun j => z_w (f0 j) * by_.toInt) 0 k → wX2_times_L5 by_ X (m + 1) c (Int32.ofNat k) (z_st (fun j => z_w (f0 j) * by_.toInt) 0 0 f0 k) := by
  have hm : ∀ j, 0 ≤ z_w (f0 j) * by_.toInt ∧ z_w (f0 j) * by_.toInt ≤ 4294967295 * by_.toInt := fun j => ⟨Int.mul_nonneg (z_w_bd _).1 hb.1, Int.mul_le_mul_of_nonneg_right (by have := z_w_bd (f0 j); omega) hb.1⟩
  intro m
  induction m with
  | zero =>
    intro k hk c hc
    have e : k = 40 := by omega
    subst e
    exact ⟨fun _ => hX _ _, fun h => absurd (Int32.le_refl _) h⟩
  | succ m ih =>
    intro k hk c hc
    have cb := z_c_bd (D := fun j => z_w (f0 j) * by_.toInt) (c0 := 0) (lo := 0) (hi := by_.toInt) (by omega) (fun j c h1 h2 => by have := hm j; omega) k
    have b1 := hm k
    have hv : vp_in (Int32.ofNat k) 40 := w_in (by omega) (by omega)
    have hcl := w_cl (k := k) (by omega)
    refine ⟨fun h => absurd ((w_leI (a := 40) (by omega) (by omega)).mp h) (by omega), fun _ => ⟨hv, fun y hy x hx => ⟨hv, fun f hf y7 h7 x8 h8 => ?_⟩⟩⟩
    have ey : y.toInt = z_c (fun j => z_w (f0 j) * by_.toInt) 0 k + (z_w (f0 k) * by_.toInt) := by
      have e1 := z_w_mask (z_st (fun j => z_w (f0 j) * by_.toInt) 0 0 f0 k (Int32.ofNat k).toNatClampNeg)
      rw [hcl] at e1 hy
      rw [z_st_out _ _ _ _ _ _ (by omega)] at e1 hy
      have e3 := w_mul64 (a := (f0 k).toInt64 &&& 4294967295) (b := by_) (by rw [e1]; omega) (by rw [e1]; omega)
      rw [e1] at e3
      rw [hy, w_add64 (by omega) (by omega), e3, hc]
    rw [h8, w_suc]
    rw [q_st (o := 0) ey hx (by rw [hcl]; omega) hf]
    exact ih (k + 1) (by omega) y7 (q_cu ey (by omega) h7)
theorem q2_times {w : Nat → Int32} {by_ : Int64} {K : (Nat → Int32) → Prop} {a : Int} (ha : EX 40 0 w a) (hb : 0 ≤ by_.toInt ∧ by_.toInt ≤ 4194304) (hK : ∀ w', EX 40 0 w' (a * by_.toInt) → K w') : wX2_times by_ w K := by
  refine ⟨41, ?_⟩
  have h := q2_times_L (f0 := w) hb (X := fun _ _ w => K w) (fun c i => hK _ ?_) 40 0 rfl 0 rfl
  · rw [z_st_0] at h
    exact h
  · refine EX_mod (z_st_EX _ _ _ _ _) ?_
    rw [z_W_mul]
    have ha : z_W (fun j => z_w (w (0 + j))) 40 = a % z_P 40 := ha
    simp only [Nat.zero_add] at ha
    rw [ha, Int.zero_add]
    rw [Int.mul_emod, Int.emod_emod, ← Int.mul_emod]
theorem q2_clear_L {f0 : Nat → Int32} {X : Int32 → (Nat → Int32) → Prop} (hX : ∀ i, X i (z_st (fun _ => 0) 0 0 f0 40)) : ∀ (m k : Nat), k + m = 40 → wX2_clear_L2 X (m + 1) (Int32.ofNat k) (z_st (fun _ => 0) 0 0 f0 k) := by
  intro m
  induction m with
  | zero =>
    intro k hk
    have e : k = 40 := by omega
    subst e
    exact ⟨fun _ => hX _, fun h => absurd (Int32.le_refl _) h⟩
  | succ m ih =>
    intro k hk
    have hv : vp_in (Int32.ofNat k) 40 := w_in (by omega) (by omega)
    have hcl := w_cl (k := k) (by omega)
    refine ⟨fun h => absurd ((w_leI (a := 40) (by omega) (by omega)).mp h) (by omega), fun _ => ⟨hv, fun f hf x8 h8 => ?_⟩⟩
    have cb := z_c_bd (D := fun _ => 0) (c0 := 0) (lo := 0) (hi := 0) (by omega) (fun j c h1 h2 => by omega) k
    have e : f = z_st (fun _ => 0) 0 0 f0 (k + 1) := by
      rw [hf, hcl]
      have h := z_st_step (fun _ => 0) 0 0 f0 k (x := 0) (by rw [show z_c (fun _ => 0) 0 k = 0 by omega]; rfl)
      rw [Nat.zero_add] at h
      exact h
    rw [h8, w_suc, e]
    exact ih (k + 1) (by omega)
theorem z_W_0 (n : Nat) : z_W (fun _ => 0) n = 0 := by
  induction n with
  | zero => rfl
  | succ n ih => show z_W _ n + 0 * z_P n = 0; rw [ih]; omega
theorem q2_clear {w : Nat → Int32} {K : (Nat → Int32) → Prop} (hK : ∀ w', EX 40 0 w' 0 → K w') : wX2_clear w K := by
  refine ⟨41, ?_⟩
  have h := q2_clear_L (f0 := w) (X := fun _ w => K w) (fun i => hK _ ?_) 40 0 rfl
  · rw [z_st_0] at h
    exact h
  · refine EX_mod (z_st_EX _ _ _ _ _) ?_
    rw [z_W_0]
    rfl
theorem q2_set {w u : Nat → Int32} {K : (Nat → Int32) → Prop} {a : Int} (ha : EX 40 0 u a) (hK : ∀ w', EX 40 0 w' a → K w') : wX2_set w u K := by
  intro f hf
  refine hK _ ?_
  rw [hf]
  refine Eq.trans (z_W_congr fun j hj => ?_) ha
  show z_w (if _ ∧ _ then _ else _) = _
  have e0 : (0 : Int32).toNatClampNeg = 0 := rfl
  have e40 : (40 : Int32).toNatClampNeg = 40 := by decide
  rw [e0, e40, if_pos (by omega)]
  rw [show 0 + (0 + j - 0) = 0 + j by omega]
