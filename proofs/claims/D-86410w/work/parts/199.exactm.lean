/-! Exact numbers: the model's operations, by places of 44 words. By hand -/
def z_out (o n : Nat) (f f' : Nat → Int32) : Prop := ∀ i, (i < o ∨ o + n ≤ i) → f' i = f i
theorem EX_out {o n o' n' : Nat} {f f' : Nat → Int32} {z : Int} (h : EX n' o' f z) (ho : z_out o n f f') (hd : o' + n' ≤ o ∨ o + n ≤ o') : EX n' o' f' z := by
  refine Eq.trans (z_W_congr fun j hj => ?_) h
  show z_w (f' (o' + j)) = z_w (f (o' + j))
  rw [ho _ (by omega)]
theorem z_out_refl (o n : Nat) (f : Nat → Int32) : z_out o n f f := fun _ _ => rfl
theorem z_out_st (D : Nat → Int) (c0 : Int) (o : Nat) (f : Nat → Int32) (n : Nat) : z_out o n f (z_st D c0 o f n) := fun i hi => z_st_out D c0 o f n i hi
theorem w_44 (s k : Nat) : (44 : Int32) * Int32.ofNat s + Int32.ofNat k = Int32.ofNat (44 * s + k) := by
  rw [show (44 : Int32) = Int32.ofNat 44 from rfl, ← Int32.ofNat_mul, ← Int32.ofNat_add]
theorem w_44m (s : Nat) : (44 : Int32) * Int32.ofNat s = Int32.ofNat (44 * s) := by
  rw [show (44 : Int32) = Int32.ofNat 44 from rfl, ← Int32.ofNat_mul]
theorem q3_clear_L {s : Nat} (hs : s < 24) {f0 : Nat → Int32} {X : Int32 → (Nat → Int32) → Prop} (hX : ∀ i, X i (z_st (fun _ => 0) 0 (44 * s) f0 44)) : ∀ (m k : Nat), k + m = 44 → wX3_clearBig_L2 (Int32.ofNat s) X (m + 1) (Int32.ofNat k) (z_st (fun _ => 0) 0 (44 * s) f0 k) := by
  intro m
  induction m with
  | zero =>
    intro k hk
    have e : k = 44 := by omega
    subst e
    exact ⟨fun _ => hX _, fun h => absurd (Int32.le_refl _) h⟩
  | succ m ih =>
    intro k hk
    unfold wX3_clearBig_L2
    rw [w_44, w_cl (by omega)]
    refine ⟨fun h => absurd ((w_leI (a := 44) (by omega) (by omega)).mp h) (by omega), fun _ => ⟨w_in (by omega) (by omega), fun f hf x8 h8 => ?_⟩⟩
    have cb := z_c_bd (D := fun _ => 0) (c0 := 0) (lo := 0) (hi := 0) (by omega) (fun j c h1 h2 => by omega) k
    have e : f = z_st (fun _ => 0) 0 (44 * s) f0 (k + 1) := by
      rw [hf]
      exact z_st_step (fun _ => 0) 0 (44 * s) f0 k (x := 0) (by rw [show z_c (fun _ => 0) 0 k = 0 by omega]; rfl)
    rw [h8, w_suc, e]
    exact ih (k + 1) (by omega)
theorem q3_clear {s : Nat} (hs : s < 24) {big : Nat → Int32} {K : (Nat → Int32) → Prop} (hK : ∀ b', EX 44 (44 * s) b' 0 → z_out (44 * s) 44 big b' → K b') : wX3_clearBig (Int32.ofNat s) big K := by
  refine ⟨45, ?_⟩
  have h := q3_clear_L hs (f0 := big) (X := fun _ w => K w) (fun i => hK _ ?_ (z_out_st _ _ _ _ _)) 44 0 rfl
  · rw [z_st_0] at h
    exact h
  · refine EX_mod (z_st_EX _ _ _ _ _) ?_
    rw [z_W_0]
    rfl
theorem q3_neg_L {s : Nat} (hs : s < 24) {f0 : Nat → Int32} {X : Int64 → Int32 → (Nat → Int32) → Prop} (hX : ∀ c i, X c i (z_st (fun j => 4294967295 - z_w (f0 (44 * s + j))) 1 (44 * s) f0 44)) : ∀ (m k : Nat), k + m = 44 → ∀ c : Int64, c.toInt = z_c (fun j => 4294967295 - z_w (f0 (44 * s + j))) 1 k → wX3_negate_L8 (Int32.ofNat s) X (m + 1) c (Int32.ofNat (44 * s + k)) (z_st (fun j => 4294967295 - z_w (f0 (44 * s + j))) 1 (44 * s) f0 k) := by
  intro m
  induction m with
  | zero =>
    intro k hk c hc
    have e : k = 44 := by omega
    subst e
    unfold wX3_negate_L8
    rw [show (44 : Int32) * Int32.ofNat s + 44 = Int32.ofNat (44 * s + 44) from w_44 s 44]
    exact ⟨fun _ => hX _ _, fun h => absurd (Int32.le_refl _) h⟩
  | succ m ih =>
    intro k hk c hc
    have cb := z_c_bd (D := fun j => 4294967295 - z_w (f0 (44 * s + j))) (c0 := 1) (lo := 0) (hi := 1) (by omega) (fun j c h1 h2 => by have := z_w_bd (f0 (44 * s + j)); omega) k
    have b1 := z_w_bd (f0 (44 * s + k))
    have hv : vp_in (Int32.ofNat (44 * s + k)) 1056 := w_in (by omega) (by omega)
    have hcl := w_cl (k := 44 * s + k) (by omega)
    unfold wX3_negate_L8
    rw [show (44 : Int32) * Int32.ofNat s + 44 = Int32.ofNat (44 * s + 44) from w_44 s 44]
    refine ⟨fun h => absurd ((w_leI (by omega) (by omega)).mp h) (by omega), fun _ => ⟨hv, fun y hy x hx => ⟨hv, fun f hf y7 h7 x8 h8 => ?_⟩⟩⟩
    have ey : y.toInt = z_c (fun j => 4294967295 - z_w (f0 (44 * s + j))) 1 k + (4294967295 - z_w (f0 (44 * s + k))) := by
      have e1 := z_w_mask ((z_st (fun j => 4294967295 - z_w (f0 (44 * s + j))) 1 (44 * s) f0 k (Int32.ofNat (44 * s + k)).toNatClampNeg) ^^^ -1)
      rw [hcl] at e1 hy
      rw [z_st_out _ _ _ _ _ _ (by omega)] at e1 hy
      rw [z_w_not] at e1
      rw [hy, w_add64 (by omega) (by omega), hc, e1]
      omega
    rw [h8, w_suc]
    rw [q_st ey hx hcl hf]
    exact ih (k + 1) (by omega) y7 (q_cu ey (by omega) h7)
theorem q3_negate {s : Nat} (hs : s < 24) {big : Nat → Int32} {K : (Nat → Int32) → Prop} {a : Int} (ha : EX 44 (44 * s) big a) (hK : ∀ b', EX 44 (44 * s) b' (-a) → z_out (44 * s) 44 big b' → K b') : wX3_negate (Int32.ofNat s) big K := by
  intro x hx
  rw [w_44m] at hx
  subst hx
  refine ⟨45, ?_⟩
  have h := q3_neg_L hs (f0 := big) (X := fun _ _ w => K w) (fun c i => hK _ ?_ (z_out_st _ _ _ _ _)) 44 0 rfl 1 rfl
  · rw [z_st_0] at h
    exact h
  · refine EX_mod (z_st_EX _ _ _ _ _) ?_
    rw [z_W_not]
    exact z_negmod ha
theorem q3_times_L {s : Nat} (hs : s < 24) {f0 : Nat → Int32} {by_ : Int64} (hb : 0 ≤ by_.toInt ∧ by_.toInt ≤ 4194304) {X : Int64 → Int32 → (Nat → Int32) → Prop} (hX : ∀ c i, X c i (z_st (fun j => z_w (f0 (44 * s + j)) * by_.toInt) 0 (44 * s) f0 44)) : ∀ (m k : Nat), k + m = 44 → ∀ c : Int64, c.toInt = z_c (fun j => z_w (f0 (44 * s + j)) * by_.toInt) 0 k → wX3_timesBig_L9 (Int32.ofNat s) by_ X (m + 1) c (Int32.ofNat (44 * s + k)) (z_st (fun j => z_w (f0 (44 * s + j)) * by_.toInt) 0 (44 * s) f0 k) := by
  have hm : ∀ j, 0 ≤ z_w (f0 (44 * s + j)) * by_.toInt ∧ z_w (f0 (44 * s + j)) * by_.toInt ≤ 4294967295 * by_.toInt := fun j => ⟨Int.mul_nonneg (z_w_bd _).1 hb.1, Int.mul_le_mul_of_nonneg_right (by have := z_w_bd (f0 (44 * s + j)); omega) hb.1⟩
  intro m
  induction m with
  | zero =>
    intro k hk c hc
    have e : k = 44 := by omega
    subst e
    unfold wX3_timesBig_L9
    rw [show (44 : Int32) * Int32.ofNat s + 44 = Int32.ofNat (44 * s + 44) from w_44 s 44]
    exact ⟨fun _ => hX _ _, fun h => absurd (Int32.le_refl _) h⟩
  | succ m ih =>
    intro k hk c hc
    have cb := z_c_bd (D := fun j => z_w (f0 (44 * s + j)) * by_.toInt) (c0 := 0) (lo := 0) (hi := by_.toInt) (by omega) (fun j c h1 h2 => by have := hm j; omega) k
    have b1 := hm k
    have hv : vp_in (Int32.ofNat (44 * s + k)) 1056 := w_in (by omega) (by omega)
    have hcl := w_cl (k := 44 * s + k) (by omega)
    unfold wX3_timesBig_L9
    rw [show (44 : Int32) * Int32.ofNat s + 44 = Int32.ofNat (44 * s + 44) from w_44 s 44]
    refine ⟨fun h => absurd ((w_leI (by omega) (by omega)).mp h) (by omega), fun _ => ⟨hv, fun y hy x hx => ⟨hv, fun f hf y7 h7 x8 h8 => ?_⟩⟩⟩
    have ey : y.toInt = z_c (fun j => z_w (f0 (44 * s + j)) * by_.toInt) 0 k + (z_w (f0 (44 * s + k)) * by_.toInt) := by
      have e1 := z_w_mask (z_st (fun j => z_w (f0 (44 * s + j)) * by_.toInt) 0 (44 * s) f0 k (Int32.ofNat (44 * s + k)).toNatClampNeg)
      rw [hcl] at e1 hy
      rw [z_st_out _ _ _ _ _ _ (by omega)] at e1 hy
      have e3 := w_mul64 (a := (f0 (44 * s + k)).toInt64 &&& 4294967295) (b := by_) (by rw [e1]; omega) (by rw [e1]; omega)
      rw [e1] at e3
      rw [hy, w_add64 (by omega) (by omega), e3, hc]
      omega
    rw [h8, w_suc]
    rw [q_st ey hx hcl hf]
    exact ih (k + 1) (by omega) y7 (q_cu ey (by omega) h7)
theorem q3_times {s : Nat} (hs : s < 24) {big : Nat → Int32} {by_ : Int64} {K : (Nat → Int32) → Prop} {a : Int} (ha : EX 44 (44 * s) big a) (hb : 0 ≤ by_.toInt ∧ by_.toInt ≤ 4194304) (hK : ∀ b', EX 44 (44 * s) b' (a * by_.toInt) → z_out (44 * s) 44 big b' → K b') : wX3_timesBig (Int32.ofNat s) by_ big K := by
  intro x hx
  rw [w_44m] at hx
  subst hx
  refine ⟨45, ?_⟩
  have h := q3_times_L hs (f0 := big) hb (X := fun _ _ w => K w) (fun c i => hK _ ?_ (z_out_st _ _ _ _ _)) 44 0 rfl 0 rfl
  · rw [z_st_0] at h
    exact h
  · refine EX_mod (z_st_EX _ _ _ _ _) ?_
    rw [z_W_mul]
    have ha : z_W (fun j => z_w (big (44 * s + j))) 44 = a % z_P 44 := ha
    rw [ha, Int.zero_add, Int.mul_emod, Int.emod_emod, ← Int.mul_emod]
theorem q3_add_L {s t : Nat} (hs : s < 24) (ht : t < 24) (hst : s ≠ t) {f0 : Nat → Int32} {X : Int64 → Int32 → (Nat → Int32) → Prop} (hX : ∀ c i, X c i (z_st (fun j => z_w (f0 (44 * s + j)) + z_w (f0 (44 * t + j))) 0 (44 * s) f0 44)) : ∀ (m k : Nat), k + m = 44 → ∀ c : Int64, c.toInt = z_c (fun j => z_w (f0 (44 * s + j)) + z_w (f0 (44 * t + j))) 0 k → wX3_addBig_L5 (Int32.ofNat s) (Int32.ofNat t) X (m + 1) c (Int32.ofNat k) (z_st (fun j => z_w (f0 (44 * s + j)) + z_w (f0 (44 * t + j))) 0 (44 * s) f0 k) := by
  intro m
  induction m with
  | zero =>
    intro k hk c hc
    have e : k = 44 := by omega
    subst e
    exact ⟨fun _ => hX _ _, fun h => absurd (Int32.le_refl _) h⟩
  | succ m ih =>
    intro k hk c hc
    have cb := z_c_bd (D := fun j => z_w (f0 (44 * s + j)) + z_w (f0 (44 * t + j))) (c0 := 0) (lo := 0) (hi := 1) (by omega) (fun j c h1 h2 => by have := z_w_bd (f0 (44 * s + j)); have := z_w_bd (f0 (44 * t + j)); omega) k
    have b1 := z_w_bd (f0 (44 * s + k))
    have b2 := z_w_bd (f0 (44 * t + k))
    have hv : vp_in (Int32.ofNat (44 * s + k)) 1056 := w_in (by omega) (by omega)
    have hcl := w_cl (k := 44 * s + k) (by omega)
    have hcl2 := w_cl (k := 44 * t + k) (by omega)
    unfold wX3_addBig_L5
    rw [w_44, w_44]
    refine ⟨fun h => absurd ((w_leI (a := 44) (by omega) (by omega)).mp h) (by omega), fun _ => ⟨hv, w_in (by omega) (by omega), fun y hy x hx => ⟨hv, fun f hf y7 h7 x8 h8 => ?_⟩⟩⟩
    have ey : y.toInt = z_c (fun j => z_w (f0 (44 * s + j)) + z_w (f0 (44 * t + j))) 0 k + (z_w (f0 (44 * s + k)) + z_w (f0 (44 * t + k))) := by
      have e1 := z_w_mask (f0 (44 * s + k))
      have e2 := z_w_mask (f0 (44 * t + k))
      rw [hcl, hcl2, z_st_out _ _ _ _ _ _ (by omega), z_st_out _ _ _ _ _ _ (by omega)] at hy
      have e3 := w_add64 (a := (f0 (44 * s + k)).toInt64 &&& 4294967295) (b := (f0 (44 * t + k)).toInt64 &&& 4294967295) (by omega) (by omega)
      rw [hy, w_add64 (by omega) (by omega), e3, hc, e1, e2]
      omega
    rw [h8, w_suc]
    rw [q_st ey hx hcl hf]
    exact ih (k + 1) (by omega) y7 (q_cu ey (by omega) h7)
theorem q3_addBig {s t : Nat} (hs : s < 24) (ht : t < 24) (hst : s ≠ t) {big : Nat → Int32} {K : (Nat → Int32) → Prop} {a b : Int} (ha : EX 44 (44 * s) big a) (hb : EX 44 (44 * t) big b) (hK : ∀ b', EX 44 (44 * s) b' (a + b) → z_out (44 * s) 44 big b' → K b') : wX3_addBig (Int32.ofNat s) (Int32.ofNat t) big K := by
  refine ⟨45, ?_⟩
  have h := q3_add_L hs ht hst (f0 := big) (X := fun _ _ w => K w) (fun c i => hK _ ?_ (z_out_st _ _ _ _ _)) 44 0 rfl 0 rfl
  · rw [z_st_0] at h
    exact h
  · refine EX_mod (z_st_EX _ _ _ _ _) ?_
    rw [z_W_add]
    have ha : z_W (fun j => z_w (big (44 * s + j))) 44 = a % z_P 44 := ha
    have hb : z_W (fun j => z_w (big (44 * t + j))) 44 = b % z_P 44 := hb
    rw [ha, hb, Int.zero_add, ← Int.add_emod]
theorem q3_copy_L {s t : Nat} (hs : s < 24) (ht : t < 24) (hst : s ≠ t) {f0 : Nat → Int32} {X : Int32 → (Nat → Int32) → Prop} (hX : ∀ i, X i (z_st (fun j => z_w (f0 (44 * t + j))) 0 (44 * s) f0 44)) : ∀ (m k : Nat), k + m = 44 → wX3_copyBig_L2 (Int32.ofNat s) (Int32.ofNat t) X (m + 1) (Int32.ofNat k) (z_st (fun j => z_w (f0 (44 * t + j))) 0 (44 * s) f0 k) := by
  intro m
  induction m with
  | zero =>
    intro k hk
    have e : k = 44 := by omega
    subst e
    exact ⟨fun _ => hX _, fun h => absurd (Int32.le_refl _) h⟩
  | succ m ih =>
    intro k hk
    have cb := z_c_bd (D := fun j => z_w (f0 (44 * t + j))) (c0 := 0) (lo := 0) (hi := 0) (by omega) (fun j c h1 h2 => by have := z_w_bd (f0 (44 * t + j)); omega) k
    have b2 := z_w_bd (f0 (44 * t + k))
    have hcl := w_cl (k := 44 * s + k) (by omega)
    have hcl2 := w_cl (k := 44 * t + k) (by omega)
    unfold wX3_copyBig_L2
    rw [w_44, w_44, hcl, hcl2, z_st_out _ _ _ _ _ _ (by omega)]
    refine ⟨fun h => absurd ((w_leI (a := 44) (by omega) (by omega)).mp h) (by omega), fun _ => ⟨w_in (by omega) (by omega), fun x hx => ⟨w_in (by omega) (by omega), fun f hf x5 h5 => ?_⟩⟩⟩
    have e : f = z_st (fun j => z_w (f0 (44 * t + j))) 0 (44 * s) f0 (k + 1) := by
      rw [hf]
      refine z_st_step (fun j => z_w (f0 (44 * t + j))) 0 (44 * s) f0 k ?_
      rw [hx, show z_c (fun j => z_w (f0 (44 * t + j))) 0 k = 0 by omega]
      first | omega | (simp only []; omega)
    rw [h5, w_suc, e]
    exact ih (k + 1) (by omega)
theorem q3_copy {s t : Nat} (hs : s < 24) (ht : t < 24) (hst : s ≠ t) {big : Nat → Int32} {K : (Nat → Int32) → Prop} {a : Int} (ha : EX 44 (44 * t) big a) (hK : ∀ b', EX 44 (44 * s) b' a → z_out (44 * s) 44 big b' → K b') : wX3_copyBig (Int32.ofNat s) (Int32.ofNat t) big K := by
  refine ⟨45, ?_⟩
  have h := q3_copy_L hs ht hst (f0 := big) (X := fun _ w => K w) (fun i => hK _ ?_ (z_out_st _ _ _ _ _)) 44 0 rfl
  · rw [z_st_0] at h
    exact h
  · refine EX_mod (z_st_EX _ _ _ _ _) ?_
    have ha : z_W (fun j => z_w (big (44 * t + j))) 44 = a % z_P 44 := ha
    rw [ha, Int.zero_add, Int.emod_emod]
theorem q3_sign_L {s : Nat} (hs : s < 24) {big : Nat → Int32} {X Y : Int32 → Prop} (hX : (¬ ∀ j, j < 44 → big (44 * s + j) = 0) → ∀ i, X i) (hY : (∀ j, j < 44 → big (44 * s + j) = 0) → ∀ i, Y i) : ∀ (m k : Nat), k + m = 44 → (∀ j, j < k → big (44 * s + j) = 0) → wX3_signOf_L21 big (Int32.ofNat s) X Y (m + 1) (Int32.ofNat k) := by
  intro m
  induction m with
  | zero =>
    intro k hk h
    have e : k = 44 := by omega
    subst e
    exact ⟨fun _ => hY h _, fun h => absurd (Int32.le_refl _) h⟩
  | succ m ih =>
    intro k hk h
    unfold wX3_signOf_L21
    rw [w_44, w_cl (by omega)]
    refine ⟨fun h => absurd ((w_leI (a := 44) (by omega) (by omega)).mp h) (by omega), fun _ => ⟨w_in (by omega) (by omega), fun c x hx => ?_, fun c => hX (fun q => c (q k (by omega))) _⟩⟩
    rw [hx, w_suc]
    refine ih (k + 1) (by omega) (fun j hj => ?_)
    by_cases d : j = k
    · subst d; exact c
    · exact h j (by omega)
theorem q3_sign {s : Nat} (hs : s < 24) {big : Nat → Int32} {K : Int32 → Prop} {z : Int} (h : EX 44 (44 * s) big z) (h1 : -(z_P 43 * 2147483648) ≤ z) (h2 : z < z_P 43 * 2147483648) (hK : K (z_sg z)) : wX3_signOf (Int32.ofNat s) big K := by
  obtain ⟨s1, s2⟩ := EX_sign (n := 43) h h1 h2
  unfold wX3_signOf
  rw [show (44 : Int32) * Int32.ofNat s + 44 - 1 = Int32.ofNat (44 * s + 43) by
    rw [show (44 : Int32) * Int32.ofNat s + 44 = Int32.ofNat (44 * s + 43 + 1) from w_44 s 44]
    exact w_prd' _, w_cl (by omega), Int32.le_iff_toInt_le, Int32.toInt_zero]
  unfold z_sg at hK
  refine ⟨w_in (by omega) (by omega), fun c => ?_, fun c => ?_⟩
  · have hz : ¬ z < 0 := fun q => by have := s1.mpr q; omega
    rw [if_neg hz] at hK
    refine ⟨45, q3_sign_L hs (fun q _ => ?_) (fun q _ => ?_) 44 0 rfl (fun j hj => by omega)⟩
    · rw [if_neg (fun e => q (s2.mpr e))] at hK
      exact hK
    · rw [if_pos (s2.mp q)] at hK
      exact hK
  · rw [if_pos (s1.mp (by omega))] at hK
    exact hK
theorem q3_compare_L {s t : Nat} (hs : s < 24) (ht : t < 24) {big : Nat → Int32} {X K : Int32 → Prop} (hX : (∀ j, j < 44 → big (44 * s + j) = big (44 * t + j)) → ∀ i, X i) (hK : ∀ v, v < 44 → (∀ j, v < j → j < 44 → big (44 * s + j) = big (44 * t + j)) → (z_w (big (44 * t + v)) < z_w (big (44 * s + v)) → K 1) ∧ (z_w (big (44 * s + v)) < z_w (big (44 * t + v)) → K (-1))) : ∀ k, k ≤ 44 → (∀ j, k ≤ j → j < 44 → big (44 * s + j) = big (44 * t + j)) → wX3_compareBig_L3 big (Int32.ofNat s) (Int32.ofNat t) X K (k + 1) (Int32.ofNat k - 1) := by
  intro k
  induction k with
  | zero =>
    intro _ h
    exact ⟨fun _ => hX (fun j hj => h j (by omega) hj) _, fun q => absurd (by decide) q⟩
  | succ k ih =>
    intro hk h
    unfold wX3_compareBig_L3
    rw [w_prd', w_44, w_44, w_cl (by omega), w_cl (by omega)]
    refine ⟨fun q => absurd ((w_ltI (b := 0) (by omega) (by omega)).mp q) (by omega), fun _ => ⟨w_in (by omega) (by omega), fun y2 h2 => ⟨w_in (by omega) (by omega), fun y3 h3 => ⟨fun e x hx => ?_, fun e => ?_⟩⟩⟩⟩
    · have e1 : z_w (big (44 * s + k)) = z_w (big (44 * t + k)) := by
        rw [← z_w_mask, ← z_w_mask, ← h2, ← h3, e]
      rw [hx, w_ng]
      refine ih (by omega) (fun j h1 h2 => ?_)
      by_cases c : j = k
      · subst c; exact z_w_inj e1
      · exact h j (by omega) h2
    · obtain ⟨k1, k2⟩ := hK k (by omega) (fun j h1 h2 => h j (by omega) h2)
      have e2 : y2.toInt = z_w (big (44 * s + k)) := by rw [h2, z_w_mask]
      have e3 : y3.toInt = z_w (big (44 * t + k)) := by rw [h3, z_w_mask]
      have hne : y2.toInt ≠ y3.toInt := fun q => e (Int64.toInt_inj.mp q)
      refine ⟨fun q => k1 ?_, fun q => k2 ?_⟩
      · rw [Int64.le_iff_toInt_le] at q
        omega
      · rw [Int64.le_iff_toInt_le] at q
        omega
theorem q3_compare {s t : Nat} (hs : s < 24) (ht : t < 24) {big : Nat → Int32} {K : Int32 → Prop} {a b : Int} (ha : EX 44 (44 * s) big a) (hb : EX 44 (44 * t) big b) (a1 : 0 ≤ a) (a2 : a < z_P 44) (b1 : 0 ≤ b) (b2 : b < z_P 44) (hK : K (z_cmp a b)) : wX3_compareBig (Int32.ofNat s) (Int32.ofNat t) big K := by
  obtain ⟨c1, c2⟩ := EX_cmp ha hb a1 a2 b1 b2
  unfold z_cmp at hK
  refine ⟨45, q3_compare_L hs ht (fun h i => ?_) (fun v hv h => ⟨fun c => ?_, fun c => ?_⟩) 44 (Nat.le_refl _) (fun j h1 h2 => by omega)⟩
  · have e := c2 h
    rw [if_neg (by omega), if_pos e] at hK
    exact hK
  · have := (c1 v hv h).2 c
    rw [if_neg (by omega), if_neg (by omega)] at hK
    exact hK
  · have := (c1 v hv h).1 c
    rw [if_pos this] at hK
    exact hK
