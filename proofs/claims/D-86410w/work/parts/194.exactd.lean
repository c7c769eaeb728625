/-! Exact numbers: sign, comparison, bits; the component's. By hand -/
theorem z_cong_eq {a b M : Int} (h : a % M = b % M) (h1 : a - b < M) (h2 : b - a < M) : a = b := by
  have h0 : (a - b) % M = 0 := Int.emod_eq_emod_iff_emod_sub_eq_zero.mp h
  obtain ⟨c, hc⟩ := Int.dvd_of_emod_eq_zero h0
  have hM : 0 ≤ M ∨ M < 0 := by omega
  by_cases e : c = 0
  · subst e
    rw [Int.mul_zero] at hc
    omega
  · exfalso
    have hMp : 0 < M := by
      by_cases e2 : a - b < 0
      · omega
      · omega
    rcases Int.lt_or_gt_of_ne e with e3 | e3
    · have : M * c ≤ M * (-1) := Int.mul_le_mul_of_nonneg_left (by omega) (by omega)
      omega
    · have : M * 1 ≤ M * c := Int.mul_le_mul_of_nonneg_left (by omega) (by omega)
      omega
/-- the number by its top word's sign -/
theorem EX_top {n o : Nat} {f : Nat → Int32} {z : Int} (h : EX (n + 1) o f z) (h1 : -(z_P n * 2147483648) ≤ z) (h2 : z < z_P n * 2147483648) : z = z_W (fun j => z_w (f (o + j))) n + (f (o + n)).toInt * z_P n := by
  have hb := EX_bd n o f
  have hp := z_P_pos n
  have t1 := (f (o + n)).le_toInt
  have t2 := (f (o + n)).toInt_lt
  have l1 : -2147483648 * z_P n ≤ (f (o + n)).toInt * z_P n := Int.mul_le_mul_of_nonneg_right (by omega) (by omega)
  have l2 : (f (o + n)).toInt * z_P n ≤ 2147483647 * z_P n := Int.mul_le_mul_of_nonneg_right (by omega) (by omega)
  have h : z_W (fun j => z_w (f (o + j))) n + z_w (f (o + n)) * z_P n = z % z_P (n + 1) := h
  refine z_cong_eq (M := z_P (n + 1)) ?_ (by rw [z_P_succ]; omega) (by rw [z_P_succ]; omega)
  have hz : z % z_P (n + 1) = (z_W (fun j => z_w (f (o + j))) n + z_w (f (o + n)) * z_P n) % z_P (n + 1) := by
    rw [h, Int.emod_emod]
  rw [hz]
  by_cases c : 0 ≤ (f (o + n)).toInt
  · rw [show z_w (f (o + n)) = (f (o + n)).toInt by unfold z_w; omega]
  · rw [show z_w (f (o + n)) = (f (o + n)).toInt + 4294967296 by unfold z_w; omega, Int.add_mul, ← Int.add_assoc, Int.mul_comm 4294967296, ← z_P_succ, Int.add_emod_right]
theorem z_W_zero {D : Nat → Int} {n : Nat} (h : ∀ j, j < n → 0 ≤ D j) : z_W D n = 0 ↔ ∀ j, j < n → D j = 0 := by
  induction n with
  | zero => exact ⟨fun _ j hj => by omega, fun _ => rfl⟩
  | succ n ih =>
    have hn := h n (by omega)
    have hp := z_P_pos n
    have i1 : 0 ≤ z_W D n := by
      have : ∀ m, m ≤ n → 0 ≤ z_W D m := by
        intro m
        induction m with
        | zero => intro _; exact Int.le_refl _
        | succ m im =>
          intro hm
          have a := im (by omega)
          have b : 0 ≤ D m * z_P m := Int.mul_nonneg (h m (by omega)) (by have := z_P_pos m; omega)
          show 0 ≤ z_W D m + D m * z_P m
          omega
      exact this n (Nat.le_refl _)
    have i2 : 0 ≤ D n * z_P n := Int.mul_nonneg hn (by omega)
    show z_W D n + D n * z_P n = 0 ↔ _
    refine ⟨fun e j hj => ?_, fun e => ?_⟩
    · have e1 : z_W D n = 0 := by omega
      have e2 : D n * z_P n = 0 := by omega
      by_cases c : j = n
      · subst c
        rcases Int.mul_eq_zero.mp e2 with g | g
        · exact g
        · omega
      · exact (ih (fun j hj => h j (by omega))).mp e1 j (by omega)
    · rw [(ih (fun j hj => h j (by omega))).mpr (fun j hj => e j (by omega)), e n (by omega)]
      omega
theorem z_w_0 {x : Int32} : z_w x = 0 ↔ x = 0 := ⟨fun h => z_w_inj (h.trans rfl), fun h => by rw [h]; rfl⟩
theorem EX_sign {n o : Nat} {f : Nat → Int32} {z : Int} (h : EX (n + 1) o f z) (h1 : -(z_P n * 2147483648) ≤ z) (h2 : z < z_P n * 2147483648) : ((f (o + n)).toInt < 0 ↔ z < 0) ∧ ((∀ j, j < n + 1 → f (o + j) = 0) ↔ z = 0) := by
  have hb := EX_bd n o f
  have hp := z_P_pos n
  have e := EX_top h h1 h2
  refine ⟨⟨fun c => ?_, fun c => ?_⟩, ?_⟩
  · have : (f (o + n)).toInt * z_P n ≤ -1 * z_P n := Int.mul_le_mul_of_nonneg_right (by omega) (by omega)
    omega
  · refine Int.not_le.mp fun c2 => ?_
    have := Int.mul_nonneg c2 (Int.le_of_lt hp)
    omega
  · have hz := z_W_zero (D := fun j => z_w (f (o + j))) (n := n + 1) (fun j _ => (z_w_bd _).1)
    have h : z_W (fun j => z_w (f (o + j))) (n + 1) = z % z_P (n + 1) := h
    have hp1 := z_P_pos (n + 1)
    have hs := z_P_succ n
    have e3 : z % z_P (n + 1) = 0 ↔ z = 0 := by
      refine ⟨fun c => z_cong_eq (M := z_P (n + 1)) (by rw [c, Int.zero_emod]) (by omega) (by omega), fun c => by rw [c, Int.zero_emod]⟩
    rw [← e3, ← h, hz]
    exact ⟨fun c j hj => z_w_0.mpr (c j hj), fun c j hj => z_w_0.mp (c j hj)⟩
theorem w_or0 {x y : Int32} : x ||| y = 0 ↔ x = 0 ∧ y = 0 := by
  have h := @BitVec.or_eq_zero_iff 32 x.toBitVec y.toBitVec
  have e : ∀ a : Int32, a = 0 ↔ a.toBitVec = 0#32 := fun a => ⟨fun q => by rw [q]; rfl, fun q => Int32.toBitVec_inj.mp q⟩
  rw [e, e, e]
  exact h
theorem q2_sign_L {w : Nat → Int32} {X : Int32 → Int32 → Prop} (hX : ∀ a i, (a = 0 ↔ ∀ j, j < 40 → w j = 0) → X a i) : ∀ (m k : Nat), k + m = 40 → ∀ a : Int32, (a = 0 ↔ ∀ j, j < k → w j = 0) → wX2_sign_L13 w X (m + 1) a (Int32.ofNat k) := by
  intro m
  induction m with
  | zero =>
    intro k hk a ha
    have e : k = 40 := by omega
    subst e
    exact ⟨fun _ => hX _ _ ha, fun h => absurd (Int32.le_refl _) h⟩
  | succ m ih =>
    intro k hk a ha
    have hv : vp_in (Int32.ofNat k) 40 := w_in (by omega) (by omega)
    have hcl := w_cl (k := k) (by omega)
    refine ⟨fun h => absurd ((w_leI (a := 40) (by omega) (by omega)).mp h) (by omega), fun _ => ⟨hv, fun x3 h3 x4 h4 x5 h5 => ?_⟩⟩
    rw [h5, w_suc]
    refine ih (k + 1) (by omega) x4 ?_
    rw [h4, h3, hcl, w_or0, ha]
    refine ⟨fun q j hj => ?_, fun q => ⟨fun j hj => q j (by omega), q k (by omega)⟩⟩
    by_cases c : j = k
    · subst c; exact q.2
    · exact q.1 j (by omega)
/-- the sign as an int -/
def z_sg (z : Int) : Int32 := if z < 0 then -1 else if z = 0 then 0 else 1
theorem q2_sign {w : Nat → Int32} {K : Int32 → Prop} {z : Int} (h : EX 40 0 w z) (h1 : -(z_P 39 * 2147483648) ≤ z) (h2 : z < z_P 39 * 2147483648) (hK : K (z_sg z)) : wX2_sign w K := by
  obtain ⟨s1, s2⟩ := EX_sign (n := 39) h h1 h2
  rw [show 0 + 39 = 39 from rfl] at s1
  simp only [Nat.zero_add] at s2
  refine ⟨41, q2_sign_L (fun a i ha => ⟨w_in (k := 39) (by omega) (by omega), fun c => ?_, fun c => ?_⟩) 40 0 rfl 0 ⟨fun _ j hj => by omega, fun _ => rfl⟩⟩
  · rw [show (39 : Int32).toNatClampNeg = 39 from rfl, Int32.le_iff_toInt_le, Int32.toInt_zero] at c
    have hz : ¬ z < 0 := fun q => by have := s1.mpr q; omega
    refine ⟨fun d => ?_, fun d => ?_⟩
    · have : z ≠ 0 := fun q => d (ha.mpr (s2.mpr q))
      unfold z_sg at hK
      rw [if_neg hz, if_neg this] at hK
      exact hK
    · have : z = 0 := s2.mp (ha.mp d)
      unfold z_sg at hK
      rw [if_neg hz, if_pos this] at hK
      exact hK
  · rw [show (39 : Int32).toNatClampNeg = 39 from rfl, Int32.le_iff_toInt_le, Int32.toInt_zero] at c
    have hz : z < 0 := s1.mp (by omega)
    unfold z_sg at hK
    rw [if_pos hz] at hK
    exact hK
/-! comparison -/
def z_cmp (a b : Int) : Int32 := if a < b then -1 else if a = b then 0 else 1
theorem z_W_lt {D D' : Nat → Int} {n v : Nat} (hv : v < n) (h : ∀ j, j < v → 0 ≤ D j ∧ D j < 4294967296) (h' : ∀ j, j < v → 0 ≤ D' j ∧ D' j < 4294967296) (he : ∀ j, v < j → j < n → D j = D' j) (hl : D v < D' v) : z_W D n < z_W D' n := by
  obtain ⟨a1, a2⟩ := z_W_bd (n := v) h
  obtain ⟨b1, b2⟩ := z_W_bd (n := v) h'
  have hp := z_P_pos v
  rw [show n = (v + 1) + (n - (v + 1)) by omega, z_W_split D, z_W_split D']
  rw [z_W_congr (D := fun j => D (v + 1 + j)) (D' := fun j => D' (v + 1 + j)) (fun j hj => he _ (by omega) (by omega))]
  have : z_W D (v + 1) < z_W D' (v + 1) := by
    show z_W D v + D v * z_P v < z_W D' v + D' v * z_P v
    have : (D v + 1) * z_P v ≤ D' v * z_P v := Int.mul_le_mul_of_nonneg_right (by omega) (by omega)
    rw [Int.add_mul] at this
    omega
  omega
/-- comparison of two numbers by their words from the top -/
theorem EX_cmp {n o o' : Nat} {f g : Nat → Int32} {a b : Int} (ha : EX n o f a) (hb : EX n o' g b) (a1 : 0 ≤ a) (a2 : a < z_P n) (b1 : 0 ≤ b) (b2 : b < z_P n) : (∀ v, v < n → (∀ j, v < j → j < n → f (o + j) = g (o' + j)) → (z_w (f (o + v)) < z_w (g (o' + v)) → a < b) ∧ (z_w (g (o' + v)) < z_w (f (o + v)) → b < a)) ∧ ((∀ j, j < n → f (o + j) = g (o' + j)) → a = b) := by
  have ha : z_W (fun j => z_w (f (o + j))) n = a % z_P n := ha
  have hb : z_W (fun j => z_w (g (o' + j))) n = b % z_P n := hb
  rw [Int.emod_eq_of_lt a1 a2] at ha
  rw [Int.emod_eq_of_lt b1 b2] at hb
  refine ⟨fun v hv he => ⟨fun c => ?_, fun c => ?_⟩, fun he => ?_⟩
  · rw [← ha, ← hb]
    exact z_W_lt hv (fun j _ => z_w_bd _) (fun j _ => z_w_bd _) (fun j h1 h2 => by show z_w _ = z_w _; rw [he j h1 h2]) c
  · rw [← ha, ← hb]
    exact z_W_lt hv (fun j _ => z_w_bd _) (fun j _ => z_w_bd _) (fun j h1 h2 => by show z_w _ = z_w _; rw [he j h1 h2]) c
  · rw [← ha, ← hb]
    exact z_W_congr (fun j hj => by show z_w _ = z_w _; rw [he j hj])
theorem w_flip (x : Int32) : (x + (-2147483648)).toInt = z_w x - 2147483648 := by
  have h1 := x.toInt_lt
  have h2 := x.le_toInt
  rw [Int32.toInt_add, show (-2147483648 : Int32).toInt = -2147483648 by decide]
  unfold z_w
  by_cases c : 0 ≤ x.toInt
  · rw [Int.bmod_eq_of_le (by omega) (by omega)]
    omega
  · rw [Int.bmod_def]
    omega
theorem q2_compare_L {w u : Nat → Int32} {X Y : Int32 → Prop} (hY : (∀ j, j < 40 → w j = u j) → ∀ i, Y i) (hX : ∀ v, v < 40 → (∀ j, v < j → j < 40 → w j = u j) → w v ≠ u v → X (Int32.ofNat v)) : ∀ k, k ≤ 40 → (∀ j, k ≤ j → j < 40 → w j = u j) → wX2_compare_L3 w u X Y (k + 1) (Int32.ofNat k - 1) := by
  intro k
  induction k with
  | zero =>
    intro _ h
    exact ⟨fun _ => hY (fun j hj => h j (by omega) hj) _, fun q => absurd (by decide) q⟩
  | succ k ih =>
    intro hk h
    rw [w_prd']
    have hv : vp_in (Int32.ofNat k) 40 := w_in (by omega) (by omega)
    have hcl := w_cl (k := k) (by omega)
    refine ⟨fun q => absurd ((w_ltI (b := 0) (by omega) (by omega)).mp q) (by omega), fun _ => ⟨hv, hv, fun e x hx => ?_, fun e => ?_⟩⟩
    · rw [hcl] at e
      rw [hx, w_ng]
      refine ih (by omega) (fun j h1 h2 => ?_)
      by_cases c : j = k
      · subst c; exact e
      · exact h j (by omega) h2
    · rw [hcl] at e
      exact hX k (by omega) (fun j h1 h2 => h j (by omega) h2) e
theorem q2_compare {w u : Nat → Int32} {K : Int32 → Prop} {a b : Int} (ha : EX 40 0 w a) (hb : EX 40 0 u b) (a1 : 0 ≤ a) (a2 : a < z_P 39 * 2147483648) (b1 : 0 ≤ b) (b2 : b < z_P 39 * 2147483648) (hK : K (z_cmp a b)) : wX2_compare w u K := by
  have hp := z_P_pos 39
  have hs := z_P_succ 39
  have hs : z_P 40 = z_P 39 * 4294967296 := hs
  obtain ⟨c1, c2⟩ := EX_cmp ha hb a1 (by omega) b1 (by omega)
  have ta := (EX_sign (n := 39) ha (by omega) a2).1
  have tb := (EX_sign (n := 39) hb (by omega) b2).1
  simp only [Nat.zero_add] at c1 c2 ta tb
  refine ⟨41, q2_compare_L (fun h i => ?_) (fun v hv h hn => ⟨w_in hv (by omega), fun c => ?_, fun c => ?_⟩) 40 (Nat.le_refl _) (fun j h1 h2 => by omega)⟩
  · have e := c2 h
    unfold z_cmp at hK
    rw [if_neg (by omega), if_pos e] at hK
    exact hK
  · have hcl := w_cl (k := v) (by omega)
    have hv2 : v = 39 := by
      have := (w_leI (a := 39) (by omega) (by omega)).mp c
      omega
    subst hv2
    obtain ⟨d1, d2⟩ := c1 39 (by omega) h
    have fa : (w 39).toInt = z_w (w 39) := by unfold z_w; have := (w 39).toInt_lt; omega
    have fb : (u 39).toInt = z_w (u 39) := by unfold z_w; have := (u 39).toInt_lt; omega
    have hne : z_w (w 39) ≠ z_w (u 39) := fun q => hn (z_w_inj q)
    refine ⟨w_in (by omega) (by omega), fun c => ⟨fun q => ?_, fun q => ?_⟩, fun c => absurd (Int32.le_refl _) c⟩
    · rw [hcl, Int32.add_zero, Int32.add_zero, Int32.le_iff_toInt_le, fa, fb] at q
      have := d2 (by omega)
      unfold z_cmp at hK
      rw [if_neg (by omega), if_neg (by omega)] at hK
      exact hK
    · rw [hcl, Int32.add_zero, Int32.add_zero, Int32.le_iff_toInt_le, fa, fb] at q
      have := d1 (by omega)
      unfold z_cmp at hK
      rw [if_pos this] at hK
      exact hK
  · have hcl := w_cl (k := v) (by omega)
    obtain ⟨d1, d2⟩ := c1 v hv h
    have hne : z_w (w v) ≠ z_w (u v) := fun q => hn (z_w_inj q)
    refine ⟨w_in (by omega) (by omega), fun c2 => absurd c2 c, fun c => ⟨fun q => ?_, fun q => ?_⟩⟩
    · rw [hcl, Int32.le_iff_toInt_le, w_flip, w_flip] at q
      have := d2 (by omega)
      unfold z_cmp at hK
      rw [if_neg (by omega), if_neg (by omega)] at hK
      exact hK
    · rw [hcl, Int32.le_iff_toInt_le, w_flip, w_flip] at q
      have := d1 (by omega)
      unfold z_cmp at hK
      rw [if_pos this] at hK
      exact hK
